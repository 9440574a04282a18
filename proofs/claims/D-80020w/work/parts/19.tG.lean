-- IdealProver$Engine <init> (I)V
theorem d_G_init_0 : decode prog_3_method_1_code 0 = .ok (.aload_n 0, 1) := by decide +kernel
theorem d_G_init_1 : decode prog_3_method_1_code 1 = .ok (.invokespecial 3, 3) := by decide +kernel
theorem d_G_init_4 : decode prog_3_method_1_code 4 = .ok (.aload_n 0, 1) := by decide +kernel
theorem d_G_init_5 : decode prog_3_method_1_code 5 = .ok (.new 9, 3) := by decide +kernel
theorem d_G_init_8 : decode prog_3_method_1_code 8 = .ok (.dup, 1) := by decide +kernel
theorem d_G_init_9 : decode prog_3_method_1_code 9 = .ok (.invokespecial 11, 3) := by decide +kernel
theorem d_G_init_12 : decode prog_3_method_1_code 12 = .ok (.putfield 12, 3) := by decide +kernel
theorem d_G_init_15 : decode prog_3_method_1_code 15 = .ok (.aload_n 0, 1) := by decide +kernel
theorem d_G_init_16 : decode prog_3_method_1_code 16 = .ok (.bipush 25, 2) := by decide +kernel
theorem d_G_init_18 : decode prog_3_method_1_code 18 = .ok (.anewarray 18, 3) := by decide +kernel
theorem d_G_init_21 : decode prog_3_method_1_code 21 = .ok (.putfield 20, 3) := by decide +kernel
theorem d_G_init_24 : decode prog_3_method_1_code 24 = .ok (.aload_n 0, 1) := by decide +kernel
theorem d_G_init_25 : decode prog_3_method_1_code 25 = .ok (.sipush 576, 3) := by decide +kernel
theorem d_G_init_28 : decode prog_3_method_1_code 28 = .ok (.newarray .boolean, 2) := by decide +kernel
theorem d_G_init_30 : decode prog_3_method_1_code 30 = .ok (.putfield 24, 3) := by decide +kernel
theorem d_G_init_33 : decode prog_3_method_1_code 33 = .ok (.aload_n 0, 1) := by decide +kernel
theorem d_G_init_34 : decode prog_3_method_1_code 34 = .ok (.bipush 24, 2) := by decide +kernel
theorem d_G_init_36 : decode prog_3_method_1_code 36 = .ok (.invokestatic 28, 3) := by decide +kernel
theorem d_G_init_39 : decode prog_3_method_1_code 39 = .ok (.putfield 32, 3) := by decide +kernel
theorem d_G_init_42 : decode prog_3_method_1_code 42 = .ok (.aload_n 0, 1) := by decide +kernel
theorem d_G_init_43 : decode prog_3_method_1_code 43 = .ok (.new 36, 3) := by decide +kernel
theorem d_G_init_46 : decode prog_3_method_1_code 46 = .ok (.dup, 1) := by decide +kernel
theorem d_G_init_47 : decode prog_3_method_1_code 47 = .ok (.invokespecial 38, 3) := by decide +kernel
theorem d_G_init_50 : decode prog_3_method_1_code 50 = .ok (.putfield 39, 3) := by decide +kernel
theorem d_G_init_53 : decode prog_3_method_1_code 53 = .ok (.aload_n 0, 1) := by decide +kernel
theorem d_G_init_54 : decode prog_3_method_1_code 54 = .ok (.new 36, 3) := by decide +kernel
theorem d_G_init_57 : decode prog_3_method_1_code 57 = .ok (.dup, 1) := by decide +kernel
theorem d_G_init_58 : decode prog_3_method_1_code 58 = .ok (.invokespecial 38, 3) := by decide +kernel
theorem d_G_init_61 : decode prog_3_method_1_code 61 = .ok (.putfield 43, 3) := by decide +kernel
theorem d_G_init_64 : decode prog_3_method_1_code 64 = .ok (.aload_n 0, 1) := by decide +kernel
theorem d_G_init_65 : decode prog_3_method_1_code 65 = .ok (.new 36, 3) := by decide +kernel
theorem d_G_init_68 : decode prog_3_method_1_code 68 = .ok (.dup, 1) := by decide +kernel
theorem d_G_init_69 : decode prog_3_method_1_code 69 = .ok (.invokespecial 38, 3) := by decide +kernel
theorem d_G_init_72 : decode prog_3_method_1_code 72 = .ok (.putfield 46, 3) := by decide +kernel
theorem d_G_init_75 : decode prog_3_method_1_code 75 = .ok (.aload_n 0, 1) := by decide +kernel
theorem d_G_init_76 : decode prog_3_method_1_code 76 = .ok (.bipush 24, 2) := by decide +kernel
theorem d_G_init_78 : decode prog_3_method_1_code 78 = .ok (.newarray .boolean, 2) := by decide +kernel
theorem d_G_init_80 : decode prog_3_method_1_code 80 = .ok (.putfield 49, 3) := by decide +kernel
theorem d_G_init_83 : decode prog_3_method_1_code 83 = .ok (.aload_n 0, 1) := by decide +kernel
theorem d_G_init_84 : decode prog_3_method_1_code 84 = .ok (.iload_n 1, 1) := by decide +kernel
theorem d_G_init_85 : decode prog_3_method_1_code 85 = .ok (.putfield 52, 3) := by decide +kernel
theorem d_G_init_88 : decode prog_3_method_1_code 88 = .ok (.iconst 0, 1) := by decide +kernel
theorem d_G_init_89 : decode prog_3_method_1_code 89 = .ok (.istore_n 2, 1) := by decide +kernel
theorem d_G_init_90 : decode prog_3_method_1_code 90 = .ok (.iload_n 2, 1) := by decide +kernel
theorem d_G_init_91 : decode prog_3_method_1_code 91 = .ok (.aload_n 0, 1) := by decide +kernel
theorem d_G_init_92 : decode prog_3_method_1_code 92 = .ok (.getfield 20, 3) := by decide +kernel
theorem d_G_init_95 : decode prog_3_method_1_code 95 = .ok (.arraylength, 1) := by decide +kernel
theorem d_G_init_96 : decode prog_3_method_1_code 96 = .ok (.if_icmp .ge 23, 3) := by decide +kernel
theorem d_G_init_99 : decode prog_3_method_1_code 99 = .ok (.aload_n 0, 1) := by decide +kernel
theorem d_G_init_100 : decode prog_3_method_1_code 100 = .ok (.getfield 20, 3) := by decide +kernel
theorem d_G_init_103 : decode prog_3_method_1_code 103 = .ok (.iload_n 2, 1) := by decide +kernel
theorem d_G_init_104 : decode prog_3_method_1_code 104 = .ok (.new 18, 3) := by decide +kernel
theorem d_G_init_107 : decode prog_3_method_1_code 107 = .ok (.dup, 1) := by decide +kernel
theorem d_G_init_108 : decode prog_3_method_1_code 108 = .ok (.iload_n 1, 1) := by decide +kernel
theorem d_G_init_109 : decode prog_3_method_1_code 109 = .ok (.invokespecial 56, 3) := by decide +kernel
theorem d_G_init_112 : decode prog_3_method_1_code 112 = .ok (.aastore, 1) := by decide +kernel
theorem d_G_init_113 : decode prog_3_method_1_code 113 = .ok (.iinc 2 1, 3) := by decide +kernel
theorem d_G_init_116 : decode prog_3_method_1_code 116 = .ok (.goto (-26), 3) := by decide +kernel
theorem d_G_init_119 : decode prog_3_method_1_code 119 = .ok (.return_, 1) := by decide +kernel
def tb_G_init_0 : List (Nat × jm_Op) := [(0, oAl 0 1), (1, oObj 4), (4, oAl 0 5), (5, oNew 4 2 8), (8, oDup 9), (12, oPr 2 0 4 15), (15, oAl 0 16), (16, oC 25 18), (18, oNa 11 21), (21, oPr 2 1 11 24), (24, oAl 0 25), (25, oC 576 28), (28, oNa 9 30), (30, oPr 2 2 9 33), (33, oAl 0 34), (34, oC 24 36), (39, oPr 2 3 10 42), (42, oAl 0 43), (43, oNew 5 4 46), (46, oDup 47), (50, oPr 2 4 5 53), (53, oAl 0 54), (54, oNew 5 4 57), (57, oDup 58), (61, oPr 2 5 5 64), (64, oAl 0 65), (65, oNew 5 4 68), (68, oDup 69), (72, oPr 2 6 5 75), (75, oAl 0 76), (76, oC 24 78), (78, oNa 9 80), (80, oPr 2 16 9 83), (83, oAl 0 84), (84, oIl 1 85), (85, oPi 2 7 88), (88, oC 0 89), (89, oIs 2 90), (90, oIl 2 91), (91, oAl 0 92), (92, oGr 2 1 11 95), (95, oLen 96), (96, oIcGe 119 99), (99, oAl 0 100), (100, oGr 2 1 11 103), (103, oIl 2 104), (104, oNew 3 2 107), (107, oDup 108), (108, oIl 1 109), (112, oRw 113)]
theorem ok_G_init_0 : jm_all 4 tb_G_init_0 := ⟨s_aload_n d_G_init_0 rfl, s_objInit d_G_init_1 wd_127 wd_73 wd_74, s_aload_n d_G_init_4 rfl, s_new d_G_init_5 ci_F df_F wd_128 wd_129 wd_59, s_dup d_G_init_8, s_putrF d_G_init_12 ci_G rfl (fun _ => ⟨rfl, rfl⟩) rfl rfl rfl wd_172, s_aload_n d_G_init_15 rfl, s_bipush d_G_init_16 (by decide), s_anewarray (t0 := 3) (by decide) (fun _ => rfl) d_G_init_18 wd_147 wd_148, s_putrF d_G_init_21 ci_G rfl (fun _ => ⟨rfl, rfl⟩) rfl rfl rfl wd_173, s_aload_n d_G_init_24 rfl, s_sipush d_G_init_25 (by decide), s_newarrayZ d_G_init_28 wd_171, s_putrF d_G_init_30 ci_G rfl (fun _ => ⟨rfl, rfl⟩) rfl rfl rfl wd_175, s_aload_n d_G_init_33 rfl, s_bipush d_G_init_34 (by decide), s_putrF d_G_init_39 ci_G rfl (fun _ => ⟨rfl, rfl⟩) rfl rfl rfl wd_176, s_aload_n d_G_init_42 rfl, s_new d_G_init_43 ci_P df_P wd_150 wd_93 wd_57, s_dup d_G_init_46, s_putrF d_G_init_50 ci_G rfl (fun _ => ⟨rfl, rfl⟩) rfl rfl rfl wd_178, s_aload_n d_G_init_53 rfl, s_new d_G_init_54 ci_P df_P wd_150 wd_93 wd_57, s_dup d_G_init_57, s_putrF d_G_init_61 ci_G rfl (fun _ => ⟨rfl, rfl⟩) rfl rfl rfl wd_180, s_aload_n d_G_init_64 rfl, s_new d_G_init_65 ci_P df_P wd_150 wd_93 wd_57, s_dup d_G_init_68, s_putrF d_G_init_72 ci_G rfl (fun _ => ⟨rfl, rfl⟩) rfl rfl rfl wd_182, s_aload_n d_G_init_75 rfl, s_bipush d_G_init_76 (by decide), s_newarrayZ d_G_init_78 wd_171, s_putrF d_G_init_80 ci_G rfl (fun _ => ⟨rfl, rfl⟩) rfl rfl rfl wd_198, s_aload_n d_G_init_83 rfl, s_iload_n d_G_init_84 rfl, s_putiF d_G_init_85 ci_G rfl rfl rfl rfl rfl wd_183, s_iconst d_G_init_88 (by decide), s_istore_n d_G_init_89 rfl (by decide), s_iload_n d_G_init_90 rfl, s_aload_n d_G_init_91 rfl, s_getr d_G_init_92 ci_G rfl wd_173, s_arraylength d_G_init_95, s_icmp_ge d_G_init_96 (by decide), s_aload_n d_G_init_99 rfl, s_getr d_G_init_100 ci_G rfl wd_173, s_iload_n d_G_init_103 rfl, s_new d_G_init_104 ci_E df_E wd_147 wd_152 wd_60, s_dup d_G_init_107, s_iload_n d_G_init_108 rfl, s_aastore d_G_init_112, trivial⟩
def tb_G_init_1 : List (Nat × jm_Op) := [(113, oInc 2 1 116), (116, oGo 90)]
theorem ok_G_init_1 : jm_all 4 tb_G_init_1 := ⟨s_iinc d_G_init_113 (by decide) (by decide), s_goto d_G_init_116 (by decide), trivial⟩
def tb_G_init : List (Nat × jm_Op) := tb_G_init_0 ++ tb_G_init_1
theorem ok_G_init : jm_all 4 tb_G_init := jm_all_app ok_G_init_0 ok_G_init_1
theorem k_G_init_9 {g : jm_G} {d : Nat} {L : List (Option jm_V)} {r : List jm_V} {σ : jm_S} {K K' : jm_O → Prop} {q0 : Nat} (hr : Nat.ble (jm_cs r) 8 = true) (hcal : J g d 5 0 [some (aR 4 q0)] [] σ K') (hk : ∀ u, K' u → jm_aft g (d + 1) 4 9 L r u K) : J g (d + 1) 4 9 L (aR 4 q0 :: r) σ K :=
  J_call' (id' := 5) jm_sk (vs := [aR 4 q0]) (inv_IN (id' := 5) (bytes := prog_4_method_1_code) (maxL := 1) d_G_init_9 wd_130 wd_131 rfl cw_F_init (by decide) pn_F_init) cw_F_init (by decide) (by decide) (Nat.le_of_ble_eq_true rfl) rfl hr rfl hcal hk
theorem k_G_init_36 {g : jm_G} {d : Nat} {L : List (Option jm_V)} {r : List jm_V} {σ : jm_S} {K K' : jm_O → Prop} {x0 : Int32} (hr : Nat.ble (jm_cs r) 8 = true) (hcal : J g d 2 0 [some (aI x0), none, none] [] σ K') (hk : ∀ u, K' u → jm_aft g (d + 1) 4 36 L r u K) : J g (d + 1) 4 36 L (aI x0 :: r) σ K :=
  J_call' (id' := 2) jm_sk (vs := [aI x0]) (inv_SN (id' := 2) d_G_init_36 wd_149 wd_89 wd_54 cw_H_polys (by decide) pn_H_polys) cw_H_polys (by decide) (by decide) (Nat.le_of_ble_eq_true rfl) rfl hr rfl hcal hk
theorem k_G_init_47 {g : jm_G} {d : Nat} {L : List (Option jm_V)} {r : List jm_V} {σ : jm_S} {K K' : jm_O → Prop} {q0 : Nat} (hr : Nat.ble (jm_cs r) 8 = true) (hcal : J g d 3 0 [some (aR 5 q0)] [] σ K') (hk : ∀ u, K' u → jm_aft g (d + 1) 4 47 L r u K) : J g (d + 1) 4 47 L (aR 5 q0 :: r) σ K :=
  J_call' (id' := 3) jm_sk (vs := [aR 5 q0]) (inv_IN (id' := 3) (bytes := prog_9_method_1_code) (maxL := 1) d_G_init_47 wd_151 wd_95 rfl cw_P_init (by decide) pn_P_init) cw_P_init (by decide) (by decide) (Nat.le_of_ble_eq_true rfl) rfl hr rfl hcal hk
theorem k_G_init_58 {g : jm_G} {d : Nat} {L : List (Option jm_V)} {r : List jm_V} {σ : jm_S} {K K' : jm_O → Prop} {q0 : Nat} (hr : Nat.ble (jm_cs r) 8 = true) (hcal : J g d 3 0 [some (aR 5 q0)] [] σ K') (hk : ∀ u, K' u → jm_aft g (d + 1) 4 58 L r u K) : J g (d + 1) 4 58 L (aR 5 q0 :: r) σ K :=
  J_call' (id' := 3) jm_sk (vs := [aR 5 q0]) (inv_IN (id' := 3) (bytes := prog_9_method_1_code) (maxL := 1) d_G_init_58 wd_151 wd_95 rfl cw_P_init (by decide) pn_P_init) cw_P_init (by decide) (by decide) (Nat.le_of_ble_eq_true rfl) rfl hr rfl hcal hk
theorem k_G_init_69 {g : jm_G} {d : Nat} {L : List (Option jm_V)} {r : List jm_V} {σ : jm_S} {K K' : jm_O → Prop} {q0 : Nat} (hr : Nat.ble (jm_cs r) 8 = true) (hcal : J g d 3 0 [some (aR 5 q0)] [] σ K') (hk : ∀ u, K' u → jm_aft g (d + 1) 4 69 L r u K) : J g (d + 1) 4 69 L (aR 5 q0 :: r) σ K :=
  J_call' (id' := 3) jm_sk (vs := [aR 5 q0]) (inv_IN (id' := 3) (bytes := prog_9_method_1_code) (maxL := 1) d_G_init_69 wd_151 wd_95 rfl cw_P_init (by decide) pn_P_init) cw_P_init (by decide) (by decide) (Nat.le_of_ble_eq_true rfl) rfl hr rfl hcal hk
theorem k_G_init_109 {g : jm_G} {d : Nat} {L : List (Option jm_V)} {r : List jm_V} {σ : jm_S} {K K' : jm_O → Prop} {q0 : Nat} {x0 : Int32} (hr : Nat.ble (jm_cs r) 8 = true) (hcal : J g d 6 0 [some (aR 3 q0), some (aI x0)] [] σ K') (hk : ∀ u, K' u → jm_aft g (d + 1) 4 109 L r u K) : J g (d + 1) 4 109 L (aI x0 :: aR 3 q0 :: r) σ K :=
  J_call' (id' := 6) jm_sk (vs := [aR 3 q0, aI x0]) (inv_I (id' := 6) (bytes := prog_2_method_1_code) (maxL := 2) d_G_init_109 wd_153 wd_154 rfl cw_E_init (by decide) pn_E_init) cw_E_init (by decide) (by decide) (Nat.le_of_ble_eq_true rfl) rfl hr rfl hcal hk
theorem r_G_init_119 {g : jm_G} {d : Nat} {L : List (Option jm_V)} {σ : jm_S} {K : jm_O → Prop} (hK : K (σ, .inl none)) : J g d 4 119 L [] σ K := J_vret d_G_init_119 rfl hK
-- IdealProver$Engine begin (LIdealProver$Order;I)V
theorem d_G_begin_0 : decode prog_3_method_2_code 0 = .ok (.aload_n 0, 1) := by decide +kernel
theorem d_G_begin_1 : decode prog_3_method_2_code 1 = .ok (.aload_n 1, 1) := by decide +kernel
theorem d_G_begin_2 : decode prog_3_method_2_code 2 = .ok (.putfield 59, 3) := by decide +kernel
theorem d_G_begin_5 : decode prog_3_method_2_code 5 = .ok (.aload_n 0, 1) := by decide +kernel
theorem d_G_begin_6 : decode prog_3_method_2_code 6 = .ok (.iload_n 2, 1) := by decide +kernel
theorem d_G_begin_7 : decode prog_3_method_2_code 7 = .ok (.putfield 63, 3) := by decide +kernel
theorem d_G_begin_10 : decode prog_3_method_2_code 10 = .ok (.aload_n 0, 1) := by decide +kernel
theorem d_G_begin_11 : decode prog_3_method_2_code 11 = .ok (.iconst 0, 1) := by decide +kernel
theorem d_G_begin_12 : decode prog_3_method_2_code 12 = .ok (.putfield 66, 3) := by decide +kernel
theorem d_G_begin_15 : decode prog_3_method_2_code 15 = .ok (.aload_n 0, 1) := by decide +kernel
theorem d_G_begin_16 : decode prog_3_method_2_code 16 = .ok (.iconst 0, 1) := by decide +kernel
theorem d_G_begin_17 : decode prog_3_method_2_code 17 = .ok (.putfield 69, 3) := by decide +kernel
theorem d_G_begin_20 : decode prog_3_method_2_code 20 = .ok (.aload_n 0, 1) := by decide +kernel
theorem d_G_begin_21 : decode prog_3_method_2_code 21 = .ok (.iconst 0, 1) := by decide +kernel
theorem d_G_begin_22 : decode prog_3_method_2_code 22 = .ok (.putfield 72, 3) := by decide +kernel
theorem d_G_begin_25 : decode prog_3_method_2_code 25 = .ok (.aload_n 0, 1) := by decide +kernel
theorem d_G_begin_26 : decode prog_3_method_2_code 26 = .ok (.iconst 0, 1) := by decide +kernel
theorem d_G_begin_27 : decode prog_3_method_2_code 27 = .ok (.putfield 75, 3) := by decide +kernel
theorem d_G_begin_30 : decode prog_3_method_2_code 30 = .ok (.aload_n 0, 1) := by decide +kernel
theorem d_G_begin_31 : decode prog_3_method_2_code 31 = .ok (.iconst 0, 1) := by decide +kernel
theorem d_G_begin_32 : decode prog_3_method_2_code 32 = .ok (.putfield 78, 3) := by decide +kernel
theorem d_G_begin_35 : decode prog_3_method_2_code 35 = .ok (.aload_n 0, 1) := by decide +kernel
theorem d_G_begin_36 : decode prog_3_method_2_code 36 = .ok (.iconst 0, 1) := by decide +kernel
theorem d_G_begin_37 : decode prog_3_method_2_code 37 = .ok (.putfield 81, 3) := by decide +kernel
theorem d_G_begin_40 : decode prog_3_method_2_code 40 = .ok (.return_, 1) := by decide +kernel
def tb_G_begin : List (Nat × jm_Op) := [(0, oAl 0 1), (1, oAl 1 2), (2, oPr 2 8 13 5), (5, oAl 0 6), (6, oIl 2 7), (7, oPi 2 12 10), (10, oAl 0 11), (11, oC 0 12), (12, oPi 2 9 15), (15, oAl 0 16), (16, oC 0 17), (17, oPi 2 10 20), (20, oAl 0 21), (21, oC 0 22), (22, oPi 2 11 25), (25, oAl 0 26), (26, oC 0 27), (27, oPi 2 13 30), (30, oAl 0 31), (31, oC 0 32), (32, oPi 2 14 35), (35, oAl 0 36), (36, oC 0 37), (37, oPi 2 15 40)]
theorem ok_G_begin : jm_all 44 tb_G_begin := ⟨s_aload_n d_G_begin_0 rfl, s_aload_n d_G_begin_1 rfl, s_putr d_G_begin_2 ci_G rfl (fun _ => ⟨rfl, rfl⟩) rfl wd_184, s_aload_n d_G_begin_5 rfl, s_iload_n d_G_begin_6 rfl, s_puti d_G_begin_7 ci_G rfl rfl rfl wd_190, s_aload_n d_G_begin_10 rfl, s_iconst d_G_begin_11 (by decide), s_puti d_G_begin_12 ci_G rfl rfl rfl wd_185, s_aload_n d_G_begin_15 rfl, s_iconst d_G_begin_16 (by decide), s_puti d_G_begin_17 ci_G rfl rfl rfl wd_186, s_aload_n d_G_begin_20 rfl, s_iconst d_G_begin_21 (by decide), s_puti d_G_begin_22 ci_G rfl rfl rfl wd_188, s_aload_n d_G_begin_25 rfl, s_iconst d_G_begin_26 (by decide), s_puti d_G_begin_27 ci_G rfl rfl rfl wd_192, s_aload_n d_G_begin_30 rfl, s_iconst d_G_begin_31 (by decide), s_puti d_G_begin_32 ci_G rfl rfl rfl wd_194, s_aload_n d_G_begin_35 rfl, s_iconst d_G_begin_36 (by decide), s_puti d_G_begin_37 ci_G rfl rfl rfl wd_196, trivial⟩
theorem r_G_begin_40 {g : jm_G} {d : Nat} {L : List (Option jm_V)} {σ : jm_S} {K : jm_O → Prop} (hK : K (σ, .inl none)) : J g d 44 40 L [] σ K := J_vret d_G_begin_40 rfl hK
-- IdealProver$Engine generator (LIdealProver$Poly;I)V
theorem d_G_generator_0 : decode prog_3_method_3_code 0 = .ok (.aload_n 0, 1) := by decide +kernel
theorem d_G_generator_1 : decode prog_3_method_3_code 1 = .ok (.dup, 1) := by decide +kernel
theorem d_G_generator_2 : decode prog_3_method_3_code 2 = .ok (.getfield 66, 3) := by decide +kernel
theorem d_G_generator_5 : decode prog_3_method_3_code 5 = .ok (.dup_x1, 1) := by decide +kernel
theorem d_G_generator_6 : decode prog_3_method_3_code 6 = .ok (.iconst 1, 1) := by decide +kernel
theorem d_G_generator_7 : decode prog_3_method_3_code 7 = .ok (.iadd, 1) := by decide +kernel
theorem d_G_generator_8 : decode prog_3_method_3_code 8 = .ok (.putfield 66, 3) := by decide +kernel
theorem d_G_generator_11 : decode prog_3_method_3_code 11 = .ok (.istore_n 3, 1) := by decide +kernel
theorem d_G_generator_12 : decode prog_3_method_3_code 12 = .ok (.aload_n 1, 1) := by decide +kernel
theorem d_G_generator_13 : decode prog_3_method_3_code 13 = .ok (.getfield 84, 3) := by decide +kernel
theorem d_G_generator_16 : decode prog_3_method_3_code 16 = .ok (.ifCond .ne 4, 3) := by decide +kernel
theorem d_G_generator_19 : decode prog_3_method_3_code 19 = .ok (.return_, 1) := by decide +kernel
theorem d_G_generator_20 : decode prog_3_method_3_code 20 = .ok (.aload_n 0, 1) := by decide +kernel
theorem d_G_generator_21 : decode prog_3_method_3_code 21 = .ok (.getfield 20, 3) := by decide +kernel
theorem d_G_generator_24 : decode prog_3_method_3_code 24 = .ok (.aload_n 0, 1) := by decide +kernel
theorem d_G_generator_25 : decode prog_3_method_3_code 25 = .ok (.getfield 69, 3) := by decide +kernel
theorem d_G_generator_28 : decode prog_3_method_3_code 28 = .ok (.aaload, 1) := by decide +kernel
theorem d_G_generator_29 : decode prog_3_method_3_code 29 = .ok (.astore 4, 2) := by decide +kernel
theorem d_G_generator_31 : decode prog_3_method_3_code 31 = .ok (.aload 4, 2) := by decide +kernel
theorem d_G_generator_33 : decode prog_3_method_3_code 33 = .ok (.getfield 87, 3) := by decide +kernel
theorem d_G_generator_36 : decode prog_3_method_3_code 36 = .ok (.aload_n 1, 1) := by decide +kernel
theorem d_G_generator_37 : decode prog_3_method_3_code 37 = .ok (.invokevirtual 90, 3) := by decide +kernel
theorem d_G_generator_40 : decode prog_3_method_3_code 40 = .ok (.iconst 0, 1) := by decide +kernel
theorem d_G_generator_41 : decode prog_3_method_3_code 41 = .ok (.istore 5, 2) := by decide +kernel
theorem d_G_generator_43 : decode prog_3_method_3_code 43 = .ok (.iload 5, 2) := by decide +kernel
theorem d_G_generator_45 : decode prog_3_method_3_code 45 = .ok (.iload_n 2, 1) := by decide +kernel
theorem d_G_generator_46 : decode prog_3_method_3_code 46 = .ok (.if_icmp .ge 21, 3) := by decide +kernel
theorem d_G_generator_49 : decode prog_3_method_3_code 49 = .ok (.aload 4, 2) := by decide +kernel
theorem d_G_generator_51 : decode prog_3_method_3_code 51 = .ok (.getfield 94, 3) := by decide +kernel
theorem d_G_generator_54 : decode prog_3_method_3_code 54 = .ok (.iload 5, 2) := by decide +kernel
theorem d_G_generator_56 : decode prog_3_method_3_code 56 = .ok (.aaload, 1) := by decide +kernel
theorem d_G_generator_57 : decode prog_3_method_3_code 57 = .ok (.iconst 0, 1) := by decide +kernel
theorem d_G_generator_58 : decode prog_3_method_3_code 58 = .ok (.putfield 84, 3) := by decide +kernel
theorem d_G_generator_61 : decode prog_3_method_3_code 61 = .ok (.iinc 5 1, 3) := by decide +kernel
theorem d_G_generator_64 : decode prog_3_method_3_code 64 = .ok (.goto (-21), 3) := by decide +kernel
theorem d_G_generator_67 : decode prog_3_method_3_code 67 = .ok (.iload_n 3, 1) := by decide +kernel
theorem d_G_generator_68 : decode prog_3_method_3_code 68 = .ok (.iload_n 2, 1) := by decide +kernel
theorem d_G_generator_69 : decode prog_3_method_3_code 69 = .ok (.if_icmp .ge 17, 3) := by decide +kernel
theorem d_G_generator_72 : decode prog_3_method_3_code 72 = .ok (.aload 4, 2) := by decide +kernel
theorem d_G_generator_74 : decode prog_3_method_3_code 74 = .ok (.getfield 94, 3) := by decide +kernel
theorem d_G_generator_77 : decode prog_3_method_3_code 77 = .ok (.iload_n 3, 1) := by decide +kernel
theorem d_G_generator_78 : decode prog_3_method_3_code 78 = .ok (.aaload, 1) := by decide +kernel
theorem d_G_generator_79 : decode prog_3_method_3_code 79 = .ok (.iconst 0, 1) := by decide +kernel
theorem d_G_generator_80 : decode prog_3_method_3_code 80 = .ok (.iconst 1, 1) := by decide +kernel
theorem d_G_generator_81 : decode prog_3_method_3_code 81 = .ok (.iconst 1, 1) := by decide +kernel
theorem d_G_generator_82 : decode prog_3_method_3_code 82 = .ok (.iconst 0, 1) := by decide +kernel
theorem d_G_generator_83 : decode prog_3_method_3_code 83 = .ok (.invokevirtual 97, 3) := by decide +kernel
theorem d_G_generator_86 : decode prog_3_method_3_code 86 = .ok (.aload 4, 2) := by decide +kernel
theorem d_G_generator_88 : decode prog_3_method_3_code 88 = .ok (.aload_n 0, 1) := by decide +kernel
theorem d_G_generator_89 : decode prog_3_method_3_code 89 = .ok (.getfield 12, 3) := by decide +kernel
theorem d_G_generator_92 : decode prog_3_method_3_code 92 = .ok (.iload_n 2, 1) := by decide +kernel
theorem d_G_generator_93 : decode prog_3_method_3_code 93 = .ok (.invokevirtual 101, 3) := by decide +kernel
theorem d_G_generator_96 : decode prog_3_method_3_code 96 = .ok (.aload_n 0, 1) := by decide +kernel
theorem d_G_generator_97 : decode prog_3_method_3_code 97 = .ok (.invokevirtual 105, 3) := by decide +kernel
theorem d_G_generator_100 : decode prog_3_method_3_code 100 = .ok (.return_, 1) := by decide +kernel
def tb_G_generator : List (Nat × jm_Op) := [(0, oAl 0 1), (1, oDup 2), (2, oGi 2 9 5), (5, oDupX1 6), (6, oC 1 7), (7, oAdd 8), (8, oPi 2 9 11), (11, oIs 3 12), (12, oAl 1 13), (13, oGi 5 0 16), (16, oIfNe 20 19), (20, oAl 0 21), (21, oGr 2 1 11 24), (24, oAl 0 25), (25, oGi 2 10 28), (28, oRa 29), (29, oAs 4 31), (31, oAl 4 33), (33, oGr 3 0 5 36), (36, oAl 1 37), (40, oC 0 41), (41, oIs 5 43), (43, oIl 5 45), (45, oIl 2 46), (46, oIcGe 67 49), (49, oAl 4 51), (51, oGr 3 1 10 54), (54, oIl 5 56), (56, oRa 57), (57, oC 0 58), (58, oPi 5 0 61), (61, oInc 5 1 64), (64, oGo 43), (67, oIl 3 68), (68, oIl 2 69), (69, oIcGe 86 72), (72, oAl 4 74), (74, oGr 3 1 10 77), (77, oIl 3 78), (78, oRa 79), (79, oC 0 80), (80, oC 1 81), (81, oC 1 82), (82, oC 0 83), (86, oAl 4 88), (88, oAl 0 89), (89, oGr 2 0 4 92), (92, oIl 2 93), (96, oAl 0 97)]
theorem ok_G_generator : jm_all 45 tb_G_generator := ⟨s_aload_n d_G_generator_0 rfl, s_dup d_G_generator_1, s_geti d_G_generator_2 ci_G rfl wd_185, s_dup_x1 d_G_generator_5, s_iconst d_G_generator_6 (by decide), s_iadd d_G_generator_7, s_puti d_G_generator_8 ci_G rfl rfl rfl wd_185, s_istore_n d_G_generator_11 rfl (by decide), s_aload_n d_G_generator_12 rfl, s_getiN d_G_generator_13 ci_P rfl wd_99, s_if_ne d_G_generator_16 (by decide), s_aload_n d_G_generator_20 rfl, s_getr d_G_generator_21 ci_G rfl wd_173, s_aload_n d_G_generator_24 rfl, s_geti d_G_generator_25 ci_G rfl wd_186, s_aaload d_G_generator_28, s_astore d_G_generator_29 (by decide), s_aload d_G_generator_31, s_getrN d_G_generator_33 ci_E rfl wd_161, s_aload_n d_G_generator_36 rfl, s_iconst d_G_generator_40 (by decide), s_istore d_G_generator_41 (by decide), s_iload d_G_generator_43, s_iload_n d_G_generator_45 rfl, s_icmp_ge d_G_generator_46 (by decide), s_aload d_G_generator_49, s_getrN d_G_generator_51 ci_E rfl wd_164, s_iload d_G_generator_54, s_aaload d_G_generator_56, s_iconst d_G_generator_57 (by decide), s_putiN d_G_generator_58 ci_P rfl rfl rfl wd_99, s_iinc d_G_generator_61 (by decide) (by decide), s_goto d_G_generator_64 (by decide), s_iload_n d_G_generator_67 rfl, s_iload_n d_G_generator_68 rfl, s_icmp_ge d_G_generator_69 (by decide), s_aload d_G_generator_72, s_getrN d_G_generator_74 ci_E rfl wd_164, s_iload_n d_G_generator_77 rfl, s_aaload d_G_generator_78, s_iconst d_G_generator_79 (by decide), s_iconst d_G_generator_80 (by decide), s_iconst d_G_generator_81 (by decide), s_iconst d_G_generator_82 (by decide), s_aload d_G_generator_86, s_aload_n d_G_generator_88 rfl, s_getr d_G_generator_89 ci_G rfl wd_172, s_iload_n d_G_generator_92 rfl, s_aload_n d_G_generator_96 rfl, trivial⟩
theorem r_G_generator_19 {g : jm_G} {d : Nat} {L : List (Option jm_V)} {σ : jm_S} {K : jm_O → Prop} (hK : K (σ, .inl none)) : J g d 45 19 L [] σ K := J_vret d_G_generator_19 rfl hK
theorem k_G_generator_37 {g : jm_G} {d : Nat} {L : List (Option jm_V)} {r : List jm_V} {σ : jm_S} {K K' : jm_O → Prop} {q0 : Nat} {x0 : Nat} (hr : Nat.ble (jm_cs r) 8 = true) (hcal : J g d 19 0 [some (aR 5 q0), some (aR 5 x0)] [] σ K') (hk : ∀ u, K' u → jm_aft g (d + 1) 45 37 L r u K) : J g (d + 1) 45 37 L (aR 5 x0 :: aR 5 q0 :: r) σ K :=
  J_call' (id' := 19) jm_sk (vs := [aR 5 q0, aR 5 x0]) (inv_V (id' := 19) d_G_generator_37 ci_P wd_515 wd_340 wd_341 cw_P_become (by decide) pn_P_become) cw_P_become (by decide) (by decide) (Nat.le_of_ble_eq_true rfl) rfl hr rfl hcal hk
theorem k_G_generator_83 {g : jm_G} {d : Nat} {L : List (Option jm_V)} {r : List jm_V} {σ : jm_S} {K K' : jm_O → Prop} {q0 : Nat} {x0 : Int32} {x1 : Int32} {x2 : Int32} {x3 : Int32} (hr : Nat.ble (jm_cs r) 8 = true) (hcal : J g d 24 0 [some (aR 5 q0), some (aI x0), some (aI x1), some (aI x2), some (aI x3), none] [] σ K') (hk : ∀ u, K' u → jm_aft g (d + 1) 45 83 L r u K) : J g (d + 1) 45 83 L (aI x3 :: aI x2 :: aI x1 :: aI x0 :: aR 5 q0 :: r) σ K :=
  J_call' (id' := 24) jm_sk (vs := [aR 5 q0, aI x0, aI x1, aI x2, aI x3]) (inv_VN (id' := 24) d_G_generator_83 ci_P wd_516 wd_421 wd_3 cw_P_insert (by decide) pn_P_insert) cw_P_insert (by decide) (by decide) (Nat.le_of_ble_eq_true rfl) rfl hr rfl hcal hk
theorem k_G_generator_93 {g : jm_G} {d : Nat} {L : List (Option jm_V)} {r : List jm_V} {σ : jm_S} {K K' : jm_O → Prop} {q0 : Nat} {x0 : Nat} {x1 : Int32} (hr : Nat.ble (jm_cs r) 8 = true) (hcal : J g d 46 0 [some (aR 3 q0), some (aR 4 x0), some (aI x1), none, none, none, none] [] σ K') (hk : ∀ u, K' u → jm_aft g (d + 1) 45 93 L r u K) : J g (d + 1) 45 93 L (aI x1 :: aR 4 x0 :: aR 3 q0 :: r) σ K :=
  J_call' (id' := 46) jm_sk (vs := [aR 3 q0, aR 4 x0, aI x1]) (inv_V (id' := 46) d_G_generator_93 ci_E wd_517 wd_518 wd_519 cw_E_monic (by decide) pn_E_monic) cw_E_monic (by decide) (by decide) (Nat.le_of_ble_eq_true rfl) rfl hr rfl hcal hk
theorem k_G_generator_97 {g : jm_G} {d : Nat} {L : List (Option jm_V)} {r : List jm_V} {σ : jm_S} {K K' : jm_O → Prop} {q0 : Nat} (hr : Nat.ble (jm_cs r) 8 = true) (hcal : J g d 48 0 [some (aR 2 q0), none] [] σ K') (hk : ∀ u, K' u → jm_aft g (d + 1) 45 97 L r u K) : J g (d + 1) 45 97 L (aR 2 q0 :: r) σ K :=
  J_call' (id' := 48) jm_sk (vs := [aR 2 q0]) (inv_V (id' := 48) d_G_generator_97 ci_G wd_525 wd_527 wd_9 cw_G_join (by decide) pn_G_join) cw_G_join (by decide) (by decide) (Nat.le_of_ble_eq_true rfl) rfl hr rfl hcal hk
theorem r_G_generator_100 {g : jm_G} {d : Nat} {L : List (Option jm_V)} {σ : jm_S} {K : jm_O → Prop} (hK : K (σ, .inl none)) : J g d 45 100 L [] σ K := J_vret d_G_generator_100 rfl hK
-- IdealProver$Engine join ()V
theorem d_G_join_0 : decode prog_3_method_4_code 0 = .ok (.iconst 0, 1) := by decide +kernel
theorem d_G_join_1 : decode prog_3_method_4_code 1 = .ok (.istore_n 1, 1) := by decide +kernel
theorem d_G_join_2 : decode prog_3_method_4_code 2 = .ok (.iload_n 1, 1) := by decide +kernel
theorem d_G_join_3 : decode prog_3_method_4_code 3 = .ok (.aload_n 0, 1) := by decide +kernel
theorem d_G_join_4 : decode prog_3_method_4_code 4 = .ok (.getfield 69, 3) := by decide +kernel
theorem d_G_join_7 : decode prog_3_method_4_code 7 = .ok (.if_icmp .ge 24, 3) := by decide +kernel
theorem d_G_join_10 : decode prog_3_method_4_code 10 = .ok (.aload_n 0, 1) := by decide +kernel
theorem d_G_join_11 : decode prog_3_method_4_code 11 = .ok (.getfield 24, 3) := by decide +kernel
theorem d_G_join_14 : decode prog_3_method_4_code 14 = .ok (.bipush 24, 2) := by decide +kernel
theorem d_G_join_16 : decode prog_3_method_4_code 16 = .ok (.iload_n 1, 1) := by decide +kernel
theorem d_G_join_17 : decode prog_3_method_4_code 17 = .ok (.imul, 1) := by decide +kernel
theorem d_G_join_18 : decode prog_3_method_4_code 18 = .ok (.aload_n 0, 1) := by decide +kernel
theorem d_G_join_19 : decode prog_3_method_4_code 19 = .ok (.getfield 69, 3) := by decide +kernel
theorem d_G_join_22 : decode prog_3_method_4_code 22 = .ok (.iadd, 1) := by decide +kernel
theorem d_G_join_23 : decode prog_3_method_4_code 23 = .ok (.iconst 1, 1) := by decide +kernel
theorem d_G_join_24 : decode prog_3_method_4_code 24 = .ok (.bastore, 1) := by decide +kernel
theorem d_G_join_25 : decode prog_3_method_4_code 25 = .ok (.iinc 1 1, 3) := by decide +kernel
theorem d_G_join_28 : decode prog_3_method_4_code 28 = .ok (.goto (-26), 3) := by decide +kernel
theorem d_G_join_31 : decode prog_3_method_4_code 31 = .ok (.aload_n 0, 1) := by decide +kernel
theorem d_G_join_32 : decode prog_3_method_4_code 32 = .ok (.dup, 1) := by decide +kernel
theorem d_G_join_33 : decode prog_3_method_4_code 33 = .ok (.getfield 69, 3) := by decide +kernel
theorem d_G_join_36 : decode prog_3_method_4_code 36 = .ok (.iconst 1, 1) := by decide +kernel
theorem d_G_join_37 : decode prog_3_method_4_code 37 = .ok (.iadd, 1) := by decide +kernel
theorem d_G_join_38 : decode prog_3_method_4_code 38 = .ok (.putfield 69, 3) := by decide +kernel
theorem d_G_join_41 : decode prog_3_method_4_code 41 = .ok (.aload_n 0, 1) := by decide +kernel
theorem d_G_join_42 : decode prog_3_method_4_code 42 = .ok (.aload_n 0, 1) := by decide +kernel
theorem d_G_join_43 : decode prog_3_method_4_code 43 = .ok (.getfield 69, 3) := by decide +kernel
theorem d_G_join_46 : decode prog_3_method_4_code 46 = .ok (.putfield 81, 3) := by decide +kernel
theorem d_G_join_49 : decode prog_3_method_4_code 49 = .ok (.return_, 1) := by decide +kernel
def tb_G_join : List (Nat × jm_Op) := [(0, oC 0 1), (1, oIs 1 2), (2, oIl 1 3), (3, oAl 0 4), (4, oGi 2 10 7), (7, oIcGe 31 10), (10, oAl 0 11), (11, oGr 2 2 9 14), (14, oC 24 16), (16, oIl 1 17), (17, oMul 18), (18, oAl 0 19), (19, oGi 2 10 22), (22, oAdd 23), (23, oC 1 24), (24, oZw 25), (25, oInc 1 1 28), (28, oGo 2), (31, oAl 0 32), (32, oDup 33), (33, oGi 2 10 36), (36, oC 1 37), (37, oAdd 38), (38, oPi 2 10 41), (41, oAl 0 42), (42, oAl 0 43), (43, oGi 2 10 46), (46, oPi 2 15 49)]
theorem ok_G_join : jm_all 48 tb_G_join := ⟨s_iconst d_G_join_0 (by decide), s_istore_n d_G_join_1 rfl (by decide), s_iload_n d_G_join_2 rfl, s_aload_n d_G_join_3 rfl, s_geti d_G_join_4 ci_G rfl wd_186, s_icmp_ge d_G_join_7 (by decide), s_aload_n d_G_join_10 rfl, s_getr d_G_join_11 ci_G rfl wd_175, s_bipush d_G_join_14 (by decide), s_iload_n d_G_join_16 rfl, s_imul d_G_join_17, s_aload_n d_G_join_18 rfl, s_geti d_G_join_19 ci_G rfl wd_186, s_iadd d_G_join_22, s_iconst d_G_join_23 (by decide), s_bastore d_G_join_24, s_iinc d_G_join_25 (by decide) (by decide), s_goto d_G_join_28 (by decide), s_aload_n d_G_join_31 rfl, s_dup d_G_join_32, s_geti d_G_join_33 ci_G rfl wd_186, s_iconst d_G_join_36 (by decide), s_iadd d_G_join_37, s_puti d_G_join_38 ci_G rfl rfl rfl wd_186, s_aload_n d_G_join_41 rfl, s_aload_n d_G_join_42 rfl, s_geti d_G_join_43 ci_G rfl wd_186, s_puti d_G_join_46 ci_G rfl rfl rfl wd_196, trivial⟩
theorem r_G_join_49 {g : jm_G} {d : Nat} {L : List (Option jm_V)} {σ : jm_S} {K : jm_O → Prop} (hK : K (σ, .inl none)) : J g d 48 49 L [] σ K := J_vret d_G_join_49 rfl hK
-- IdealProver$Engine complete (I)V
theorem d_G_complete_0 : decode prog_3_method_13_code 0 = .ok (.aload_n 0, 1) := by decide +kernel
theorem d_G_complete_1 : decode prog_3_method_13_code 1 = .ok (.invokevirtual 173, 3) := by decide +kernel
theorem d_G_complete_4 : decode prog_3_method_13_code 4 = .ok (.istore_n 2, 1) := by decide +kernel
theorem d_G_complete_5 : decode prog_3_method_13_code 5 = .ok (.iload_n 2, 1) := by decide +kernel
theorem d_G_complete_6 : decode prog_3_method_13_code 6 = .ok (.ifCond .lt 90, 3) := by decide +kernel
theorem d_G_complete_9 : decode prog_3_method_13_code 9 = .ok (.iload_n 2, 1) := by decide +kernel
theorem d_G_complete_10 : decode prog_3_method_13_code 10 = .ok (.bipush 24, 2) := by decide +kernel
theorem d_G_complete_12 : decode prog_3_method_13_code 12 = .ok (.idiv, 1) := by decide +kernel
theorem d_G_complete_13 : decode prog_3_method_13_code 13 = .ok (.istore_n 3, 1) := by decide +kernel
theorem d_G_complete_14 : decode prog_3_method_13_code 14 = .ok (.iload_n 2, 1) := by decide +kernel
theorem d_G_complete_15 : decode prog_3_method_13_code 15 = .ok (.bipush 24, 2) := by decide +kernel
theorem d_G_complete_17 : decode prog_3_method_13_code 17 = .ok (.irem, 1) := by decide +kernel
theorem d_G_complete_18 : decode prog_3_method_13_code 18 = .ok (.istore 4, 2) := by decide +kernel
theorem d_G_complete_20 : decode prog_3_method_13_code 20 = .ok (.aload_n 0, 1) := by decide +kernel
theorem d_G_complete_21 : decode prog_3_method_13_code 21 = .ok (.getfield 24, 3) := by decide +kernel
theorem d_G_complete_24 : decode prog_3_method_13_code 24 = .ok (.iload_n 2, 1) := by decide +kernel
theorem d_G_complete_25 : decode prog_3_method_13_code 25 = .ok (.iconst 0, 1) := by decide +kernel
theorem d_G_complete_26 : decode prog_3_method_13_code 26 = .ok (.bastore, 1) := by decide +kernel
theorem d_G_complete_27 : decode prog_3_method_13_code 27 = .ok (.aload_n 0, 1) := by decide +kernel
theorem d_G_complete_28 : decode prog_3_method_13_code 28 = .ok (.dup, 1) := by decide +kernel
theorem d_G_complete_29 : decode prog_3_method_13_code 29 = .ok (.getfield 75, 3) := by decide +kernel
theorem d_G_complete_32 : decode prog_3_method_13_code 32 = .ok (.iconst 1, 1) := by decide +kernel
theorem d_G_complete_33 : decode prog_3_method_13_code 33 = .ok (.iadd, 1) := by decide +kernel
theorem d_G_complete_34 : decode prog_3_method_13_code 34 = .ok (.putfield 75, 3) := by decide +kernel
theorem d_G_complete_37 : decode prog_3_method_13_code 37 = .ok (.aload_n 0, 1) := by decide +kernel
theorem d_G_complete_38 : decode prog_3_method_13_code 38 = .ok (.iload_n 3, 1) := by decide +kernel
theorem d_G_complete_39 : decode prog_3_method_13_code 39 = .ok (.invokevirtual 112, 3) := by decide +kernel
theorem d_G_complete_42 : decode prog_3_method_13_code 42 = .ok (.aload_n 0, 1) := by decide +kernel
theorem d_G_complete_43 : decode prog_3_method_13_code 43 = .ok (.iload 4, 2) := by decide +kernel
theorem d_G_complete_45 : decode prog_3_method_13_code 45 = .ok (.invokevirtual 112, 3) := by decide +kernel
theorem d_G_complete_48 : decode prog_3_method_13_code 48 = .ok (.invokestatic 164, 3) := by decide +kernel
theorem d_G_complete_51 : decode prog_3_method_13_code 51 = .ok (.istore 5, 2) := by decide +kernel
theorem d_G_complete_53 : decode prog_3_method_13_code 53 = .ok (.aload_n 0, 1) := by decide +kernel
theorem d_G_complete_54 : decode prog_3_method_13_code 54 = .ok (.iload_n 3, 1) := by decide +kernel
theorem d_G_complete_55 : decode prog_3_method_13_code 55 = .ok (.iload 4, 2) := by decide +kernel
theorem d_G_complete_57 : decode prog_3_method_13_code 57 = .ok (.iload 5, 2) := by decide +kernel
theorem d_G_complete_59 : decode prog_3_method_13_code 59 = .ok (.invokevirtual 177, 3) := by decide +kernel
theorem d_G_complete_62 : decode prog_3_method_13_code 62 = .ok (.ifCond .eq 16, 3) := by decide +kernel
theorem d_G_complete_65 : decode prog_3_method_13_code 65 = .ok (.aload_n 0, 1) := by decide +kernel
theorem d_G_complete_66 : decode prog_3_method_13_code 66 = .ok (.dup, 1) := by decide +kernel
theorem d_G_complete_67 : decode prog_3_method_13_code 67 = .ok (.getfield 78, 3) := by decide +kernel
theorem d_G_complete_70 : decode prog_3_method_13_code 70 = .ok (.iconst 1, 1) := by decide +kernel
theorem d_G_complete_71 : decode prog_3_method_13_code 71 = .ok (.iadd, 1) := by decide +kernel
theorem d_G_complete_72 : decode prog_3_method_13_code 72 = .ok (.putfield 78, 3) := by decide +kernel
theorem d_G_complete_75 : decode prog_3_method_13_code 75 = .ok (.goto 13, 3) := by decide +kernel
theorem d_G_complete_78 : decode prog_3_method_13_code 78 = .ok (.aload_n 0, 1) := by decide +kernel
theorem d_G_complete_79 : decode prog_3_method_13_code 79 = .ok (.iload_n 3, 1) := by decide +kernel
theorem d_G_complete_80 : decode prog_3_method_13_code 80 = .ok (.iload 4, 2) := by decide +kernel
theorem d_G_complete_82 : decode prog_3_method_13_code 82 = .ok (.iload 5, 2) := by decide +kernel
theorem d_G_complete_84 : decode prog_3_method_13_code 84 = .ok (.iload_n 1, 1) := by decide +kernel
theorem d_G_complete_85 : decode prog_3_method_13_code 85 = .ok (.invokevirtual 181, 3) := by decide +kernel
theorem d_G_complete_88 : decode prog_3_method_13_code 88 = .ok (.aload_n 0, 1) := by decide +kernel
theorem d_G_complete_89 : decode prog_3_method_13_code 89 = .ok (.invokevirtual 173, 3) := by decide +kernel
theorem d_G_complete_92 : decode prog_3_method_13_code 92 = .ok (.istore_n 2, 1) := by decide +kernel
theorem d_G_complete_93 : decode prog_3_method_13_code 93 = .ok (.goto (-88), 3) := by decide +kernel
theorem d_G_complete_96 : decode prog_3_method_13_code 96 = .ok (.aload_n 0, 1) := by decide +kernel
theorem d_G_complete_97 : decode prog_3_method_13_code 97 = .ok (.invokevirtual 184, 3) := by decide +kernel
theorem d_G_complete_100 : decode prog_3_method_13_code 100 = .ok (.iconst 0, 1) := by decide +kernel
theorem d_G_complete_101 : decode prog_3_method_13_code 101 = .ok (.istore_n 2, 1) := by decide +kernel
theorem d_G_complete_102 : decode prog_3_method_13_code 102 = .ok (.iload_n 2, 1) := by decide +kernel
theorem d_G_complete_103 : decode prog_3_method_13_code 103 = .ok (.aload_n 0, 1) := by decide +kernel
theorem d_G_complete_104 : decode prog_3_method_13_code 104 = .ok (.getfield 69, 3) := by decide +kernel
theorem d_G_complete_107 : decode prog_3_method_13_code 107 = .ok (.if_icmp .ge 15, 3) := by decide +kernel
theorem d_G_complete_110 : decode prog_3_method_13_code 110 = .ok (.aload_n 0, 1) := by decide +kernel
theorem d_G_complete_111 : decode prog_3_method_13_code 111 = .ok (.iload_n 2, 1) := by decide +kernel
theorem d_G_complete_112 : decode prog_3_method_13_code 112 = .ok (.iload_n 1, 1) := by decide +kernel
theorem d_G_complete_113 : decode prog_3_method_13_code 113 = .ok (.invokevirtual 187, 3) := by decide +kernel
theorem d_G_complete_116 : decode prog_3_method_13_code 116 = .ok (.iinc 2 1, 3) := by decide +kernel
theorem d_G_complete_119 : decode prog_3_method_13_code 119 = .ok (.goto (-17), 3) := by decide +kernel
theorem d_G_complete_122 : decode prog_3_method_13_code 122 = .ok (.return_, 1) := by decide +kernel
def tb_G_complete_0 : List (Nat × jm_Op) := [(0, oAl 0 1), (4, oIs 2 5), (5, oIl 2 6), (6, oIfLt 96 9), (9, oIl 2 10), (10, oC 24 12), (12, oDiv 13), (13, oIs 3 14), (14, oIl 2 15), (15, oC 24 17), (17, oRem 18), (18, oIs 4 20), (20, oAl 0 21), (21, oGr 2 2 9 24), (24, oIl 2 25), (25, oC 0 26), (26, oZw 27), (27, oAl 0 28), (28, oDup 29), (29, oGi 2 13 32), (32, oC 1 33), (33, oAdd 34), (34, oPi 2 13 37), (37, oAl 0 38), (38, oIl 3 39), (42, oAl 0 43), (43, oIl 4 45), (51, oIs 5 53), (53, oAl 0 54), (54, oIl 3 55), (55, oIl 4 57), (57, oIl 5 59), (62, oIfEq 78 65), (65, oAl 0 66), (66, oDup 67), (67, oGi 2 14 70), (70, oC 1 71), (71, oAdd 72), (72, oPi 2 14 75), (75, oGo 88), (78, oAl 0 79), (79, oIl 3 80), (80, oIl 4 82), (82, oIl 5 84), (84, oIl 1 85), (88, oAl 0 89), (92, oIs 2 93), (93, oGo 5), (96, oAl 0 97), (100, oC 0 101)]
theorem ok_G_complete_0 : jm_all 49 tb_G_complete_0 := ⟨s_aload_n d_G_complete_0 rfl, s_istore_n d_G_complete_4 rfl (by decide), s_iload_n d_G_complete_5 rfl, s_if_lt d_G_complete_6 (by decide), s_iload_n d_G_complete_9 rfl, s_bipush d_G_complete_10 (by decide), s_idiv d_G_complete_12, s_istore_n d_G_complete_13 rfl (by decide), s_iload_n d_G_complete_14 rfl, s_bipush d_G_complete_15 (by decide), s_irem d_G_complete_17, s_istore d_G_complete_18 (by decide), s_aload_n d_G_complete_20 rfl, s_getr d_G_complete_21 ci_G rfl wd_175, s_iload_n d_G_complete_24 rfl, s_iconst d_G_complete_25 (by decide), s_bastore d_G_complete_26, s_aload_n d_G_complete_27 rfl, s_dup d_G_complete_28, s_geti d_G_complete_29 ci_G rfl wd_192, s_iconst d_G_complete_32 (by decide), s_iadd d_G_complete_33, s_puti d_G_complete_34 ci_G rfl rfl rfl wd_192, s_aload_n d_G_complete_37 rfl, s_iload_n d_G_complete_38 rfl, s_aload_n d_G_complete_42 rfl, s_iload d_G_complete_43, s_istore d_G_complete_51 (by decide), s_aload_n d_G_complete_53 rfl, s_iload_n d_G_complete_54 rfl, s_iload d_G_complete_55, s_iload d_G_complete_57, s_if_eq d_G_complete_62 (by decide), s_aload_n d_G_complete_65 rfl, s_dup d_G_complete_66, s_geti d_G_complete_67 ci_G rfl wd_194, s_iconst d_G_complete_70 (by decide), s_iadd d_G_complete_71, s_puti d_G_complete_72 ci_G rfl rfl rfl wd_194, s_goto d_G_complete_75 (by decide), s_aload_n d_G_complete_78 rfl, s_iload_n d_G_complete_79 rfl, s_iload d_G_complete_80, s_iload d_G_complete_82, s_iload_n d_G_complete_84 rfl, s_aload_n d_G_complete_88 rfl, s_istore_n d_G_complete_92 rfl (by decide), s_goto d_G_complete_93 (by decide), s_aload_n d_G_complete_96 rfl, s_iconst d_G_complete_100 (by decide), trivial⟩
def tb_G_complete_1 : List (Nat × jm_Op) := [(101, oIs 2 102), (102, oIl 2 103), (103, oAl 0 104), (104, oGi 2 10 107), (107, oIcGe 122 110), (110, oAl 0 111), (111, oIl 2 112), (112, oIl 1 113), (116, oInc 2 1 119), (119, oGo 102)]
theorem ok_G_complete_1 : jm_all 49 tb_G_complete_1 := ⟨s_istore_n d_G_complete_101 rfl (by decide), s_iload_n d_G_complete_102 rfl, s_aload_n d_G_complete_103 rfl, s_geti d_G_complete_104 ci_G rfl wd_186, s_icmp_ge d_G_complete_107 (by decide), s_aload_n d_G_complete_110 rfl, s_iload_n d_G_complete_111 rfl, s_iload_n d_G_complete_112 rfl, s_iinc d_G_complete_116 (by decide) (by decide), s_goto d_G_complete_119 (by decide), trivial⟩
def tb_G_complete : List (Nat × jm_Op) := tb_G_complete_0 ++ tb_G_complete_1
theorem ok_G_complete : jm_all 49 tb_G_complete := jm_all_app ok_G_complete_0 ok_G_complete_1
theorem k_G_complete_1 {g : jm_G} {d : Nat} {L : List (Option jm_V)} {r : List jm_V} {σ : jm_S} {K K' : jm_O → Prop} {q0 : Nat} (hr : Nat.ble (jm_cs r) 8 = true) (hcal : J g d 50 0 [some (aR 2 q0), none, none, none, none, none] [] σ K') (hk : ∀ u, K' u → jm_aft g (d + 1) 49 1 L r u K) : J g (d + 1) 49 1 L (aR 2 q0 :: r) σ K :=
  J_call' (id' := 50) jm_sk (vs := [aR 2 q0]) (inv_V (id' := 50) d_G_complete_1 ci_G wd_533 wd_535 wd_10 cw_G_next (by decide) pn_G_next) cw_G_next (by decide) (by decide) (Nat.le_of_ble_eq_true rfl) rfl hr rfl hcal hk
theorem k_G_complete_39 {g : jm_G} {d : Nat} {L : List (Option jm_V)} {r : List jm_V} {σ : jm_S} {K K' : jm_O → Prop} {q0 : Nat} {x0 : Int32} (hr : Nat.ble (jm_cs r) 8 = true) (hcal : J g d 51 0 [some (aR 2 q0), some (aI x0)] [] σ K') (hk : ∀ u, K' u → jm_aft g (d + 1) 49 39 L r u K) : J g (d + 1) 49 39 L (aI x0 :: aR 2 q0 :: r) σ K :=
  J_call' (id' := 51) jm_sk (vs := [aR 2 q0, aI x0]) (inv_V (id' := 51) d_G_complete_39 ci_G wd_537 wd_539 wd_11 cw_G_lead (by decide) pn_G_lead) cw_G_lead (by decide) (by decide) (Nat.le_of_ble_eq_true rfl) rfl hr rfl hcal hk
theorem k_G_complete_45 {g : jm_G} {d : Nat} {L : List (Option jm_V)} {r : List jm_V} {σ : jm_S} {K K' : jm_O → Prop} {q0 : Nat} {x0 : Int32} (hr : Nat.ble (jm_cs r) 8 = true) (hcal : J g d 51 0 [some (aR 2 q0), some (aI x0)] [] σ K') (hk : ∀ u, K' u → jm_aft g (d + 1) 49 45 L r u K) : J g (d + 1) 49 45 L (aI x0 :: aR 2 q0 :: r) σ K :=
  J_call' (id' := 51) jm_sk (vs := [aR 2 q0, aI x0]) (inv_V (id' := 51) d_G_complete_45 ci_G wd_537 wd_539 wd_11 cw_G_lead (by decide) pn_G_lead) cw_G_lead (by decide) (by decide) (Nat.le_of_ble_eq_true rfl) rfl hr rfl hcal hk
theorem k_G_complete_48 {g : jm_G} {d : Nat} {L : List (Option jm_V)} {r : List jm_V} {σ : jm_S} {K K' : jm_O → Prop} {x0 : Int32} {x1 : Int32} (hr : Nat.ble (jm_cs r) 8 = true) (hcal : J g d 52 0 [some (aI x0), some (aI x1), none, none] [] σ K') (hk : ∀ u, K' u → jm_aft g (d + 1) 49 48 L r u K) : J g (d + 1) 49 48 L (aI x1 :: aI x0 :: r) σ K :=
  J_call' (id' := 52) jm_sk (vs := [aI x0, aI x1]) (inv_SN (id' := 52) d_G_complete_48 wd_541 wd_542 wd_54 cw_H_common (by decide) pn_H_common) cw_H_common (by decide) (by decide) (Nat.le_of_ble_eq_true rfl) rfl hr rfl hcal hk
theorem k_G_complete_59 {g : jm_G} {d : Nat} {L : List (Option jm_V)} {r : List jm_V} {σ : jm_S} {K K' : jm_O → Prop} {q0 : Nat} {x0 : Int32} {x1 : Int32} {x2 : Int32} (hr : Nat.ble (jm_cs r) 8 = true) (hcal : J g d 53 0 [some (aR 2 q0), some (aI x0), some (aI x1), some (aI x2), none, none] [] σ K') (hk : ∀ u, K' u → jm_aft g (d + 1) 49 59 L r u K) : J g (d + 1) 49 59 L (aI x2 :: aI x1 :: aI x0 :: aR 2 q0 :: r) σ K :=
  J_call' (id' := 53) jm_sk (vs := [aR 2 q0, aI x0, aI x1, aI x2]) (inv_V (id' := 53) d_G_complete_59 ci_G wd_545 wd_547 wd_12 cw_G_isPassed (by decide) pn_G_isPassed) cw_G_isPassed (by decide) (by decide) (Nat.le_of_ble_eq_true rfl) rfl hr rfl hcal hk
theorem k_G_complete_85 {g : jm_G} {d : Nat} {L : List (Option jm_V)} {r : List jm_V} {σ : jm_S} {K K' : jm_O → Prop} {q0 : Nat} {x0 : Int32} {x1 : Int32} {x2 : Int32} {x3 : Int32} (hr : Nat.ble (jm_cs r) 8 = true) (hcal : J g d 56 0 [some (aR 2 q0), some (aI x0), some (aI x1), some (aI x2), some (aI x3), none, none, none, none] [] σ K') (hk : ∀ u, K' u → jm_aft g (d + 1) 49 85 L r u K) : J g (d + 1) 49 85 L (aI x3 :: aI x2 :: aI x1 :: aI x0 :: aR 2 q0 :: r) σ K :=
  J_call' (id' := 56) jm_sk (vs := [aR 2 q0, aI x0, aI x1, aI x2, aI x3]) (inv_V (id' := 56) d_G_complete_85 ci_G wd_556 wd_558 wd_14 cw_G_pair (by decide) pn_G_pair) cw_G_pair (by decide) (by decide) (Nat.le_of_ble_eq_true rfl) rfl hr rfl hcal hk
theorem k_G_complete_89 {g : jm_G} {d : Nat} {L : List (Option jm_V)} {r : List jm_V} {σ : jm_S} {K K' : jm_O → Prop} {q0 : Nat} (hr : Nat.ble (jm_cs r) 8 = true) (hcal : J g d 50 0 [some (aR 2 q0), none, none, none, none, none] [] σ K') (hk : ∀ u, K' u → jm_aft g (d + 1) 49 89 L r u K) : J g (d + 1) 49 89 L (aR 2 q0 :: r) σ K :=
  J_call' (id' := 50) jm_sk (vs := [aR 2 q0]) (inv_V (id' := 50) d_G_complete_89 ci_G wd_533 wd_535 wd_10 cw_G_next (by decide) pn_G_next) cw_G_next (by decide) (by decide) (Nat.le_of_ble_eq_true rfl) rfl hr rfl hcal hk
theorem k_G_complete_97 {g : jm_G} {d : Nat} {L : List (Option jm_V)} {r : List jm_V} {σ : jm_S} {K K' : jm_O → Prop} {q0 : Nat} (hr : Nat.ble (jm_cs r) 8 = true) (hcal : J g d 60 0 [some (aR 2 q0), none, none, none, none] [] σ K') (hk : ∀ u, K' u → jm_aft g (d + 1) 49 97 L r u K) : J g (d + 1) 49 97 L (aR 2 q0 :: r) σ K :=
  J_call' (id' := 60) jm_sk (vs := [aR 2 q0]) (inv_V (id' := 60) d_G_complete_97 ci_G wd_581 wd_583 wd_18 cw_G_thin (by decide) pn_G_thin) cw_G_thin (by decide) (by decide) (Nat.le_of_ble_eq_true rfl) rfl hr rfl hcal hk
theorem k_G_complete_113 {g : jm_G} {d : Nat} {L : List (Option jm_V)} {r : List jm_V} {σ : jm_S} {K K' : jm_O → Prop} {q0 : Nat} {x0 : Int32} {x1 : Int32} (hr : Nat.ble (jm_cs r) 8 = true) (hcal : J g d 62 0 [some (aR 2 q0), some (aI x0), some (aI x1), none, none, none] [] σ K') (hk : ∀ u, K' u → jm_aft g (d + 1) 49 113 L r u K) : J g (d + 1) 49 113 L (aI x1 :: aI x0 :: aR 2 q0 :: r) σ K :=
  J_call' (id' := 62) jm_sk (vs := [aR 2 q0, aI x0, aI x1]) (inv_V (id' := 62) d_G_complete_113 ci_G wd_589 wd_591 wd_20 cw_G_reduce (by decide) pn_G_reduce) cw_G_reduce (by decide) (by decide) (Nat.le_of_ble_eq_true rfl) rfl hr rfl hcal hk
theorem r_G_complete_122 {g : jm_G} {d : Nat} {L : List (Option jm_V)} {σ : jm_S} {K : jm_O → Prop} (hK : K (σ, .inl none)) : J g d 49 122 L [] σ K := J_vret d_G_complete_122 rfl hK
-- IdealProver$Engine next ()I
theorem d_G_next_0 : decode prog_3_method_12_code 0 = .ok (.iconst (-1), 1) := by decide +kernel
theorem d_G_next_1 : decode prog_3_method_12_code 1 = .ok (.istore_n 1, 1) := by decide +kernel
theorem d_G_next_2 : decode prog_3_method_12_code 2 = .ok (.iconst 0, 1) := by decide +kernel
theorem d_G_next_3 : decode prog_3_method_12_code 3 = .ok (.istore_n 2, 1) := by decide +kernel
theorem d_G_next_4 : decode prog_3_method_12_code 4 = .ok (.iconst 1, 1) := by decide +kernel
theorem d_G_next_5 : decode prog_3_method_12_code 5 = .ok (.istore_n 3, 1) := by decide +kernel
theorem d_G_next_6 : decode prog_3_method_12_code 6 = .ok (.iload_n 3, 1) := by decide +kernel
theorem d_G_next_7 : decode prog_3_method_12_code 7 = .ok (.aload_n 0, 1) := by decide +kernel
theorem d_G_next_8 : decode prog_3_method_12_code 8 = .ok (.getfield 69, 3) := by decide +kernel
theorem d_G_next_11 : decode prog_3_method_12_code 11 = .ok (.if_icmp .ge 89, 3) := by decide +kernel
theorem d_G_next_14 : decode prog_3_method_12_code 14 = .ok (.iconst 0, 1) := by decide +kernel
theorem d_G_next_15 : decode prog_3_method_12_code 15 = .ok (.istore 4, 2) := by decide +kernel
theorem d_G_next_17 : decode prog_3_method_12_code 17 = .ok (.iload 4, 2) := by decide +kernel
theorem d_G_next_19 : decode prog_3_method_12_code 19 = .ok (.iload_n 3, 1) := by decide +kernel
theorem d_G_next_20 : decode prog_3_method_12_code 20 = .ok (.if_icmp .ge 74, 3) := by decide +kernel
theorem d_G_next_23 : decode prog_3_method_12_code 23 = .ok (.aload_n 0, 1) := by decide +kernel
theorem d_G_next_24 : decode prog_3_method_12_code 24 = .ok (.getfield 24, 3) := by decide +kernel
theorem d_G_next_27 : decode prog_3_method_12_code 27 = .ok (.bipush 24, 2) := by decide +kernel
theorem d_G_next_29 : decode prog_3_method_12_code 29 = .ok (.iload 4, 2) := by decide +kernel
theorem d_G_next_31 : decode prog_3_method_12_code 31 = .ok (.imul, 1) := by decide +kernel
theorem d_G_next_32 : decode prog_3_method_12_code 32 = .ok (.iload_n 3, 1) := by decide +kernel
theorem d_G_next_33 : decode prog_3_method_12_code 33 = .ok (.iadd, 1) := by decide +kernel
theorem d_G_next_34 : decode prog_3_method_12_code 34 = .ok (.baload, 1) := by decide +kernel
theorem d_G_next_35 : decode prog_3_method_12_code 35 = .ok (.ifCond .ne 6, 3) := by decide +kernel
theorem d_G_next_38 : decode prog_3_method_12_code 38 = .ok (.goto 50, 3) := by decide +kernel
theorem d_G_next_41 : decode prog_3_method_12_code 41 = .ok (.aload_n 0, 1) := by decide +kernel
theorem d_G_next_42 : decode prog_3_method_12_code 42 = .ok (.iload 4, 2) := by decide +kernel
theorem d_G_next_44 : decode prog_3_method_12_code 44 = .ok (.invokevirtual 112, 3) := by decide +kernel
theorem d_G_next_47 : decode prog_3_method_12_code 47 = .ok (.aload_n 0, 1) := by decide +kernel
theorem d_G_next_48 : decode prog_3_method_12_code 48 = .ok (.iload_n 3, 1) := by decide +kernel
theorem d_G_next_49 : decode prog_3_method_12_code 49 = .ok (.invokevirtual 112, 3) := by decide +kernel
theorem d_G_next_52 : decode prog_3_method_12_code 52 = .ok (.invokestatic 164, 3) := by decide +kernel
theorem d_G_next_55 : decode prog_3_method_12_code 55 = .ok (.istore 5, 2) := by decide +kernel
theorem d_G_next_57 : decode prog_3_method_12_code 57 = .ok (.iload_n 1, 1) := by decide +kernel
theorem d_G_next_58 : decode prog_3_method_12_code 58 = .ok (.ifCond .lt 19, 3) := by decide +kernel
theorem d_G_next_61 : decode prog_3_method_12_code 61 = .ok (.aload_n 0, 1) := by decide +kernel
theorem d_G_next_62 : decode prog_3_method_12_code 62 = .ok (.getfield 59, 3) := by decide +kernel
theorem d_G_next_65 : decode prog_3_method_12_code 65 = .ok (.iload 5, 2) := by decide +kernel
theorem d_G_next_67 : decode prog_3_method_12_code 67 = .ok (.iload_n 2, 1) := by decide +kernel
theorem d_G_next_68 : decode prog_3_method_12_code 68 = .ok (.invokevirtual 168, 3) := by decide +kernel
theorem d_G_next_71 : decode prog_3_method_12_code 71 = .ok (.ifCond .lt 6, 3) := by decide +kernel
theorem d_G_next_74 : decode prog_3_method_12_code 74 = .ok (.goto 14, 3) := by decide +kernel
theorem d_G_next_77 : decode prog_3_method_12_code 77 = .ok (.bipush 24, 2) := by decide +kernel
theorem d_G_next_79 : decode prog_3_method_12_code 79 = .ok (.iload 4, 2) := by decide +kernel
theorem d_G_next_81 : decode prog_3_method_12_code 81 = .ok (.imul, 1) := by decide +kernel
theorem d_G_next_82 : decode prog_3_method_12_code 82 = .ok (.iload_n 3, 1) := by decide +kernel
theorem d_G_next_83 : decode prog_3_method_12_code 83 = .ok (.iadd, 1) := by decide +kernel
theorem d_G_next_84 : decode prog_3_method_12_code 84 = .ok (.istore_n 1, 1) := by decide +kernel
theorem d_G_next_85 : decode prog_3_method_12_code 85 = .ok (.iload 5, 2) := by decide +kernel
theorem d_G_next_87 : decode prog_3_method_12_code 87 = .ok (.istore_n 2, 1) := by decide +kernel
theorem d_G_next_88 : decode prog_3_method_12_code 88 = .ok (.iinc 4 1, 3) := by decide +kernel
theorem d_G_next_91 : decode prog_3_method_12_code 91 = .ok (.goto (-74), 3) := by decide +kernel
theorem d_G_next_94 : decode prog_3_method_12_code 94 = .ok (.iinc 3 1, 3) := by decide +kernel
theorem d_G_next_97 : decode prog_3_method_12_code 97 = .ok (.goto (-91), 3) := by decide +kernel
theorem d_G_next_100 : decode prog_3_method_12_code 100 = .ok (.iload_n 1, 1) := by decide +kernel
theorem d_G_next_101 : decode prog_3_method_12_code 101 = .ok (.ireturn, 1) := by decide +kernel
def tb_G_next_0 : List (Nat × jm_Op) := [(0, oC (-1) 1), (1, oIs 1 2), (2, oC 0 3), (3, oIs 2 4), (4, oC 1 5), (5, oIs 3 6), (6, oIl 3 7), (7, oAl 0 8), (8, oGi 2 10 11), (11, oIcGe 100 14), (14, oC 0 15), (15, oIs 4 17), (17, oIl 4 19), (19, oIl 3 20), (20, oIcGe 94 23), (23, oAl 0 24), (24, oGr 2 2 9 27), (27, oC 24 29), (29, oIl 4 31), (31, oMul 32), (32, oIl 3 33), (33, oAdd 34), (34, oZa 35), (35, oIfNe 41 38), (38, oGo 88), (41, oAl 0 42), (42, oIl 4 44), (47, oAl 0 48), (48, oIl 3 49), (55, oIs 5 57), (57, oIl 1 58), (58, oIfLt 77 61), (61, oAl 0 62), (62, oGr 2 8 13 65), (65, oIl 5 67), (67, oIl 2 68), (71, oIfLt 77 74), (74, oGo 88), (77, oC 24 79), (79, oIl 4 81), (81, oMul 82), (82, oIl 3 83), (83, oAdd 84), (84, oIs 1 85), (85, oIl 5 87), (87, oIs 2 88), (88, oInc 4 1 91), (91, oGo 17), (94, oInc 3 1 97), (97, oGo 6)]
theorem ok_G_next_0 : jm_all 50 tb_G_next_0 := ⟨s_iconst d_G_next_0 (by decide), s_istore_n d_G_next_1 rfl (by decide), s_iconst d_G_next_2 (by decide), s_istore_n d_G_next_3 rfl (by decide), s_iconst d_G_next_4 (by decide), s_istore_n d_G_next_5 rfl (by decide), s_iload_n d_G_next_6 rfl, s_aload_n d_G_next_7 rfl, s_geti d_G_next_8 ci_G rfl wd_186, s_icmp_ge d_G_next_11 (by decide), s_iconst d_G_next_14 (by decide), s_istore d_G_next_15 (by decide), s_iload d_G_next_17, s_iload_n d_G_next_19 rfl, s_icmp_ge d_G_next_20 (by decide), s_aload_n d_G_next_23 rfl, s_getr d_G_next_24 ci_G rfl wd_175, s_bipush d_G_next_27 (by decide), s_iload d_G_next_29, s_imul d_G_next_31, s_iload_n d_G_next_32 rfl, s_iadd d_G_next_33, s_baload d_G_next_34, s_if_ne d_G_next_35 (by decide), s_goto d_G_next_38 (by decide), s_aload_n d_G_next_41 rfl, s_iload d_G_next_42, s_aload_n d_G_next_47 rfl, s_iload_n d_G_next_48 rfl, s_istore d_G_next_55 (by decide), s_iload_n d_G_next_57 rfl, s_if_lt d_G_next_58 (by decide), s_aload_n d_G_next_61 rfl, s_getr d_G_next_62 ci_G rfl wd_184, s_iload d_G_next_65, s_iload_n d_G_next_67 rfl, s_if_lt d_G_next_71 (by decide), s_goto d_G_next_74 (by decide), s_bipush d_G_next_77 (by decide), s_iload d_G_next_79, s_imul d_G_next_81, s_iload_n d_G_next_82 rfl, s_iadd d_G_next_83, s_istore_n d_G_next_84 rfl (by decide), s_iload d_G_next_85, s_istore_n d_G_next_87 rfl (by decide), s_iinc d_G_next_88 (by decide) (by decide), s_goto d_G_next_91 (by decide), s_iinc d_G_next_94 (by decide) (by decide), s_goto d_G_next_97 (by decide), trivial⟩
def tb_G_next_1 : List (Nat × jm_Op) := [(100, oIl 1 101)]
theorem ok_G_next_1 : jm_all 50 tb_G_next_1 := ⟨s_iload_n d_G_next_100 rfl, trivial⟩
def tb_G_next : List (Nat × jm_Op) := tb_G_next_0 ++ tb_G_next_1
theorem ok_G_next : jm_all 50 tb_G_next := jm_all_app ok_G_next_0 ok_G_next_1
theorem k_G_next_44 {g : jm_G} {d : Nat} {L : List (Option jm_V)} {r : List jm_V} {σ : jm_S} {K K' : jm_O → Prop} {q0 : Nat} {x0 : Int32} (hr : Nat.ble (jm_cs r) 8 = true) (hcal : J g d 51 0 [some (aR 2 q0), some (aI x0)] [] σ K') (hk : ∀ u, K' u → jm_aft g (d + 1) 50 44 L r u K) : J g (d + 1) 50 44 L (aI x0 :: aR 2 q0 :: r) σ K :=
  J_call' (id' := 51) jm_sk (vs := [aR 2 q0, aI x0]) (inv_V (id' := 51) d_G_next_44 ci_G wd_537 wd_539 wd_11 cw_G_lead (by decide) pn_G_lead) cw_G_lead (by decide) (by decide) (Nat.le_of_ble_eq_true rfl) rfl hr rfl hcal hk
theorem k_G_next_49 {g : jm_G} {d : Nat} {L : List (Option jm_V)} {r : List jm_V} {σ : jm_S} {K K' : jm_O → Prop} {q0 : Nat} {x0 : Int32} (hr : Nat.ble (jm_cs r) 8 = true) (hcal : J g d 51 0 [some (aR 2 q0), some (aI x0)] [] σ K') (hk : ∀ u, K' u → jm_aft g (d + 1) 50 49 L r u K) : J g (d + 1) 50 49 L (aI x0 :: aR 2 q0 :: r) σ K :=
  J_call' (id' := 51) jm_sk (vs := [aR 2 q0, aI x0]) (inv_V (id' := 51) d_G_next_49 ci_G wd_537 wd_539 wd_11 cw_G_lead (by decide) pn_G_lead) cw_G_lead (by decide) (by decide) (Nat.le_of_ble_eq_true rfl) rfl hr rfl hcal hk
theorem k_G_next_52 {g : jm_G} {d : Nat} {L : List (Option jm_V)} {r : List jm_V} {σ : jm_S} {K K' : jm_O → Prop} {x0 : Int32} {x1 : Int32} (hr : Nat.ble (jm_cs r) 8 = true) (hcal : J g d 52 0 [some (aI x0), some (aI x1), none, none] [] σ K') (hk : ∀ u, K' u → jm_aft g (d + 1) 50 52 L r u K) : J g (d + 1) 50 52 L (aI x1 :: aI x0 :: r) σ K :=
  J_call' (id' := 52) jm_sk (vs := [aI x0, aI x1]) (inv_SN (id' := 52) d_G_next_52 wd_541 wd_542 wd_54 cw_H_common (by decide) pn_H_common) cw_H_common (by decide) (by decide) (Nat.le_of_ble_eq_true rfl) rfl hr rfl hcal hk
theorem k_G_next_68_1 {g : jm_G} {d : Nat} {L : List (Option jm_V)} {r : List jm_V} {σ : jm_S} {K K' : jm_O → Prop} {q0 : Nat} {x0 : Int32} {x1 : Int32} (hq : q0 = goa g 0) (hr : Nat.ble (jm_cs r) 8 = true) (hcal : J g d 11 0 [some (aR 13 q0), some (aI x0), some (aI x1)] [] σ K') (hk : ∀ u, K' u → jm_aft g (d + 1) 50 68 L r u K) : J g (d + 1) 50 68 L (aI x1 :: aI x0 :: aR 13 q0 :: r) σ K :=
  J_call' (id' := 11) jm_sk (vs := [aR 13 q0, aI x0, aI x1]) (inv_O (id' := 11) (y := ⟨"IdealProver$Order", "compare", "(II)I"⟩) (j := 0) (by decide) hq d_G_next_68 wd_544 wd_305 wd_306 wd_308 wd_307 (by decide) pn_O1_compare) cw_O1_compare (by decide) (by decide) (Nat.le_of_ble_eq_true rfl) rfl hr rfl hcal hk
theorem k_G_next_68_2 {g : jm_G} {d : Nat} {L : List (Option jm_V)} {r : List jm_V} {σ : jm_S} {K K' : jm_O → Prop} {q0 : Nat} {x0 : Int32} {x1 : Int32} (hq : q0 = goa g 1) (hr : Nat.ble (jm_cs r) 8 = true) (hcal : J g d 12 0 [some (aR 13 q0), some (aI x0), some (aI x1)] [] σ K') (hk : ∀ u, K' u → jm_aft g (d + 1) 50 68 L r u K) : J g (d + 1) 50 68 L (aI x1 :: aI x0 :: aR 13 q0 :: r) σ K :=
  J_call' (id' := 12) jm_sk (vs := [aR 13 q0, aI x0, aI x1]) (inv_O (id' := 12) (y := ⟨"IdealProver$Order", "compare", "(II)I"⟩) (j := 1) (by decide) hq d_G_next_68 wd_544 wd_305 wd_306 wd_311 wd_310 (by decide) pn_O1_compare) cw_O2_compare (by decide) (by decide) (Nat.le_of_ble_eq_true rfl) rfl hr rfl hcal hk
theorem k_G_next_68_3 {g : jm_G} {d : Nat} {L : List (Option jm_V)} {r : List jm_V} {σ : jm_S} {K K' : jm_O → Prop} {q0 : Nat} {x0 : Int32} {x1 : Int32} (hq : q0 = goa g 2) (hr : Nat.ble (jm_cs r) 8 = true) (hcal : J g d 15 0 [some (aR 13 q0), some (aI x0), some (aI x1), none] [] σ K') (hk : ∀ u, K' u → jm_aft g (d + 1) 50 68 L r u K) : J g (d + 1) 50 68 L (aI x1 :: aI x0 :: aR 13 q0 :: r) σ K :=
  J_call' (id' := 15) jm_sk (vs := [aR 13 q0, aI x0, aI x1]) (inv_O (id' := 15) (y := ⟨"IdealProver$Order", "compare", "(II)I"⟩) (j := 2) (by decide) hq d_G_next_68 wd_544 wd_305 wd_306 wd_320 wd_319 (by decide) pn_O1_compare) cw_O3_compare (by decide) (by decide) (Nat.le_of_ble_eq_true rfl) rfl hr rfl hcal hk
theorem r_G_next_101 {g : jm_G} {d : Nat} {L : List (Option jm_V)} {σ : jm_S} {K : jm_O → Prop} {v : Int32} (hK : K (σ, .inl (some (aI v)))) : J g d 50 101 L [aI v] σ K := J_iret d_G_next_101 rfl hK
-- IdealProver$Engine lead (I)I
theorem d_G_lead_0 : decode prog_3_method_6_code 0 = .ok (.aload_n 0, 1) := by decide +kernel
theorem d_G_lead_1 : decode prog_3_method_6_code 1 = .ok (.getfield 20, 3) := by decide +kernel
theorem d_G_lead_4 : decode prog_3_method_6_code 4 = .ok (.iload_n 1, 1) := by decide +kernel
theorem d_G_lead_5 : decode prog_3_method_6_code 5 = .ok (.aaload, 1) := by decide +kernel
theorem d_G_lead_6 : decode prog_3_method_6_code 6 = .ok (.getfield 87, 3) := by decide +kernel
theorem d_G_lead_9 : decode prog_3_method_6_code 9 = .ok (.getfield 108, 3) := by decide +kernel
theorem d_G_lead_12 : decode prog_3_method_6_code 12 = .ok (.iconst 0, 1) := by decide +kernel
theorem d_G_lead_13 : decode prog_3_method_6_code 13 = .ok (.iaload, 1) := by decide +kernel
theorem d_G_lead_14 : decode prog_3_method_6_code 14 = .ok (.ireturn, 1) := by decide +kernel
def tb_G_lead : List (Nat × jm_Op) := [(0, oAl 0 1), (1, oGr 2 1 11 4), (4, oIl 1 5), (5, oRa 6), (6, oGr 3 0 5 9), (9, oGr 5 3 8 12), (12, oC 0 13), (13, oIa 14)]
theorem ok_G_lead : jm_all 51 tb_G_lead := ⟨s_aload_n d_G_lead_0 rfl, s_getr d_G_lead_1 ci_G rfl wd_173, s_iload_n d_G_lead_4 rfl, s_aaload d_G_lead_5, s_getrN d_G_lead_6 ci_E rfl wd_161, s_getrN d_G_lead_9 ci_P rfl wd_110, s_iconst d_G_lead_12 (by decide), s_iaload d_G_lead_13, trivial⟩
theorem r_G_lead_14 {g : jm_G} {d : Nat} {L : List (Option jm_V)} {σ : jm_S} {K : jm_O → Prop} {v : Int32} (hK : K (σ, .inl (some (aI v)))) : J g d 51 14 L [aI v] σ K := J_iret d_G_lead_14 rfl hK
-- IdealProver$Engine isPassed (III)Z
theorem d_G_isPassed_0 : decode prog_3_method_7_code 0 = .ok (.iload_n 3, 1) := by decide +kernel
theorem d_G_isPassed_1 : decode prog_3_method_7_code 1 = .ok (.aload_n 0, 1) := by decide +kernel
theorem d_G_isPassed_2 : decode prog_3_method_7_code 2 = .ok (.iload_n 1, 1) := by decide +kernel
theorem d_G_isPassed_3 : decode prog_3_method_7_code 3 = .ok (.invokevirtual 112, 3) := by decide +kernel
theorem d_G_isPassed_6 : decode prog_3_method_7_code 6 = .ok (.aload_n 0, 1) := by decide +kernel
theorem d_G_isPassed_7 : decode prog_3_method_7_code 7 = .ok (.iload_n 2, 1) := by decide +kernel
theorem d_G_isPassed_8 : decode prog_3_method_7_code 8 = .ok (.invokevirtual 112, 3) := by decide +kernel
theorem d_G_isPassed_11 : decode prog_3_method_7_code 11 = .ok (.iadd, 1) := by decide +kernel
theorem d_G_isPassed_12 : decode prog_3_method_7_code 12 = .ok (.if_icmp .ne 5, 3) := by decide +kernel
theorem d_G_isPassed_15 : decode prog_3_method_7_code 15 = .ok (.iconst 1, 1) := by decide +kernel
theorem d_G_isPassed_16 : decode prog_3_method_7_code 16 = .ok (.ireturn, 1) := by decide +kernel
theorem d_G_isPassed_17 : decode prog_3_method_7_code 17 = .ok (.iconst 0, 1) := by decide +kernel
theorem d_G_isPassed_18 : decode prog_3_method_7_code 18 = .ok (.istore 4, 2) := by decide +kernel
theorem d_G_isPassed_20 : decode prog_3_method_7_code 20 = .ok (.iconst 0, 1) := by decide +kernel
theorem d_G_isPassed_21 : decode prog_3_method_7_code 21 = .ok (.istore 5, 2) := by decide +kernel
theorem d_G_isPassed_23 : decode prog_3_method_7_code 23 = .ok (.iload 5, 2) := by decide +kernel
theorem d_G_isPassed_25 : decode prog_3_method_7_code 25 = .ok (.aload_n 0, 1) := by decide +kernel
theorem d_G_isPassed_26 : decode prog_3_method_7_code 26 = .ok (.getfield 69, 3) := by decide +kernel
theorem d_G_isPassed_29 : decode prog_3_method_7_code 29 = .ok (.if_icmp .ge 66, 3) := by decide +kernel
theorem d_G_isPassed_32 : decode prog_3_method_7_code 32 = .ok (.iload 4, 2) := by decide +kernel
theorem d_G_isPassed_34 : decode prog_3_method_7_code 34 = .ok (.ifCond .ne 61, 3) := by decide +kernel
theorem d_G_isPassed_37 : decode prog_3_method_7_code 37 = .ok (.iload 5, 2) := by decide +kernel
theorem d_G_isPassed_39 : decode prog_3_method_7_code 39 = .ok (.iload_n 1, 1) := by decide +kernel
theorem d_G_isPassed_40 : decode prog_3_method_7_code 40 = .ok (.if_icmp .eq 46, 3) := by decide +kernel
theorem d_G_isPassed_43 : decode prog_3_method_7_code 43 = .ok (.iload 5, 2) := by decide +kernel
theorem d_G_isPassed_45 : decode prog_3_method_7_code 45 = .ok (.iload_n 2, 1) := by decide +kernel
theorem d_G_isPassed_46 : decode prog_3_method_7_code 46 = .ok (.if_icmp .eq 40, 3) := by decide +kernel
theorem d_G_isPassed_49 : decode prog_3_method_7_code 49 = .ok (.aload_n 0, 1) := by decide +kernel
theorem d_G_isPassed_50 : decode prog_3_method_7_code 50 = .ok (.iload 5, 2) := by decide +kernel
theorem d_G_isPassed_52 : decode prog_3_method_7_code 52 = .ok (.invokevirtual 112, 3) := by decide +kernel
theorem d_G_isPassed_55 : decode prog_3_method_7_code 55 = .ok (.iload_n 3, 1) := by decide +kernel
theorem d_G_isPassed_56 : decode prog_3_method_7_code 56 = .ok (.invokestatic 116, 3) := by decide +kernel
theorem d_G_isPassed_59 : decode prog_3_method_7_code 59 = .ok (.ifCond .eq 27, 3) := by decide +kernel
theorem d_G_isPassed_62 : decode prog_3_method_7_code 62 = .ok (.aload_n 0, 1) := by decide +kernel
theorem d_G_isPassed_63 : decode prog_3_method_7_code 63 = .ok (.iload_n 1, 1) := by decide +kernel
theorem d_G_isPassed_64 : decode prog_3_method_7_code 64 = .ok (.iload 5, 2) := by decide +kernel
theorem d_G_isPassed_66 : decode prog_3_method_7_code 66 = .ok (.invokevirtual 120, 3) := by decide +kernel
theorem d_G_isPassed_69 : decode prog_3_method_7_code 69 = .ok (.ifCond .ne 17, 3) := by decide +kernel
theorem d_G_isPassed_72 : decode prog_3_method_7_code 72 = .ok (.aload_n 0, 1) := by decide +kernel
theorem d_G_isPassed_73 : decode prog_3_method_7_code 73 = .ok (.iload_n 2, 1) := by decide +kernel
theorem d_G_isPassed_74 : decode prog_3_method_7_code 74 = .ok (.iload 5, 2) := by decide +kernel
theorem d_G_isPassed_76 : decode prog_3_method_7_code 76 = .ok (.invokevirtual 120, 3) := by decide +kernel
theorem d_G_isPassed_79 : decode prog_3_method_7_code 79 = .ok (.ifCond .ne 7, 3) := by decide +kernel
theorem d_G_isPassed_82 : decode prog_3_method_7_code 82 = .ok (.iconst 1, 1) := by decide +kernel
theorem d_G_isPassed_83 : decode prog_3_method_7_code 83 = .ok (.goto 4, 3) := by decide +kernel
theorem d_G_isPassed_86 : decode prog_3_method_7_code 86 = .ok (.iconst 0, 1) := by decide +kernel
theorem d_G_isPassed_87 : decode prog_3_method_7_code 87 = .ok (.istore 4, 2) := by decide +kernel
theorem d_G_isPassed_89 : decode prog_3_method_7_code 89 = .ok (.iinc 5 1, 3) := by decide +kernel
theorem d_G_isPassed_92 : decode prog_3_method_7_code 92 = .ok (.goto (-69), 3) := by decide +kernel
theorem d_G_isPassed_95 : decode prog_3_method_7_code 95 = .ok (.iload 4, 2) := by decide +kernel
theorem d_G_isPassed_97 : decode prog_3_method_7_code 97 = .ok (.ireturn, 1) := by decide +kernel
def tb_G_isPassed : List (Nat × jm_Op) := [(0, oIl 3 1), (1, oAl 0 2), (2, oIl 1 3), (6, oAl 0 7), (7, oIl 2 8), (11, oAdd 12), (12, oIcNe 17 15), (15, oC 1 16), (17, oC 0 18), (18, oIs 4 20), (20, oC 0 21), (21, oIs 5 23), (23, oIl 5 25), (25, oAl 0 26), (26, oGi 2 10 29), (29, oIcGe 95 32), (32, oIl 4 34), (34, oIfNe 95 37), (37, oIl 5 39), (39, oIl 1 40), (40, oIcEq 86 43), (43, oIl 5 45), (45, oIl 2 46), (46, oIcEq 86 49), (49, oAl 0 50), (50, oIl 5 52), (55, oIl 3 56), (59, oIfEq 86 62), (62, oAl 0 63), (63, oIl 1 64), (64, oIl 5 66), (69, oIfNe 86 72), (72, oAl 0 73), (73, oIl 2 74), (74, oIl 5 76), (79, oIfNe 86 82), (82, oC 1 83), (83, oGo 87), (86, oC 0 87), (87, oIs 4 89), (89, oInc 5 1 92), (92, oGo 23), (95, oIl 4 97)]
theorem ok_G_isPassed : jm_all 53 tb_G_isPassed := ⟨s_iload_n d_G_isPassed_0 rfl, s_aload_n d_G_isPassed_1 rfl, s_iload_n d_G_isPassed_2 rfl, s_aload_n d_G_isPassed_6 rfl, s_iload_n d_G_isPassed_7 rfl, s_iadd d_G_isPassed_11, s_icmp_ne d_G_isPassed_12 (by decide), s_iconst d_G_isPassed_15 (by decide), s_iconst d_G_isPassed_17 (by decide), s_istore d_G_isPassed_18 (by decide), s_iconst d_G_isPassed_20 (by decide), s_istore d_G_isPassed_21 (by decide), s_iload d_G_isPassed_23, s_aload_n d_G_isPassed_25 rfl, s_geti d_G_isPassed_26 ci_G rfl wd_186, s_icmp_ge d_G_isPassed_29 (by decide), s_iload d_G_isPassed_32, s_if_ne d_G_isPassed_34 (by decide), s_iload d_G_isPassed_37, s_iload_n d_G_isPassed_39 rfl, s_icmp_eq d_G_isPassed_40 (by decide), s_iload d_G_isPassed_43, s_iload_n d_G_isPassed_45 rfl, s_icmp_eq d_G_isPassed_46 (by decide), s_aload_n d_G_isPassed_49 rfl, s_iload d_G_isPassed_50, s_iload_n d_G_isPassed_55 rfl, s_if_eq d_G_isPassed_59 (by decide), s_aload_n d_G_isPassed_62 rfl, s_iload_n d_G_isPassed_63 rfl, s_iload d_G_isPassed_64, s_if_ne d_G_isPassed_69 (by decide), s_aload_n d_G_isPassed_72 rfl, s_iload_n d_G_isPassed_73 rfl, s_iload d_G_isPassed_74, s_if_ne d_G_isPassed_79 (by decide), s_iconst d_G_isPassed_82 (by decide), s_goto d_G_isPassed_83 (by decide), s_iconst d_G_isPassed_86 (by decide), s_istore d_G_isPassed_87 (by decide), s_iinc d_G_isPassed_89 (by decide) (by decide), s_goto d_G_isPassed_92 (by decide), s_iload d_G_isPassed_95, trivial⟩
theorem k_G_isPassed_3 {g : jm_G} {d : Nat} {L : List (Option jm_V)} {r : List jm_V} {σ : jm_S} {K K' : jm_O → Prop} {q0 : Nat} {x0 : Int32} (hr : Nat.ble (jm_cs r) 8 = true) (hcal : J g d 51 0 [some (aR 2 q0), some (aI x0)] [] σ K') (hk : ∀ u, K' u → jm_aft g (d + 1) 53 3 L r u K) : J g (d + 1) 53 3 L (aI x0 :: aR 2 q0 :: r) σ K :=
  J_call' (id' := 51) jm_sk (vs := [aR 2 q0, aI x0]) (inv_V (id' := 51) d_G_isPassed_3 ci_G wd_537 wd_539 wd_11 cw_G_lead (by decide) pn_G_lead) cw_G_lead (by decide) (by decide) (Nat.le_of_ble_eq_true rfl) rfl hr rfl hcal hk
theorem k_G_isPassed_8 {g : jm_G} {d : Nat} {L : List (Option jm_V)} {r : List jm_V} {σ : jm_S} {K K' : jm_O → Prop} {q0 : Nat} {x0 : Int32} (hr : Nat.ble (jm_cs r) 8 = true) (hcal : J g d 51 0 [some (aR 2 q0), some (aI x0)] [] σ K') (hk : ∀ u, K' u → jm_aft g (d + 1) 53 8 L r u K) : J g (d + 1) 53 8 L (aI x0 :: aR 2 q0 :: r) σ K :=
  J_call' (id' := 51) jm_sk (vs := [aR 2 q0, aI x0]) (inv_V (id' := 51) d_G_isPassed_8 ci_G wd_537 wd_539 wd_11 cw_G_lead (by decide) pn_G_lead) cw_G_lead (by decide) (by decide) (Nat.le_of_ble_eq_true rfl) rfl hr rfl hcal hk
theorem r_G_isPassed_16 {g : jm_G} {d : Nat} {L : List (Option jm_V)} {σ : jm_S} {K : jm_O → Prop} {v : Int32} (hv : v = 0 ∨ v = 1) (hK : K (σ, .inl (some (aI v)))) : J g d 53 16 L [aI v] σ K := J_zret d_G_isPassed_16 rfl hv hK
theorem k_G_isPassed_52 {g : jm_G} {d : Nat} {L : List (Option jm_V)} {r : List jm_V} {σ : jm_S} {K K' : jm_O → Prop} {q0 : Nat} {x0 : Int32} (hr : Nat.ble (jm_cs r) 8 = true) (hcal : J g d 51 0 [some (aR 2 q0), some (aI x0)] [] σ K') (hk : ∀ u, K' u → jm_aft g (d + 1) 53 52 L r u K) : J g (d + 1) 53 52 L (aI x0 :: aR 2 q0 :: r) σ K :=
  J_call' (id' := 51) jm_sk (vs := [aR 2 q0, aI x0]) (inv_V (id' := 51) d_G_isPassed_52 ci_G wd_537 wd_539 wd_11 cw_G_lead (by decide) pn_G_lead) cw_G_lead (by decide) (by decide) (Nat.le_of_ble_eq_true rfl) rfl hr rfl hcal hk
theorem k_G_isPassed_56 {g : jm_G} {d : Nat} {L : List (Option jm_V)} {r : List jm_V} {σ : jm_S} {K K' : jm_O → Prop} {x0 : Int32} {x1 : Int32} (hr : Nat.ble (jm_cs r) 8 = true) (hcal : J g d 54 0 [some (aI x0), some (aI x1), none, none] [] σ K') (hk : ∀ u, K' u → jm_aft g (d + 1) 53 56 L r u K) : J g (d + 1) 53 56 L (aI x1 :: aI x0 :: r) σ K :=
  J_call' (id' := 54) jm_sk (vs := [aI x0, aI x1]) (inv_SN (id' := 54) d_G_isPassed_56 wd_549 wd_550 wd_54 cw_H_divides (by decide) pn_H_divides) cw_H_divides (by decide) (by decide) (Nat.le_of_ble_eq_true rfl) rfl hr rfl hcal hk
theorem k_G_isPassed_66 {g : jm_G} {d : Nat} {L : List (Option jm_V)} {r : List jm_V} {σ : jm_S} {K K' : jm_O → Prop} {q0 : Nat} {x0 : Int32} {x1 : Int32} (hr : Nat.ble (jm_cs r) 8 = true) (hcal : J g d 55 0 [some (aR 2 q0), some (aI x0), some (aI x1)] [] σ K') (hk : ∀ u, K' u → jm_aft g (d + 1) 53 66 L r u K) : J g (d + 1) 53 66 L (aI x1 :: aI x0 :: aR 2 q0 :: r) σ K :=
  J_call' (id' := 55) jm_sk (vs := [aR 2 q0, aI x0, aI x1]) (inv_V (id' := 55) d_G_isPassed_66 ci_G wd_552 wd_554 wd_13 cw_G_isWaiting (by decide) pn_G_isWaiting) cw_G_isWaiting (by decide) (by decide) (Nat.le_of_ble_eq_true rfl) rfl hr rfl hcal hk
theorem k_G_isPassed_76 {g : jm_G} {d : Nat} {L : List (Option jm_V)} {r : List jm_V} {σ : jm_S} {K K' : jm_O → Prop} {q0 : Nat} {x0 : Int32} {x1 : Int32} (hr : Nat.ble (jm_cs r) 8 = true) (hcal : J g d 55 0 [some (aR 2 q0), some (aI x0), some (aI x1)] [] σ K') (hk : ∀ u, K' u → jm_aft g (d + 1) 53 76 L r u K) : J g (d + 1) 53 76 L (aI x1 :: aI x0 :: aR 2 q0 :: r) σ K :=
  J_call' (id' := 55) jm_sk (vs := [aR 2 q0, aI x0, aI x1]) (inv_V (id' := 55) d_G_isPassed_76 ci_G wd_552 wd_554 wd_13 cw_G_isWaiting (by decide) pn_G_isWaiting) cw_G_isWaiting (by decide) (by decide) (Nat.le_of_ble_eq_true rfl) rfl hr rfl hcal hk
theorem r_G_isPassed_97 {g : jm_G} {d : Nat} {L : List (Option jm_V)} {σ : jm_S} {K : jm_O → Prop} {v : Int32} (hv : v = 0 ∨ v = 1) (hK : K (σ, .inl (some (aI v)))) : J g d 53 97 L [aI v] σ K := J_zret d_G_isPassed_97 rfl hv hK
-- IdealProver$Engine isWaiting (II)Z
theorem d_G_isWaiting_0 : decode prog_3_method_5_code 0 = .ok (.iload_n 1, 1) := by decide +kernel
theorem d_G_isWaiting_1 : decode prog_3_method_5_code 1 = .ok (.iload_n 2, 1) := by decide +kernel
theorem d_G_isWaiting_2 : decode prog_3_method_5_code 2 = .ok (.if_icmp .ge 17, 3) := by decide +kernel
theorem d_G_isWaiting_5 : decode prog_3_method_5_code 5 = .ok (.aload_n 0, 1) := by decide +kernel
theorem d_G_isWaiting_6 : decode prog_3_method_5_code 6 = .ok (.getfield 24, 3) := by decide +kernel
theorem d_G_isWaiting_9 : decode prog_3_method_5_code 9 = .ok (.bipush 24, 2) := by decide +kernel
theorem d_G_isWaiting_11 : decode prog_3_method_5_code 11 = .ok (.iload_n 1, 1) := by decide +kernel
theorem d_G_isWaiting_12 : decode prog_3_method_5_code 12 = .ok (.imul, 1) := by decide +kernel
theorem d_G_isWaiting_13 : decode prog_3_method_5_code 13 = .ok (.iload_n 2, 1) := by decide +kernel
theorem d_G_isWaiting_14 : decode prog_3_method_5_code 14 = .ok (.iadd, 1) := by decide +kernel
theorem d_G_isWaiting_15 : decode prog_3_method_5_code 15 = .ok (.baload, 1) := by decide +kernel
theorem d_G_isWaiting_16 : decode prog_3_method_5_code 16 = .ok (.goto 14, 3) := by decide +kernel
theorem d_G_isWaiting_19 : decode prog_3_method_5_code 19 = .ok (.aload_n 0, 1) := by decide +kernel
theorem d_G_isWaiting_20 : decode prog_3_method_5_code 20 = .ok (.getfield 24, 3) := by decide +kernel
theorem d_G_isWaiting_23 : decode prog_3_method_5_code 23 = .ok (.bipush 24, 2) := by decide +kernel
theorem d_G_isWaiting_25 : decode prog_3_method_5_code 25 = .ok (.iload_n 2, 1) := by decide +kernel
theorem d_G_isWaiting_26 : decode prog_3_method_5_code 26 = .ok (.imul, 1) := by decide +kernel
theorem d_G_isWaiting_27 : decode prog_3_method_5_code 27 = .ok (.iload_n 1, 1) := by decide +kernel
theorem d_G_isWaiting_28 : decode prog_3_method_5_code 28 = .ok (.iadd, 1) := by decide +kernel
theorem d_G_isWaiting_29 : decode prog_3_method_5_code 29 = .ok (.baload, 1) := by decide +kernel
theorem d_G_isWaiting_30 : decode prog_3_method_5_code 30 = .ok (.ireturn, 1) := by decide +kernel
def tb_G_isWaiting : List (Nat × jm_Op) := [(0, oIl 1 1), (1, oIl 2 2), (2, oIcGe 19 5), (5, oAl 0 6), (6, oGr 2 2 9 9), (9, oC 24 11), (11, oIl 1 12), (12, oMul 13), (13, oIl 2 14), (14, oAdd 15), (15, oZa 16), (16, oGo 30), (19, oAl 0 20), (20, oGr 2 2 9 23), (23, oC 24 25), (25, oIl 2 26), (26, oMul 27), (27, oIl 1 28), (28, oAdd 29), (29, oZa 30)]
theorem ok_G_isWaiting : jm_all 55 tb_G_isWaiting := ⟨s_iload_n d_G_isWaiting_0 rfl, s_iload_n d_G_isWaiting_1 rfl, s_icmp_ge d_G_isWaiting_2 (by decide), s_aload_n d_G_isWaiting_5 rfl, s_getr d_G_isWaiting_6 ci_G rfl wd_175, s_bipush d_G_isWaiting_9 (by decide), s_iload_n d_G_isWaiting_11 rfl, s_imul d_G_isWaiting_12, s_iload_n d_G_isWaiting_13 rfl, s_iadd d_G_isWaiting_14, s_baload d_G_isWaiting_15, s_goto d_G_isWaiting_16 (by decide), s_aload_n d_G_isWaiting_19 rfl, s_getr d_G_isWaiting_20 ci_G rfl wd_175, s_bipush d_G_isWaiting_23 (by decide), s_iload_n d_G_isWaiting_25 rfl, s_imul d_G_isWaiting_26, s_iload_n d_G_isWaiting_27 rfl, s_iadd d_G_isWaiting_28, s_baload d_G_isWaiting_29, trivial⟩
theorem r_G_isWaiting_30 {g : jm_G} {d : Nat} {L : List (Option jm_V)} {σ : jm_S} {K : jm_O → Prop} {v : Int32} (hv : v = 0 ∨ v = 1) (hK : K (σ, .inl (some (aI v)))) : J g d 55 30 L [aI v] σ K := J_zret d_G_isWaiting_30 rfl hv hK
-- IdealProver$Engine pair (IIII)V
theorem d_G_pair_0 : decode prog_3_method_11_code 0 = .ok (.iload_n 3, 1) := by decide +kernel
theorem d_G_pair_1 : decode prog_3_method_11_code 1 = .ok (.aload_n 0, 1) := by decide +kernel
theorem d_G_pair_2 : decode prog_3_method_11_code 2 = .ok (.iload_n 1, 1) := by decide +kernel
theorem d_G_pair_3 : decode prog_3_method_11_code 3 = .ok (.invokevirtual 112, 3) := by decide +kernel
theorem d_G_pair_6 : decode prog_3_method_11_code 6 = .ok (.isub, 1) := by decide +kernel
theorem d_G_pair_7 : decode prog_3_method_11_code 7 = .ok (.istore 5, 2) := by decide +kernel
theorem d_G_pair_9 : decode prog_3_method_11_code 9 = .ok (.iload_n 3, 1) := by decide +kernel
theorem d_G_pair_10 : decode prog_3_method_11_code 10 = .ok (.aload_n 0, 1) := by decide +kernel
theorem d_G_pair_11 : decode prog_3_method_11_code 11 = .ok (.iload_n 2, 1) := by decide +kernel
theorem d_G_pair_12 : decode prog_3_method_11_code 12 = .ok (.invokevirtual 112, 3) := by decide +kernel
theorem d_G_pair_15 : decode prog_3_method_11_code 15 = .ok (.isub, 1) := by decide +kernel
theorem d_G_pair_16 : decode prog_3_method_11_code 16 = .ok (.istore 6, 2) := by decide +kernel
theorem d_G_pair_18 : decode prog_3_method_11_code 18 = .ok (.aload_n 0, 1) := by decide +kernel
theorem d_G_pair_19 : decode prog_3_method_11_code 19 = .ok (.getfield 20, 3) := by decide +kernel
theorem d_G_pair_22 : decode prog_3_method_11_code 22 = .ok (.aload_n 0, 1) := by decide +kernel
theorem d_G_pair_23 : decode prog_3_method_11_code 23 = .ok (.getfield 69, 3) := by decide +kernel
theorem d_G_pair_26 : decode prog_3_method_11_code 26 = .ok (.aaload, 1) := by decide +kernel
theorem d_G_pair_27 : decode prog_3_method_11_code 27 = .ok (.astore 7, 2) := by decide +kernel
theorem d_G_pair_29 : decode prog_3_method_11_code 29 = .ok (.aload_n 0, 1) := by decide +kernel
theorem d_G_pair_30 : decode prog_3_method_11_code 30 = .ok (.getfield 43, 3) := by decide +kernel
theorem d_G_pair_33 : decode prog_3_method_11_code 33 = .ok (.iconst 0, 1) := by decide +kernel
theorem d_G_pair_34 : decode prog_3_method_11_code 34 = .ok (.putfield 84, 3) := by decide +kernel
theorem d_G_pair_37 : decode prog_3_method_11_code 37 = .ok (.aload_n 0, 1) := by decide +kernel
theorem d_G_pair_38 : decode prog_3_method_11_code 38 = .ok (.getfield 43, 3) := by decide +kernel
theorem d_G_pair_41 : decode prog_3_method_11_code 41 = .ok (.aload_n 0, 1) := by decide +kernel
theorem d_G_pair_42 : decode prog_3_method_11_code 42 = .ok (.getfield 59, 3) := by decide +kernel
theorem d_G_pair_45 : decode prog_3_method_11_code 45 = .ok (.aload_n 0, 1) := by decide +kernel
theorem d_G_pair_46 : decode prog_3_method_11_code 46 = .ok (.getfield 12, 3) := by decide +kernel
theorem d_G_pair_49 : decode prog_3_method_11_code 49 = .ok (.iconst 1, 1) := by decide +kernel
theorem d_G_pair_50 : decode prog_3_method_11_code 50 = .ok (.iconst 1, 1) := by decide +kernel
theorem d_G_pair_51 : decode prog_3_method_11_code 51 = .ok (.iload 5, 2) := by decide +kernel
theorem d_G_pair_53 : decode prog_3_method_11_code 53 = .ok (.aload_n 0, 1) := by decide +kernel
theorem d_G_pair_54 : decode prog_3_method_11_code 54 = .ok (.getfield 20, 3) := by decide +kernel
theorem d_G_pair_57 : decode prog_3_method_11_code 57 = .ok (.iload_n 1, 1) := by decide +kernel
theorem d_G_pair_58 : decode prog_3_method_11_code 58 = .ok (.aaload, 1) := by decide +kernel
theorem d_G_pair_59 : decode prog_3_method_11_code 59 = .ok (.getfield 87, 3) := by decide +kernel
theorem d_G_pair_62 : decode prog_3_method_11_code 62 = .ok (.invokevirtual 154, 3) := by decide +kernel
theorem d_G_pair_65 : decode prog_3_method_11_code 65 = .ok (.aload_n 0, 1) := by decide +kernel
theorem d_G_pair_66 : decode prog_3_method_11_code 66 = .ok (.getfield 43, 3) := by decide +kernel
theorem d_G_pair_69 : decode prog_3_method_11_code 69 = .ok (.aload_n 0, 1) := by decide +kernel
theorem d_G_pair_70 : decode prog_3_method_11_code 70 = .ok (.getfield 59, 3) := by decide +kernel
theorem d_G_pair_73 : decode prog_3_method_11_code 73 = .ok (.aload_n 0, 1) := by decide +kernel
theorem d_G_pair_74 : decode prog_3_method_11_code 74 = .ok (.getfield 12, 3) := by decide +kernel
theorem d_G_pair_77 : decode prog_3_method_11_code 77 = .ok (.iconst (-1), 1) := by decide +kernel
theorem d_G_pair_78 : decode prog_3_method_11_code 78 = .ok (.iconst 1, 1) := by decide +kernel
theorem d_G_pair_79 : decode prog_3_method_11_code 79 = .ok (.iload 6, 2) := by decide +kernel
theorem d_G_pair_81 : decode prog_3_method_11_code 81 = .ok (.aload_n 0, 1) := by decide +kernel
theorem d_G_pair_82 : decode prog_3_method_11_code 82 = .ok (.getfield 20, 3) := by decide +kernel
theorem d_G_pair_85 : decode prog_3_method_11_code 85 = .ok (.iload_n 2, 1) := by decide +kernel
theorem d_G_pair_86 : decode prog_3_method_11_code 86 = .ok (.aaload, 1) := by decide +kernel
theorem d_G_pair_87 : decode prog_3_method_11_code 87 = .ok (.getfield 87, 3) := by decide +kernel
theorem d_G_pair_90 : decode prog_3_method_11_code 90 = .ok (.invokevirtual 154, 3) := by decide +kernel
theorem d_G_pair_93 : decode prog_3_method_11_code 93 = .ok (.iconst 0, 1) := by decide +kernel
theorem d_G_pair_94 : decode prog_3_method_11_code 94 = .ok (.istore 8, 2) := by decide +kernel
theorem d_G_pair_96 : decode prog_3_method_11_code 96 = .ok (.iload 8, 2) := by decide +kernel
theorem d_G_pair_98 : decode prog_3_method_11_code 98 = .ok (.iload 4, 2) := by decide +kernel
theorem d_G_pair_100 : decode prog_3_method_11_code 100 = .ok (.if_icmp .ge 91, 3) := by decide +kernel
theorem d_G_pair_103 : decode prog_3_method_11_code 103 = .ok (.aload 7, 2) := by decide +kernel
theorem d_G_pair_105 : decode prog_3_method_11_code 105 = .ok (.getfield 94, 3) := by decide +kernel
theorem d_G_pair_108 : decode prog_3_method_11_code 108 = .ok (.iload 8, 2) := by decide +kernel
theorem d_G_pair_110 : decode prog_3_method_11_code 110 = .ok (.aaload, 1) := by decide +kernel
theorem d_G_pair_111 : decode prog_3_method_11_code 111 = .ok (.iconst 0, 1) := by decide +kernel
theorem d_G_pair_112 : decode prog_3_method_11_code 112 = .ok (.putfield 84, 3) := by decide +kernel
theorem d_G_pair_115 : decode prog_3_method_11_code 115 = .ok (.aload 7, 2) := by decide +kernel
theorem d_G_pair_117 : decode prog_3_method_11_code 117 = .ok (.getfield 94, 3) := by decide +kernel
theorem d_G_pair_120 : decode prog_3_method_11_code 120 = .ok (.iload 8, 2) := by decide +kernel
theorem d_G_pair_122 : decode prog_3_method_11_code 122 = .ok (.aaload, 1) := by decide +kernel
theorem d_G_pair_123 : decode prog_3_method_11_code 123 = .ok (.aload_n 0, 1) := by decide +kernel
theorem d_G_pair_124 : decode prog_3_method_11_code 124 = .ok (.getfield 59, 3) := by decide +kernel
theorem d_G_pair_127 : decode prog_3_method_11_code 127 = .ok (.aload_n 0, 1) := by decide +kernel
theorem d_G_pair_128 : decode prog_3_method_11_code 128 = .ok (.getfield 12, 3) := by decide +kernel
theorem d_G_pair_131 : decode prog_3_method_11_code 131 = .ok (.iconst 1, 1) := by decide +kernel
theorem d_G_pair_132 : decode prog_3_method_11_code 132 = .ok (.iconst 1, 1) := by decide +kernel
theorem d_G_pair_133 : decode prog_3_method_11_code 133 = .ok (.iload 5, 2) := by decide +kernel
theorem d_G_pair_135 : decode prog_3_method_11_code 135 = .ok (.aload_n 0, 1) := by decide +kernel
theorem d_G_pair_136 : decode prog_3_method_11_code 136 = .ok (.getfield 20, 3) := by decide +kernel
theorem d_G_pair_139 : decode prog_3_method_11_code 139 = .ok (.iload_n 1, 1) := by decide +kernel
theorem d_G_pair_140 : decode prog_3_method_11_code 140 = .ok (.aaload, 1) := by decide +kernel
theorem d_G_pair_141 : decode prog_3_method_11_code 141 = .ok (.getfield 94, 3) := by decide +kernel
theorem d_G_pair_144 : decode prog_3_method_11_code 144 = .ok (.iload 8, 2) := by decide +kernel
theorem d_G_pair_146 : decode prog_3_method_11_code 146 = .ok (.aaload, 1) := by decide +kernel
theorem d_G_pair_147 : decode prog_3_method_11_code 147 = .ok (.invokevirtual 154, 3) := by decide +kernel
theorem d_G_pair_150 : decode prog_3_method_11_code 150 = .ok (.aload 7, 2) := by decide +kernel
theorem d_G_pair_152 : decode prog_3_method_11_code 152 = .ok (.getfield 94, 3) := by decide +kernel
theorem d_G_pair_155 : decode prog_3_method_11_code 155 = .ok (.iload 8, 2) := by decide +kernel
theorem d_G_pair_157 : decode prog_3_method_11_code 157 = .ok (.aaload, 1) := by decide +kernel
theorem d_G_pair_158 : decode prog_3_method_11_code 158 = .ok (.aload_n 0, 1) := by decide +kernel
theorem d_G_pair_159 : decode prog_3_method_11_code 159 = .ok (.getfield 59, 3) := by decide +kernel
theorem d_G_pair_162 : decode prog_3_method_11_code 162 = .ok (.aload_n 0, 1) := by decide +kernel
theorem d_G_pair_163 : decode prog_3_method_11_code 163 = .ok (.getfield 12, 3) := by decide +kernel
theorem d_G_pair_166 : decode prog_3_method_11_code 166 = .ok (.iconst (-1), 1) := by decide +kernel
theorem d_G_pair_167 : decode prog_3_method_11_code 167 = .ok (.iconst 1, 1) := by decide +kernel
theorem d_G_pair_168 : decode prog_3_method_11_code 168 = .ok (.iload 6, 2) := by decide +kernel
theorem d_G_pair_170 : decode prog_3_method_11_code 170 = .ok (.aload_n 0, 1) := by decide +kernel
theorem d_G_pair_171 : decode prog_3_method_11_code 171 = .ok (.getfield 20, 3) := by decide +kernel
theorem d_G_pair_174 : decode prog_3_method_11_code 174 = .ok (.iload_n 2, 1) := by decide +kernel
theorem d_G_pair_175 : decode prog_3_method_11_code 175 = .ok (.aaload, 1) := by decide +kernel
theorem d_G_pair_176 : decode prog_3_method_11_code 176 = .ok (.getfield 94, 3) := by decide +kernel
theorem d_G_pair_179 : decode prog_3_method_11_code 179 = .ok (.iload 8, 2) := by decide +kernel
theorem d_G_pair_181 : decode prog_3_method_11_code 181 = .ok (.aaload, 1) := by decide +kernel
theorem d_G_pair_182 : decode prog_3_method_11_code 182 = .ok (.invokevirtual 154, 3) := by decide +kernel
theorem d_G_pair_185 : decode prog_3_method_11_code 185 = .ok (.iinc 8 1, 3) := by decide +kernel
theorem d_G_pair_188 : decode prog_3_method_11_code 188 = .ok (.goto (-92), 3) := by decide +kernel
theorem d_G_pair_191 : decode prog_3_method_11_code 191 = .ok (.aload_n 0, 1) := by decide +kernel
theorem d_G_pair_192 : decode prog_3_method_11_code 192 = .ok (.iconst (-1), 1) := by decide +kernel
theorem d_G_pair_193 : decode prog_3_method_11_code 193 = .ok (.invokevirtual 158, 3) := by decide +kernel
theorem d_G_pair_196 : decode prog_3_method_11_code 196 = .ok (.aload_n 0, 1) := by decide +kernel
theorem d_G_pair_197 : decode prog_3_method_11_code 197 = .ok (.getfield 39, 3) := by decide +kernel
theorem d_G_pair_200 : decode prog_3_method_11_code 200 = .ok (.getfield 84, 3) := by decide +kernel
theorem d_G_pair_203 : decode prog_3_method_11_code 203 = .ok (.ifCond .ne 4, 3) := by decide +kernel
theorem d_G_pair_206 : decode prog_3_method_11_code 206 = .ok (.return_, 1) := by decide +kernel
theorem d_G_pair_207 : decode prog_3_method_11_code 207 = .ok (.iconst 0, 1) := by decide +kernel
theorem d_G_pair_208 : decode prog_3_method_11_code 208 = .ok (.istore 8, 2) := by decide +kernel
theorem d_G_pair_210 : decode prog_3_method_11_code 210 = .ok (.iload 8, 2) := by decide +kernel
theorem d_G_pair_212 : decode prog_3_method_11_code 212 = .ok (.iload 4, 2) := by decide +kernel
theorem d_G_pair_214 : decode prog_3_method_11_code 214 = .ok (.if_icmp .ge 23, 3) := by decide +kernel
theorem d_G_pair_217 : decode prog_3_method_11_code 217 = .ok (.aload_n 0, 1) := by decide +kernel
theorem d_G_pair_218 : decode prog_3_method_11_code 218 = .ok (.aload 7, 2) := by decide +kernel
theorem d_G_pair_220 : decode prog_3_method_11_code 220 = .ok (.getfield 94, 3) := by decide +kernel
theorem d_G_pair_223 : decode prog_3_method_11_code 223 = .ok (.iload 8, 2) := by decide +kernel
theorem d_G_pair_225 : decode prog_3_method_11_code 225 = .ok (.aaload, 1) := by decide +kernel
theorem d_G_pair_226 : decode prog_3_method_11_code 226 = .ok (.iload 8, 2) := by decide +kernel
theorem d_G_pair_228 : decode prog_3_method_11_code 228 = .ok (.invokevirtual 161, 3) := by decide +kernel
theorem d_G_pair_231 : decode prog_3_method_11_code 231 = .ok (.iinc 8 1, 3) := by decide +kernel
theorem d_G_pair_234 : decode prog_3_method_11_code 234 = .ok (.goto (-24), 3) := by decide +kernel
theorem d_G_pair_237 : decode prog_3_method_11_code 237 = .ok (.aload 7, 2) := by decide +kernel
theorem d_G_pair_239 : decode prog_3_method_11_code 239 = .ok (.getfield 87, 3) := by decide +kernel
theorem d_G_pair_242 : decode prog_3_method_11_code 242 = .ok (.aload_n 0, 1) := by decide +kernel
theorem d_G_pair_243 : decode prog_3_method_11_code 243 = .ok (.getfield 39, 3) := by decide +kernel
theorem d_G_pair_246 : decode prog_3_method_11_code 246 = .ok (.invokevirtual 90, 3) := by decide +kernel
theorem d_G_pair_249 : decode prog_3_method_11_code 249 = .ok (.aload 7, 2) := by decide +kernel
theorem d_G_pair_251 : decode prog_3_method_11_code 251 = .ok (.aload_n 0, 1) := by decide +kernel
theorem d_G_pair_252 : decode prog_3_method_11_code 252 = .ok (.getfield 12, 3) := by decide +kernel
theorem d_G_pair_255 : decode prog_3_method_11_code 255 = .ok (.iload 4, 2) := by decide +kernel
theorem d_G_pair_257 : decode prog_3_method_11_code 257 = .ok (.invokevirtual 101, 3) := by decide +kernel
theorem d_G_pair_260 : decode prog_3_method_11_code 260 = .ok (.aload_n 0, 1) := by decide +kernel
theorem d_G_pair_261 : decode prog_3_method_11_code 261 = .ok (.getfield 69, 3) := by decide +kernel
theorem d_G_pair_264 : decode prog_3_method_11_code 264 = .ok (.bipush 24, 2) := by decide +kernel
theorem d_G_pair_266 : decode prog_3_method_11_code 266 = .ok (.if_icmp .ne 13, 3) := by decide +kernel
theorem d_G_pair_269 : decode prog_3_method_11_code 269 = .ok (.new 123, 3) := by decide +kernel
theorem d_G_pair_272 : decode prog_3_method_11_code 272 = .ok (.dup, 1) := by decide +kernel
theorem d_G_pair_273 : decode prog_3_method_11_code 273 = .ok (.bipush (-7), 2) := by decide +kernel
theorem d_G_pair_275 : decode prog_3_method_11_code 275 = .ok (.invokespecial 125, 3) := by decide +kernel
theorem d_G_pair_278 : decode prog_3_method_11_code 278 = .ok (.athrow, 1) := by decide +kernel
theorem d_G_pair_279 : decode prog_3_method_11_code 279 = .ok (.aload_n 0, 1) := by decide +kernel
theorem d_G_pair_280 : decode prog_3_method_11_code 280 = .ok (.invokevirtual 105, 3) := by decide +kernel
theorem d_G_pair_283 : decode prog_3_method_11_code 283 = .ok (.return_, 1) := by decide +kernel
def tb_G_pair_0 : List (Nat × jm_Op) := [(0, oIl 3 1), (1, oAl 0 2), (2, oIl 1 3), (6, oSub 7), (7, oIs 5 9), (9, oIl 3 10), (10, oAl 0 11), (11, oIl 2 12), (15, oSub 16), (16, oIs 6 18), (18, oAl 0 19), (19, oGr 2 1 11 22), (22, oAl 0 23), (23, oGi 2 10 26), (26, oRa 27), (27, oAs 7 29), (29, oAl 0 30), (30, oGr 2 5 5 33), (33, oC 0 34), (34, oPi 5 0 37), (37, oAl 0 38), (38, oGr 2 5 5 41), (41, oAl 0 42), (42, oGr 2 8 13 45), (45, oAl 0 46), (46, oGr 2 0 4 49), (49, oC 1 50), (50, oC 1 51), (51, oIl 5 53), (53, oAl 0 54), (54, oGr 2 1 11 57), (57, oIl 1 58), (58, oRa 59), (59, oGr 3 0 5 62), (65, oAl 0 66), (66, oGr 2 5 5 69), (69, oAl 0 70), (70, oGr 2 8 13 73), (73, oAl 0 74), (74, oGr 2 0 4 77), (77, oC (-1) 78), (78, oC 1 79), (79, oIl 6 81), (81, oAl 0 82), (82, oGr 2 1 11 85), (85, oIl 2 86), (86, oRa 87), (87, oGr 3 0 5 90), (93, oC 0 94), (94, oIs 8 96)]
theorem ok_G_pair_0 : jm_all 56 tb_G_pair_0 := ⟨s_iload_n d_G_pair_0 rfl, s_aload_n d_G_pair_1 rfl, s_iload_n d_G_pair_2 rfl, s_isub d_G_pair_6, s_istore d_G_pair_7 (by decide), s_iload_n d_G_pair_9 rfl, s_aload_n d_G_pair_10 rfl, s_iload_n d_G_pair_11 rfl, s_isub d_G_pair_15, s_istore d_G_pair_16 (by decide), s_aload_n d_G_pair_18 rfl, s_getr d_G_pair_19 ci_G rfl wd_173, s_aload_n d_G_pair_22 rfl, s_geti d_G_pair_23 ci_G rfl wd_186, s_aaload d_G_pair_26, s_astore d_G_pair_27 (by decide), s_aload_n d_G_pair_29 rfl, s_getr d_G_pair_30 ci_G rfl wd_180, s_iconst d_G_pair_33 (by decide), s_putiN d_G_pair_34 ci_P rfl rfl rfl wd_99, s_aload_n d_G_pair_37 rfl, s_getr d_G_pair_38 ci_G rfl wd_180, s_aload_n d_G_pair_41 rfl, s_getr d_G_pair_42 ci_G rfl wd_184, s_aload_n d_G_pair_45 rfl, s_getr d_G_pair_46 ci_G rfl wd_172, s_iconst d_G_pair_49 (by decide), s_iconst d_G_pair_50 (by decide), s_iload d_G_pair_51, s_aload_n d_G_pair_53 rfl, s_getr d_G_pair_54 ci_G rfl wd_173, s_iload_n d_G_pair_57 rfl, s_aaload d_G_pair_58, s_getrN d_G_pair_59 ci_E rfl wd_161, s_aload_n d_G_pair_65 rfl, s_getr d_G_pair_66 ci_G rfl wd_180, s_aload_n d_G_pair_69 rfl, s_getr d_G_pair_70 ci_G rfl wd_184, s_aload_n d_G_pair_73 rfl, s_getr d_G_pair_74 ci_G rfl wd_172, s_iconst d_G_pair_77 (by decide), s_iconst d_G_pair_78 (by decide), s_iload d_G_pair_79, s_aload_n d_G_pair_81 rfl, s_getr d_G_pair_82 ci_G rfl wd_173, s_iload_n d_G_pair_85 rfl, s_aaload d_G_pair_86, s_getrN d_G_pair_87 ci_E rfl wd_161, s_iconst d_G_pair_93 (by decide), s_istore d_G_pair_94 (by decide), trivial⟩
def tb_G_pair_1 : List (Nat × jm_Op) := [(96, oIl 8 98), (98, oIl 4 100), (100, oIcGe 191 103), (103, oAl 7 105), (105, oGr 3 1 10 108), (108, oIl 8 110), (110, oRa 111), (111, oC 0 112), (112, oPi 5 0 115), (115, oAl 7 117), (117, oGr 3 1 10 120), (120, oIl 8 122), (122, oRa 123), (123, oAl 0 124), (124, oGr 2 8 13 127), (127, oAl 0 128), (128, oGr 2 0 4 131), (131, oC 1 132), (132, oC 1 133), (133, oIl 5 135), (135, oAl 0 136), (136, oGr 2 1 11 139), (139, oIl 1 140), (140, oRa 141), (141, oGr 3 1 10 144), (144, oIl 8 146), (146, oRa 147), (150, oAl 7 152), (152, oGr 3 1 10 155), (155, oIl 8 157), (157, oRa 158), (158, oAl 0 159), (159, oGr 2 8 13 162), (162, oAl 0 163), (163, oGr 2 0 4 166), (166, oC (-1) 167), (167, oC 1 168), (168, oIl 6 170), (170, oAl 0 171), (171, oGr 2 1 11 174), (174, oIl 2 175), (175, oRa 176), (176, oGr 3 1 10 179), (179, oIl 8 181), (181, oRa 182), (185, oInc 8 1 188), (188, oGo 96), (191, oAl 0 192), (192, oC (-1) 193), (196, oAl 0 197)]
theorem ok_G_pair_1 : jm_all 56 tb_G_pair_1 := ⟨s_iload d_G_pair_96, s_iload d_G_pair_98, s_icmp_ge d_G_pair_100 (by decide), s_aload d_G_pair_103, s_getrN d_G_pair_105 ci_E rfl wd_164, s_iload d_G_pair_108, s_aaload d_G_pair_110, s_iconst d_G_pair_111 (by decide), s_putiN d_G_pair_112 ci_P rfl rfl rfl wd_99, s_aload d_G_pair_115, s_getrN d_G_pair_117 ci_E rfl wd_164, s_iload d_G_pair_120, s_aaload d_G_pair_122, s_aload_n d_G_pair_123 rfl, s_getr d_G_pair_124 ci_G rfl wd_184, s_aload_n d_G_pair_127 rfl, s_getr d_G_pair_128 ci_G rfl wd_172, s_iconst d_G_pair_131 (by decide), s_iconst d_G_pair_132 (by decide), s_iload d_G_pair_133, s_aload_n d_G_pair_135 rfl, s_getr d_G_pair_136 ci_G rfl wd_173, s_iload_n d_G_pair_139 rfl, s_aaload d_G_pair_140, s_getrN d_G_pair_141 ci_E rfl wd_164, s_iload d_G_pair_144, s_aaload d_G_pair_146, s_aload d_G_pair_150, s_getrN d_G_pair_152 ci_E rfl wd_164, s_iload d_G_pair_155, s_aaload d_G_pair_157, s_aload_n d_G_pair_158 rfl, s_getr d_G_pair_159 ci_G rfl wd_184, s_aload_n d_G_pair_162 rfl, s_getr d_G_pair_163 ci_G rfl wd_172, s_iconst d_G_pair_166 (by decide), s_iconst d_G_pair_167 (by decide), s_iload d_G_pair_168, s_aload_n d_G_pair_170 rfl, s_getr d_G_pair_171 ci_G rfl wd_173, s_iload_n d_G_pair_174 rfl, s_aaload d_G_pair_175, s_getrN d_G_pair_176 ci_E rfl wd_164, s_iload d_G_pair_179, s_aaload d_G_pair_181, s_iinc d_G_pair_185 (by decide) (by decide), s_goto d_G_pair_188 (by decide), s_aload_n d_G_pair_191 rfl, s_iconst d_G_pair_192 (by decide), s_aload_n d_G_pair_196 rfl, trivial⟩
def tb_G_pair_2 : List (Nat × jm_Op) := [(197, oGr 2 4 5 200), (200, oGi 5 0 203), (203, oIfNe 207 206), (207, oC 0 208), (208, oIs 8 210), (210, oIl 8 212), (212, oIl 4 214), (214, oIcGe 237 217), (217, oAl 0 218), (218, oAl 7 220), (220, oGr 3 1 10 223), (223, oIl 8 225), (225, oRa 226), (226, oIl 8 228), (231, oInc 8 1 234), (234, oGo 210), (237, oAl 7 239), (239, oGr 3 0 5 242), (242, oAl 0 243), (243, oGr 2 4 5 246), (249, oAl 7 251), (251, oAl 0 252), (252, oGr 2 0 4 255), (255, oIl 4 257), (260, oAl 0 261), (261, oGi 2 10 264), (264, oC 24 266), (266, oIcNe 279 269), (279, oAl 0 280)]
theorem ok_G_pair_2 : jm_all 56 tb_G_pair_2 := ⟨s_getr d_G_pair_197 ci_G rfl wd_178, s_getiN d_G_pair_200 ci_P rfl wd_99, s_if_ne d_G_pair_203 (by decide), s_iconst d_G_pair_207 (by decide), s_istore d_G_pair_208 (by decide), s_iload d_G_pair_210, s_iload d_G_pair_212, s_icmp_ge d_G_pair_214 (by decide), s_aload_n d_G_pair_217 rfl, s_aload d_G_pair_218, s_getrN d_G_pair_220 ci_E rfl wd_164, s_iload d_G_pair_223, s_aaload d_G_pair_225, s_iload d_G_pair_226, s_iinc d_G_pair_231 (by decide) (by decide), s_goto d_G_pair_234 (by decide), s_aload d_G_pair_237, s_getrN d_G_pair_239 ci_E rfl wd_161, s_aload_n d_G_pair_242 rfl, s_getr d_G_pair_243 ci_G rfl wd_178, s_aload d_G_pair_249, s_aload_n d_G_pair_251 rfl, s_getr d_G_pair_252 ci_G rfl wd_172, s_iload d_G_pair_255, s_aload_n d_G_pair_260 rfl, s_geti d_G_pair_261 ci_G rfl wd_186, s_bipush d_G_pair_264 (by decide), s_icmp_ne d_G_pair_266 (by decide), s_aload_n d_G_pair_279 rfl, trivial⟩
def tb_G_pair : List (Nat × jm_Op) := tb_G_pair_0 ++ (tb_G_pair_1 ++ tb_G_pair_2)
theorem ok_G_pair : jm_all 56 tb_G_pair := jm_all_app ok_G_pair_0 (jm_all_app ok_G_pair_1 ok_G_pair_2)
theorem k_G_pair_3 {g : jm_G} {d : Nat} {L : List (Option jm_V)} {r : List jm_V} {σ : jm_S} {K K' : jm_O → Prop} {q0 : Nat} {x0 : Int32} (hr : Nat.ble (jm_cs r) 8 = true) (hcal : J g d 51 0 [some (aR 2 q0), some (aI x0)] [] σ K') (hk : ∀ u, K' u → jm_aft g (d + 1) 56 3 L r u K) : J g (d + 1) 56 3 L (aI x0 :: aR 2 q0 :: r) σ K :=
  J_call' (id' := 51) jm_sk (vs := [aR 2 q0, aI x0]) (inv_V (id' := 51) d_G_pair_3 ci_G wd_537 wd_539 wd_11 cw_G_lead (by decide) pn_G_lead) cw_G_lead (by decide) (by decide) (Nat.le_of_ble_eq_true rfl) rfl hr rfl hcal hk
theorem k_G_pair_12 {g : jm_G} {d : Nat} {L : List (Option jm_V)} {r : List jm_V} {σ : jm_S} {K K' : jm_O → Prop} {q0 : Nat} {x0 : Int32} (hr : Nat.ble (jm_cs r) 8 = true) (hcal : J g d 51 0 [some (aR 2 q0), some (aI x0)] [] σ K') (hk : ∀ u, K' u → jm_aft g (d + 1) 56 12 L r u K) : J g (d + 1) 56 12 L (aI x0 :: aR 2 q0 :: r) σ K :=
  J_call' (id' := 51) jm_sk (vs := [aR 2 q0, aI x0]) (inv_V (id' := 51) d_G_pair_12 ci_G wd_537 wd_539 wd_11 cw_G_lead (by decide) pn_G_lead) cw_G_lead (by decide) (by decide) (Nat.le_of_ble_eq_true rfl) rfl hr rfl hcal hk
theorem k_G_pair_62 {g : jm_G} {d : Nat} {L : List (Option jm_V)} {r : List jm_V} {σ : jm_S} {K K' : jm_O → Prop} {q0 : Nat} {x0 : Nat} {x1 : Nat} {x2 : Int32} {x3 : Int32} {x4 : Int32} {x5 : Nat} (hr : Nat.ble (jm_cs r) 8 = true) (hcal : J g d 32 0 [some (aR 5 q0), some (aR 13 x0), some (aR 4 x1), some (aI x2), some (aI x3), some (aI x4), some (aR 5 x5), none, none] [] σ K') (hk : ∀ u, K' u → jm_aft g (d + 1) 56 62 L r u K) : J g (d + 1) 56 62 L (aR 5 x5 :: aI x4 :: aI x3 :: aI x2 :: aR 4 x1 :: aR 13 x0 :: aR 5 q0 :: r) σ K :=
  J_call' (id' := 32) jm_sk (vs := [aR 5 q0, aR 13 x0, aR 4 x1, aI x2, aI x3, aI x4, aR 5 x5]) (inv_V (id' := 32) d_G_pair_62 ci_P wd_560 wd_456 wd_457 cw_P_plus (by decide) pn_P_plus) cw_P_plus (by decide) (by decide) (Nat.le_of_ble_eq_true rfl) rfl hr rfl hcal hk
theorem k_G_pair_90 {g : jm_G} {d : Nat} {L : List (Option jm_V)} {r : List jm_V} {σ : jm_S} {K K' : jm_O → Prop} {q0 : Nat} {x0 : Nat} {x1 : Nat} {x2 : Int32} {x3 : Int32} {x4 : Int32} {x5 : Nat} (hr : Nat.ble (jm_cs r) 8 = true) (hcal : J g d 32 0 [some (aR 5 q0), some (aR 13 x0), some (aR 4 x1), some (aI x2), some (aI x3), some (aI x4), some (aR 5 x5), none, none] [] σ K') (hk : ∀ u, K' u → jm_aft g (d + 1) 56 90 L r u K) : J g (d + 1) 56 90 L (aR 5 x5 :: aI x4 :: aI x3 :: aI x2 :: aR 4 x1 :: aR 13 x0 :: aR 5 q0 :: r) σ K :=
  J_call' (id' := 32) jm_sk (vs := [aR 5 q0, aR 13 x0, aR 4 x1, aI x2, aI x3, aI x4, aR 5 x5]) (inv_V (id' := 32) d_G_pair_90 ci_P wd_560 wd_456 wd_457 cw_P_plus (by decide) pn_P_plus) cw_P_plus (by decide) (by decide) (Nat.le_of_ble_eq_true rfl) rfl hr rfl hcal hk
theorem k_G_pair_147 {g : jm_G} {d : Nat} {L : List (Option jm_V)} {r : List jm_V} {σ : jm_S} {K K' : jm_O → Prop} {q0 : Nat} {x0 : Nat} {x1 : Nat} {x2 : Int32} {x3 : Int32} {x4 : Int32} {x5 : Nat} (hr : Nat.ble (jm_cs r) 8 = true) (hcal : J g d 32 0 [some (aR 5 q0), some (aR 13 x0), some (aR 4 x1), some (aI x2), some (aI x3), some (aI x4), some (aR 5 x5), none, none] [] σ K') (hk : ∀ u, K' u → jm_aft g (d + 1) 56 147 L r u K) : J g (d + 1) 56 147 L (aR 5 x5 :: aI x4 :: aI x3 :: aI x2 :: aR 4 x1 :: aR 13 x0 :: aR 5 q0 :: r) σ K :=
  J_call' (id' := 32) jm_sk (vs := [aR 5 q0, aR 13 x0, aR 4 x1, aI x2, aI x3, aI x4, aR 5 x5]) (inv_V (id' := 32) d_G_pair_147 ci_P wd_560 wd_456 wd_457 cw_P_plus (by decide) pn_P_plus) cw_P_plus (by decide) (by decide) (Nat.le_of_ble_eq_true rfl) rfl hr rfl hcal hk
theorem k_G_pair_182 {g : jm_G} {d : Nat} {L : List (Option jm_V)} {r : List jm_V} {σ : jm_S} {K K' : jm_O → Prop} {q0 : Nat} {x0 : Nat} {x1 : Nat} {x2 : Int32} {x3 : Int32} {x4 : Int32} {x5 : Nat} (hr : Nat.ble (jm_cs r) 8 = true) (hcal : J g d 32 0 [some (aR 5 q0), some (aR 13 x0), some (aR 4 x1), some (aI x2), some (aI x3), some (aI x4), some (aR 5 x5), none, none] [] σ K') (hk : ∀ u, K' u → jm_aft g (d + 1) 56 182 L r u K) : J g (d + 1) 56 182 L (aR 5 x5 :: aI x4 :: aI x3 :: aI x2 :: aR 4 x1 :: aR 13 x0 :: aR 5 q0 :: r) σ K :=
  J_call' (id' := 32) jm_sk (vs := [aR 5 q0, aR 13 x0, aR 4 x1, aI x2, aI x3, aI x4, aR 5 x5]) (inv_V (id' := 32) d_G_pair_182 ci_P wd_560 wd_456 wd_457 cw_P_plus (by decide) pn_P_plus) cw_P_plus (by decide) (by decide) (Nat.le_of_ble_eq_true rfl) rfl hr rfl hcal hk
theorem k_G_pair_193 {g : jm_G} {d : Nat} {L : List (Option jm_V)} {r : List jm_V} {σ : jm_S} {K K' : jm_O → Prop} {q0 : Nat} {x0 : Int32} (hr : Nat.ble (jm_cs r) 8 = true) (hcal : J g d 57 0 [some (aR 2 q0), some (aI x0), none, none, none, none, none, none, none] [] σ K') (hk : ∀ u, K' u → jm_aft g (d + 1) 56 193 L r u K) : J g (d + 1) 56 193 L (aI x0 :: aR 2 q0 :: r) σ K :=
  J_call' (id' := 57) jm_sk (vs := [aR 2 q0, aI x0]) (inv_V (id' := 57) d_G_pair_193 ci_G wd_561 wd_563 wd_15 cw_G_divide (by decide) pn_G_divide) cw_G_divide (by decide) (by decide) (Nat.le_of_ble_eq_true rfl) rfl hr rfl hcal hk
theorem r_G_pair_206 {g : jm_G} {d : Nat} {L : List (Option jm_V)} {σ : jm_S} {K : jm_O → Prop} (hK : K (σ, .inl none)) : J g d 56 206 L [] σ K := J_vret d_G_pair_206 rfl hK
theorem k_G_pair_228 {g : jm_G} {d : Nat} {L : List (Option jm_V)} {r : List jm_V} {σ : jm_S} {K K' : jm_O → Prop} {q0 : Nat} {x0 : Nat} {x1 : Int32} (hr : Nat.ble (jm_cs r) 8 = true) (hcal : J g d 59 0 [some (aR 2 q0), some (aR 5 x0), some (aI x1), none, none, none] [] σ K') (hk : ∀ u, K' u → jm_aft g (d + 1) 56 228 L r u K) : J g (d + 1) 56 228 L (aI x1 :: aR 5 x0 :: aR 2 q0 :: r) σ K :=
  J_call' (id' := 59) jm_sk (vs := [aR 2 q0, aR 5 x0, aI x1]) (inv_V (id' := 59) d_G_pair_228 ci_G wd_577 wd_579 wd_17 cw_G_shares (by decide) pn_G_shares) cw_G_shares (by decide) (by decide) (Nat.le_of_ble_eq_true rfl) rfl hr rfl hcal hk
theorem k_G_pair_246 {g : jm_G} {d : Nat} {L : List (Option jm_V)} {r : List jm_V} {σ : jm_S} {K K' : jm_O → Prop} {q0 : Nat} {x0 : Nat} (hr : Nat.ble (jm_cs r) 8 = true) (hcal : J g d 19 0 [some (aR 5 q0), some (aR 5 x0)] [] σ K') (hk : ∀ u, K' u → jm_aft g (d + 1) 56 246 L r u K) : J g (d + 1) 56 246 L (aR 5 x0 :: aR 5 q0 :: r) σ K :=
  J_call' (id' := 19) jm_sk (vs := [aR 5 q0, aR 5 x0]) (inv_V (id' := 19) d_G_pair_246 ci_P wd_515 wd_340 wd_341 cw_P_become (by decide) pn_P_become) cw_P_become (by decide) (by decide) (Nat.le_of_ble_eq_true rfl) rfl hr rfl hcal hk
theorem k_G_pair_257 {g : jm_G} {d : Nat} {L : List (Option jm_V)} {r : List jm_V} {σ : jm_S} {K K' : jm_O → Prop} {q0 : Nat} {x0 : Nat} {x1 : Int32} (hr : Nat.ble (jm_cs r) 8 = true) (hcal : J g d 46 0 [some (aR 3 q0), some (aR 4 x0), some (aI x1), none, none, none, none] [] σ K') (hk : ∀ u, K' u → jm_aft g (d + 1) 56 257 L r u K) : J g (d + 1) 56 257 L (aI x1 :: aR 4 x0 :: aR 3 q0 :: r) σ K :=
  J_call' (id' := 46) jm_sk (vs := [aR 3 q0, aR 4 x0, aI x1]) (inv_V (id' := 46) d_G_pair_257 ci_E wd_517 wd_518 wd_519 cw_E_monic (by decide) pn_E_monic) cw_E_monic (by decide) (by decide) (Nat.le_of_ble_eq_true rfl) rfl hr rfl hcal hk
theorem k_G_pair_269 {g : jm_G} {d : Nat} {L : List (Option jm_V)} {r : List jm_V} {σ : jm_S} {K : jm_O → Prop} (hdep : 4 ≤ d) (hcs : Nat.ble (jm_cs r) 6 = true) (ht : gdm g (jm_hs σ) = 7) (hlim : jm_hs σ + 1 ≤ gb g + 601024 ∧ jm_ns σ + 7 ≤ 7293000) (hj : J g d 56 278 L (aR 7 (jm_hs σ) :: r) (jm_wi (jm_nw σ 7) (jm_hs σ) 0 (-7)) K) : J g d 56 269 L r σ K :=
  J_stop d_G_pair_269 d_G_pair_272 d_G_pair_273 (by decide) d_G_pair_275 wd_569 wd_570 hdep hcs ht hlim hj
theorem r_G_pair_278 {g : jm_G} {d : Nat} {L : List (Option jm_V)} {r : List jm_V} {σ : jm_S} {K : jm_O → Prop} {q : Nat} (hK : K (σ, .inr q)) : J g d 56 278 L (aR 7 q :: r) σ K := J_throw d_G_pair_278 rfl hK
theorem k_G_pair_280 {g : jm_G} {d : Nat} {L : List (Option jm_V)} {r : List jm_V} {σ : jm_S} {K K' : jm_O → Prop} {q0 : Nat} (hr : Nat.ble (jm_cs r) 8 = true) (hcal : J g d 48 0 [some (aR 2 q0), none] [] σ K') (hk : ∀ u, K' u → jm_aft g (d + 1) 56 280 L r u K) : J g (d + 1) 56 280 L (aR 2 q0 :: r) σ K :=
  J_call' (id' := 48) jm_sk (vs := [aR 2 q0]) (inv_V (id' := 48) d_G_pair_280 ci_G wd_525 wd_527 wd_9 cw_G_join (by decide) pn_G_join) cw_G_join (by decide) (by decide) (Nat.le_of_ble_eq_true rfl) rfl hr rfl hcal hk
theorem r_G_pair_283 {g : jm_G} {d : Nat} {L : List (Option jm_V)} {σ : jm_S} {K : jm_O → Prop} (hK : K (σ, .inl none)) : J g d 56 283 L [] σ K := J_vret d_G_pair_283 rfl hK
-- IdealProver$Engine divide (I)V
theorem d_G_divide_0 : decode prog_3_method_9_code 0 = .ok (.iconst 0, 1) := by decide +kernel
theorem d_G_divide_1 : decode prog_3_method_9_code 1 = .ok (.istore_n 2, 1) := by decide +kernel
theorem d_G_divide_2 : decode prog_3_method_9_code 2 = .ok (.iload_n 2, 1) := by decide +kernel
theorem d_G_divide_3 : decode prog_3_method_9_code 3 = .ok (.aload_n 0, 1) := by decide +kernel
theorem d_G_divide_4 : decode prog_3_method_9_code 4 = .ok (.getfield 69, 3) := by decide +kernel
theorem d_G_divide_7 : decode prog_3_method_9_code 7 = .ok (.if_icmp .ge 19, 3) := by decide +kernel
theorem d_G_divide_10 : decode prog_3_method_9_code 10 = .ok (.aload_n 0, 1) := by decide +kernel
theorem d_G_divide_11 : decode prog_3_method_9_code 11 = .ok (.getfield 32, 3) := by decide +kernel
theorem d_G_divide_14 : decode prog_3_method_9_code 14 = .ok (.iload_n 2, 1) := by decide +kernel
theorem d_G_divide_15 : decode prog_3_method_9_code 15 = .ok (.aaload, 1) := by decide +kernel
theorem d_G_divide_16 : decode prog_3_method_9_code 16 = .ok (.iconst 0, 1) := by decide +kernel
theorem d_G_divide_17 : decode prog_3_method_9_code 17 = .ok (.putfield 84, 3) := by decide +kernel
theorem d_G_divide_20 : decode prog_3_method_9_code 20 = .ok (.iinc 2 1, 3) := by decide +kernel
theorem d_G_divide_23 : decode prog_3_method_9_code 23 = .ok (.goto (-21), 3) := by decide +kernel
theorem d_G_divide_26 : decode prog_3_method_9_code 26 = .ok (.aload_n 0, 1) := by decide +kernel
theorem d_G_divide_27 : decode prog_3_method_9_code 27 = .ok (.getfield 39, 3) := by decide +kernel
theorem d_G_divide_30 : decode prog_3_method_9_code 30 = .ok (.iconst 0, 1) := by decide +kernel
theorem d_G_divide_31 : decode prog_3_method_9_code 31 = .ok (.putfield 84, 3) := by decide +kernel
theorem d_G_divide_34 : decode prog_3_method_9_code 34 = .ok (.aload_n 0, 1) := by decide +kernel
theorem d_G_divide_35 : decode prog_3_method_9_code 35 = .ok (.getfield 43, 3) := by decide +kernel
theorem d_G_divide_38 : decode prog_3_method_9_code 38 = .ok (.getfield 84, 3) := by decide +kernel
theorem d_G_divide_41 : decode prog_3_method_9_code 41 = .ok (.ifCond .le 248, 3) := by decide +kernel
theorem d_G_divide_44 : decode prog_3_method_9_code 44 = .ok (.aload_n 0, 1) := by decide +kernel
theorem d_G_divide_45 : decode prog_3_method_9_code 45 = .ok (.invokevirtual 126, 3) := by decide +kernel
theorem d_G_divide_48 : decode prog_3_method_9_code 48 = .ok (.aload_n 0, 1) := by decide +kernel
theorem d_G_divide_49 : decode prog_3_method_9_code 49 = .ok (.getfield 43, 3) := by decide +kernel
theorem d_G_divide_52 : decode prog_3_method_9_code 52 = .ok (.getfield 108, 3) := by decide +kernel
theorem d_G_divide_55 : decode prog_3_method_9_code 55 = .ok (.iconst 0, 1) := by decide +kernel
theorem d_G_divide_56 : decode prog_3_method_9_code 56 = .ok (.iaload, 1) := by decide +kernel
theorem d_G_divide_57 : decode prog_3_method_9_code 57 = .ok (.istore_n 2, 1) := by decide +kernel
theorem d_G_divide_58 : decode prog_3_method_9_code 58 = .ok (.iconst 0, 1) := by decide +kernel
theorem d_G_divide_59 : decode prog_3_method_9_code 59 = .ok (.istore_n 3, 1) := by decide +kernel
theorem d_G_divide_60 : decode prog_3_method_9_code 60 = .ok (.iload_n 3, 1) := by decide +kernel
theorem d_G_divide_61 : decode prog_3_method_9_code 61 = .ok (.aload_n 0, 1) := by decide +kernel
theorem d_G_divide_62 : decode prog_3_method_9_code 62 = .ok (.getfield 69, 3) := by decide +kernel
theorem d_G_divide_65 : decode prog_3_method_9_code 65 = .ok (.if_icmp .ge 26, 3) := by decide +kernel
theorem d_G_divide_68 : decode prog_3_method_9_code 68 = .ok (.iload_n 3, 1) := by decide +kernel
theorem d_G_divide_69 : decode prog_3_method_9_code 69 = .ok (.iload_n 1, 1) := by decide +kernel
theorem d_G_divide_70 : decode prog_3_method_9_code 70 = .ok (.if_icmp .eq 15, 3) := by decide +kernel
theorem d_G_divide_73 : decode prog_3_method_9_code 73 = .ok (.aload_n 0, 1) := by decide +kernel
theorem d_G_divide_74 : decode prog_3_method_9_code 74 = .ok (.iload_n 3, 1) := by decide +kernel
theorem d_G_divide_75 : decode prog_3_method_9_code 75 = .ok (.invokevirtual 112, 3) := by decide +kernel
theorem d_G_divide_78 : decode prog_3_method_9_code 78 = .ok (.iload_n 2, 1) := by decide +kernel
theorem d_G_divide_79 : decode prog_3_method_9_code 79 = .ok (.invokestatic 116, 3) := by decide +kernel
theorem d_G_divide_82 : decode prog_3_method_9_code 82 = .ok (.ifCond .ne 9, 3) := by decide +kernel
theorem d_G_divide_85 : decode prog_3_method_9_code 85 = .ok (.iinc 3 1, 3) := by decide +kernel
theorem d_G_divide_88 : decode prog_3_method_9_code 88 = .ok (.goto (-28), 3) := by decide +kernel
theorem d_G_divide_91 : decode prog_3_method_9_code 91 = .ok (.aload_n 0, 1) := by decide +kernel
theorem d_G_divide_92 : decode prog_3_method_9_code 92 = .ok (.getfield 43, 3) := by decide +kernel
theorem d_G_divide_95 : decode prog_3_method_9_code 95 = .ok (.getfield 129, 3) := by decide +kernel
theorem d_G_divide_98 : decode prog_3_method_9_code 98 = .ok (.iconst 0, 1) := by decide +kernel
theorem d_G_divide_99 : decode prog_3_method_9_code 99 = .ok (.iaload, 1) := by decide +kernel
theorem d_G_divide_100 : decode prog_3_method_9_code 100 = .ok (.istore 4, 2) := by decide +kernel
theorem d_G_divide_102 : decode prog_3_method_9_code 102 = .ok (.aload_n 0, 1) := by decide +kernel
theorem d_G_divide_103 : decode prog_3_method_9_code 103 = .ok (.getfield 43, 3) := by decide +kernel
theorem d_G_divide_106 : decode prog_3_method_9_code 106 = .ok (.getfield 132, 3) := by decide +kernel
theorem d_G_divide_109 : decode prog_3_method_9_code 109 = .ok (.iconst 0, 1) := by decide +kernel
theorem d_G_divide_110 : decode prog_3_method_9_code 110 = .ok (.iaload, 1) := by decide +kernel
theorem d_G_divide_111 : decode prog_3_method_9_code 111 = .ok (.istore 5, 2) := by decide +kernel
theorem d_G_divide_113 : decode prog_3_method_9_code 113 = .ok (.iload_n 3, 1) := by decide +kernel
theorem d_G_divide_114 : decode prog_3_method_9_code 114 = .ok (.aload_n 0, 1) := by decide +kernel
theorem d_G_divide_115 : decode prog_3_method_9_code 115 = .ok (.getfield 69, 3) := by decide +kernel
theorem d_G_divide_118 : decode prog_3_method_9_code 118 = .ok (.if_icmp .ne 34, 3) := by decide +kernel
theorem d_G_divide_121 : decode prog_3_method_9_code 121 = .ok (.aload_n 0, 1) := by decide +kernel
theorem d_G_divide_122 : decode prog_3_method_9_code 122 = .ok (.getfield 43, 3) := by decide +kernel
theorem d_G_divide_125 : decode prog_3_method_9_code 125 = .ok (.iconst 0, 1) := by decide +kernel
theorem d_G_divide_126 : decode prog_3_method_9_code 126 = .ok (.invokevirtual 135, 3) := by decide +kernel
theorem d_G_divide_129 : decode prog_3_method_9_code 129 = .ok (.aload_n 0, 1) := by decide +kernel
theorem d_G_divide_130 : decode prog_3_method_9_code 130 = .ok (.getfield 39, 3) := by decide +kernel
theorem d_G_divide_133 : decode prog_3_method_9_code 133 = .ok (.aload_n 0, 1) := by decide +kernel
theorem d_G_divide_134 : decode prog_3_method_9_code 134 = .ok (.getfield 59, 3) := by decide +kernel
theorem d_G_divide_137 : decode prog_3_method_9_code 137 = .ok (.aload_n 0, 1) := by decide +kernel
theorem d_G_divide_138 : decode prog_3_method_9_code 138 = .ok (.getfield 12, 3) := by decide +kernel
theorem d_G_divide_141 : decode prog_3_method_9_code 141 = .ok (.iload 4, 2) := by decide +kernel
theorem d_G_divide_143 : decode prog_3_method_9_code 143 = .ok (.iload 5, 2) := by decide +kernel
theorem d_G_divide_145 : decode prog_3_method_9_code 145 = .ok (.iload_n 2, 1) := by decide +kernel
theorem d_G_divide_146 : decode prog_3_method_9_code 146 = .ok (.invokevirtual 138, 3) := by decide +kernel
theorem d_G_divide_149 : decode prog_3_method_9_code 149 = .ok (.goto (-115), 3) := by decide +kernel
theorem d_G_divide_152 : decode prog_3_method_9_code 152 = .ok (.aload_n 0, 1) := by decide +kernel
theorem d_G_divide_153 : decode prog_3_method_9_code 153 = .ok (.getfield 20, 3) := by decide +kernel
theorem d_G_divide_156 : decode prog_3_method_9_code 156 = .ok (.iload_n 3, 1) := by decide +kernel
theorem d_G_divide_157 : decode prog_3_method_9_code 157 = .ok (.aaload, 1) := by decide +kernel
theorem d_G_divide_158 : decode prog_3_method_9_code 158 = .ok (.getfield 87, 3) := by decide +kernel
theorem d_G_divide_161 : decode prog_3_method_9_code 161 = .ok (.astore 6, 2) := by decide +kernel
theorem d_G_divide_163 : decode prog_3_method_9_code 163 = .ok (.aload_n 0, 1) := by decide +kernel
theorem d_G_divide_164 : decode prog_3_method_9_code 164 = .ok (.getfield 12, 3) := by decide +kernel
theorem d_G_divide_167 : decode prog_3_method_9_code 167 = .ok (.iload 4, 2) := by decide +kernel
theorem d_G_divide_169 : decode prog_3_method_9_code 169 = .ok (.iload 5, 2) := by decide +kernel
theorem d_G_divide_171 : decode prog_3_method_9_code 171 = .ok (.aload 6, 2) := by decide +kernel
theorem d_G_divide_173 : decode prog_3_method_9_code 173 = .ok (.getfield 132, 3) := by decide +kernel
theorem d_G_divide_176 : decode prog_3_method_9_code 176 = .ok (.iconst 0, 1) := by decide +kernel
theorem d_G_divide_177 : decode prog_3_method_9_code 177 = .ok (.iaload, 1) := by decide +kernel
theorem d_G_divide_178 : decode prog_3_method_9_code 178 = .ok (.aload 6, 2) := by decide +kernel
theorem d_G_divide_180 : decode prog_3_method_9_code 180 = .ok (.getfield 129, 3) := by decide +kernel
theorem d_G_divide_183 : decode prog_3_method_9_code 183 = .ok (.iconst 0, 1) := by decide +kernel
theorem d_G_divide_184 : decode prog_3_method_9_code 184 = .ok (.iaload, 1) := by decide +kernel
theorem d_G_divide_185 : decode prog_3_method_9_code 185 = .ok (.ifCond .ge 7, 3) := by decide +kernel
theorem d_G_divide_188 : decode prog_3_method_9_code 188 = .ok (.iconst (-1), 1) := by decide +kernel
theorem d_G_divide_189 : decode prog_3_method_9_code 189 = .ok (.goto 4, 3) := by decide +kernel
theorem d_G_divide_192 : decode prog_3_method_9_code 192 = .ok (.iconst 1, 1) := by decide +kernel
theorem d_G_divide_193 : decode prog_3_method_9_code 193 = .ok (.imul, 1) := by decide +kernel
theorem d_G_divide_194 : decode prog_3_method_9_code 194 = .ok (.aload 6, 2) := by decide +kernel
theorem d_G_divide_196 : decode prog_3_method_9_code 196 = .ok (.getfield 129, 3) := by decide +kernel
theorem d_G_divide_199 : decode prog_3_method_9_code 199 = .ok (.iconst 0, 1) := by decide +kernel
theorem d_G_divide_200 : decode prog_3_method_9_code 200 = .ok (.iaload, 1) := by decide +kernel
theorem d_G_divide_201 : decode prog_3_method_9_code 201 = .ok (.invokestatic 142, 3) := by decide +kernel
theorem d_G_divide_204 : decode prog_3_method_9_code 204 = .ok (.invokevirtual 147, 3) := by decide +kernel
theorem d_G_divide_207 : decode prog_3_method_9_code 207 = .ok (.aload_n 0, 1) := by decide +kernel
theorem d_G_divide_208 : decode prog_3_method_9_code 208 = .ok (.getfield 12, 3) := by decide +kernel
theorem d_G_divide_211 : decode prog_3_method_9_code 211 = .ok (.getfield 150, 3) := by decide +kernel
theorem d_G_divide_214 : decode prog_3_method_9_code 214 = .ok (.istore 7, 2) := by decide +kernel
theorem d_G_divide_216 : decode prog_3_method_9_code 216 = .ok (.aload_n 0, 1) := by decide +kernel
theorem d_G_divide_217 : decode prog_3_method_9_code 217 = .ok (.getfield 12, 3) := by decide +kernel
theorem d_G_divide_220 : decode prog_3_method_9_code 220 = .ok (.getfield 152, 3) := by decide +kernel
theorem d_G_divide_223 : decode prog_3_method_9_code 223 = .ok (.istore 8, 2) := by decide +kernel
theorem d_G_divide_225 : decode prog_3_method_9_code 225 = .ok (.aload_n 0, 1) := by decide +kernel
theorem d_G_divide_226 : decode prog_3_method_9_code 226 = .ok (.getfield 43, 3) := by decide +kernel
theorem d_G_divide_229 : decode prog_3_method_9_code 229 = .ok (.aload_n 0, 1) := by decide +kernel
theorem d_G_divide_230 : decode prog_3_method_9_code 230 = .ok (.getfield 59, 3) := by decide +kernel
theorem d_G_divide_233 : decode prog_3_method_9_code 233 = .ok (.aload_n 0, 1) := by decide +kernel
theorem d_G_divide_234 : decode prog_3_method_9_code 234 = .ok (.getfield 12, 3) := by decide +kernel
theorem d_G_divide_237 : decode prog_3_method_9_code 237 = .ok (.iload 7, 2) := by decide +kernel
theorem d_G_divide_239 : decode prog_3_method_9_code 239 = .ok (.ineg, 1) := by decide +kernel
theorem d_G_divide_240 : decode prog_3_method_9_code 240 = .ok (.iload 8, 2) := by decide +kernel
theorem d_G_divide_242 : decode prog_3_method_9_code 242 = .ok (.iload_n 2, 1) := by decide +kernel
theorem d_G_divide_243 : decode prog_3_method_9_code 243 = .ok (.aload 6, 2) := by decide +kernel
theorem d_G_divide_245 : decode prog_3_method_9_code 245 = .ok (.getfield 108, 3) := by decide +kernel
theorem d_G_divide_248 : decode prog_3_method_9_code 248 = .ok (.iconst 0, 1) := by decide +kernel
theorem d_G_divide_249 : decode prog_3_method_9_code 249 = .ok (.iaload, 1) := by decide +kernel
theorem d_G_divide_250 : decode prog_3_method_9_code 250 = .ok (.isub, 1) := by decide +kernel
theorem d_G_divide_251 : decode prog_3_method_9_code 251 = .ok (.aload 6, 2) := by decide +kernel
theorem d_G_divide_253 : decode prog_3_method_9_code 253 = .ok (.invokevirtual 154, 3) := by decide +kernel
theorem d_G_divide_256 : decode prog_3_method_9_code 256 = .ok (.aload_n 0, 1) := by decide +kernel
theorem d_G_divide_257 : decode prog_3_method_9_code 257 = .ok (.getfield 32, 3) := by decide +kernel
theorem d_G_divide_260 : decode prog_3_method_9_code 260 = .ok (.iload_n 3, 1) := by decide +kernel
theorem d_G_divide_261 : decode prog_3_method_9_code 261 = .ok (.aaload, 1) := by decide +kernel
theorem d_G_divide_262 : decode prog_3_method_9_code 262 = .ok (.aload_n 0, 1) := by decide +kernel
theorem d_G_divide_263 : decode prog_3_method_9_code 263 = .ok (.getfield 59, 3) := by decide +kernel
theorem d_G_divide_266 : decode prog_3_method_9_code 266 = .ok (.aload_n 0, 1) := by decide +kernel
theorem d_G_divide_267 : decode prog_3_method_9_code 267 = .ok (.getfield 12, 3) := by decide +kernel
theorem d_G_divide_270 : decode prog_3_method_9_code 270 = .ok (.iload 7, 2) := by decide +kernel
theorem d_G_divide_272 : decode prog_3_method_9_code 272 = .ok (.iload 8, 2) := by decide +kernel
theorem d_G_divide_274 : decode prog_3_method_9_code 274 = .ok (.iload_n 2, 1) := by decide +kernel
theorem d_G_divide_275 : decode prog_3_method_9_code 275 = .ok (.aload 6, 2) := by decide +kernel
theorem d_G_divide_277 : decode prog_3_method_9_code 277 = .ok (.getfield 108, 3) := by decide +kernel
theorem d_G_divide_280 : decode prog_3_method_9_code 280 = .ok (.iconst 0, 1) := by decide +kernel
theorem d_G_divide_281 : decode prog_3_method_9_code 281 = .ok (.iaload, 1) := by decide +kernel
theorem d_G_divide_282 : decode prog_3_method_9_code 282 = .ok (.isub, 1) := by decide +kernel
theorem d_G_divide_283 : decode prog_3_method_9_code 283 = .ok (.invokevirtual 138, 3) := by decide +kernel
theorem d_G_divide_286 : decode prog_3_method_9_code 286 = .ok (.goto (-252), 3) := by decide +kernel
theorem d_G_divide_289 : decode prog_3_method_9_code 289 = .ok (.return_, 1) := by decide +kernel
def tb_G_divide_0 : List (Nat × jm_Op) := [(0, oC 0 1), (1, oIs 2 2), (2, oIl 2 3), (3, oAl 0 4), (4, oGi 2 10 7), (7, oIcGe 26 10), (10, oAl 0 11), (11, oGr 2 3 10 14), (14, oIl 2 15), (15, oRa 16), (16, oC 0 17), (17, oPi 5 0 20), (20, oInc 2 1 23), (23, oGo 2), (26, oAl 0 27), (27, oGr 2 4 5 30), (30, oC 0 31), (31, oPi 5 0 34), (34, oAl 0 35), (35, oGr 2 5 5 38), (38, oGi 5 0 41), (41, oIfLe 289 44), (44, oAl 0 45), (48, oAl 0 49), (49, oGr 2 5 5 52), (52, oGr 5 3 8 55), (55, oC 0 56), (56, oIa 57), (57, oIs 2 58), (58, oC 0 59), (59, oIs 3 60), (60, oIl 3 61), (61, oAl 0 62), (62, oGi 2 10 65), (65, oIcGe 91 68), (68, oIl 3 69), (69, oIl 1 70), (70, oIcEq 85 73), (73, oAl 0 74), (74, oIl 3 75), (78, oIl 2 79), (82, oIfNe 91 85), (85, oInc 3 1 88), (88, oGo 60), (91, oAl 0 92), (92, oGr 2 5 5 95), (95, oGr 5 1 8 98), (98, oC 0 99), (99, oIa 100), (100, oIs 4 102)]
theorem ok_G_divide_0 : jm_all 57 tb_G_divide_0 := ⟨s_iconst d_G_divide_0 (by decide), s_istore_n d_G_divide_1 rfl (by decide), s_iload_n d_G_divide_2 rfl, s_aload_n d_G_divide_3 rfl, s_geti d_G_divide_4 ci_G rfl wd_186, s_icmp_ge d_G_divide_7 (by decide), s_aload_n d_G_divide_10 rfl, s_getr d_G_divide_11 ci_G rfl wd_176, s_iload_n d_G_divide_14 rfl, s_aaload d_G_divide_15, s_iconst d_G_divide_16 (by decide), s_putiN d_G_divide_17 ci_P rfl rfl rfl wd_99, s_iinc d_G_divide_20 (by decide) (by decide), s_goto d_G_divide_23 (by decide), s_aload_n d_G_divide_26 rfl, s_getr d_G_divide_27 ci_G rfl wd_178, s_iconst d_G_divide_30 (by decide), s_putiN d_G_divide_31 ci_P rfl rfl rfl wd_99, s_aload_n d_G_divide_34 rfl, s_getr d_G_divide_35 ci_G rfl wd_180, s_getiN d_G_divide_38 ci_P rfl wd_99, s_if_le d_G_divide_41 (by decide), s_aload_n d_G_divide_44 rfl, s_aload_n d_G_divide_48 rfl, s_getr d_G_divide_49 ci_G rfl wd_180, s_getrN d_G_divide_52 ci_P rfl wd_110, s_iconst d_G_divide_55 (by decide), s_iaload d_G_divide_56, s_istore_n d_G_divide_57 rfl (by decide), s_iconst d_G_divide_58 (by decide), s_istore_n d_G_divide_59 rfl (by decide), s_iload_n d_G_divide_60 rfl, s_aload_n d_G_divide_61 rfl, s_geti d_G_divide_62 ci_G rfl wd_186, s_icmp_ge d_G_divide_65 (by decide), s_iload_n d_G_divide_68 rfl, s_iload_n d_G_divide_69 rfl, s_icmp_eq d_G_divide_70 (by decide), s_aload_n d_G_divide_73 rfl, s_iload_n d_G_divide_74 rfl, s_iload_n d_G_divide_78 rfl, s_if_ne d_G_divide_82 (by decide), s_iinc d_G_divide_85 (by decide) (by decide), s_goto d_G_divide_88 (by decide), s_aload_n d_G_divide_91 rfl, s_getr d_G_divide_92 ci_G rfl wd_180, s_getrN d_G_divide_95 ci_P rfl wd_103, s_iconst d_G_divide_98 (by decide), s_iaload d_G_divide_99, s_istore d_G_divide_100 (by decide), trivial⟩
def tb_G_divide_1 : List (Nat × jm_Op) := [(102, oAl 0 103), (103, oGr 2 5 5 106), (106, oGr 5 2 8 109), (109, oC 0 110), (110, oIa 111), (111, oIs 5 113), (113, oIl 3 114), (114, oAl 0 115), (115, oGi 2 10 118), (118, oIcNe 152 121), (121, oAl 0 122), (122, oGr 2 5 5 125), (125, oC 0 126), (129, oAl 0 130), (130, oGr 2 4 5 133), (133, oAl 0 134), (134, oGr 2 8 13 137), (137, oAl 0 138), (138, oGr 2 0 4 141), (141, oIl 4 143), (143, oIl 5 145), (145, oIl 2 146), (149, oGo 34), (152, oAl 0 153), (153, oGr 2 1 11 156), (156, oIl 3 157), (157, oRa 158), (158, oGr 3 0 5 161), (161, oAs 6 163), (163, oAl 0 164), (164, oGr 2 0 4 167), (167, oIl 4 169), (169, oIl 5 171), (171, oAl 6 173), (173, oGr 5 2 8 176), (176, oC 0 177), (177, oIa 178), (178, oAl 6 180), (180, oGr 5 1 8 183), (183, oC 0 184), (184, oIa 185), (185, oIfGe 192 188), (188, oC (-1) 189), (189, oGo 193), (192, oC 1 193), (193, oMul 194), (194, oAl 6 196), (196, oGr 5 1 8 199), (199, oC 0 200), (200, oIa 201)]
theorem ok_G_divide_1 : jm_all 57 tb_G_divide_1 := ⟨s_aload_n d_G_divide_102 rfl, s_getr d_G_divide_103 ci_G rfl wd_180, s_getrN d_G_divide_106 ci_P rfl wd_107, s_iconst d_G_divide_109 (by decide), s_iaload d_G_divide_110, s_istore d_G_divide_111 (by decide), s_iload_n d_G_divide_113 rfl, s_aload_n d_G_divide_114 rfl, s_geti d_G_divide_115 ci_G rfl wd_186, s_icmp_ne d_G_divide_118 (by decide), s_aload_n d_G_divide_121 rfl, s_getr d_G_divide_122 ci_G rfl wd_180, s_iconst d_G_divide_125 (by decide), s_aload_n d_G_divide_129 rfl, s_getr d_G_divide_130 ci_G rfl wd_178, s_aload_n d_G_divide_133 rfl, s_getr d_G_divide_134 ci_G rfl wd_184, s_aload_n d_G_divide_137 rfl, s_getr d_G_divide_138 ci_G rfl wd_172, s_iload d_G_divide_141, s_iload d_G_divide_143, s_iload_n d_G_divide_145 rfl, s_goto d_G_divide_149 (by decide), s_aload_n d_G_divide_152 rfl, s_getr d_G_divide_153 ci_G rfl wd_173, s_iload_n d_G_divide_156 rfl, s_aaload d_G_divide_157, s_getrN d_G_divide_158 ci_E rfl wd_161, s_astore d_G_divide_161 (by decide), s_aload_n d_G_divide_163 rfl, s_getr d_G_divide_164 ci_G rfl wd_172, s_iload d_G_divide_167, s_iload d_G_divide_169, s_aload d_G_divide_171, s_getrN d_G_divide_173 ci_P rfl wd_107, s_iconst d_G_divide_176 (by decide), s_iaload d_G_divide_177, s_aload d_G_divide_178, s_getrN d_G_divide_180 ci_P rfl wd_103, s_iconst d_G_divide_183 (by decide), s_iaload d_G_divide_184, s_if_ge d_G_divide_185 (by decide), s_iconst d_G_divide_188 (by decide), s_goto d_G_divide_189 (by decide), s_iconst d_G_divide_192 (by decide), s_imul d_G_divide_193, s_aload d_G_divide_194, s_getrN d_G_divide_196 ci_P rfl wd_103, s_iconst d_G_divide_199 (by decide), s_iaload d_G_divide_200, trivial⟩
def tb_G_divide_2 : List (Nat × jm_Op) := [(201, oAbs 204), (207, oAl 0 208), (208, oGr 2 0 4 211), (211, oGi 4 0 214), (214, oIs 7 216), (216, oAl 0 217), (217, oGr 2 0 4 220), (220, oGi 4 1 223), (223, oIs 8 225), (225, oAl 0 226), (226, oGr 2 5 5 229), (229, oAl 0 230), (230, oGr 2 8 13 233), (233, oAl 0 234), (234, oGr 2 0 4 237), (237, oIl 7 239), (239, oNeg 240), (240, oIl 8 242), (242, oIl 2 243), (243, oAl 6 245), (245, oGr 5 3 8 248), (248, oC 0 249), (249, oIa 250), (250, oSub 251), (251, oAl 6 253), (256, oAl 0 257), (257, oGr 2 3 10 260), (260, oIl 3 261), (261, oRa 262), (262, oAl 0 263), (263, oGr 2 8 13 266), (266, oAl 0 267), (267, oGr 2 0 4 270), (270, oIl 7 272), (272, oIl 8 274), (274, oIl 2 275), (275, oAl 6 277), (277, oGr 5 3 8 280), (280, oC 0 281), (281, oIa 282), (282, oSub 283), (286, oGo 34)]
theorem ok_G_divide_2 : jm_all 57 tb_G_divide_2 := ⟨s_abs d_G_divide_201 wd_573 wd_574 wd_61 wd_575, s_aload_n d_G_divide_207 rfl, s_getr d_G_divide_208 ci_G rfl wd_172, s_getiN d_G_divide_211 ci_F rfl wd_136, s_istore d_G_divide_214 (by decide), s_aload_n d_G_divide_216 rfl, s_getr d_G_divide_217 ci_G rfl wd_172, s_getiN d_G_divide_220 ci_F rfl wd_140, s_istore d_G_divide_223 (by decide), s_aload_n d_G_divide_225 rfl, s_getr d_G_divide_226 ci_G rfl wd_180, s_aload_n d_G_divide_229 rfl, s_getr d_G_divide_230 ci_G rfl wd_184, s_aload_n d_G_divide_233 rfl, s_getr d_G_divide_234 ci_G rfl wd_172, s_iload d_G_divide_237, s_ineg d_G_divide_239, s_iload d_G_divide_240, s_iload_n d_G_divide_242 rfl, s_aload d_G_divide_243, s_getrN d_G_divide_245 ci_P rfl wd_110, s_iconst d_G_divide_248 (by decide), s_iaload d_G_divide_249, s_isub d_G_divide_250, s_aload d_G_divide_251, s_aload_n d_G_divide_256 rfl, s_getr d_G_divide_257 ci_G rfl wd_176, s_iload_n d_G_divide_260 rfl, s_aaload d_G_divide_261, s_aload_n d_G_divide_262 rfl, s_getr d_G_divide_263 ci_G rfl wd_184, s_aload_n d_G_divide_266 rfl, s_getr d_G_divide_267 ci_G rfl wd_172, s_iload d_G_divide_270, s_iload d_G_divide_272, s_iload_n d_G_divide_274 rfl, s_aload d_G_divide_275, s_getrN d_G_divide_277 ci_P rfl wd_110, s_iconst d_G_divide_280 (by decide), s_iaload d_G_divide_281, s_isub d_G_divide_282, s_goto d_G_divide_286 (by decide), trivial⟩
def tb_G_divide : List (Nat × jm_Op) := tb_G_divide_0 ++ (tb_G_divide_1 ++ tb_G_divide_2)
theorem ok_G_divide : jm_all 57 tb_G_divide := jm_all_app ok_G_divide_0 (jm_all_app ok_G_divide_1 ok_G_divide_2)
theorem k_G_divide_45 {g : jm_G} {d : Nat} {L : List (Option jm_V)} {r : List jm_V} {σ : jm_S} {K K' : jm_O → Prop} {q0 : Nat} (hr : Nat.ble (jm_cs r) 8 = true) (hcal : J g d 58 0 [some (aR 2 q0)] [] σ K') (hk : ∀ u, K' u → jm_aft g (d + 1) 57 45 L r u K) : J g (d + 1) 57 45 L (aR 2 q0 :: r) σ K :=
  J_call' (id' := 58) jm_sk (vs := [aR 2 q0]) (inv_V (id' := 58) d_G_divide_45 ci_G wd_565 wd_567 wd_16 cw_G_step (by decide) pn_G_step) cw_G_step (by decide) (by decide) (Nat.le_of_ble_eq_true rfl) rfl hr rfl hcal hk
theorem k_G_divide_75 {g : jm_G} {d : Nat} {L : List (Option jm_V)} {r : List jm_V} {σ : jm_S} {K K' : jm_O → Prop} {q0 : Nat} {x0 : Int32} (hr : Nat.ble (jm_cs r) 8 = true) (hcal : J g d 51 0 [some (aR 2 q0), some (aI x0)] [] σ K') (hk : ∀ u, K' u → jm_aft g (d + 1) 57 75 L r u K) : J g (d + 1) 57 75 L (aI x0 :: aR 2 q0 :: r) σ K :=
  J_call' (id' := 51) jm_sk (vs := [aR 2 q0, aI x0]) (inv_V (id' := 51) d_G_divide_75 ci_G wd_537 wd_539 wd_11 cw_G_lead (by decide) pn_G_lead) cw_G_lead (by decide) (by decide) (Nat.le_of_ble_eq_true rfl) rfl hr rfl hcal hk
theorem k_G_divide_79 {g : jm_G} {d : Nat} {L : List (Option jm_V)} {r : List jm_V} {σ : jm_S} {K K' : jm_O → Prop} {x0 : Int32} {x1 : Int32} (hr : Nat.ble (jm_cs r) 8 = true) (hcal : J g d 54 0 [some (aI x0), some (aI x1), none, none] [] σ K') (hk : ∀ u, K' u → jm_aft g (d + 1) 57 79 L r u K) : J g (d + 1) 57 79 L (aI x1 :: aI x0 :: r) σ K :=
  J_call' (id' := 54) jm_sk (vs := [aI x0, aI x1]) (inv_SN (id' := 54) d_G_divide_79 wd_549 wd_550 wd_54 cw_H_divides (by decide) pn_H_divides) cw_H_divides (by decide) (by decide) (Nat.le_of_ble_eq_true rfl) rfl hr rfl hcal hk
theorem k_G_divide_126 {g : jm_G} {d : Nat} {L : List (Option jm_V)} {r : List jm_V} {σ : jm_S} {K K' : jm_O → Prop} {q0 : Nat} {x0 : Int32} (hr : Nat.ble (jm_cs r) 8 = true) (hcal : J g d 26 0 [some (aR 5 q0), some (aI x0), none] [] σ K') (hk : ∀ u, K' u → jm_aft g (d + 1) 57 126 L r u K) : J g (d + 1) 57 126 L (aI x0 :: aR 5 q0 :: r) σ K :=
  J_call' (id' := 26) jm_sk (vs := [aR 5 q0, aI x0]) (inv_VN (id' := 26) d_G_divide_126 ci_P wd_571 wd_432 wd_4 cw_P_remove (by decide) pn_P_remove) cw_P_remove (by decide) (by decide) (Nat.le_of_ble_eq_true rfl) rfl hr rfl hcal hk
theorem k_G_divide_146 {g : jm_G} {d : Nat} {L : List (Option jm_V)} {r : List jm_V} {σ : jm_S} {K K' : jm_O → Prop} {q0 : Nat} {x0 : Nat} {x1 : Nat} {x2 : Int32} {x3 : Int32} {x4 : Int32} (hr : Nat.ble (jm_cs r) 8 = true) (hcal : J g d 23 0 [some (aR 5 q0), some (aR 13 x0), some (aR 4 x1), some (aI x2), some (aI x3), some (aI x4), none] [] σ K') (hk : ∀ u, K' u → jm_aft g (d + 1) 57 146 L r u K) : J g (d + 1) 57 146 L (aI x4 :: aI x3 :: aI x2 :: aR 4 x1 :: aR 13 x0 :: aR 5 q0 :: r) σ K :=
  J_call' (id' := 23) jm_sk (vs := [aR 5 q0, aR 13 x0, aR 4 x1, aI x2, aI x3, aI x4]) (inv_V (id' := 23) d_G_divide_146 ci_P wd_572 wd_416 wd_417 cw_P_come (by decide) pn_P_come) cw_P_come (by decide) (by decide) (Nat.le_of_ble_eq_true rfl) rfl hr rfl hcal hk
theorem k_G_divide_204 {g : jm_G} {d : Nat} {L : List (Option jm_V)} {r : List jm_V} {σ : jm_S} {K K' : jm_O → Prop} {q0 : Nat} {x0 : Int32} {x1 : Int32} {x2 : Int32} {x3 : Int32} (hr : Nat.ble (jm_cs r) 8 = true) (hcal : J g d 33 0 [some (aR 4 q0), some (aI x0), some (aI x1), some (aI x2), some (aI x3)] [] σ K') (hk : ∀ u, K' u → jm_aft g (d + 1) 57 204 L r u K) : J g (d + 1) 57 204 L (aI x3 :: aI x2 :: aI x1 :: aI x0 :: aR 4 q0 :: r) σ K :=
  J_call' (id' := 33) jm_sk (vs := [aR 4 q0, aI x0, aI x1, aI x2, aI x3]) (inv_V (id' := 33) d_G_divide_204 ci_F wd_576 wd_461 wd_462 cw_F_times (by decide) pn_F_times) cw_F_times (by decide) (by decide) (Nat.le_of_ble_eq_true rfl) rfl hr rfl hcal hk
theorem k_G_divide_253 {g : jm_G} {d : Nat} {L : List (Option jm_V)} {r : List jm_V} {σ : jm_S} {K K' : jm_O → Prop} {q0 : Nat} {x0 : Nat} {x1 : Nat} {x2 : Int32} {x3 : Int32} {x4 : Int32} {x5 : Nat} (hr : Nat.ble (jm_cs r) 8 = true) (hcal : J g d 32 0 [some (aR 5 q0), some (aR 13 x0), some (aR 4 x1), some (aI x2), some (aI x3), some (aI x4), some (aR 5 x5), none, none] [] σ K') (hk : ∀ u, K' u → jm_aft g (d + 1) 57 253 L r u K) : J g (d + 1) 57 253 L (aR 5 x5 :: aI x4 :: aI x3 :: aI x2 :: aR 4 x1 :: aR 13 x0 :: aR 5 q0 :: r) σ K :=
  J_call' (id' := 32) jm_sk (vs := [aR 5 q0, aR 13 x0, aR 4 x1, aI x2, aI x3, aI x4, aR 5 x5]) (inv_V (id' := 32) d_G_divide_253 ci_P wd_560 wd_456 wd_457 cw_P_plus (by decide) pn_P_plus) cw_P_plus (by decide) (by decide) (Nat.le_of_ble_eq_true rfl) rfl hr rfl hcal hk
theorem k_G_divide_283 {g : jm_G} {d : Nat} {L : List (Option jm_V)} {r : List jm_V} {σ : jm_S} {K K' : jm_O → Prop} {q0 : Nat} {x0 : Nat} {x1 : Nat} {x2 : Int32} {x3 : Int32} {x4 : Int32} (hr : Nat.ble (jm_cs r) 8 = true) (hcal : J g d 23 0 [some (aR 5 q0), some (aR 13 x0), some (aR 4 x1), some (aI x2), some (aI x3), some (aI x4), none] [] σ K') (hk : ∀ u, K' u → jm_aft g (d + 1) 57 283 L r u K) : J g (d + 1) 57 283 L (aI x4 :: aI x3 :: aI x2 :: aR 4 x1 :: aR 13 x0 :: aR 5 q0 :: r) σ K :=
  J_call' (id' := 23) jm_sk (vs := [aR 5 q0, aR 13 x0, aR 4 x1, aI x2, aI x3, aI x4]) (inv_V (id' := 23) d_G_divide_283 ci_P wd_572 wd_416 wd_417 cw_P_come (by decide) pn_P_come) cw_P_come (by decide) (by decide) (Nat.le_of_ble_eq_true rfl) rfl hr rfl hcal hk
theorem r_G_divide_289 {g : jm_G} {d : Nat} {L : List (Option jm_V)} {σ : jm_S} {K : jm_O → Prop} (hK : K (σ, .inl none)) : J g d 57 289 L [] σ K := J_vret d_G_divide_289 rfl hK
-- IdealProver$Engine step ()V
theorem d_G_step_0 : decode prog_3_method_8_code 0 = .ok (.aload_n 0, 1) := by decide +kernel
theorem d_G_step_1 : decode prog_3_method_8_code 1 = .ok (.getfield 72, 3) := by decide +kernel
theorem d_G_step_4 : decode prog_3_method_8_code 4 = .ok (.aload_n 0, 1) := by decide +kernel
theorem d_G_step_5 : decode prog_3_method_8_code 5 = .ok (.getfield 63, 3) := by decide +kernel
theorem d_G_step_8 : decode prog_3_method_8_code 8 = .ok (.if_icmp .ne 13, 3) := by decide +kernel
theorem d_G_step_11 : decode prog_3_method_8_code 11 = .ok (.new 123, 3) := by decide +kernel
theorem d_G_step_14 : decode prog_3_method_8_code 14 = .ok (.dup, 1) := by decide +kernel
theorem d_G_step_15 : decode prog_3_method_8_code 15 = .ok (.bipush (-6), 2) := by decide +kernel
theorem d_G_step_17 : decode prog_3_method_8_code 17 = .ok (.invokespecial 125, 3) := by decide +kernel
theorem d_G_step_20 : decode prog_3_method_8_code 20 = .ok (.athrow, 1) := by decide +kernel
theorem d_G_step_21 : decode prog_3_method_8_code 21 = .ok (.aload_n 0, 1) := by decide +kernel
theorem d_G_step_22 : decode prog_3_method_8_code 22 = .ok (.dup, 1) := by decide +kernel
theorem d_G_step_23 : decode prog_3_method_8_code 23 = .ok (.getfield 72, 3) := by decide +kernel
theorem d_G_step_26 : decode prog_3_method_8_code 26 = .ok (.iconst 1, 1) := by decide +kernel
theorem d_G_step_27 : decode prog_3_method_8_code 27 = .ok (.iadd, 1) := by decide +kernel
theorem d_G_step_28 : decode prog_3_method_8_code 28 = .ok (.putfield 72, 3) := by decide +kernel
theorem d_G_step_31 : decode prog_3_method_8_code 31 = .ok (.return_, 1) := by decide +kernel
def tb_G_step : List (Nat × jm_Op) := [(0, oAl 0 1), (1, oGi 2 11 4), (4, oAl 0 5), (5, oGi 2 12 8), (8, oIcNe 21 11), (21, oAl 0 22), (22, oDup 23), (23, oGi 2 11 26), (26, oC 1 27), (27, oAdd 28), (28, oPi 2 11 31)]
theorem ok_G_step : jm_all 58 tb_G_step := ⟨s_aload_n d_G_step_0 rfl, s_geti d_G_step_1 ci_G rfl wd_188, s_aload_n d_G_step_4 rfl, s_geti d_G_step_5 ci_G rfl wd_190, s_icmp_ne d_G_step_8 (by decide), s_aload_n d_G_step_21 rfl, s_dup d_G_step_22, s_geti d_G_step_23 ci_G rfl wd_188, s_iconst d_G_step_26 (by decide), s_iadd d_G_step_27, s_puti d_G_step_28 ci_G rfl rfl rfl wd_188, trivial⟩
theorem k_G_step_11 {g : jm_G} {d : Nat} {L : List (Option jm_V)} {r : List jm_V} {σ : jm_S} {K : jm_O → Prop} (hdep : 4 ≤ d) (hcs : Nat.ble (jm_cs r) 6 = true) (ht : gdm g (jm_hs σ) = 7) (hlim : jm_hs σ + 1 ≤ gb g + 601024 ∧ jm_ns σ + 7 ≤ 7293000) (hj : J g d 58 20 L (aR 7 (jm_hs σ) :: r) (jm_wi (jm_nw σ 7) (jm_hs σ) 0 (-6)) K) : J g d 58 11 L r σ K :=
  J_stop d_G_step_11 d_G_step_14 d_G_step_15 (by decide) d_G_step_17 wd_569 wd_570 hdep hcs ht hlim hj
theorem r_G_step_20 {g : jm_G} {d : Nat} {L : List (Option jm_V)} {r : List jm_V} {σ : jm_S} {K : jm_O → Prop} {q : Nat} (hK : K (σ, .inr q)) : J g d 58 20 L (aR 7 q :: r) σ K := J_throw d_G_step_20 rfl hK
theorem r_G_step_31 {g : jm_G} {d : Nat} {L : List (Option jm_V)} {σ : jm_S} {K : jm_O → Prop} (hK : K (σ, .inl none)) : J g d 58 31 L [] σ K := J_vret d_G_step_31 rfl hK
-- IdealProver$Engine shares (LIdealProver$Poly;I)V
theorem d_G_shares_0 : decode prog_3_method_10_code 0 = .ok (.iconst 0, 1) := by decide +kernel
theorem d_G_shares_1 : decode prog_3_method_10_code 1 = .ok (.istore_n 3, 1) := by decide +kernel
theorem d_G_shares_2 : decode prog_3_method_10_code 2 = .ok (.iload_n 3, 1) := by decide +kernel
theorem d_G_shares_3 : decode prog_3_method_10_code 3 = .ok (.aload_n 0, 1) := by decide +kernel
theorem d_G_shares_4 : decode prog_3_method_10_code 4 = .ok (.getfield 69, 3) := by decide +kernel
theorem d_G_shares_7 : decode prog_3_method_10_code 7 = .ok (.if_icmp .ge 84, 3) := by decide +kernel
theorem d_G_shares_10 : decode prog_3_method_10_code 10 = .ok (.aload_n 0, 1) := by decide +kernel
theorem d_G_shares_11 : decode prog_3_method_10_code 11 = .ok (.getfield 32, 3) := by decide +kernel
theorem d_G_shares_14 : decode prog_3_method_10_code 14 = .ok (.iload_n 3, 1) := by decide +kernel
theorem d_G_shares_15 : decode prog_3_method_10_code 15 = .ok (.aaload, 1) := by decide +kernel
theorem d_G_shares_16 : decode prog_3_method_10_code 16 = .ok (.astore 4, 2) := by decide +kernel
theorem d_G_shares_18 : decode prog_3_method_10_code 18 = .ok (.iconst 0, 1) := by decide +kernel
theorem d_G_shares_19 : decode prog_3_method_10_code 19 = .ok (.istore 5, 2) := by decide +kernel
theorem d_G_shares_21 : decode prog_3_method_10_code 21 = .ok (.iload 5, 2) := by decide +kernel
theorem d_G_shares_23 : decode prog_3_method_10_code 23 = .ok (.aload 4, 2) := by decide +kernel
theorem d_G_shares_25 : decode prog_3_method_10_code 25 = .ok (.getfield 84, 3) := by decide +kernel
theorem d_G_shares_28 : decode prog_3_method_10_code 28 = .ok (.if_icmp .ge 57, 3) := by decide +kernel
theorem d_G_shares_31 : decode prog_3_method_10_code 31 = .ok (.aload_n 1, 1) := by decide +kernel
theorem d_G_shares_32 : decode prog_3_method_10_code 32 = .ok (.aload_n 0, 1) := by decide +kernel
theorem d_G_shares_33 : decode prog_3_method_10_code 33 = .ok (.getfield 59, 3) := by decide +kernel
theorem d_G_shares_36 : decode prog_3_method_10_code 36 = .ok (.aload_n 0, 1) := by decide +kernel
theorem d_G_shares_37 : decode prog_3_method_10_code 37 = .ok (.getfield 12, 3) := by decide +kernel
theorem d_G_shares_40 : decode prog_3_method_10_code 40 = .ok (.aload 4, 2) := by decide +kernel
theorem d_G_shares_42 : decode prog_3_method_10_code 42 = .ok (.getfield 129, 3) := by decide +kernel
theorem d_G_shares_45 : decode prog_3_method_10_code 45 = .ok (.iload 5, 2) := by decide +kernel
theorem d_G_shares_47 : decode prog_3_method_10_code 47 = .ok (.iaload, 1) := by decide +kernel
theorem d_G_shares_48 : decode prog_3_method_10_code 48 = .ok (.ineg, 1) := by decide +kernel
theorem d_G_shares_49 : decode prog_3_method_10_code 49 = .ok (.aload 4, 2) := by decide +kernel
theorem d_G_shares_51 : decode prog_3_method_10_code 51 = .ok (.getfield 132, 3) := by decide +kernel
theorem d_G_shares_54 : decode prog_3_method_10_code 54 = .ok (.iload 5, 2) := by decide +kernel
theorem d_G_shares_56 : decode prog_3_method_10_code 56 = .ok (.iaload, 1) := by decide +kernel
theorem d_G_shares_57 : decode prog_3_method_10_code 57 = .ok (.aload 4, 2) := by decide +kernel
theorem d_G_shares_59 : decode prog_3_method_10_code 59 = .ok (.getfield 108, 3) := by decide +kernel
theorem d_G_shares_62 : decode prog_3_method_10_code 62 = .ok (.iload 5, 2) := by decide +kernel
theorem d_G_shares_64 : decode prog_3_method_10_code 64 = .ok (.iaload, 1) := by decide +kernel
theorem d_G_shares_65 : decode prog_3_method_10_code 65 = .ok (.aload_n 0, 1) := by decide +kernel
theorem d_G_shares_66 : decode prog_3_method_10_code 66 = .ok (.getfield 20, 3) := by decide +kernel
theorem d_G_shares_69 : decode prog_3_method_10_code 69 = .ok (.iload_n 3, 1) := by decide +kernel
theorem d_G_shares_70 : decode prog_3_method_10_code 70 = .ok (.aaload, 1) := by decide +kernel
theorem d_G_shares_71 : decode prog_3_method_10_code 71 = .ok (.getfield 94, 3) := by decide +kernel
theorem d_G_shares_74 : decode prog_3_method_10_code 74 = .ok (.iload_n 2, 1) := by decide +kernel
theorem d_G_shares_75 : decode prog_3_method_10_code 75 = .ok (.aaload, 1) := by decide +kernel
theorem d_G_shares_76 : decode prog_3_method_10_code 76 = .ok (.invokevirtual 154, 3) := by decide +kernel
theorem d_G_shares_79 : decode prog_3_method_10_code 79 = .ok (.iinc 5 1, 3) := by decide +kernel
theorem d_G_shares_82 : decode prog_3_method_10_code 82 = .ok (.goto (-61), 3) := by decide +kernel
theorem d_G_shares_85 : decode prog_3_method_10_code 85 = .ok (.iinc 3 1, 3) := by decide +kernel
theorem d_G_shares_88 : decode prog_3_method_10_code 88 = .ok (.goto (-86), 3) := by decide +kernel
theorem d_G_shares_91 : decode prog_3_method_10_code 91 = .ok (.return_, 1) := by decide +kernel
def tb_G_shares : List (Nat × jm_Op) := [(0, oC 0 1), (1, oIs 3 2), (2, oIl 3 3), (3, oAl 0 4), (4, oGi 2 10 7), (7, oIcGe 91 10), (10, oAl 0 11), (11, oGr 2 3 10 14), (14, oIl 3 15), (15, oRa 16), (16, oAs 4 18), (18, oC 0 19), (19, oIs 5 21), (21, oIl 5 23), (23, oAl 4 25), (25, oGi 5 0 28), (28, oIcGe 85 31), (31, oAl 1 32), (32, oAl 0 33), (33, oGr 2 8 13 36), (36, oAl 0 37), (37, oGr 2 0 4 40), (40, oAl 4 42), (42, oGr 5 1 8 45), (45, oIl 5 47), (47, oIa 48), (48, oNeg 49), (49, oAl 4 51), (51, oGr 5 2 8 54), (54, oIl 5 56), (56, oIa 57), (57, oAl 4 59), (59, oGr 5 3 8 62), (62, oIl 5 64), (64, oIa 65), (65, oAl 0 66), (66, oGr 2 1 11 69), (69, oIl 3 70), (70, oRa 71), (71, oGr 3 1 10 74), (74, oIl 2 75), (75, oRa 76), (79, oInc 5 1 82), (82, oGo 21), (85, oInc 3 1 88), (88, oGo 2)]
theorem ok_G_shares : jm_all 59 tb_G_shares := ⟨s_iconst d_G_shares_0 (by decide), s_istore_n d_G_shares_1 rfl (by decide), s_iload_n d_G_shares_2 rfl, s_aload_n d_G_shares_3 rfl, s_geti d_G_shares_4 ci_G rfl wd_186, s_icmp_ge d_G_shares_7 (by decide), s_aload_n d_G_shares_10 rfl, s_getr d_G_shares_11 ci_G rfl wd_176, s_iload_n d_G_shares_14 rfl, s_aaload d_G_shares_15, s_astore d_G_shares_16 (by decide), s_iconst d_G_shares_18 (by decide), s_istore d_G_shares_19 (by decide), s_iload d_G_shares_21, s_aload d_G_shares_23, s_getiN d_G_shares_25 ci_P rfl wd_99, s_icmp_ge d_G_shares_28 (by decide), s_aload_n d_G_shares_31 rfl, s_aload_n d_G_shares_32 rfl, s_getr d_G_shares_33 ci_G rfl wd_184, s_aload_n d_G_shares_36 rfl, s_getr d_G_shares_37 ci_G rfl wd_172, s_aload d_G_shares_40, s_getrN d_G_shares_42 ci_P rfl wd_103, s_iload d_G_shares_45, s_iaload d_G_shares_47, s_ineg d_G_shares_48, s_aload d_G_shares_49, s_getrN d_G_shares_51 ci_P rfl wd_107, s_iload d_G_shares_54, s_iaload d_G_shares_56, s_aload d_G_shares_57, s_getrN d_G_shares_59 ci_P rfl wd_110, s_iload d_G_shares_62, s_iaload d_G_shares_64, s_aload_n d_G_shares_65 rfl, s_getr d_G_shares_66 ci_G rfl wd_173, s_iload_n d_G_shares_69 rfl, s_aaload d_G_shares_70, s_getrN d_G_shares_71 ci_E rfl wd_164, s_iload_n d_G_shares_74 rfl, s_aaload d_G_shares_75, s_iinc d_G_shares_79 (by decide) (by decide), s_goto d_G_shares_82 (by decide), s_iinc d_G_shares_85 (by decide) (by decide), s_goto d_G_shares_88 (by decide), trivial⟩
theorem k_G_shares_76 {g : jm_G} {d : Nat} {L : List (Option jm_V)} {r : List jm_V} {σ : jm_S} {K K' : jm_O → Prop} {q0 : Nat} {x0 : Nat} {x1 : Nat} {x2 : Int32} {x3 : Int32} {x4 : Int32} {x5 : Nat} (hr : Nat.ble (jm_cs r) 8 = true) (hcal : J g d 32 0 [some (aR 5 q0), some (aR 13 x0), some (aR 4 x1), some (aI x2), some (aI x3), some (aI x4), some (aR 5 x5), none, none] [] σ K') (hk : ∀ u, K' u → jm_aft g (d + 1) 59 76 L r u K) : J g (d + 1) 59 76 L (aR 5 x5 :: aI x4 :: aI x3 :: aI x2 :: aR 4 x1 :: aR 13 x0 :: aR 5 q0 :: r) σ K :=
  J_call' (id' := 32) jm_sk (vs := [aR 5 q0, aR 13 x0, aR 4 x1, aI x2, aI x3, aI x4, aR 5 x5]) (inv_V (id' := 32) d_G_shares_76 ci_P wd_560 wd_456 wd_457 cw_P_plus (by decide) pn_P_plus) cw_P_plus (by decide) (by decide) (Nat.le_of_ble_eq_true rfl) rfl hr rfl hcal hk
theorem r_G_shares_91 {g : jm_G} {d : Nat} {L : List (Option jm_V)} {σ : jm_S} {K : jm_O → Prop} (hK : K (σ, .inl none)) : J g d 59 91 L [] σ K := J_vret d_G_shares_91 rfl hK
-- IdealProver$Engine thin ()V
theorem d_G_thin_0 : decode prog_3_method_15_code 0 = .ok (.iconst 0, 1) := by decide +kernel
theorem d_G_thin_1 : decode prog_3_method_15_code 1 = .ok (.istore_n 1, 1) := by decide +kernel
theorem d_G_thin_2 : decode prog_3_method_15_code 2 = .ok (.iconst 0, 1) := by decide +kernel
theorem d_G_thin_3 : decode prog_3_method_15_code 3 = .ok (.istore_n 2, 1) := by decide +kernel
theorem d_G_thin_4 : decode prog_3_method_15_code 4 = .ok (.iload_n 2, 1) := by decide +kernel
theorem d_G_thin_5 : decode prog_3_method_15_code 5 = .ok (.aload_n 0, 1) := by decide +kernel
theorem d_G_thin_6 : decode prog_3_method_15_code 6 = .ok (.getfield 69, 3) := by decide +kernel
theorem d_G_thin_9 : decode prog_3_method_15_code 9 = .ok (.if_icmp .ge 87, 3) := by decide +kernel
theorem d_G_thin_12 : decode prog_3_method_15_code 12 = .ok (.iconst 0, 1) := by decide +kernel
theorem d_G_thin_13 : decode prog_3_method_15_code 13 = .ok (.istore_n 3, 1) := by decide +kernel
theorem d_G_thin_14 : decode prog_3_method_15_code 14 = .ok (.iconst 0, 1) := by decide +kernel
theorem d_G_thin_15 : decode prog_3_method_15_code 15 = .ok (.istore 4, 2) := by decide +kernel
theorem d_G_thin_17 : decode prog_3_method_15_code 17 = .ok (.iload 4, 2) := by decide +kernel
theorem d_G_thin_19 : decode prog_3_method_15_code 19 = .ok (.aload_n 0, 1) := by decide +kernel
theorem d_G_thin_20 : decode prog_3_method_15_code 20 = .ok (.getfield 69, 3) := by decide +kernel
theorem d_G_thin_23 : decode prog_3_method_15_code 23 = .ok (.if_icmp .ge 60, 3) := by decide +kernel
theorem d_G_thin_26 : decode prog_3_method_15_code 26 = .ok (.iload_n 3, 1) := by decide +kernel
theorem d_G_thin_27 : decode prog_3_method_15_code 27 = .ok (.iload 4, 2) := by decide +kernel
theorem d_G_thin_29 : decode prog_3_method_15_code 29 = .ok (.iload_n 2, 1) := by decide +kernel
theorem d_G_thin_30 : decode prog_3_method_15_code 30 = .ok (.if_icmp .eq 44, 3) := by decide +kernel
theorem d_G_thin_33 : decode prog_3_method_15_code 33 = .ok (.aload_n 0, 1) := by decide +kernel
theorem d_G_thin_34 : decode prog_3_method_15_code 34 = .ok (.iload 4, 2) := by decide +kernel
theorem d_G_thin_36 : decode prog_3_method_15_code 36 = .ok (.invokevirtual 112, 3) := by decide +kernel
theorem d_G_thin_39 : decode prog_3_method_15_code 39 = .ok (.aload_n 0, 1) := by decide +kernel
theorem d_G_thin_40 : decode prog_3_method_15_code 40 = .ok (.iload_n 2, 1) := by decide +kernel
theorem d_G_thin_41 : decode prog_3_method_15_code 41 = .ok (.invokevirtual 112, 3) := by decide +kernel
theorem d_G_thin_44 : decode prog_3_method_15_code 44 = .ok (.invokestatic 116, 3) := by decide +kernel
theorem d_G_thin_47 : decode prog_3_method_15_code 47 = .ok (.ifCond .eq 27, 3) := by decide +kernel
theorem d_G_thin_50 : decode prog_3_method_15_code 50 = .ok (.aload_n 0, 1) := by decide +kernel
theorem d_G_thin_51 : decode prog_3_method_15_code 51 = .ok (.iload 4, 2) := by decide +kernel
theorem d_G_thin_53 : decode prog_3_method_15_code 53 = .ok (.invokevirtual 112, 3) := by decide +kernel
theorem d_G_thin_56 : decode prog_3_method_15_code 56 = .ok (.aload_n 0, 1) := by decide +kernel
theorem d_G_thin_57 : decode prog_3_method_15_code 57 = .ok (.iload_n 2, 1) := by decide +kernel
theorem d_G_thin_58 : decode prog_3_method_15_code 58 = .ok (.invokevirtual 112, 3) := by decide +kernel
theorem d_G_thin_61 : decode prog_3_method_15_code 61 = .ok (.if_icmp .ne 9, 3) := by decide +kernel
theorem d_G_thin_64 : decode prog_3_method_15_code 64 = .ok (.iload 4, 2) := by decide +kernel
theorem d_G_thin_66 : decode prog_3_method_15_code 66 = .ok (.iload_n 2, 1) := by decide +kernel
theorem d_G_thin_67 : decode prog_3_method_15_code 67 = .ok (.if_icmp .ge 7, 3) := by decide +kernel
theorem d_G_thin_70 : decode prog_3_method_15_code 70 = .ok (.iconst 1, 1) := by decide +kernel
theorem d_G_thin_71 : decode prog_3_method_15_code 71 = .ok (.goto 4, 3) := by decide +kernel
theorem d_G_thin_74 : decode prog_3_method_15_code 74 = .ok (.iconst 0, 1) := by decide +kernel
theorem d_G_thin_75 : decode prog_3_method_15_code 75 = .ok (.ior, 1) := by decide +kernel
theorem d_G_thin_76 : decode prog_3_method_15_code 76 = .ok (.istore_n 3, 1) := by decide +kernel
theorem d_G_thin_77 : decode prog_3_method_15_code 77 = .ok (.iinc 4 1, 3) := by decide +kernel
theorem d_G_thin_80 : decode prog_3_method_15_code 80 = .ok (.goto (-63), 3) := by decide +kernel
theorem d_G_thin_83 : decode prog_3_method_15_code 83 = .ok (.aload_n 0, 1) := by decide +kernel
theorem d_G_thin_84 : decode prog_3_method_15_code 84 = .ok (.getfield 49, 3) := by decide +kernel
theorem d_G_thin_87 : decode prog_3_method_15_code 87 = .ok (.iload_n 2, 1) := by decide +kernel
theorem d_G_thin_88 : decode prog_3_method_15_code 88 = .ok (.iload_n 3, 1) := by decide +kernel
theorem d_G_thin_89 : decode prog_3_method_15_code 89 = .ok (.bastore, 1) := by decide +kernel
theorem d_G_thin_90 : decode prog_3_method_15_code 90 = .ok (.iinc 2 1, 3) := by decide +kernel
theorem d_G_thin_93 : decode prog_3_method_15_code 93 = .ok (.goto (-89), 3) := by decide +kernel
theorem d_G_thin_96 : decode prog_3_method_15_code 96 = .ok (.iconst 0, 1) := by decide +kernel
theorem d_G_thin_97 : decode prog_3_method_15_code 97 = .ok (.istore_n 2, 1) := by decide +kernel
theorem d_G_thin_98 : decode prog_3_method_15_code 98 = .ok (.iload_n 2, 1) := by decide +kernel
theorem d_G_thin_99 : decode prog_3_method_15_code 99 = .ok (.aload_n 0, 1) := by decide +kernel
theorem d_G_thin_100 : decode prog_3_method_15_code 100 = .ok (.getfield 69, 3) := by decide +kernel
theorem d_G_thin_103 : decode prog_3_method_15_code 103 = .ok (.if_icmp .ge 27, 3) := by decide +kernel
theorem d_G_thin_106 : decode prog_3_method_15_code 106 = .ok (.aload_n 0, 1) := by decide +kernel
theorem d_G_thin_107 : decode prog_3_method_15_code 107 = .ok (.getfield 49, 3) := by decide +kernel
theorem d_G_thin_110 : decode prog_3_method_15_code 110 = .ok (.iload_n 2, 1) := by decide +kernel
theorem d_G_thin_111 : decode prog_3_method_15_code 111 = .ok (.baload, 1) := by decide +kernel
theorem d_G_thin_112 : decode prog_3_method_15_code 112 = .ok (.ifCond .ne 12, 3) := by decide +kernel
theorem d_G_thin_115 : decode prog_3_method_15_code 115 = .ok (.aload_n 0, 1) := by decide +kernel
theorem d_G_thin_116 : decode prog_3_method_15_code 116 = .ok (.iload_n 2, 1) := by decide +kernel
theorem d_G_thin_117 : decode prog_3_method_15_code 117 = .ok (.iload_n 1, 1) := by decide +kernel
theorem d_G_thin_118 : decode prog_3_method_15_code 118 = .ok (.iinc 1 1, 3) := by decide +kernel
theorem d_G_thin_121 : decode prog_3_method_15_code 121 = .ok (.invokevirtual 191, 3) := by decide +kernel
theorem d_G_thin_124 : decode prog_3_method_15_code 124 = .ok (.iinc 2 1, 3) := by decide +kernel
theorem d_G_thin_127 : decode prog_3_method_15_code 127 = .ok (.goto (-29), 3) := by decide +kernel
theorem d_G_thin_130 : decode prog_3_method_15_code 130 = .ok (.aload_n 0, 1) := by decide +kernel
theorem d_G_thin_131 : decode prog_3_method_15_code 131 = .ok (.iload_n 1, 1) := by decide +kernel
theorem d_G_thin_132 : decode prog_3_method_15_code 132 = .ok (.putfield 69, 3) := by decide +kernel
theorem d_G_thin_135 : decode prog_3_method_15_code 135 = .ok (.iconst 1, 1) := by decide +kernel
theorem d_G_thin_136 : decode prog_3_method_15_code 136 = .ok (.istore_n 2, 1) := by decide +kernel
theorem d_G_thin_137 : decode prog_3_method_15_code 137 = .ok (.iload_n 2, 1) := by decide +kernel
theorem d_G_thin_138 : decode prog_3_method_15_code 138 = .ok (.aload_n 0, 1) := by decide +kernel
theorem d_G_thin_139 : decode prog_3_method_15_code 139 = .ok (.getfield 69, 3) := by decide +kernel
theorem d_G_thin_142 : decode prog_3_method_15_code 142 = .ok (.if_icmp .ge 51, 3) := by decide +kernel
theorem d_G_thin_145 : decode prog_3_method_15_code 145 = .ok (.iload_n 2, 1) := by decide +kernel
theorem d_G_thin_146 : decode prog_3_method_15_code 146 = .ok (.istore_n 3, 1) := by decide +kernel
theorem d_G_thin_147 : decode prog_3_method_15_code 147 = .ok (.iload_n 3, 1) := by decide +kernel
theorem d_G_thin_148 : decode prog_3_method_15_code 148 = .ok (.ifCond .le 39, 3) := by decide +kernel
theorem d_G_thin_151 : decode prog_3_method_15_code 151 = .ok (.aload_n 0, 1) := by decide +kernel
theorem d_G_thin_152 : decode prog_3_method_15_code 152 = .ok (.getfield 59, 3) := by decide +kernel
theorem d_G_thin_155 : decode prog_3_method_15_code 155 = .ok (.aload_n 0, 1) := by decide +kernel
theorem d_G_thin_156 : decode prog_3_method_15_code 156 = .ok (.iload_n 3, 1) := by decide +kernel
theorem d_G_thin_157 : decode prog_3_method_15_code 157 = .ok (.invokevirtual 112, 3) := by decide +kernel
theorem d_G_thin_160 : decode prog_3_method_15_code 160 = .ok (.aload_n 0, 1) := by decide +kernel
theorem d_G_thin_161 : decode prog_3_method_15_code 161 = .ok (.iload_n 3, 1) := by decide +kernel
theorem d_G_thin_162 : decode prog_3_method_15_code 162 = .ok (.iconst 1, 1) := by decide +kernel
theorem d_G_thin_163 : decode prog_3_method_15_code 163 = .ok (.isub, 1) := by decide +kernel
theorem d_G_thin_164 : decode prog_3_method_15_code 164 = .ok (.invokevirtual 112, 3) := by decide +kernel
theorem d_G_thin_167 : decode prog_3_method_15_code 167 = .ok (.invokevirtual 168, 3) := by decide +kernel
theorem d_G_thin_170 : decode prog_3_method_15_code 170 = .ok (.ifCond .ge 17, 3) := by decide +kernel
theorem d_G_thin_173 : decode prog_3_method_15_code 173 = .ok (.aload_n 0, 1) := by decide +kernel
theorem d_G_thin_174 : decode prog_3_method_15_code 174 = .ok (.iload_n 3, 1) := by decide +kernel
theorem d_G_thin_175 : decode prog_3_method_15_code 175 = .ok (.iload_n 3, 1) := by decide +kernel
theorem d_G_thin_176 : decode prog_3_method_15_code 176 = .ok (.iconst 1, 1) := by decide +kernel
theorem d_G_thin_177 : decode prog_3_method_15_code 177 = .ok (.isub, 1) := by decide +kernel
theorem d_G_thin_178 : decode prog_3_method_15_code 178 = .ok (.invokevirtual 191, 3) := by decide +kernel
theorem d_G_thin_181 : decode prog_3_method_15_code 181 = .ok (.iinc 3 (-1), 3) := by decide +kernel
theorem d_G_thin_184 : decode prog_3_method_15_code 184 = .ok (.goto (-37), 3) := by decide +kernel
theorem d_G_thin_187 : decode prog_3_method_15_code 187 = .ok (.iinc 2 1, 3) := by decide +kernel
theorem d_G_thin_190 : decode prog_3_method_15_code 190 = .ok (.goto (-53), 3) := by decide +kernel
theorem d_G_thin_193 : decode prog_3_method_15_code 193 = .ok (.return_, 1) := by decide +kernel
def tb_G_thin_0 : List (Nat × jm_Op) := [(0, oC 0 1), (1, oIs 1 2), (2, oC 0 3), (3, oIs 2 4), (4, oIl 2 5), (5, oAl 0 6), (6, oGi 2 10 9), (9, oIcGe 96 12), (12, oC 0 13), (13, oIs 3 14), (14, oC 0 15), (15, oIs 4 17), (17, oIl 4 19), (19, oAl 0 20), (20, oGi 2 10 23), (23, oIcGe 83 26), (26, oIl 3 27), (27, oIl 4 29), (29, oIl 2 30), (30, oIcEq 74 33), (33, oAl 0 34), (34, oIl 4 36), (39, oAl 0 40), (40, oIl 2 41), (47, oIfEq 74 50), (50, oAl 0 51), (51, oIl 4 53), (56, oAl 0 57), (57, oIl 2 58), (61, oIcNe 70 64), (64, oIl 4 66), (66, oIl 2 67), (67, oIcGe 74 70), (70, oC 1 71), (71, oGo 75), (74, oC 0 75), (75, oOr 76), (76, oIs 3 77), (77, oInc 4 1 80), (80, oGo 17), (83, oAl 0 84), (84, oGr 2 16 9 87), (87, oIl 2 88), (88, oIl 3 89), (89, oZw 90), (90, oInc 2 1 93), (93, oGo 4), (96, oC 0 97), (97, oIs 2 98), (98, oIl 2 99)]
theorem ok_G_thin_0 : jm_all 60 tb_G_thin_0 := ⟨s_iconst d_G_thin_0 (by decide), s_istore_n d_G_thin_1 rfl (by decide), s_iconst d_G_thin_2 (by decide), s_istore_n d_G_thin_3 rfl (by decide), s_iload_n d_G_thin_4 rfl, s_aload_n d_G_thin_5 rfl, s_geti d_G_thin_6 ci_G rfl wd_186, s_icmp_ge d_G_thin_9 (by decide), s_iconst d_G_thin_12 (by decide), s_istore_n d_G_thin_13 rfl (by decide), s_iconst d_G_thin_14 (by decide), s_istore d_G_thin_15 (by decide), s_iload d_G_thin_17, s_aload_n d_G_thin_19 rfl, s_geti d_G_thin_20 ci_G rfl wd_186, s_icmp_ge d_G_thin_23 (by decide), s_iload_n d_G_thin_26 rfl, s_iload d_G_thin_27, s_iload_n d_G_thin_29 rfl, s_icmp_eq d_G_thin_30 (by decide), s_aload_n d_G_thin_33 rfl, s_iload d_G_thin_34, s_aload_n d_G_thin_39 rfl, s_iload_n d_G_thin_40 rfl, s_if_eq d_G_thin_47 (by decide), s_aload_n d_G_thin_50 rfl, s_iload d_G_thin_51, s_aload_n d_G_thin_56 rfl, s_iload_n d_G_thin_57 rfl, s_icmp_ne d_G_thin_61 (by decide), s_iload d_G_thin_64, s_iload_n d_G_thin_66 rfl, s_icmp_ge d_G_thin_67 (by decide), s_iconst d_G_thin_70 (by decide), s_goto d_G_thin_71 (by decide), s_iconst d_G_thin_74 (by decide), s_ior d_G_thin_75, s_istore_n d_G_thin_76 rfl (by decide), s_iinc d_G_thin_77 (by decide) (by decide), s_goto d_G_thin_80 (by decide), s_aload_n d_G_thin_83 rfl, s_getr d_G_thin_84 ci_G rfl wd_198, s_iload_n d_G_thin_87 rfl, s_iload_n d_G_thin_88 rfl, s_bastore d_G_thin_89, s_iinc d_G_thin_90 (by decide) (by decide), s_goto d_G_thin_93 (by decide), s_iconst d_G_thin_96 (by decide), s_istore_n d_G_thin_97 rfl (by decide), s_iload_n d_G_thin_98 rfl, trivial⟩
def tb_G_thin_1 : List (Nat × jm_Op) := [(99, oAl 0 100), (100, oGi 2 10 103), (103, oIcGe 130 106), (106, oAl 0 107), (107, oGr 2 16 9 110), (110, oIl 2 111), (111, oZa 112), (112, oIfNe 124 115), (115, oAl 0 116), (116, oIl 2 117), (117, oIl 1 118), (118, oInc 1 1 121), (124, oInc 2 1 127), (127, oGo 98), (130, oAl 0 131), (131, oIl 1 132), (132, oPi 2 10 135), (135, oC 1 136), (136, oIs 2 137), (137, oIl 2 138), (138, oAl 0 139), (139, oGi 2 10 142), (142, oIcGe 193 145), (145, oIl 2 146), (146, oIs 3 147), (147, oIl 3 148), (148, oIfLe 187 151), (151, oAl 0 152), (152, oGr 2 8 13 155), (155, oAl 0 156), (156, oIl 3 157), (160, oAl 0 161), (161, oIl 3 162), (162, oC 1 163), (163, oSub 164), (170, oIfGe 187 173), (173, oAl 0 174), (174, oIl 3 175), (175, oIl 3 176), (176, oC 1 177), (177, oSub 178), (181, oInc 3 (-1) 184), (184, oGo 147), (187, oInc 2 1 190), (190, oGo 137)]
theorem ok_G_thin_1 : jm_all 60 tb_G_thin_1 := ⟨s_aload_n d_G_thin_99 rfl, s_geti d_G_thin_100 ci_G rfl wd_186, s_icmp_ge d_G_thin_103 (by decide), s_aload_n d_G_thin_106 rfl, s_getr d_G_thin_107 ci_G rfl wd_198, s_iload_n d_G_thin_110 rfl, s_baload d_G_thin_111, s_if_ne d_G_thin_112 (by decide), s_aload_n d_G_thin_115 rfl, s_iload_n d_G_thin_116 rfl, s_iload_n d_G_thin_117 rfl, s_iinc d_G_thin_118 (by decide) (by decide), s_iinc d_G_thin_124 (by decide) (by decide), s_goto d_G_thin_127 (by decide), s_aload_n d_G_thin_130 rfl, s_iload_n d_G_thin_131 rfl, s_puti d_G_thin_132 ci_G rfl rfl rfl wd_186, s_iconst d_G_thin_135 (by decide), s_istore_n d_G_thin_136 rfl (by decide), s_iload_n d_G_thin_137 rfl, s_aload_n d_G_thin_138 rfl, s_geti d_G_thin_139 ci_G rfl wd_186, s_icmp_ge d_G_thin_142 (by decide), s_iload_n d_G_thin_145 rfl, s_istore_n d_G_thin_146 rfl (by decide), s_iload_n d_G_thin_147 rfl, s_if_le d_G_thin_148 (by decide), s_aload_n d_G_thin_151 rfl, s_getr d_G_thin_152 ci_G rfl wd_184, s_aload_n d_G_thin_155 rfl, s_iload_n d_G_thin_156 rfl, s_aload_n d_G_thin_160 rfl, s_iload_n d_G_thin_161 rfl, s_iconst d_G_thin_162 (by decide), s_isub d_G_thin_163, s_if_ge d_G_thin_170 (by decide), s_aload_n d_G_thin_173 rfl, s_iload_n d_G_thin_174 rfl, s_iload_n d_G_thin_175 rfl, s_iconst d_G_thin_176 (by decide), s_isub d_G_thin_177, s_iinc d_G_thin_181 (by decide) (by decide), s_goto d_G_thin_184 (by decide), s_iinc d_G_thin_187 (by decide) (by decide), s_goto d_G_thin_190 (by decide), trivial⟩
def tb_G_thin : List (Nat × jm_Op) := tb_G_thin_0 ++ tb_G_thin_1
theorem ok_G_thin : jm_all 60 tb_G_thin := jm_all_app ok_G_thin_0 ok_G_thin_1
theorem k_G_thin_36 {g : jm_G} {d : Nat} {L : List (Option jm_V)} {r : List jm_V} {σ : jm_S} {K K' : jm_O → Prop} {q0 : Nat} {x0 : Int32} (hr : Nat.ble (jm_cs r) 8 = true) (hcal : J g d 51 0 [some (aR 2 q0), some (aI x0)] [] σ K') (hk : ∀ u, K' u → jm_aft g (d + 1) 60 36 L r u K) : J g (d + 1) 60 36 L (aI x0 :: aR 2 q0 :: r) σ K :=
  J_call' (id' := 51) jm_sk (vs := [aR 2 q0, aI x0]) (inv_V (id' := 51) d_G_thin_36 ci_G wd_537 wd_539 wd_11 cw_G_lead (by decide) pn_G_lead) cw_G_lead (by decide) (by decide) (Nat.le_of_ble_eq_true rfl) rfl hr rfl hcal hk
theorem k_G_thin_41 {g : jm_G} {d : Nat} {L : List (Option jm_V)} {r : List jm_V} {σ : jm_S} {K K' : jm_O → Prop} {q0 : Nat} {x0 : Int32} (hr : Nat.ble (jm_cs r) 8 = true) (hcal : J g d 51 0 [some (aR 2 q0), some (aI x0)] [] σ K') (hk : ∀ u, K' u → jm_aft g (d + 1) 60 41 L r u K) : J g (d + 1) 60 41 L (aI x0 :: aR 2 q0 :: r) σ K :=
  J_call' (id' := 51) jm_sk (vs := [aR 2 q0, aI x0]) (inv_V (id' := 51) d_G_thin_41 ci_G wd_537 wd_539 wd_11 cw_G_lead (by decide) pn_G_lead) cw_G_lead (by decide) (by decide) (Nat.le_of_ble_eq_true rfl) rfl hr rfl hcal hk
theorem k_G_thin_44 {g : jm_G} {d : Nat} {L : List (Option jm_V)} {r : List jm_V} {σ : jm_S} {K K' : jm_O → Prop} {x0 : Int32} {x1 : Int32} (hr : Nat.ble (jm_cs r) 8 = true) (hcal : J g d 54 0 [some (aI x0), some (aI x1), none, none] [] σ K') (hk : ∀ u, K' u → jm_aft g (d + 1) 60 44 L r u K) : J g (d + 1) 60 44 L (aI x1 :: aI x0 :: r) σ K :=
  J_call' (id' := 54) jm_sk (vs := [aI x0, aI x1]) (inv_SN (id' := 54) d_G_thin_44 wd_549 wd_550 wd_54 cw_H_divides (by decide) pn_H_divides) cw_H_divides (by decide) (by decide) (Nat.le_of_ble_eq_true rfl) rfl hr rfl hcal hk
theorem k_G_thin_53 {g : jm_G} {d : Nat} {L : List (Option jm_V)} {r : List jm_V} {σ : jm_S} {K K' : jm_O → Prop} {q0 : Nat} {x0 : Int32} (hr : Nat.ble (jm_cs r) 8 = true) (hcal : J g d 51 0 [some (aR 2 q0), some (aI x0)] [] σ K') (hk : ∀ u, K' u → jm_aft g (d + 1) 60 53 L r u K) : J g (d + 1) 60 53 L (aI x0 :: aR 2 q0 :: r) σ K :=
  J_call' (id' := 51) jm_sk (vs := [aR 2 q0, aI x0]) (inv_V (id' := 51) d_G_thin_53 ci_G wd_537 wd_539 wd_11 cw_G_lead (by decide) pn_G_lead) cw_G_lead (by decide) (by decide) (Nat.le_of_ble_eq_true rfl) rfl hr rfl hcal hk
theorem k_G_thin_58 {g : jm_G} {d : Nat} {L : List (Option jm_V)} {r : List jm_V} {σ : jm_S} {K K' : jm_O → Prop} {q0 : Nat} {x0 : Int32} (hr : Nat.ble (jm_cs r) 8 = true) (hcal : J g d 51 0 [some (aR 2 q0), some (aI x0)] [] σ K') (hk : ∀ u, K' u → jm_aft g (d + 1) 60 58 L r u K) : J g (d + 1) 60 58 L (aI x0 :: aR 2 q0 :: r) σ K :=
  J_call' (id' := 51) jm_sk (vs := [aR 2 q0, aI x0]) (inv_V (id' := 51) d_G_thin_58 ci_G wd_537 wd_539 wd_11 cw_G_lead (by decide) pn_G_lead) cw_G_lead (by decide) (by decide) (Nat.le_of_ble_eq_true rfl) rfl hr rfl hcal hk
theorem k_G_thin_121 {g : jm_G} {d : Nat} {L : List (Option jm_V)} {r : List jm_V} {σ : jm_S} {K K' : jm_O → Prop} {q0 : Nat} {x0 : Int32} {x1 : Int32} (hr : Nat.ble (jm_cs r) 8 = true) (hcal : J g d 61 0 [some (aR 2 q0), some (aI x0), some (aI x1), none] [] σ K') (hk : ∀ u, K' u → jm_aft g (d + 1) 60 121 L r u K) : J g (d + 1) 60 121 L (aI x1 :: aI x0 :: aR 2 q0 :: r) σ K :=
  J_call' (id' := 61) jm_sk (vs := [aR 2 q0, aI x0, aI x1]) (inv_V (id' := 61) d_G_thin_121 ci_G wd_585 wd_587 wd_19 cw_G_swap (by decide) pn_G_swap) cw_G_swap (by decide) (by decide) (Nat.le_of_ble_eq_true rfl) rfl hr rfl hcal hk
theorem k_G_thin_157 {g : jm_G} {d : Nat} {L : List (Option jm_V)} {r : List jm_V} {σ : jm_S} {K K' : jm_O → Prop} {q0 : Nat} {x0 : Int32} (hr : Nat.ble (jm_cs r) 8 = true) (hcal : J g d 51 0 [some (aR 2 q0), some (aI x0)] [] σ K') (hk : ∀ u, K' u → jm_aft g (d + 1) 60 157 L r u K) : J g (d + 1) 60 157 L (aI x0 :: aR 2 q0 :: r) σ K :=
  J_call' (id' := 51) jm_sk (vs := [aR 2 q0, aI x0]) (inv_V (id' := 51) d_G_thin_157 ci_G wd_537 wd_539 wd_11 cw_G_lead (by decide) pn_G_lead) cw_G_lead (by decide) (by decide) (Nat.le_of_ble_eq_true rfl) rfl hr rfl hcal hk
theorem k_G_thin_164 {g : jm_G} {d : Nat} {L : List (Option jm_V)} {r : List jm_V} {σ : jm_S} {K K' : jm_O → Prop} {q0 : Nat} {x0 : Int32} (hr : Nat.ble (jm_cs r) 8 = true) (hcal : J g d 51 0 [some (aR 2 q0), some (aI x0)] [] σ K') (hk : ∀ u, K' u → jm_aft g (d + 1) 60 164 L r u K) : J g (d + 1) 60 164 L (aI x0 :: aR 2 q0 :: r) σ K :=
  J_call' (id' := 51) jm_sk (vs := [aR 2 q0, aI x0]) (inv_V (id' := 51) d_G_thin_164 ci_G wd_537 wd_539 wd_11 cw_G_lead (by decide) pn_G_lead) cw_G_lead (by decide) (by decide) (Nat.le_of_ble_eq_true rfl) rfl hr rfl hcal hk
theorem k_G_thin_167_1 {g : jm_G} {d : Nat} {L : List (Option jm_V)} {r : List jm_V} {σ : jm_S} {K K' : jm_O → Prop} {q0 : Nat} {x0 : Int32} {x1 : Int32} (hq : q0 = goa g 0) (hr : Nat.ble (jm_cs r) 8 = true) (hcal : J g d 11 0 [some (aR 13 q0), some (aI x0), some (aI x1)] [] σ K') (hk : ∀ u, K' u → jm_aft g (d + 1) 60 167 L r u K) : J g (d + 1) 60 167 L (aI x1 :: aI x0 :: aR 13 q0 :: r) σ K :=
  J_call' (id' := 11) jm_sk (vs := [aR 13 q0, aI x0, aI x1]) (inv_O (id' := 11) (y := ⟨"IdealProver$Order", "compare", "(II)I"⟩) (j := 0) (by decide) hq d_G_thin_167 wd_544 wd_305 wd_306 wd_308 wd_307 (by decide) pn_O1_compare) cw_O1_compare (by decide) (by decide) (Nat.le_of_ble_eq_true rfl) rfl hr rfl hcal hk
theorem k_G_thin_167_2 {g : jm_G} {d : Nat} {L : List (Option jm_V)} {r : List jm_V} {σ : jm_S} {K K' : jm_O → Prop} {q0 : Nat} {x0 : Int32} {x1 : Int32} (hq : q0 = goa g 1) (hr : Nat.ble (jm_cs r) 8 = true) (hcal : J g d 12 0 [some (aR 13 q0), some (aI x0), some (aI x1)] [] σ K') (hk : ∀ u, K' u → jm_aft g (d + 1) 60 167 L r u K) : J g (d + 1) 60 167 L (aI x1 :: aI x0 :: aR 13 q0 :: r) σ K :=
  J_call' (id' := 12) jm_sk (vs := [aR 13 q0, aI x0, aI x1]) (inv_O (id' := 12) (y := ⟨"IdealProver$Order", "compare", "(II)I"⟩) (j := 1) (by decide) hq d_G_thin_167 wd_544 wd_305 wd_306 wd_311 wd_310 (by decide) pn_O1_compare) cw_O2_compare (by decide) (by decide) (Nat.le_of_ble_eq_true rfl) rfl hr rfl hcal hk
theorem k_G_thin_167_3 {g : jm_G} {d : Nat} {L : List (Option jm_V)} {r : List jm_V} {σ : jm_S} {K K' : jm_O → Prop} {q0 : Nat} {x0 : Int32} {x1 : Int32} (hq : q0 = goa g 2) (hr : Nat.ble (jm_cs r) 8 = true) (hcal : J g d 15 0 [some (aR 13 q0), some (aI x0), some (aI x1), none] [] σ K') (hk : ∀ u, K' u → jm_aft g (d + 1) 60 167 L r u K) : J g (d + 1) 60 167 L (aI x1 :: aI x0 :: aR 13 q0 :: r) σ K :=
  J_call' (id' := 15) jm_sk (vs := [aR 13 q0, aI x0, aI x1]) (inv_O (id' := 15) (y := ⟨"IdealProver$Order", "compare", "(II)I"⟩) (j := 2) (by decide) hq d_G_thin_167 wd_544 wd_305 wd_306 wd_320 wd_319 (by decide) pn_O1_compare) cw_O3_compare (by decide) (by decide) (Nat.le_of_ble_eq_true rfl) rfl hr rfl hcal hk
theorem k_G_thin_178 {g : jm_G} {d : Nat} {L : List (Option jm_V)} {r : List jm_V} {σ : jm_S} {K K' : jm_O → Prop} {q0 : Nat} {x0 : Int32} {x1 : Int32} (hr : Nat.ble (jm_cs r) 8 = true) (hcal : J g d 61 0 [some (aR 2 q0), some (aI x0), some (aI x1), none] [] σ K') (hk : ∀ u, K' u → jm_aft g (d + 1) 60 178 L r u K) : J g (d + 1) 60 178 L (aI x1 :: aI x0 :: aR 2 q0 :: r) σ K :=
  J_call' (id' := 61) jm_sk (vs := [aR 2 q0, aI x0, aI x1]) (inv_V (id' := 61) d_G_thin_178 ci_G wd_585 wd_587 wd_19 cw_G_swap (by decide) pn_G_swap) cw_G_swap (by decide) (by decide) (Nat.le_of_ble_eq_true rfl) rfl hr rfl hcal hk
theorem r_G_thin_193 {g : jm_G} {d : Nat} {L : List (Option jm_V)} {σ : jm_S} {K : jm_O → Prop} (hK : K (σ, .inl none)) : J g d 60 193 L [] σ K := J_vret d_G_thin_193 rfl hK
-- IdealProver$Engine swap (II)V
theorem d_G_swap_0 : decode prog_3_method_14_code 0 = .ok (.aload_n 0, 1) := by decide +kernel
theorem d_G_swap_1 : decode prog_3_method_14_code 1 = .ok (.getfield 20, 3) := by decide +kernel
theorem d_G_swap_4 : decode prog_3_method_14_code 4 = .ok (.iload_n 1, 1) := by decide +kernel
theorem d_G_swap_5 : decode prog_3_method_14_code 5 = .ok (.aaload, 1) := by decide +kernel
theorem d_G_swap_6 : decode prog_3_method_14_code 6 = .ok (.astore_n 3, 1) := by decide +kernel
theorem d_G_swap_7 : decode prog_3_method_14_code 7 = .ok (.aload_n 0, 1) := by decide +kernel
theorem d_G_swap_8 : decode prog_3_method_14_code 8 = .ok (.getfield 20, 3) := by decide +kernel
theorem d_G_swap_11 : decode prog_3_method_14_code 11 = .ok (.iload_n 1, 1) := by decide +kernel
theorem d_G_swap_12 : decode prog_3_method_14_code 12 = .ok (.aload_n 0, 1) := by decide +kernel
theorem d_G_swap_13 : decode prog_3_method_14_code 13 = .ok (.getfield 20, 3) := by decide +kernel
theorem d_G_swap_16 : decode prog_3_method_14_code 16 = .ok (.iload_n 2, 1) := by decide +kernel
theorem d_G_swap_17 : decode prog_3_method_14_code 17 = .ok (.aaload, 1) := by decide +kernel
theorem d_G_swap_18 : decode prog_3_method_14_code 18 = .ok (.aastore, 1) := by decide +kernel
theorem d_G_swap_19 : decode prog_3_method_14_code 19 = .ok (.aload_n 0, 1) := by decide +kernel
theorem d_G_swap_20 : decode prog_3_method_14_code 20 = .ok (.getfield 20, 3) := by decide +kernel
theorem d_G_swap_23 : decode prog_3_method_14_code 23 = .ok (.iload_n 2, 1) := by decide +kernel
theorem d_G_swap_24 : decode prog_3_method_14_code 24 = .ok (.aload_n 3, 1) := by decide +kernel
theorem d_G_swap_25 : decode prog_3_method_14_code 25 = .ok (.aastore, 1) := by decide +kernel
theorem d_G_swap_26 : decode prog_3_method_14_code 26 = .ok (.return_, 1) := by decide +kernel
def tb_G_swap : List (Nat × jm_Op) := [(0, oAl 0 1), (1, oGr 2 1 11 4), (4, oIl 1 5), (5, oRa 6), (6, oAs 3 7), (7, oAl 0 8), (8, oGr 2 1 11 11), (11, oIl 1 12), (12, oAl 0 13), (13, oGr 2 1 11 16), (16, oIl 2 17), (17, oRa 18), (18, oRw 19), (19, oAl 0 20), (20, oGr 2 1 11 23), (23, oIl 2 24), (24, oAl 3 25), (25, oRw 26)]
theorem ok_G_swap : jm_all 61 tb_G_swap := ⟨s_aload_n d_G_swap_0 rfl, s_getr d_G_swap_1 ci_G rfl wd_173, s_iload_n d_G_swap_4 rfl, s_aaload d_G_swap_5, s_astore_n d_G_swap_6 rfl (by decide), s_aload_n d_G_swap_7 rfl, s_getr d_G_swap_8 ci_G rfl wd_173, s_iload_n d_G_swap_11 rfl, s_aload_n d_G_swap_12 rfl, s_getr d_G_swap_13 ci_G rfl wd_173, s_iload_n d_G_swap_16 rfl, s_aaload d_G_swap_17, s_aastore d_G_swap_18, s_aload_n d_G_swap_19 rfl, s_getr d_G_swap_20 ci_G rfl wd_173, s_iload_n d_G_swap_23 rfl, s_aload_n d_G_swap_24 rfl, s_aastore d_G_swap_25, trivial⟩
theorem r_G_swap_26 {g : jm_G} {d : Nat} {L : List (Option jm_V)} {σ : jm_S} {K : jm_O → Prop} (hK : K (σ, .inl none)) : J g d 61 26 L [] σ K := J_vret d_G_swap_26 rfl hK
-- IdealProver$Engine reduce (II)V
theorem d_G_reduce_0 : decode prog_3_method_16_code 0 = .ok (.aload_n 0, 1) := by decide +kernel
theorem d_G_reduce_1 : decode prog_3_method_16_code 1 = .ok (.getfield 20, 3) := by decide +kernel
theorem d_G_reduce_4 : decode prog_3_method_16_code 4 = .ok (.iload_n 1, 1) := by decide +kernel
theorem d_G_reduce_5 : decode prog_3_method_16_code 5 = .ok (.aaload, 1) := by decide +kernel
theorem d_G_reduce_6 : decode prog_3_method_16_code 6 = .ok (.getfield 87, 3) := by decide +kernel
theorem d_G_reduce_9 : decode prog_3_method_16_code 9 = .ok (.astore_n 3, 1) := by decide +kernel
theorem d_G_reduce_10 : decode prog_3_method_16_code 10 = .ok (.aload_n 0, 1) := by decide +kernel
theorem d_G_reduce_11 : decode prog_3_method_16_code 11 = .ok (.getfield 43, 3) := by decide +kernel
theorem d_G_reduce_14 : decode prog_3_method_16_code 14 = .ok (.aload_n 3, 1) := by decide +kernel
theorem d_G_reduce_15 : decode prog_3_method_16_code 15 = .ok (.invokevirtual 90, 3) := by decide +kernel
theorem d_G_reduce_18 : decode prog_3_method_16_code 18 = .ok (.aload_n 0, 1) := by decide +kernel
theorem d_G_reduce_19 : decode prog_3_method_16_code 19 = .ok (.getfield 43, 3) := by decide +kernel
theorem d_G_reduce_22 : decode prog_3_method_16_code 22 = .ok (.getfield 108, 3) := by decide +kernel
theorem d_G_reduce_25 : decode prog_3_method_16_code 25 = .ok (.iconst 0, 1) := by decide +kernel
theorem d_G_reduce_26 : decode prog_3_method_16_code 26 = .ok (.iaload, 1) := by decide +kernel
theorem d_G_reduce_27 : decode prog_3_method_16_code 27 = .ok (.istore 4, 2) := by decide +kernel
theorem d_G_reduce_29 : decode prog_3_method_16_code 29 = .ok (.aload_n 0, 1) := by decide +kernel
theorem d_G_reduce_30 : decode prog_3_method_16_code 30 = .ok (.getfield 43, 3) := by decide +kernel
theorem d_G_reduce_33 : decode prog_3_method_16_code 33 = .ok (.iconst 0, 1) := by decide +kernel
theorem d_G_reduce_34 : decode prog_3_method_16_code 34 = .ok (.invokevirtual 135, 3) := by decide +kernel
theorem d_G_reduce_37 : decode prog_3_method_16_code 37 = .ok (.aload_n 0, 1) := by decide +kernel
theorem d_G_reduce_38 : decode prog_3_method_16_code 38 = .ok (.iload_n 1, 1) := by decide +kernel
theorem d_G_reduce_39 : decode prog_3_method_16_code 39 = .ok (.invokevirtual 158, 3) := by decide +kernel
theorem d_G_reduce_42 : decode prog_3_method_16_code 42 = .ok (.iconst 0, 1) := by decide +kernel
theorem d_G_reduce_43 : decode prog_3_method_16_code 43 = .ok (.istore 5, 2) := by decide +kernel
theorem d_G_reduce_45 : decode prog_3_method_16_code 45 = .ok (.iload 5, 2) := by decide +kernel
theorem d_G_reduce_47 : decode prog_3_method_16_code 47 = .ok (.iload_n 2, 1) := by decide +kernel
theorem d_G_reduce_48 : decode prog_3_method_16_code 48 = .ok (.if_icmp .ge 27, 3) := by decide +kernel
theorem d_G_reduce_51 : decode prog_3_method_16_code 51 = .ok (.aload_n 0, 1) := by decide +kernel
theorem d_G_reduce_52 : decode prog_3_method_16_code 52 = .ok (.aload_n 0, 1) := by decide +kernel
theorem d_G_reduce_53 : decode prog_3_method_16_code 53 = .ok (.getfield 20, 3) := by decide +kernel
theorem d_G_reduce_56 : decode prog_3_method_16_code 56 = .ok (.iload_n 1, 1) := by decide +kernel
theorem d_G_reduce_57 : decode prog_3_method_16_code 57 = .ok (.aaload, 1) := by decide +kernel
theorem d_G_reduce_58 : decode prog_3_method_16_code 58 = .ok (.getfield 94, 3) := by decide +kernel
theorem d_G_reduce_61 : decode prog_3_method_16_code 61 = .ok (.iload 5, 2) := by decide +kernel
theorem d_G_reduce_63 : decode prog_3_method_16_code 63 = .ok (.aaload, 1) := by decide +kernel
theorem d_G_reduce_64 : decode prog_3_method_16_code 64 = .ok (.iload 5, 2) := by decide +kernel
theorem d_G_reduce_66 : decode prog_3_method_16_code 66 = .ok (.invokevirtual 161, 3) := by decide +kernel
theorem d_G_reduce_69 : decode prog_3_method_16_code 69 = .ok (.iinc 5 1, 3) := by decide +kernel
theorem d_G_reduce_72 : decode prog_3_method_16_code 72 = .ok (.goto (-27), 3) := by decide +kernel
theorem d_G_reduce_75 : decode prog_3_method_16_code 75 = .ok (.aload_n 3, 1) := by decide +kernel
theorem d_G_reduce_76 : decode prog_3_method_16_code 76 = .ok (.aload_n 0, 1) := by decide +kernel
theorem d_G_reduce_77 : decode prog_3_method_16_code 77 = .ok (.getfield 39, 3) := by decide +kernel
theorem d_G_reduce_80 : decode prog_3_method_16_code 80 = .ok (.invokevirtual 90, 3) := by decide +kernel
theorem d_G_reduce_83 : decode prog_3_method_16_code 83 = .ok (.aload_n 3, 1) := by decide +kernel
theorem d_G_reduce_84 : decode prog_3_method_16_code 84 = .ok (.aload_n 0, 1) := by decide +kernel
theorem d_G_reduce_85 : decode prog_3_method_16_code 85 = .ok (.getfield 59, 3) := by decide +kernel
theorem d_G_reduce_88 : decode prog_3_method_16_code 88 = .ok (.aload_n 0, 1) := by decide +kernel
theorem d_G_reduce_89 : decode prog_3_method_16_code 89 = .ok (.getfield 12, 3) := by decide +kernel
theorem d_G_reduce_92 : decode prog_3_method_16_code 92 = .ok (.iconst 1, 1) := by decide +kernel
theorem d_G_reduce_93 : decode prog_3_method_16_code 93 = .ok (.iconst 1, 1) := by decide +kernel
theorem d_G_reduce_94 : decode prog_3_method_16_code 94 = .ok (.iload 4, 2) := by decide +kernel
theorem d_G_reduce_96 : decode prog_3_method_16_code 96 = .ok (.invokevirtual 138, 3) := by decide +kernel
theorem d_G_reduce_99 : decode prog_3_method_16_code 99 = .ok (.return_, 1) := by decide +kernel
def tb_G_reduce : List (Nat × jm_Op) := [(0, oAl 0 1), (1, oGr 2 1 11 4), (4, oIl 1 5), (5, oRa 6), (6, oGr 3 0 5 9), (9, oAs 3 10), (10, oAl 0 11), (11, oGr 2 5 5 14), (14, oAl 3 15), (18, oAl 0 19), (19, oGr 2 5 5 22), (22, oGr 5 3 8 25), (25, oC 0 26), (26, oIa 27), (27, oIs 4 29), (29, oAl 0 30), (30, oGr 2 5 5 33), (33, oC 0 34), (37, oAl 0 38), (38, oIl 1 39), (42, oC 0 43), (43, oIs 5 45), (45, oIl 5 47), (47, oIl 2 48), (48, oIcGe 75 51), (51, oAl 0 52), (52, oAl 0 53), (53, oGr 2 1 11 56), (56, oIl 1 57), (57, oRa 58), (58, oGr 3 1 10 61), (61, oIl 5 63), (63, oRa 64), (64, oIl 5 66), (69, oInc 5 1 72), (72, oGo 45), (75, oAl 3 76), (76, oAl 0 77), (77, oGr 2 4 5 80), (83, oAl 3 84), (84, oAl 0 85), (85, oGr 2 8 13 88), (88, oAl 0 89), (89, oGr 2 0 4 92), (92, oC 1 93), (93, oC 1 94), (94, oIl 4 96)]
theorem ok_G_reduce : jm_all 62 tb_G_reduce := ⟨s_aload_n d_G_reduce_0 rfl, s_getr d_G_reduce_1 ci_G rfl wd_173, s_iload_n d_G_reduce_4 rfl, s_aaload d_G_reduce_5, s_getrN d_G_reduce_6 ci_E rfl wd_161, s_astore_n d_G_reduce_9 rfl (by decide), s_aload_n d_G_reduce_10 rfl, s_getr d_G_reduce_11 ci_G rfl wd_180, s_aload_n d_G_reduce_14 rfl, s_aload_n d_G_reduce_18 rfl, s_getr d_G_reduce_19 ci_G rfl wd_180, s_getrN d_G_reduce_22 ci_P rfl wd_110, s_iconst d_G_reduce_25 (by decide), s_iaload d_G_reduce_26, s_istore d_G_reduce_27 (by decide), s_aload_n d_G_reduce_29 rfl, s_getr d_G_reduce_30 ci_G rfl wd_180, s_iconst d_G_reduce_33 (by decide), s_aload_n d_G_reduce_37 rfl, s_iload_n d_G_reduce_38 rfl, s_iconst d_G_reduce_42 (by decide), s_istore d_G_reduce_43 (by decide), s_iload d_G_reduce_45, s_iload_n d_G_reduce_47 rfl, s_icmp_ge d_G_reduce_48 (by decide), s_aload_n d_G_reduce_51 rfl, s_aload_n d_G_reduce_52 rfl, s_getr d_G_reduce_53 ci_G rfl wd_173, s_iload_n d_G_reduce_56 rfl, s_aaload d_G_reduce_57, s_getrN d_G_reduce_58 ci_E rfl wd_164, s_iload d_G_reduce_61, s_aaload d_G_reduce_63, s_iload d_G_reduce_64, s_iinc d_G_reduce_69 (by decide) (by decide), s_goto d_G_reduce_72 (by decide), s_aload_n d_G_reduce_75 rfl, s_aload_n d_G_reduce_76 rfl, s_getr d_G_reduce_77 ci_G rfl wd_178, s_aload_n d_G_reduce_83 rfl, s_aload_n d_G_reduce_84 rfl, s_getr d_G_reduce_85 ci_G rfl wd_184, s_aload_n d_G_reduce_88 rfl, s_getr d_G_reduce_89 ci_G rfl wd_172, s_iconst d_G_reduce_92 (by decide), s_iconst d_G_reduce_93 (by decide), s_iload d_G_reduce_94, trivial⟩
theorem k_G_reduce_15 {g : jm_G} {d : Nat} {L : List (Option jm_V)} {r : List jm_V} {σ : jm_S} {K K' : jm_O → Prop} {q0 : Nat} {x0 : Nat} (hr : Nat.ble (jm_cs r) 8 = true) (hcal : J g d 19 0 [some (aR 5 q0), some (aR 5 x0)] [] σ K') (hk : ∀ u, K' u → jm_aft g (d + 1) 62 15 L r u K) : J g (d + 1) 62 15 L (aR 5 x0 :: aR 5 q0 :: r) σ K :=
  J_call' (id' := 19) jm_sk (vs := [aR 5 q0, aR 5 x0]) (inv_V (id' := 19) d_G_reduce_15 ci_P wd_515 wd_340 wd_341 cw_P_become (by decide) pn_P_become) cw_P_become (by decide) (by decide) (Nat.le_of_ble_eq_true rfl) rfl hr rfl hcal hk
theorem k_G_reduce_34 {g : jm_G} {d : Nat} {L : List (Option jm_V)} {r : List jm_V} {σ : jm_S} {K K' : jm_O → Prop} {q0 : Nat} {x0 : Int32} (hr : Nat.ble (jm_cs r) 8 = true) (hcal : J g d 26 0 [some (aR 5 q0), some (aI x0), none] [] σ K') (hk : ∀ u, K' u → jm_aft g (d + 1) 62 34 L r u K) : J g (d + 1) 62 34 L (aI x0 :: aR 5 q0 :: r) σ K :=
  J_call' (id' := 26) jm_sk (vs := [aR 5 q0, aI x0]) (inv_VN (id' := 26) d_G_reduce_34 ci_P wd_571 wd_432 wd_4 cw_P_remove (by decide) pn_P_remove) cw_P_remove (by decide) (by decide) (Nat.le_of_ble_eq_true rfl) rfl hr rfl hcal hk
theorem k_G_reduce_39 {g : jm_G} {d : Nat} {L : List (Option jm_V)} {r : List jm_V} {σ : jm_S} {K K' : jm_O → Prop} {q0 : Nat} {x0 : Int32} (hr : Nat.ble (jm_cs r) 8 = true) (hcal : J g d 57 0 [some (aR 2 q0), some (aI x0), none, none, none, none, none, none, none] [] σ K') (hk : ∀ u, K' u → jm_aft g (d + 1) 62 39 L r u K) : J g (d + 1) 62 39 L (aI x0 :: aR 2 q0 :: r) σ K :=
  J_call' (id' := 57) jm_sk (vs := [aR 2 q0, aI x0]) (inv_V (id' := 57) d_G_reduce_39 ci_G wd_561 wd_563 wd_15 cw_G_divide (by decide) pn_G_divide) cw_G_divide (by decide) (by decide) (Nat.le_of_ble_eq_true rfl) rfl hr rfl hcal hk
theorem k_G_reduce_66 {g : jm_G} {d : Nat} {L : List (Option jm_V)} {r : List jm_V} {σ : jm_S} {K K' : jm_O → Prop} {q0 : Nat} {x0 : Nat} {x1 : Int32} (hr : Nat.ble (jm_cs r) 8 = true) (hcal : J g d 59 0 [some (aR 2 q0), some (aR 5 x0), some (aI x1), none, none, none] [] σ K') (hk : ∀ u, K' u → jm_aft g (d + 1) 62 66 L r u K) : J g (d + 1) 62 66 L (aI x1 :: aR 5 x0 :: aR 2 q0 :: r) σ K :=
  J_call' (id' := 59) jm_sk (vs := [aR 2 q0, aR 5 x0, aI x1]) (inv_V (id' := 59) d_G_reduce_66 ci_G wd_577 wd_579 wd_17 cw_G_shares (by decide) pn_G_shares) cw_G_shares (by decide) (by decide) (Nat.le_of_ble_eq_true rfl) rfl hr rfl hcal hk
theorem k_G_reduce_80 {g : jm_G} {d : Nat} {L : List (Option jm_V)} {r : List jm_V} {σ : jm_S} {K K' : jm_O → Prop} {q0 : Nat} {x0 : Nat} (hr : Nat.ble (jm_cs r) 8 = true) (hcal : J g d 19 0 [some (aR 5 q0), some (aR 5 x0)] [] σ K') (hk : ∀ u, K' u → jm_aft g (d + 1) 62 80 L r u K) : J g (d + 1) 62 80 L (aR 5 x0 :: aR 5 q0 :: r) σ K :=
  J_call' (id' := 19) jm_sk (vs := [aR 5 q0, aR 5 x0]) (inv_V (id' := 19) d_G_reduce_80 ci_P wd_515 wd_340 wd_341 cw_P_become (by decide) pn_P_become) cw_P_become (by decide) (by decide) (Nat.le_of_ble_eq_true rfl) rfl hr rfl hcal hk
theorem k_G_reduce_96 {g : jm_G} {d : Nat} {L : List (Option jm_V)} {r : List jm_V} {σ : jm_S} {K K' : jm_O → Prop} {q0 : Nat} {x0 : Nat} {x1 : Nat} {x2 : Int32} {x3 : Int32} {x4 : Int32} (hr : Nat.ble (jm_cs r) 8 = true) (hcal : J g d 23 0 [some (aR 5 q0), some (aR 13 x0), some (aR 4 x1), some (aI x2), some (aI x3), some (aI x4), none] [] σ K') (hk : ∀ u, K' u → jm_aft g (d + 1) 62 96 L r u K) : J g (d + 1) 62 96 L (aI x4 :: aI x3 :: aI x2 :: aR 4 x1 :: aR 13 x0 :: aR 5 q0 :: r) σ K :=
  J_call' (id' := 23) jm_sk (vs := [aR 5 q0, aR 13 x0, aR 4 x1, aI x2, aI x3, aI x4]) (inv_V (id' := 23) d_G_reduce_96 ci_P wd_572 wd_416 wd_417 cw_P_come (by decide) pn_P_come) cw_P_come (by decide) (by decide) (Nat.le_of_ble_eq_true rfl) rfl hr rfl hcal hk
theorem r_G_reduce_99 {g : jm_G} {d : Nat} {L : List (Option jm_V)} {σ : jm_S} {K : jm_O → Prop} (hK : K (σ, .inl none)) : J g d 62 99 L [] σ K := J_vret d_G_reduce_99 rfl hK
