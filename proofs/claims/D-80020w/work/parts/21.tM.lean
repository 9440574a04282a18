-- IdealProverModel <init> (I)V
theorem d_M_init_0 : decode prog_12_method_1_code 0 = .ok (.aload_n 0, 1) := by decide +kernel
theorem d_M_init_1 : decode prog_12_method_1_code 1 = .ok (.invokespecial 1, 3) := by decide +kernel
theorem d_M_init_4 : decode prog_12_method_1_code 4 = .ok (.aload_n 0, 1) := by decide +kernel
theorem d_M_init_5 : decode prog_12_method_1_code 5 = .ok (.ldc 7, 2) := by decide +kernel
theorem d_M_init_7 : decode prog_12_method_1_code 7 = .ok (.newarray .int, 2) := by decide +kernel
theorem d_M_init_9 : decode prog_12_method_1_code 9 = .ok (.putfield 8, 3) := by decide +kernel
theorem d_M_init_12 : decode prog_12_method_1_code 12 = .ok (.aload_n 0, 1) := by decide +kernel
theorem d_M_init_13 : decode prog_12_method_1_code 13 = .ok (.ldc 7, 2) := by decide +kernel
theorem d_M_init_15 : decode prog_12_method_1_code 15 = .ok (.newarray .int, 2) := by decide +kernel
theorem d_M_init_17 : decode prog_12_method_1_code 17 = .ok (.putfield 14, 3) := by decide +kernel
theorem d_M_init_20 : decode prog_12_method_1_code 20 = .ok (.aload_n 0, 1) := by decide +kernel
theorem d_M_init_21 : decode prog_12_method_1_code 21 = .ok (.ldc 7, 2) := by decide +kernel
theorem d_M_init_23 : decode prog_12_method_1_code 23 = .ok (.newarray .int, 2) := by decide +kernel
theorem d_M_init_25 : decode prog_12_method_1_code 25 = .ok (.putfield 17, 3) := by decide +kernel
theorem d_M_init_28 : decode prog_12_method_1_code 28 = .ok (.aload_n 0, 1) := by decide +kernel
theorem d_M_init_29 : decode prog_12_method_1_code 29 = .ok (.sipush 372, 3) := by decide +kernel
theorem d_M_init_32 : decode prog_12_method_1_code 32 = .ok (.newarray .int, 2) := by decide +kernel
theorem d_M_init_34 : decode prog_12_method_1_code 34 = .ok (.putfield 20, 3) := by decide +kernel
theorem d_M_init_37 : decode prog_12_method_1_code 37 = .ok (.aload_n 0, 1) := by decide +kernel
theorem d_M_init_38 : decode prog_12_method_1_code 38 = .ok (.iconst 4, 1) := by decide +kernel
theorem d_M_init_39 : decode prog_12_method_1_code 39 = .ok (.newarray .int, 2) := by decide +kernel
theorem d_M_init_41 : decode prog_12_method_1_code 41 = .ok (.putfield 23, 3) := by decide +kernel
theorem d_M_init_44 : decode prog_12_method_1_code 44 = .ok (.aload_n 0, 1) := by decide +kernel
theorem d_M_init_45 : decode prog_12_method_1_code 45 = .ok (.iconst 4, 1) := by decide +kernel
theorem d_M_init_46 : decode prog_12_method_1_code 46 = .ok (.newarray .int, 2) := by decide +kernel
theorem d_M_init_48 : decode prog_12_method_1_code 48 = .ok (.putfield 26, 3) := by decide +kernel
theorem d_M_init_51 : decode prog_12_method_1_code 51 = .ok (.aload_n 0, 1) := by decide +kernel
theorem d_M_init_52 : decode prog_12_method_1_code 52 = .ok (.sipush 625, 3) := by decide +kernel
theorem d_M_init_55 : decode prog_12_method_1_code 55 = .ok (.newarray .boolean, 2) := by decide +kernel
theorem d_M_init_57 : decode prog_12_method_1_code 57 = .ok (.putfield 29, 3) := by decide +kernel
theorem d_M_init_60 : decode prog_12_method_1_code 60 = .ok (.aload_n 0, 1) := by decide +kernel
theorem d_M_init_61 : decode prog_12_method_1_code 61 = .ok (.bipush 25, 2) := by decide +kernel
theorem d_M_init_63 : decode prog_12_method_1_code 63 = .ok (.newarray .boolean, 2) := by decide +kernel
theorem d_M_init_65 : decode prog_12_method_1_code 65 = .ok (.putfield 33, 3) := by decide +kernel
theorem d_M_init_68 : decode prog_12_method_1_code 68 = .ok (.aload_n 0, 1) := by decide +kernel
theorem d_M_init_69 : decode prog_12_method_1_code 69 = .ok (.iload_n 1, 1) := by decide +kernel
theorem d_M_init_70 : decode prog_12_method_1_code 70 = .ok (.iconst 1, 1) := by decide +kernel
theorem d_M_init_71 : decode prog_12_method_1_code 71 = .ok (.if_icmp .ge 7, 3) := by decide +kernel
theorem d_M_init_74 : decode prog_12_method_1_code 74 = .ok (.iconst 1, 1) := by decide +kernel
theorem d_M_init_75 : decode prog_12_method_1_code 75 = .ok (.goto 13, 3) := by decide +kernel
theorem d_M_init_78 : decode prog_12_method_1_code 78 = .ok (.iload_n 1, 1) := by decide +kernel
theorem d_M_init_79 : decode prog_12_method_1_code 79 = .ok (.iconst 4, 1) := by decide +kernel
theorem d_M_init_80 : decode prog_12_method_1_code 80 = .ok (.if_icmp .le 7, 3) := by decide +kernel
theorem d_M_init_83 : decode prog_12_method_1_code 83 = .ok (.iconst 4, 1) := by decide +kernel
theorem d_M_init_84 : decode prog_12_method_1_code 84 = .ok (.goto 4, 3) := by decide +kernel
theorem d_M_init_87 : decode prog_12_method_1_code 87 = .ok (.iload_n 1, 1) := by decide +kernel
theorem d_M_init_88 : decode prog_12_method_1_code 88 = .ok (.putfield 36, 3) := by decide +kernel
theorem d_M_init_91 : decode prog_12_method_1_code 91 = .ok (.aload_n 0, 1) := by decide +kernel
theorem d_M_init_92 : decode prog_12_method_1_code 92 = .ok (.aload_n 0, 1) := by decide +kernel
theorem d_M_init_93 : decode prog_12_method_1_code 93 = .ok (.getfield 36, 3) := by decide +kernel
theorem d_M_init_96 : decode prog_12_method_1_code 96 = .ok (.putfield 40, 3) := by decide +kernel
theorem d_M_init_99 : decode prog_12_method_1_code 99 = .ok (.return_, 1) := by decide +kernel
def tb_M_init_0 : List (Nat × jm_Op) := [(0, oAl 0 1), (1, oObj 4), (4, oAl 0 5), (5, oC 37200 7), (7, oNa 8 9), (9, oPr 6 3 8 12), (12, oAl 0 13), (13, oC 37200 15), (15, oNa 8 17), (17, oPr 6 4 8 20), (20, oAl 0 21), (21, oC 37200 23), (23, oNa 8 25), (25, oPr 6 5 8 28), (28, oAl 0 29), (29, oC 372 32), (32, oNa 8 34), (34, oPr 6 6 8 37), (37, oAl 0 38), (38, oC 4 39), (39, oNa 8 41), (41, oPr 6 15 8 44), (44, oAl 0 45), (45, oC 4 46), (46, oNa 8 48), (48, oPr 6 18 8 51), (51, oAl 0 52), (52, oC 625 55), (55, oNa 9 57), (57, oPr 6 23 9 60), (60, oAl 0 61), (61, oC 25 63), (63, oNa 9 65), (65, oPr 6 27 9 68), (68, oAl 0 69), (69, oIl 1 70), (70, oC 1 71), (71, oIcGe 78 74), (74, oC 1 75), (75, oGo 88), (78, oIl 1 79), (79, oC 4 80), (80, oIcLe 87 83), (83, oC 4 84), (84, oGo 88), (87, oIl 1 88), (88, oPi 6 0 91), (91, oAl 0 92), (92, oAl 0 93), (93, oGi 6 0 96)]
theorem ok_M_init_0 : jm_all 75 tb_M_init_0 := ⟨s_aload_n d_M_init_0 rfl, s_objInit d_M_init_1 wd_649 wd_73 wd_74, s_aload_n d_M_init_4 rfl, s_ldc d_M_init_5 wd_650, s_newarrayI d_M_init_7 wd_121, s_putrF d_M_init_9 ci_M rfl (fun _ => ⟨rfl, rfl⟩) rfl rfl rfl wd_654, s_aload_n d_M_init_12 rfl, s_ldc d_M_init_13 wd_650, s_newarrayI d_M_init_15 wd_121, s_putrF d_M_init_17 ci_M rfl (fun _ => ⟨rfl, rfl⟩) rfl rfl rfl wd_655, s_aload_n d_M_init_20 rfl, s_ldc d_M_init_21 wd_650, s_newarrayI d_M_init_23 wd_121, s_putrF d_M_init_25 ci_M rfl (fun _ => ⟨rfl, rfl⟩) rfl rfl rfl wd_656, s_aload_n d_M_init_28 rfl, s_sipush d_M_init_29 (by decide), s_newarrayI d_M_init_32 wd_121, s_putrF d_M_init_34 ci_M rfl (fun _ => ⟨rfl, rfl⟩) rfl rfl rfl wd_657, s_aload_n d_M_init_37 rfl, s_iconst d_M_init_38 (by decide), s_newarrayI d_M_init_39 wd_121, s_putrF d_M_init_41 ci_M rfl (fun _ => ⟨rfl, rfl⟩) rfl rfl rfl wd_666, s_aload_n d_M_init_44 rfl, s_iconst d_M_init_45 (by decide), s_newarrayI d_M_init_46 wd_121, s_putrF d_M_init_48 ci_M rfl (fun _ => ⟨rfl, rfl⟩) rfl rfl rfl wd_669, s_aload_n d_M_init_51 rfl, s_sipush d_M_init_52 (by decide), s_newarrayZ d_M_init_55 wd_171, s_putrF d_M_init_57 ci_M rfl (fun _ => ⟨rfl, rfl⟩) rfl rfl rfl wd_674, s_aload_n d_M_init_60 rfl, s_bipush d_M_init_61 (by decide), s_newarrayZ d_M_init_63 wd_171, s_putrF d_M_init_65 ci_M rfl (fun _ => ⟨rfl, rfl⟩) rfl rfl rfl wd_678, s_aload_n d_M_init_68 rfl, s_iload_n d_M_init_69 rfl, s_iconst d_M_init_70 (by decide), s_icmp_ge d_M_init_71 (by decide), s_iconst d_M_init_74 (by decide), s_goto d_M_init_75 (by decide), s_iload_n d_M_init_78 rfl, s_iconst d_M_init_79 (by decide), s_icmp_le d_M_init_80 (by decide), s_iconst d_M_init_83 (by decide), s_goto d_M_init_84 (by decide), s_iload_n d_M_init_87 rfl, s_putiF d_M_init_88 ci_M rfl rfl rfl rfl rfl wd_651, s_aload_n d_M_init_91 rfl, s_aload_n d_M_init_92 rfl, s_geti d_M_init_93 ci_M rfl wd_651, trivial⟩
def tb_M_init_1 : List (Nat × jm_Op) := [(96, oPi 6 1 99)]
theorem ok_M_init_1 : jm_all 75 tb_M_init_1 := ⟨s_puti d_M_init_96 ci_M rfl rfl rfl wd_652, trivial⟩
def tb_M_init : List (Nat × jm_Op) := tb_M_init_0 ++ tb_M_init_1
theorem ok_M_init : jm_all 75 tb_M_init := jm_all_app ok_M_init_0 ok_M_init_1
theorem r_M_init_99 {g : jm_G} {d : Nat} {L : List (Option jm_V)} {σ : jm_S} {K : jm_O → Prop} (hK : K (σ, .inl none)) : J g d 75 99 L [] σ K := J_vret d_M_init_99 rfl hK
-- IdealProverModel variables ()I
theorem d_M_variables_0 : decode prog_12_method_2_code 0 = .ok (.aload_n 0, 1) := by decide +kernel
theorem d_M_variables_1 : decode prog_12_method_2_code 1 = .ok (.getfield 36, 3) := by decide +kernel
theorem d_M_variables_4 : decode prog_12_method_2_code 4 = .ok (.ireturn, 1) := by decide +kernel
def tb_M_variables : List (Nat × jm_Op) := [(0, oAl 0 1), (1, oGi 6 0 4)]
theorem ok_M_variables : jm_all 76 tb_M_variables := ⟨s_aload_n d_M_variables_0 rfl, s_geti d_M_variables_1 ci_M rfl wd_651, trivial⟩
theorem r_M_variables_4 {g : jm_G} {d : Nat} {L : List (Option jm_V)} {σ : jm_S} {K : jm_O → Prop} {v : Int32} (hK : K (σ, .inl (some (aI v)))) : J g d 76 4 L [aI v] σ K := J_iret d_M_variables_4 rfl hK
-- IdealProverModel order (I)I
theorem d_M_order_0 : decode prog_12_method_18_code 0 = .ok (.iload_n 1, 1) := by decide +kernel
theorem d_M_order_1 : decode prog_12_method_18_code 1 = .ok (.ifCond .lt 8, 3) := by decide +kernel
theorem d_M_order_4 : decode prog_12_method_18_code 4 = .ok (.iload_n 1, 1) := by decide +kernel
theorem d_M_order_5 : decode prog_12_method_18_code 5 = .ok (.iconst 2, 1) := by decide +kernel
theorem d_M_order_6 : decode prog_12_method_18_code 6 = .ok (.if_icmp .le 6, 3) := by decide +kernel
theorem d_M_order_9 : decode prog_12_method_18_code 9 = .ok (.bipush (-2), 2) := by decide +kernel
theorem d_M_order_11 : decode prog_12_method_18_code 11 = .ok (.ireturn, 1) := by decide +kernel
theorem d_M_order_12 : decode prog_12_method_18_code 12 = .ok (.aload_n 0, 1) := by decide +kernel
theorem d_M_order_13 : decode prog_12_method_18_code 13 = .ok (.getfield 47, 3) := by decide +kernel
theorem d_M_order_16 : decode prog_12_method_18_code 16 = .ok (.istore_n 2, 1) := by decide +kernel
theorem d_M_order_17 : decode prog_12_method_18_code 17 = .ok (.aload_n 0, 1) := by decide +kernel
theorem d_M_order_18 : decode prog_12_method_18_code 18 = .ok (.iload_n 1, 1) := by decide +kernel
theorem d_M_order_19 : decode prog_12_method_18_code 19 = .ok (.putfield 47, 3) := by decide +kernel
theorem d_M_order_22 : decode prog_12_method_18_code 22 = .ok (.iconst 0, 1) := by decide +kernel
theorem d_M_order_23 : decode prog_12_method_18_code 23 = .ok (.istore_n 3, 1) := by decide +kernel
theorem d_M_order_24 : decode prog_12_method_18_code 24 = .ok (.iload_n 3, 1) := by decide +kernel
theorem d_M_order_25 : decode prog_12_method_18_code 25 = .ok (.bipush 40, 2) := by decide +kernel
theorem d_M_order_27 : decode prog_12_method_18_code 27 = .ok (.aload_n 0, 1) := by decide +kernel
theorem d_M_order_28 : decode prog_12_method_18_code 28 = .ok (.getfield 90, 3) := by decide +kernel
theorem d_M_order_31 : decode prog_12_method_18_code 31 = .ok (.iadd, 1) := by decide +kernel
theorem d_M_order_32 : decode prog_12_method_18_code 32 = .ok (.if_icmp .ge 14, 3) := by decide +kernel
theorem d_M_order_35 : decode prog_12_method_18_code 35 = .ok (.aload_n 0, 1) := by decide +kernel
theorem d_M_order_36 : decode prog_12_method_18_code 36 = .ok (.iload_n 3, 1) := by decide +kernel
theorem d_M_order_37 : decode prog_12_method_18_code 37 = .ok (.invokevirtual 93, 3) := by decide +kernel
theorem d_M_order_40 : decode prog_12_method_18_code 40 = .ok (.iinc 3 1, 3) := by decide +kernel
theorem d_M_order_43 : decode prog_12_method_18_code 43 = .ok (.goto (-19), 3) := by decide +kernel
theorem d_M_order_46 : decode prog_12_method_18_code 46 = .ok (.aload_n 0, 1) := by decide +kernel
theorem d_M_order_47 : decode prog_12_method_18_code 47 = .ok (.iconst 0, 1) := by decide +kernel
theorem d_M_order_48 : decode prog_12_method_18_code 48 = .ok (.putfield 97, 3) := by decide +kernel
theorem d_M_order_51 : decode prog_12_method_18_code 51 = .ok (.iload_n 2, 1) := by decide +kernel
theorem d_M_order_52 : decode prog_12_method_18_code 52 = .ok (.ireturn, 1) := by decide +kernel
def tb_M_order : List (Nat × jm_Op) := [(0, oIl 1 1), (1, oIfLt 9 4), (4, oIl 1 5), (5, oC 2 6), (6, oIcLe 12 9), (9, oC (-2) 11), (12, oAl 0 13), (13, oGi 6 2 16), (16, oIs 2 17), (17, oAl 0 18), (18, oIl 1 19), (19, oPi 6 2 22), (22, oC 0 23), (23, oIs 3 24), (24, oIl 3 25), (25, oC 40 27), (27, oAl 0 28), (28, oGi 6 7 31), (31, oAdd 32), (32, oIcGe 46 35), (35, oAl 0 36), (36, oIl 3 37), (40, oInc 3 1 43), (43, oGo 24), (46, oAl 0 47), (47, oC 0 48), (48, oPz 6 9 51), (51, oIl 2 52)]
theorem ok_M_order : jm_all 77 tb_M_order := ⟨s_iload_n d_M_order_0 rfl, s_if_lt d_M_order_1 (by decide), s_iload_n d_M_order_4 rfl, s_iconst d_M_order_5 (by decide), s_icmp_le d_M_order_6 (by decide), s_bipush d_M_order_9 (by decide), s_aload_n d_M_order_12 rfl, s_geti d_M_order_13 ci_M rfl wd_653, s_istore_n d_M_order_16 rfl (by decide), s_aload_n d_M_order_17 rfl, s_iload_n d_M_order_18 rfl, s_puti d_M_order_19 ci_M rfl rfl rfl wd_653, s_iconst d_M_order_22 (by decide), s_istore_n d_M_order_23 rfl (by decide), s_iload_n d_M_order_24 rfl, s_bipush d_M_order_25 (by decide), s_aload_n d_M_order_27 rfl, s_geti d_M_order_28 ci_M rfl wd_658, s_iadd d_M_order_31, s_icmp_ge d_M_order_32 (by decide), s_aload_n d_M_order_35 rfl, s_iload_n d_M_order_36 rfl, s_iinc d_M_order_40 (by decide) (by decide), s_goto d_M_order_43 (by decide), s_aload_n d_M_order_46 rfl, s_iconst d_M_order_47 (by decide), s_putz d_M_order_48 ci_M rfl rfl rfl wd_660, s_iload_n d_M_order_51 rfl, trivial⟩
theorem r_M_order_11 {g : jm_G} {d : Nat} {L : List (Option jm_V)} {σ : jm_S} {K : jm_O → Prop} {v : Int32} (hK : K (σ, .inl (some (aI v)))) : J g d 77 11 L [aI v] σ K := J_iret d_M_order_11 rfl hK
theorem k_M_order_37 {g : jm_G} {d : Nat} {L : List (Option jm_V)} {r : List jm_V} {σ : jm_S} {K K' : jm_O → Prop} {q0 : Nat} {x0 : Int32} (hr : Nat.ble (jm_cs r) 8 = true) (hcal : J g d 78 0 [some (aR 6 q0), some (aI x0), none, none, none, none, none, none] [] σ K') (hk : ∀ u, K' u → jm_aft g (d + 1) 77 37 L r u K) : J g (d + 1) 77 37 L (aI x0 :: aR 6 q0 :: r) σ K :=
  J_call' (id' := 78) jm_sk (vs := [aR 6 q0, aI x0]) (inv_V (id' := 78) d_M_order_37 ci_M wd_744 wd_746 wd_23 cw_M_sorted (by decide) pn_M_sorted) cw_M_sorted (by decide) (by decide) (Nat.le_of_ble_eq_true rfl) rfl hr rfl hcal hk
theorem r_M_order_52 {g : jm_G} {d : Nat} {L : List (Option jm_V)} {σ : jm_S} {K : jm_O → Prop} {v : Int32} (hK : K (σ, .inl (some (aI v)))) : J g d 77 52 L [aI v] σ K := J_iret d_M_order_52 rfl hK
-- IdealProverModel sorted (I)V
theorem d_M_sorted_0 : decode prog_12_method_17_code 0 = .ok (.iconst 1, 1) := by decide +kernel
theorem d_M_sorted_1 : decode prog_12_method_17_code 1 = .ok (.istore_n 2, 1) := by decide +kernel
theorem d_M_sorted_2 : decode prog_12_method_17_code 2 = .ok (.iload_n 2, 1) := by decide +kernel
theorem d_M_sorted_3 : decode prog_12_method_17_code 3 = .ok (.aload_n 0, 1) := by decide +kernel
theorem d_M_sorted_4 : decode prog_12_method_17_code 4 = .ok (.getfield 20, 3) := by decide +kernel
theorem d_M_sorted_7 : decode prog_12_method_17_code 7 = .ok (.iload_n 1, 1) := by decide +kernel
theorem d_M_sorted_8 : decode prog_12_method_17_code 8 = .ok (.iaload, 1) := by decide +kernel
theorem d_M_sorted_9 : decode prog_12_method_17_code 9 = .ok (.if_icmp .ge 168, 3) := by decide +kernel
theorem d_M_sorted_12 : decode prog_12_method_17_code 12 = .ok (.iload_n 2, 1) := by decide +kernel
theorem d_M_sorted_13 : decode prog_12_method_17_code 13 = .ok (.istore_n 3, 1) := by decide +kernel
theorem d_M_sorted_14 : decode prog_12_method_17_code 14 = .ok (.iload_n 3, 1) := by decide +kernel
theorem d_M_sorted_15 : decode prog_12_method_17_code 15 = .ok (.ifCond .le 156, 3) := by decide +kernel
theorem d_M_sorted_18 : decode prog_12_method_17_code 18 = .ok (.aload_n 0, 1) := by decide +kernel
theorem d_M_sorted_19 : decode prog_12_method_17_code 19 = .ok (.aload_n 0, 1) := by decide +kernel
theorem d_M_sorted_20 : decode prog_12_method_17_code 20 = .ok (.getfield 17, 3) := by decide +kernel
theorem d_M_sorted_23 : decode prog_12_method_17_code 23 = .ok (.bipush 100, 2) := by decide +kernel
theorem d_M_sorted_25 : decode prog_12_method_17_code 25 = .ok (.iload_n 1, 1) := by decide +kernel
theorem d_M_sorted_26 : decode prog_12_method_17_code 26 = .ok (.imul, 1) := by decide +kernel
theorem d_M_sorted_27 : decode prog_12_method_17_code 27 = .ok (.iload_n 3, 1) := by decide +kernel
theorem d_M_sorted_28 : decode prog_12_method_17_code 28 = .ok (.iadd, 1) := by decide +kernel
theorem d_M_sorted_29 : decode prog_12_method_17_code 29 = .ok (.iconst 1, 1) := by decide +kernel
theorem d_M_sorted_30 : decode prog_12_method_17_code 30 = .ok (.isub, 1) := by decide +kernel
theorem d_M_sorted_31 : decode prog_12_method_17_code 31 = .ok (.iaload, 1) := by decide +kernel
theorem d_M_sorted_32 : decode prog_12_method_17_code 32 = .ok (.aload_n 0, 1) := by decide +kernel
theorem d_M_sorted_33 : decode prog_12_method_17_code 33 = .ok (.getfield 17, 3) := by decide +kernel
theorem d_M_sorted_36 : decode prog_12_method_17_code 36 = .ok (.bipush 100, 2) := by decide +kernel
theorem d_M_sorted_38 : decode prog_12_method_17_code 38 = .ok (.iload_n 1, 1) := by decide +kernel
theorem d_M_sorted_39 : decode prog_12_method_17_code 39 = .ok (.imul, 1) := by decide +kernel
theorem d_M_sorted_40 : decode prog_12_method_17_code 40 = .ok (.iload_n 3, 1) := by decide +kernel
theorem d_M_sorted_41 : decode prog_12_method_17_code 41 = .ok (.iadd, 1) := by decide +kernel
theorem d_M_sorted_42 : decode prog_12_method_17_code 42 = .ok (.iaload, 1) := by decide +kernel
theorem d_M_sorted_43 : decode prog_12_method_17_code 43 = .ok (.invokevirtual 72, 3) := by decide +kernel
theorem d_M_sorted_46 : decode prog_12_method_17_code 46 = .ok (.ifCond .ge 125, 3) := by decide +kernel
theorem d_M_sorted_49 : decode prog_12_method_17_code 49 = .ok (.bipush 100, 2) := by decide +kernel
theorem d_M_sorted_51 : decode prog_12_method_17_code 51 = .ok (.iload_n 1, 1) := by decide +kernel
theorem d_M_sorted_52 : decode prog_12_method_17_code 52 = .ok (.imul, 1) := by decide +kernel
theorem d_M_sorted_53 : decode prog_12_method_17_code 53 = .ok (.iload_n 3, 1) := by decide +kernel
theorem d_M_sorted_54 : decode prog_12_method_17_code 54 = .ok (.iadd, 1) := by decide +kernel
theorem d_M_sorted_55 : decode prog_12_method_17_code 55 = .ok (.istore 4, 2) := by decide +kernel
theorem d_M_sorted_57 : decode prog_12_method_17_code 57 = .ok (.aload_n 0, 1) := by decide +kernel
theorem d_M_sorted_58 : decode prog_12_method_17_code 58 = .ok (.getfield 8, 3) := by decide +kernel
theorem d_M_sorted_61 : decode prog_12_method_17_code 61 = .ok (.iload 4, 2) := by decide +kernel
theorem d_M_sorted_63 : decode prog_12_method_17_code 63 = .ok (.iaload, 1) := by decide +kernel
theorem d_M_sorted_64 : decode prog_12_method_17_code 64 = .ok (.istore 5, 2) := by decide +kernel
theorem d_M_sorted_66 : decode prog_12_method_17_code 66 = .ok (.aload_n 0, 1) := by decide +kernel
theorem d_M_sorted_67 : decode prog_12_method_17_code 67 = .ok (.getfield 14, 3) := by decide +kernel
theorem d_M_sorted_70 : decode prog_12_method_17_code 70 = .ok (.iload 4, 2) := by decide +kernel
theorem d_M_sorted_72 : decode prog_12_method_17_code 72 = .ok (.iaload, 1) := by decide +kernel
theorem d_M_sorted_73 : decode prog_12_method_17_code 73 = .ok (.istore 6, 2) := by decide +kernel
theorem d_M_sorted_75 : decode prog_12_method_17_code 75 = .ok (.aload_n 0, 1) := by decide +kernel
theorem d_M_sorted_76 : decode prog_12_method_17_code 76 = .ok (.getfield 17, 3) := by decide +kernel
theorem d_M_sorted_79 : decode prog_12_method_17_code 79 = .ok (.iload 4, 2) := by decide +kernel
theorem d_M_sorted_81 : decode prog_12_method_17_code 81 = .ok (.iaload, 1) := by decide +kernel
theorem d_M_sorted_82 : decode prog_12_method_17_code 82 = .ok (.istore 7, 2) := by decide +kernel
theorem d_M_sorted_84 : decode prog_12_method_17_code 84 = .ok (.aload_n 0, 1) := by decide +kernel
theorem d_M_sorted_85 : decode prog_12_method_17_code 85 = .ok (.getfield 8, 3) := by decide +kernel
theorem d_M_sorted_88 : decode prog_12_method_17_code 88 = .ok (.iload 4, 2) := by decide +kernel
theorem d_M_sorted_90 : decode prog_12_method_17_code 90 = .ok (.aload_n 0, 1) := by decide +kernel
theorem d_M_sorted_91 : decode prog_12_method_17_code 91 = .ok (.getfield 8, 3) := by decide +kernel
theorem d_M_sorted_94 : decode prog_12_method_17_code 94 = .ok (.iload 4, 2) := by decide +kernel
theorem d_M_sorted_96 : decode prog_12_method_17_code 96 = .ok (.iconst 1, 1) := by decide +kernel
theorem d_M_sorted_97 : decode prog_12_method_17_code 97 = .ok (.isub, 1) := by decide +kernel
theorem d_M_sorted_98 : decode prog_12_method_17_code 98 = .ok (.iaload, 1) := by decide +kernel
theorem d_M_sorted_99 : decode prog_12_method_17_code 99 = .ok (.iastore, 1) := by decide +kernel
theorem d_M_sorted_100 : decode prog_12_method_17_code 100 = .ok (.aload_n 0, 1) := by decide +kernel
theorem d_M_sorted_101 : decode prog_12_method_17_code 101 = .ok (.getfield 14, 3) := by decide +kernel
theorem d_M_sorted_104 : decode prog_12_method_17_code 104 = .ok (.iload 4, 2) := by decide +kernel
theorem d_M_sorted_106 : decode prog_12_method_17_code 106 = .ok (.aload_n 0, 1) := by decide +kernel
theorem d_M_sorted_107 : decode prog_12_method_17_code 107 = .ok (.getfield 14, 3) := by decide +kernel
theorem d_M_sorted_110 : decode prog_12_method_17_code 110 = .ok (.iload 4, 2) := by decide +kernel
theorem d_M_sorted_112 : decode prog_12_method_17_code 112 = .ok (.iconst 1, 1) := by decide +kernel
theorem d_M_sorted_113 : decode prog_12_method_17_code 113 = .ok (.isub, 1) := by decide +kernel
theorem d_M_sorted_114 : decode prog_12_method_17_code 114 = .ok (.iaload, 1) := by decide +kernel
theorem d_M_sorted_115 : decode prog_12_method_17_code 115 = .ok (.iastore, 1) := by decide +kernel
theorem d_M_sorted_116 : decode prog_12_method_17_code 116 = .ok (.aload_n 0, 1) := by decide +kernel
theorem d_M_sorted_117 : decode prog_12_method_17_code 117 = .ok (.getfield 17, 3) := by decide +kernel
theorem d_M_sorted_120 : decode prog_12_method_17_code 120 = .ok (.iload 4, 2) := by decide +kernel
theorem d_M_sorted_122 : decode prog_12_method_17_code 122 = .ok (.aload_n 0, 1) := by decide +kernel
theorem d_M_sorted_123 : decode prog_12_method_17_code 123 = .ok (.getfield 17, 3) := by decide +kernel
theorem d_M_sorted_126 : decode prog_12_method_17_code 126 = .ok (.iload 4, 2) := by decide +kernel
theorem d_M_sorted_128 : decode prog_12_method_17_code 128 = .ok (.iconst 1, 1) := by decide +kernel
theorem d_M_sorted_129 : decode prog_12_method_17_code 129 = .ok (.isub, 1) := by decide +kernel
theorem d_M_sorted_130 : decode prog_12_method_17_code 130 = .ok (.iaload, 1) := by decide +kernel
theorem d_M_sorted_131 : decode prog_12_method_17_code 131 = .ok (.iastore, 1) := by decide +kernel
theorem d_M_sorted_132 : decode prog_12_method_17_code 132 = .ok (.aload_n 0, 1) := by decide +kernel
theorem d_M_sorted_133 : decode prog_12_method_17_code 133 = .ok (.getfield 8, 3) := by decide +kernel
theorem d_M_sorted_136 : decode prog_12_method_17_code 136 = .ok (.iload 4, 2) := by decide +kernel
theorem d_M_sorted_138 : decode prog_12_method_17_code 138 = .ok (.iconst 1, 1) := by decide +kernel
theorem d_M_sorted_139 : decode prog_12_method_17_code 139 = .ok (.isub, 1) := by decide +kernel
theorem d_M_sorted_140 : decode prog_12_method_17_code 140 = .ok (.iload 5, 2) := by decide +kernel
theorem d_M_sorted_142 : decode prog_12_method_17_code 142 = .ok (.iastore, 1) := by decide +kernel
theorem d_M_sorted_143 : decode prog_12_method_17_code 143 = .ok (.aload_n 0, 1) := by decide +kernel
theorem d_M_sorted_144 : decode prog_12_method_17_code 144 = .ok (.getfield 14, 3) := by decide +kernel
theorem d_M_sorted_147 : decode prog_12_method_17_code 147 = .ok (.iload 4, 2) := by decide +kernel
theorem d_M_sorted_149 : decode prog_12_method_17_code 149 = .ok (.iconst 1, 1) := by decide +kernel
theorem d_M_sorted_150 : decode prog_12_method_17_code 150 = .ok (.isub, 1) := by decide +kernel
theorem d_M_sorted_151 : decode prog_12_method_17_code 151 = .ok (.iload 6, 2) := by decide +kernel
theorem d_M_sorted_153 : decode prog_12_method_17_code 153 = .ok (.iastore, 1) := by decide +kernel
theorem d_M_sorted_154 : decode prog_12_method_17_code 154 = .ok (.aload_n 0, 1) := by decide +kernel
theorem d_M_sorted_155 : decode prog_12_method_17_code 155 = .ok (.getfield 17, 3) := by decide +kernel
theorem d_M_sorted_158 : decode prog_12_method_17_code 158 = .ok (.iload 4, 2) := by decide +kernel
theorem d_M_sorted_160 : decode prog_12_method_17_code 160 = .ok (.iconst 1, 1) := by decide +kernel
theorem d_M_sorted_161 : decode prog_12_method_17_code 161 = .ok (.isub, 1) := by decide +kernel
theorem d_M_sorted_162 : decode prog_12_method_17_code 162 = .ok (.iload 7, 2) := by decide +kernel
theorem d_M_sorted_164 : decode prog_12_method_17_code 164 = .ok (.iastore, 1) := by decide +kernel
theorem d_M_sorted_165 : decode prog_12_method_17_code 165 = .ok (.iinc 3 (-1), 3) := by decide +kernel
theorem d_M_sorted_168 : decode prog_12_method_17_code 168 = .ok (.goto (-154), 3) := by decide +kernel
theorem d_M_sorted_171 : decode prog_12_method_17_code 171 = .ok (.iinc 2 1, 3) := by decide +kernel
theorem d_M_sorted_174 : decode prog_12_method_17_code 174 = .ok (.goto (-172), 3) := by decide +kernel
theorem d_M_sorted_177 : decode prog_12_method_17_code 177 = .ok (.return_, 1) := by decide +kernel
def tb_M_sorted_0 : List (Nat × jm_Op) := [(0, oC 1 1), (1, oIs 2 2), (2, oIl 2 3), (3, oAl 0 4), (4, oGr 6 6 8 7), (7, oIl 1 8), (8, oIa 9), (9, oIcGe 177 12), (12, oIl 2 13), (13, oIs 3 14), (14, oIl 3 15), (15, oIfLe 171 18), (18, oAl 0 19), (19, oAl 0 20), (20, oGr 6 5 8 23), (23, oC 100 25), (25, oIl 1 26), (26, oMul 27), (27, oIl 3 28), (28, oAdd 29), (29, oC 1 30), (30, oSub 31), (31, oIa 32), (32, oAl 0 33), (33, oGr 6 5 8 36), (36, oC 100 38), (38, oIl 1 39), (39, oMul 40), (40, oIl 3 41), (41, oAdd 42), (42, oIa 43), (46, oIfGe 171 49), (49, oC 100 51), (51, oIl 1 52), (52, oMul 53), (53, oIl 3 54), (54, oAdd 55), (55, oIs 4 57), (57, oAl 0 58), (58, oGr 6 3 8 61), (61, oIl 4 63), (63, oIa 64), (64, oIs 5 66), (66, oAl 0 67), (67, oGr 6 4 8 70), (70, oIl 4 72), (72, oIa 73), (73, oIs 6 75), (75, oAl 0 76), (76, oGr 6 5 8 79)]
theorem ok_M_sorted_0 : jm_all 78 tb_M_sorted_0 := ⟨s_iconst d_M_sorted_0 (by decide), s_istore_n d_M_sorted_1 rfl (by decide), s_iload_n d_M_sorted_2 rfl, s_aload_n d_M_sorted_3 rfl, s_getr d_M_sorted_4 ci_M rfl wd_657, s_iload_n d_M_sorted_7 rfl, s_iaload d_M_sorted_8, s_icmp_ge d_M_sorted_9 (by decide), s_iload_n d_M_sorted_12 rfl, s_istore_n d_M_sorted_13 rfl (by decide), s_iload_n d_M_sorted_14 rfl, s_if_le d_M_sorted_15 (by decide), s_aload_n d_M_sorted_18 rfl, s_aload_n d_M_sorted_19 rfl, s_getr d_M_sorted_20 ci_M rfl wd_656, s_bipush d_M_sorted_23 (by decide), s_iload_n d_M_sorted_25 rfl, s_imul d_M_sorted_26, s_iload_n d_M_sorted_27 rfl, s_iadd d_M_sorted_28, s_iconst d_M_sorted_29 (by decide), s_isub d_M_sorted_30, s_iaload d_M_sorted_31, s_aload_n d_M_sorted_32 rfl, s_getr d_M_sorted_33 ci_M rfl wd_656, s_bipush d_M_sorted_36 (by decide), s_iload_n d_M_sorted_38 rfl, s_imul d_M_sorted_39, s_iload_n d_M_sorted_40 rfl, s_iadd d_M_sorted_41, s_iaload d_M_sorted_42, s_if_ge d_M_sorted_46 (by decide), s_bipush d_M_sorted_49 (by decide), s_iload_n d_M_sorted_51 rfl, s_imul d_M_sorted_52, s_iload_n d_M_sorted_53 rfl, s_iadd d_M_sorted_54, s_istore d_M_sorted_55 (by decide), s_aload_n d_M_sorted_57 rfl, s_getr d_M_sorted_58 ci_M rfl wd_654, s_iload d_M_sorted_61, s_iaload d_M_sorted_63, s_istore d_M_sorted_64 (by decide), s_aload_n d_M_sorted_66 rfl, s_getr d_M_sorted_67 ci_M rfl wd_655, s_iload d_M_sorted_70, s_iaload d_M_sorted_72, s_istore d_M_sorted_73 (by decide), s_aload_n d_M_sorted_75 rfl, s_getr d_M_sorted_76 ci_M rfl wd_656, trivial⟩
def tb_M_sorted_1 : List (Nat × jm_Op) := [(79, oIl 4 81), (81, oIa 82), (82, oIs 7 84), (84, oAl 0 85), (85, oGr 6 3 8 88), (88, oIl 4 90), (90, oAl 0 91), (91, oGr 6 3 8 94), (94, oIl 4 96), (96, oC 1 97), (97, oSub 98), (98, oIa 99), (99, oIw 100), (100, oAl 0 101), (101, oGr 6 4 8 104), (104, oIl 4 106), (106, oAl 0 107), (107, oGr 6 4 8 110), (110, oIl 4 112), (112, oC 1 113), (113, oSub 114), (114, oIa 115), (115, oIw 116), (116, oAl 0 117), (117, oGr 6 5 8 120), (120, oIl 4 122), (122, oAl 0 123), (123, oGr 6 5 8 126), (126, oIl 4 128), (128, oC 1 129), (129, oSub 130), (130, oIa 131), (131, oIw 132), (132, oAl 0 133), (133, oGr 6 3 8 136), (136, oIl 4 138), (138, oC 1 139), (139, oSub 140), (140, oIl 5 142), (142, oIw 143), (143, oAl 0 144), (144, oGr 6 4 8 147), (147, oIl 4 149), (149, oC 1 150), (150, oSub 151), (151, oIl 6 153), (153, oIw 154), (154, oAl 0 155), (155, oGr 6 5 8 158), (158, oIl 4 160)]
theorem ok_M_sorted_1 : jm_all 78 tb_M_sorted_1 := ⟨s_iload d_M_sorted_79, s_iaload d_M_sorted_81, s_istore d_M_sorted_82 (by decide), s_aload_n d_M_sorted_84 rfl, s_getr d_M_sorted_85 ci_M rfl wd_654, s_iload d_M_sorted_88, s_aload_n d_M_sorted_90 rfl, s_getr d_M_sorted_91 ci_M rfl wd_654, s_iload d_M_sorted_94, s_iconst d_M_sorted_96 (by decide), s_isub d_M_sorted_97, s_iaload d_M_sorted_98, s_iastore d_M_sorted_99, s_aload_n d_M_sorted_100 rfl, s_getr d_M_sorted_101 ci_M rfl wd_655, s_iload d_M_sorted_104, s_aload_n d_M_sorted_106 rfl, s_getr d_M_sorted_107 ci_M rfl wd_655, s_iload d_M_sorted_110, s_iconst d_M_sorted_112 (by decide), s_isub d_M_sorted_113, s_iaload d_M_sorted_114, s_iastore d_M_sorted_115, s_aload_n d_M_sorted_116 rfl, s_getr d_M_sorted_117 ci_M rfl wd_656, s_iload d_M_sorted_120, s_aload_n d_M_sorted_122 rfl, s_getr d_M_sorted_123 ci_M rfl wd_656, s_iload d_M_sorted_126, s_iconst d_M_sorted_128 (by decide), s_isub d_M_sorted_129, s_iaload d_M_sorted_130, s_iastore d_M_sorted_131, s_aload_n d_M_sorted_132 rfl, s_getr d_M_sorted_133 ci_M rfl wd_654, s_iload d_M_sorted_136, s_iconst d_M_sorted_138 (by decide), s_isub d_M_sorted_139, s_iload d_M_sorted_140, s_iastore d_M_sorted_142, s_aload_n d_M_sorted_143 rfl, s_getr d_M_sorted_144 ci_M rfl wd_655, s_iload d_M_sorted_147, s_iconst d_M_sorted_149 (by decide), s_isub d_M_sorted_150, s_iload d_M_sorted_151, s_iastore d_M_sorted_153, s_aload_n d_M_sorted_154 rfl, s_getr d_M_sorted_155 ci_M rfl wd_656, s_iload d_M_sorted_158, trivial⟩
def tb_M_sorted_2 : List (Nat × jm_Op) := [(160, oC 1 161), (161, oSub 162), (162, oIl 7 164), (164, oIw 165), (165, oInc 3 (-1) 168), (168, oGo 14), (171, oInc 2 1 174), (174, oGo 2)]
theorem ok_M_sorted_2 : jm_all 78 tb_M_sorted_2 := ⟨s_iconst d_M_sorted_160 (by decide), s_isub d_M_sorted_161, s_iload d_M_sorted_162, s_iastore d_M_sorted_164, s_iinc d_M_sorted_165 (by decide) (by decide), s_goto d_M_sorted_168 (by decide), s_iinc d_M_sorted_171 (by decide) (by decide), s_goto d_M_sorted_174 (by decide), trivial⟩
def tb_M_sorted : List (Nat × jm_Op) := tb_M_sorted_0 ++ (tb_M_sorted_1 ++ tb_M_sorted_2)
theorem ok_M_sorted : jm_all 78 tb_M_sorted := jm_all_app ok_M_sorted_0 (jm_all_app ok_M_sorted_1 ok_M_sorted_2)
theorem k_M_sorted_43 {g : jm_G} {d : Nat} {L : List (Option jm_V)} {r : List jm_V} {σ : jm_S} {K K' : jm_O → Prop} {q0 : Nat} {x0 : Int32} {x1 : Int32} (hr : Nat.ble (jm_cs r) 8 = true) (hcal : J g d 79 0 [some (aR 6 q0), some (aI x0), some (aI x1), none] [] σ K') (hk : ∀ u, K' u → jm_aft g (d + 1) 78 43 L r u K) : J g (d + 1) 78 43 L (aI x1 :: aI x0 :: aR 6 q0 :: r) σ K :=
  J_call' (id' := 79) jm_sk (vs := [aR 6 q0, aI x0, aI x1]) (inv_V (id' := 79) d_M_sorted_43 ci_M wd_748 wd_750 wd_24 cw_M_compare (by decide) pn_M_compare) cw_M_compare (by decide) (by decide) (Nat.le_of_ble_eq_true rfl) rfl hr rfl hcal hk
theorem r_M_sorted_177 {g : jm_G} {d : Nat} {L : List (Option jm_V)} {σ : jm_S} {K : jm_O → Prop} (hK : K (σ, .inl none)) : J g d 78 177 L [] σ K := J_vret d_M_sorted_177 rfl hK
-- IdealProverModel compare (II)I
theorem d_M_compare_0 : decode prog_12_method_5_code 0 = .ok (.aload_n 0, 1) := by decide +kernel
theorem d_M_compare_1 : decode prog_12_method_5_code 1 = .ok (.getfield 47, 3) := by decide +kernel
theorem d_M_compare_4 : decode prog_12_method_5_code 4 = .ok (.ifCond .ne 53, 3) := by decide +kernel
theorem d_M_compare_7 : decode prog_12_method_5_code 7 = .ok (.iconst 0, 1) := by decide +kernel
theorem d_M_compare_8 : decode prog_12_method_5_code 8 = .ok (.istore_n 3, 1) := by decide +kernel
theorem d_M_compare_9 : decode prog_12_method_5_code 9 = .ok (.iload_n 3, 1) := by decide +kernel
theorem d_M_compare_10 : decode prog_12_method_5_code 10 = .ok (.aload_n 0, 1) := by decide +kernel
theorem d_M_compare_11 : decode prog_12_method_5_code 11 = .ok (.getfield 40, 3) := by decide +kernel
theorem d_M_compare_14 : decode prog_12_method_5_code 14 = .ok (.if_icmp .ge 41, 3) := by decide +kernel
theorem d_M_compare_17 : decode prog_12_method_5_code 17 = .ok (.iload_n 1, 1) := by decide +kernel
theorem d_M_compare_18 : decode prog_12_method_5_code 18 = .ok (.iload_n 3, 1) := by decide +kernel
theorem d_M_compare_19 : decode prog_12_method_5_code 19 = .ok (.invokestatic 43, 3) := by decide +kernel
theorem d_M_compare_22 : decode prog_12_method_5_code 22 = .ok (.iload_n 2, 1) := by decide +kernel
theorem d_M_compare_23 : decode prog_12_method_5_code 23 = .ok (.iload_n 3, 1) := by decide +kernel
theorem d_M_compare_24 : decode prog_12_method_5_code 24 = .ok (.invokestatic 43, 3) := by decide +kernel
theorem d_M_compare_27 : decode prog_12_method_5_code 27 = .ok (.if_icmp .eq 22, 3) := by decide +kernel
theorem d_M_compare_30 : decode prog_12_method_5_code 30 = .ok (.iload_n 1, 1) := by decide +kernel
theorem d_M_compare_31 : decode prog_12_method_5_code 31 = .ok (.iload_n 3, 1) := by decide +kernel
theorem d_M_compare_32 : decode prog_12_method_5_code 32 = .ok (.invokestatic 43, 3) := by decide +kernel
theorem d_M_compare_35 : decode prog_12_method_5_code 35 = .ok (.iload_n 2, 1) := by decide +kernel
theorem d_M_compare_36 : decode prog_12_method_5_code 36 = .ok (.iload_n 3, 1) := by decide +kernel
theorem d_M_compare_37 : decode prog_12_method_5_code 37 = .ok (.invokestatic 43, 3) := by decide +kernel
theorem d_M_compare_40 : decode prog_12_method_5_code 40 = .ok (.if_icmp .ge 7, 3) := by decide +kernel
theorem d_M_compare_43 : decode prog_12_method_5_code 43 = .ok (.iconst (-1), 1) := by decide +kernel
theorem d_M_compare_44 : decode prog_12_method_5_code 44 = .ok (.goto 4, 3) := by decide +kernel
theorem d_M_compare_47 : decode prog_12_method_5_code 47 = .ok (.iconst 1, 1) := by decide +kernel
theorem d_M_compare_48 : decode prog_12_method_5_code 48 = .ok (.ireturn, 1) := by decide +kernel
theorem d_M_compare_49 : decode prog_12_method_5_code 49 = .ok (.iinc 3 1, 3) := by decide +kernel
theorem d_M_compare_52 : decode prog_12_method_5_code 52 = .ok (.goto (-43), 3) := by decide +kernel
theorem d_M_compare_55 : decode prog_12_method_5_code 55 = .ok (.iconst 0, 1) := by decide +kernel
theorem d_M_compare_56 : decode prog_12_method_5_code 56 = .ok (.ireturn, 1) := by decide +kernel
theorem d_M_compare_57 : decode prog_12_method_5_code 57 = .ok (.aload_n 0, 1) := by decide +kernel
theorem d_M_compare_58 : decode prog_12_method_5_code 58 = .ok (.getfield 47, 3) := by decide +kernel
theorem d_M_compare_61 : decode prog_12_method_5_code 61 = .ok (.iconst 2, 1) := by decide +kernel
theorem d_M_compare_62 : decode prog_12_method_5_code 62 = .ok (.if_icmp .ne 35, 3) := by decide +kernel
theorem d_M_compare_65 : decode prog_12_method_5_code 65 = .ok (.iload_n 1, 1) := by decide +kernel
theorem d_M_compare_66 : decode prog_12_method_5_code 66 = .ok (.iconst 0, 1) := by decide +kernel
theorem d_M_compare_67 : decode prog_12_method_5_code 67 = .ok (.invokestatic 43, 3) := by decide +kernel
theorem d_M_compare_70 : decode prog_12_method_5_code 70 = .ok (.iload_n 2, 1) := by decide +kernel
theorem d_M_compare_71 : decode prog_12_method_5_code 71 = .ok (.iconst 0, 1) := by decide +kernel
theorem d_M_compare_72 : decode prog_12_method_5_code 72 = .ok (.invokestatic 43, 3) := by decide +kernel
theorem d_M_compare_75 : decode prog_12_method_5_code 75 = .ok (.if_icmp .eq 22, 3) := by decide +kernel
theorem d_M_compare_78 : decode prog_12_method_5_code 78 = .ok (.iload_n 1, 1) := by decide +kernel
theorem d_M_compare_79 : decode prog_12_method_5_code 79 = .ok (.iconst 0, 1) := by decide +kernel
theorem d_M_compare_80 : decode prog_12_method_5_code 80 = .ok (.invokestatic 43, 3) := by decide +kernel
theorem d_M_compare_83 : decode prog_12_method_5_code 83 = .ok (.iload_n 2, 1) := by decide +kernel
theorem d_M_compare_84 : decode prog_12_method_5_code 84 = .ok (.iconst 0, 1) := by decide +kernel
theorem d_M_compare_85 : decode prog_12_method_5_code 85 = .ok (.invokestatic 43, 3) := by decide +kernel
theorem d_M_compare_88 : decode prog_12_method_5_code 88 = .ok (.if_icmp .ge 7, 3) := by decide +kernel
theorem d_M_compare_91 : decode prog_12_method_5_code 91 = .ok (.iconst (-1), 1) := by decide +kernel
theorem d_M_compare_92 : decode prog_12_method_5_code 92 = .ok (.goto 4, 3) := by decide +kernel
theorem d_M_compare_95 : decode prog_12_method_5_code 95 = .ok (.iconst 1, 1) := by decide +kernel
theorem d_M_compare_96 : decode prog_12_method_5_code 96 = .ok (.ireturn, 1) := by decide +kernel
theorem d_M_compare_97 : decode prog_12_method_5_code 97 = .ok (.aload_n 0, 1) := by decide +kernel
theorem d_M_compare_98 : decode prog_12_method_5_code 98 = .ok (.iload_n 1, 1) := by decide +kernel
theorem d_M_compare_99 : decode prog_12_method_5_code 99 = .ok (.invokevirtual 50, 3) := by decide +kernel
theorem d_M_compare_102 : decode prog_12_method_5_code 102 = .ok (.aload_n 0, 1) := by decide +kernel
theorem d_M_compare_103 : decode prog_12_method_5_code 103 = .ok (.iload_n 2, 1) := by decide +kernel
theorem d_M_compare_104 : decode prog_12_method_5_code 104 = .ok (.invokevirtual 50, 3) := by decide +kernel
theorem d_M_compare_107 : decode prog_12_method_5_code 107 = .ok (.if_icmp .eq 22, 3) := by decide +kernel
theorem d_M_compare_110 : decode prog_12_method_5_code 110 = .ok (.aload_n 0, 1) := by decide +kernel
theorem d_M_compare_111 : decode prog_12_method_5_code 111 = .ok (.iload_n 1, 1) := by decide +kernel
theorem d_M_compare_112 : decode prog_12_method_5_code 112 = .ok (.invokevirtual 50, 3) := by decide +kernel
theorem d_M_compare_115 : decode prog_12_method_5_code 115 = .ok (.aload_n 0, 1) := by decide +kernel
theorem d_M_compare_116 : decode prog_12_method_5_code 116 = .ok (.iload_n 2, 1) := by decide +kernel
theorem d_M_compare_117 : decode prog_12_method_5_code 117 = .ok (.invokevirtual 50, 3) := by decide +kernel
theorem d_M_compare_120 : decode prog_12_method_5_code 120 = .ok (.if_icmp .ge 7, 3) := by decide +kernel
theorem d_M_compare_123 : decode prog_12_method_5_code 123 = .ok (.iconst (-1), 1) := by decide +kernel
theorem d_M_compare_124 : decode prog_12_method_5_code 124 = .ok (.goto 4, 3) := by decide +kernel
theorem d_M_compare_127 : decode prog_12_method_5_code 127 = .ok (.iconst 1, 1) := by decide +kernel
theorem d_M_compare_128 : decode prog_12_method_5_code 128 = .ok (.ireturn, 1) := by decide +kernel
theorem d_M_compare_129 : decode prog_12_method_5_code 129 = .ok (.aload_n 0, 1) := by decide +kernel
theorem d_M_compare_130 : decode prog_12_method_5_code 130 = .ok (.getfield 40, 3) := by decide +kernel
theorem d_M_compare_133 : decode prog_12_method_5_code 133 = .ok (.iconst 1, 1) := by decide +kernel
theorem d_M_compare_134 : decode prog_12_method_5_code 134 = .ok (.isub, 1) := by decide +kernel
theorem d_M_compare_135 : decode prog_12_method_5_code 135 = .ok (.istore_n 3, 1) := by decide +kernel
theorem d_M_compare_136 : decode prog_12_method_5_code 136 = .ok (.iload_n 3, 1) := by decide +kernel
theorem d_M_compare_137 : decode prog_12_method_5_code 137 = .ok (.ifCond .lt 41, 3) := by decide +kernel
theorem d_M_compare_140 : decode prog_12_method_5_code 140 = .ok (.iload_n 1, 1) := by decide +kernel
theorem d_M_compare_141 : decode prog_12_method_5_code 141 = .ok (.iload_n 3, 1) := by decide +kernel
theorem d_M_compare_142 : decode prog_12_method_5_code 142 = .ok (.invokestatic 43, 3) := by decide +kernel
theorem d_M_compare_145 : decode prog_12_method_5_code 145 = .ok (.iload_n 2, 1) := by decide +kernel
theorem d_M_compare_146 : decode prog_12_method_5_code 146 = .ok (.iload_n 3, 1) := by decide +kernel
theorem d_M_compare_147 : decode prog_12_method_5_code 147 = .ok (.invokestatic 43, 3) := by decide +kernel
theorem d_M_compare_150 : decode prog_12_method_5_code 150 = .ok (.if_icmp .eq 22, 3) := by decide +kernel
theorem d_M_compare_153 : decode prog_12_method_5_code 153 = .ok (.iload_n 1, 1) := by decide +kernel
theorem d_M_compare_154 : decode prog_12_method_5_code 154 = .ok (.iload_n 3, 1) := by decide +kernel
theorem d_M_compare_155 : decode prog_12_method_5_code 155 = .ok (.invokestatic 43, 3) := by decide +kernel
theorem d_M_compare_158 : decode prog_12_method_5_code 158 = .ok (.iload_n 2, 1) := by decide +kernel
theorem d_M_compare_159 : decode prog_12_method_5_code 159 = .ok (.iload_n 3, 1) := by decide +kernel
theorem d_M_compare_160 : decode prog_12_method_5_code 160 = .ok (.invokestatic 43, 3) := by decide +kernel
theorem d_M_compare_163 : decode prog_12_method_5_code 163 = .ok (.if_icmp .le 7, 3) := by decide +kernel
theorem d_M_compare_166 : decode prog_12_method_5_code 166 = .ok (.iconst (-1), 1) := by decide +kernel
theorem d_M_compare_167 : decode prog_12_method_5_code 167 = .ok (.goto 4, 3) := by decide +kernel
theorem d_M_compare_170 : decode prog_12_method_5_code 170 = .ok (.iconst 1, 1) := by decide +kernel
theorem d_M_compare_171 : decode prog_12_method_5_code 171 = .ok (.ireturn, 1) := by decide +kernel
theorem d_M_compare_172 : decode prog_12_method_5_code 172 = .ok (.iinc 3 (-1), 3) := by decide +kernel
theorem d_M_compare_175 : decode prog_12_method_5_code 175 = .ok (.goto (-39), 3) := by decide +kernel
theorem d_M_compare_178 : decode prog_12_method_5_code 178 = .ok (.iconst 0, 1) := by decide +kernel
theorem d_M_compare_179 : decode prog_12_method_5_code 179 = .ok (.ireturn, 1) := by decide +kernel
def tb_M_compare_0 : List (Nat × jm_Op) := [(0, oAl 0 1), (1, oGi 6 2 4), (4, oIfNe 57 7), (7, oC 0 8), (8, oIs 3 9), (9, oIl 3 10), (10, oAl 0 11), (11, oGi 6 1 14), (14, oIcGe 55 17), (17, oIl 1 18), (18, oIl 3 19), (22, oIl 2 23), (23, oIl 3 24), (27, oIcEq 49 30), (30, oIl 1 31), (31, oIl 3 32), (35, oIl 2 36), (36, oIl 3 37), (40, oIcGe 47 43), (43, oC (-1) 44), (44, oGo 48), (47, oC 1 48), (49, oInc 3 1 52), (52, oGo 9), (55, oC 0 56), (57, oAl 0 58), (58, oGi 6 2 61), (61, oC 2 62), (62, oIcNe 97 65), (65, oIl 1 66), (66, oC 0 67), (70, oIl 2 71), (71, oC 0 72), (75, oIcEq 97 78), (78, oIl 1 79), (79, oC 0 80), (83, oIl 2 84), (84, oC 0 85), (88, oIcGe 95 91), (91, oC (-1) 92), (92, oGo 96), (95, oC 1 96), (97, oAl 0 98), (98, oIl 1 99), (102, oAl 0 103), (103, oIl 2 104), (107, oIcEq 129 110), (110, oAl 0 111), (111, oIl 1 112), (115, oAl 0 116)]
theorem ok_M_compare_0 : jm_all 79 tb_M_compare_0 := ⟨s_aload_n d_M_compare_0 rfl, s_geti d_M_compare_1 ci_M rfl wd_653, s_if_ne d_M_compare_4 (by decide), s_iconst d_M_compare_7 (by decide), s_istore_n d_M_compare_8 rfl (by decide), s_iload_n d_M_compare_9 rfl, s_aload_n d_M_compare_10 rfl, s_geti d_M_compare_11 ci_M rfl wd_652, s_icmp_ge d_M_compare_14 (by decide), s_iload_n d_M_compare_17 rfl, s_iload_n d_M_compare_18 rfl, s_iload_n d_M_compare_22 rfl, s_iload_n d_M_compare_23 rfl, s_icmp_eq d_M_compare_27 (by decide), s_iload_n d_M_compare_30 rfl, s_iload_n d_M_compare_31 rfl, s_iload_n d_M_compare_35 rfl, s_iload_n d_M_compare_36 rfl, s_icmp_ge d_M_compare_40 (by decide), s_iconst d_M_compare_43 (by decide), s_goto d_M_compare_44 (by decide), s_iconst d_M_compare_47 (by decide), s_iinc d_M_compare_49 (by decide) (by decide), s_goto d_M_compare_52 (by decide), s_iconst d_M_compare_55 (by decide), s_aload_n d_M_compare_57 rfl, s_geti d_M_compare_58 ci_M rfl wd_653, s_iconst d_M_compare_61 (by decide), s_icmp_ne d_M_compare_62 (by decide), s_iload_n d_M_compare_65 rfl, s_iconst d_M_compare_66 (by decide), s_iload_n d_M_compare_70 rfl, s_iconst d_M_compare_71 (by decide), s_icmp_eq d_M_compare_75 (by decide), s_iload_n d_M_compare_78 rfl, s_iconst d_M_compare_79 (by decide), s_iload_n d_M_compare_83 rfl, s_iconst d_M_compare_84 (by decide), s_icmp_ge d_M_compare_88 (by decide), s_iconst d_M_compare_91 (by decide), s_goto d_M_compare_92 (by decide), s_iconst d_M_compare_95 (by decide), s_aload_n d_M_compare_97 rfl, s_iload_n d_M_compare_98 rfl, s_aload_n d_M_compare_102 rfl, s_iload_n d_M_compare_103 rfl, s_icmp_eq d_M_compare_107 (by decide), s_aload_n d_M_compare_110 rfl, s_iload_n d_M_compare_111 rfl, s_aload_n d_M_compare_115 rfl, trivial⟩
def tb_M_compare_1 : List (Nat × jm_Op) := [(116, oIl 2 117), (120, oIcGe 127 123), (123, oC (-1) 124), (124, oGo 128), (127, oC 1 128), (129, oAl 0 130), (130, oGi 6 1 133), (133, oC 1 134), (134, oSub 135), (135, oIs 3 136), (136, oIl 3 137), (137, oIfLt 178 140), (140, oIl 1 141), (141, oIl 3 142), (145, oIl 2 146), (146, oIl 3 147), (150, oIcEq 172 153), (153, oIl 1 154), (154, oIl 3 155), (158, oIl 2 159), (159, oIl 3 160), (163, oIcLe 170 166), (166, oC (-1) 167), (167, oGo 171), (170, oC 1 171), (172, oInc 3 (-1) 175), (175, oGo 136), (178, oC 0 179)]
theorem ok_M_compare_1 : jm_all 79 tb_M_compare_1 := ⟨s_iload_n d_M_compare_116 rfl, s_icmp_ge d_M_compare_120 (by decide), s_iconst d_M_compare_123 (by decide), s_goto d_M_compare_124 (by decide), s_iconst d_M_compare_127 (by decide), s_aload_n d_M_compare_129 rfl, s_geti d_M_compare_130 ci_M rfl wd_652, s_iconst d_M_compare_133 (by decide), s_isub d_M_compare_134, s_istore_n d_M_compare_135 rfl (by decide), s_iload_n d_M_compare_136 rfl, s_if_lt d_M_compare_137 (by decide), s_iload_n d_M_compare_140 rfl, s_iload_n d_M_compare_141 rfl, s_iload_n d_M_compare_145 rfl, s_iload_n d_M_compare_146 rfl, s_icmp_eq d_M_compare_150 (by decide), s_iload_n d_M_compare_153 rfl, s_iload_n d_M_compare_154 rfl, s_iload_n d_M_compare_158 rfl, s_iload_n d_M_compare_159 rfl, s_icmp_le d_M_compare_163 (by decide), s_iconst d_M_compare_166 (by decide), s_goto d_M_compare_167 (by decide), s_iconst d_M_compare_170 (by decide), s_iinc d_M_compare_172 (by decide) (by decide), s_goto d_M_compare_175 (by decide), s_iconst d_M_compare_178 (by decide), trivial⟩
def tb_M_compare : List (Nat × jm_Op) := tb_M_compare_0 ++ tb_M_compare_1
theorem ok_M_compare : jm_all 79 tb_M_compare := jm_all_app ok_M_compare_0 ok_M_compare_1
theorem k_M_compare_19 {g : jm_G} {d : Nat} {L : List (Option jm_V)} {r : List jm_V} {σ : jm_S} {K K' : jm_O → Prop} {x0 : Int32} {x1 : Int32} (hr : Nat.ble (jm_cs r) 8 = true) (hcal : J g d 80 0 [some (aI x0), some (aI x1)] [] σ K') (hk : ∀ u, K' u → jm_aft g (d + 1) 79 19 L r u K) : J g (d + 1) 79 19 L (aI x1 :: aI x0 :: r) σ K :=
  J_call' (id' := 80) jm_sk (vs := [aI x0, aI x1]) (inv_S (id' := 80) d_M_compare_19 wd_752 wd_753 wd_62 cw_M_exponent (by decide) pn_M_exponent) cw_M_exponent (by decide) (by decide) (Nat.le_of_ble_eq_true rfl) rfl hr rfl hcal hk
theorem k_M_compare_24 {g : jm_G} {d : Nat} {L : List (Option jm_V)} {r : List jm_V} {σ : jm_S} {K K' : jm_O → Prop} {x0 : Int32} {x1 : Int32} (hr : Nat.ble (jm_cs r) 8 = true) (hcal : J g d 80 0 [some (aI x0), some (aI x1)] [] σ K') (hk : ∀ u, K' u → jm_aft g (d + 1) 79 24 L r u K) : J g (d + 1) 79 24 L (aI x1 :: aI x0 :: r) σ K :=
  J_call' (id' := 80) jm_sk (vs := [aI x0, aI x1]) (inv_S (id' := 80) d_M_compare_24 wd_752 wd_753 wd_62 cw_M_exponent (by decide) pn_M_exponent) cw_M_exponent (by decide) (by decide) (Nat.le_of_ble_eq_true rfl) rfl hr rfl hcal hk
theorem k_M_compare_32 {g : jm_G} {d : Nat} {L : List (Option jm_V)} {r : List jm_V} {σ : jm_S} {K K' : jm_O → Prop} {x0 : Int32} {x1 : Int32} (hr : Nat.ble (jm_cs r) 8 = true) (hcal : J g d 80 0 [some (aI x0), some (aI x1)] [] σ K') (hk : ∀ u, K' u → jm_aft g (d + 1) 79 32 L r u K) : J g (d + 1) 79 32 L (aI x1 :: aI x0 :: r) σ K :=
  J_call' (id' := 80) jm_sk (vs := [aI x0, aI x1]) (inv_S (id' := 80) d_M_compare_32 wd_752 wd_753 wd_62 cw_M_exponent (by decide) pn_M_exponent) cw_M_exponent (by decide) (by decide) (Nat.le_of_ble_eq_true rfl) rfl hr rfl hcal hk
theorem k_M_compare_37 {g : jm_G} {d : Nat} {L : List (Option jm_V)} {r : List jm_V} {σ : jm_S} {K K' : jm_O → Prop} {x0 : Int32} {x1 : Int32} (hr : Nat.ble (jm_cs r) 8 = true) (hcal : J g d 80 0 [some (aI x0), some (aI x1)] [] σ K') (hk : ∀ u, K' u → jm_aft g (d + 1) 79 37 L r u K) : J g (d + 1) 79 37 L (aI x1 :: aI x0 :: r) σ K :=
  J_call' (id' := 80) jm_sk (vs := [aI x0, aI x1]) (inv_S (id' := 80) d_M_compare_37 wd_752 wd_753 wd_62 cw_M_exponent (by decide) pn_M_exponent) cw_M_exponent (by decide) (by decide) (Nat.le_of_ble_eq_true rfl) rfl hr rfl hcal hk
theorem r_M_compare_48 {g : jm_G} {d : Nat} {L : List (Option jm_V)} {σ : jm_S} {K : jm_O → Prop} {v : Int32} (hK : K (σ, .inl (some (aI v)))) : J g d 79 48 L [aI v] σ K := J_iret d_M_compare_48 rfl hK
theorem r_M_compare_56 {g : jm_G} {d : Nat} {L : List (Option jm_V)} {σ : jm_S} {K : jm_O → Prop} {v : Int32} (hK : K (σ, .inl (some (aI v)))) : J g d 79 56 L [aI v] σ K := J_iret d_M_compare_56 rfl hK
theorem k_M_compare_67 {g : jm_G} {d : Nat} {L : List (Option jm_V)} {r : List jm_V} {σ : jm_S} {K K' : jm_O → Prop} {x0 : Int32} {x1 : Int32} (hr : Nat.ble (jm_cs r) 8 = true) (hcal : J g d 80 0 [some (aI x0), some (aI x1)] [] σ K') (hk : ∀ u, K' u → jm_aft g (d + 1) 79 67 L r u K) : J g (d + 1) 79 67 L (aI x1 :: aI x0 :: r) σ K :=
  J_call' (id' := 80) jm_sk (vs := [aI x0, aI x1]) (inv_S (id' := 80) d_M_compare_67 wd_752 wd_753 wd_62 cw_M_exponent (by decide) pn_M_exponent) cw_M_exponent (by decide) (by decide) (Nat.le_of_ble_eq_true rfl) rfl hr rfl hcal hk
theorem k_M_compare_72 {g : jm_G} {d : Nat} {L : List (Option jm_V)} {r : List jm_V} {σ : jm_S} {K K' : jm_O → Prop} {x0 : Int32} {x1 : Int32} (hr : Nat.ble (jm_cs r) 8 = true) (hcal : J g d 80 0 [some (aI x0), some (aI x1)] [] σ K') (hk : ∀ u, K' u → jm_aft g (d + 1) 79 72 L r u K) : J g (d + 1) 79 72 L (aI x1 :: aI x0 :: r) σ K :=
  J_call' (id' := 80) jm_sk (vs := [aI x0, aI x1]) (inv_S (id' := 80) d_M_compare_72 wd_752 wd_753 wd_62 cw_M_exponent (by decide) pn_M_exponent) cw_M_exponent (by decide) (by decide) (Nat.le_of_ble_eq_true rfl) rfl hr rfl hcal hk
theorem k_M_compare_80 {g : jm_G} {d : Nat} {L : List (Option jm_V)} {r : List jm_V} {σ : jm_S} {K K' : jm_O → Prop} {x0 : Int32} {x1 : Int32} (hr : Nat.ble (jm_cs r) 8 = true) (hcal : J g d 80 0 [some (aI x0), some (aI x1)] [] σ K') (hk : ∀ u, K' u → jm_aft g (d + 1) 79 80 L r u K) : J g (d + 1) 79 80 L (aI x1 :: aI x0 :: r) σ K :=
  J_call' (id' := 80) jm_sk (vs := [aI x0, aI x1]) (inv_S (id' := 80) d_M_compare_80 wd_752 wd_753 wd_62 cw_M_exponent (by decide) pn_M_exponent) cw_M_exponent (by decide) (by decide) (Nat.le_of_ble_eq_true rfl) rfl hr rfl hcal hk
theorem k_M_compare_85 {g : jm_G} {d : Nat} {L : List (Option jm_V)} {r : List jm_V} {σ : jm_S} {K K' : jm_O → Prop} {x0 : Int32} {x1 : Int32} (hr : Nat.ble (jm_cs r) 8 = true) (hcal : J g d 80 0 [some (aI x0), some (aI x1)] [] σ K') (hk : ∀ u, K' u → jm_aft g (d + 1) 79 85 L r u K) : J g (d + 1) 79 85 L (aI x1 :: aI x0 :: r) σ K :=
  J_call' (id' := 80) jm_sk (vs := [aI x0, aI x1]) (inv_S (id' := 80) d_M_compare_85 wd_752 wd_753 wd_62 cw_M_exponent (by decide) pn_M_exponent) cw_M_exponent (by decide) (by decide) (Nat.le_of_ble_eq_true rfl) rfl hr rfl hcal hk
theorem r_M_compare_96 {g : jm_G} {d : Nat} {L : List (Option jm_V)} {σ : jm_S} {K : jm_O → Prop} {v : Int32} (hK : K (σ, .inl (some (aI v)))) : J g d 79 96 L [aI v] σ K := J_iret d_M_compare_96 rfl hK
theorem k_M_compare_99 {g : jm_G} {d : Nat} {L : List (Option jm_V)} {r : List jm_V} {σ : jm_S} {K K' : jm_O → Prop} {q0 : Nat} {x0 : Int32} (hr : Nat.ble (jm_cs r) 8 = true) (hcal : J g d 81 0 [some (aR 6 q0), some (aI x0), none, none] [] σ K') (hk : ∀ u, K' u → jm_aft g (d + 1) 79 99 L r u K) : J g (d + 1) 79 99 L (aI x0 :: aR 6 q0 :: r) σ K :=
  J_call' (id' := 81) jm_sk (vs := [aR 6 q0, aI x0]) (inv_V (id' := 81) d_M_compare_99 ci_M wd_755 wd_757 wd_25 cw_M_sum (by decide) pn_M_sum) cw_M_sum (by decide) (by decide) (Nat.le_of_ble_eq_true rfl) rfl hr rfl hcal hk
theorem k_M_compare_104 {g : jm_G} {d : Nat} {L : List (Option jm_V)} {r : List jm_V} {σ : jm_S} {K K' : jm_O → Prop} {q0 : Nat} {x0 : Int32} (hr : Nat.ble (jm_cs r) 8 = true) (hcal : J g d 81 0 [some (aR 6 q0), some (aI x0), none, none] [] σ K') (hk : ∀ u, K' u → jm_aft g (d + 1) 79 104 L r u K) : J g (d + 1) 79 104 L (aI x0 :: aR 6 q0 :: r) σ K :=
  J_call' (id' := 81) jm_sk (vs := [aR 6 q0, aI x0]) (inv_V (id' := 81) d_M_compare_104 ci_M wd_755 wd_757 wd_25 cw_M_sum (by decide) pn_M_sum) cw_M_sum (by decide) (by decide) (Nat.le_of_ble_eq_true rfl) rfl hr rfl hcal hk
theorem k_M_compare_112 {g : jm_G} {d : Nat} {L : List (Option jm_V)} {r : List jm_V} {σ : jm_S} {K K' : jm_O → Prop} {q0 : Nat} {x0 : Int32} (hr : Nat.ble (jm_cs r) 8 = true) (hcal : J g d 81 0 [some (aR 6 q0), some (aI x0), none, none] [] σ K') (hk : ∀ u, K' u → jm_aft g (d + 1) 79 112 L r u K) : J g (d + 1) 79 112 L (aI x0 :: aR 6 q0 :: r) σ K :=
  J_call' (id' := 81) jm_sk (vs := [aR 6 q0, aI x0]) (inv_V (id' := 81) d_M_compare_112 ci_M wd_755 wd_757 wd_25 cw_M_sum (by decide) pn_M_sum) cw_M_sum (by decide) (by decide) (Nat.le_of_ble_eq_true rfl) rfl hr rfl hcal hk
theorem k_M_compare_117 {g : jm_G} {d : Nat} {L : List (Option jm_V)} {r : List jm_V} {σ : jm_S} {K K' : jm_O → Prop} {q0 : Nat} {x0 : Int32} (hr : Nat.ble (jm_cs r) 8 = true) (hcal : J g d 81 0 [some (aR 6 q0), some (aI x0), none, none] [] σ K') (hk : ∀ u, K' u → jm_aft g (d + 1) 79 117 L r u K) : J g (d + 1) 79 117 L (aI x0 :: aR 6 q0 :: r) σ K :=
  J_call' (id' := 81) jm_sk (vs := [aR 6 q0, aI x0]) (inv_V (id' := 81) d_M_compare_117 ci_M wd_755 wd_757 wd_25 cw_M_sum (by decide) pn_M_sum) cw_M_sum (by decide) (by decide) (Nat.le_of_ble_eq_true rfl) rfl hr rfl hcal hk
theorem r_M_compare_128 {g : jm_G} {d : Nat} {L : List (Option jm_V)} {σ : jm_S} {K : jm_O → Prop} {v : Int32} (hK : K (σ, .inl (some (aI v)))) : J g d 79 128 L [aI v] σ K := J_iret d_M_compare_128 rfl hK
theorem k_M_compare_142 {g : jm_G} {d : Nat} {L : List (Option jm_V)} {r : List jm_V} {σ : jm_S} {K K' : jm_O → Prop} {x0 : Int32} {x1 : Int32} (hr : Nat.ble (jm_cs r) 8 = true) (hcal : J g d 80 0 [some (aI x0), some (aI x1)] [] σ K') (hk : ∀ u, K' u → jm_aft g (d + 1) 79 142 L r u K) : J g (d + 1) 79 142 L (aI x1 :: aI x0 :: r) σ K :=
  J_call' (id' := 80) jm_sk (vs := [aI x0, aI x1]) (inv_S (id' := 80) d_M_compare_142 wd_752 wd_753 wd_62 cw_M_exponent (by decide) pn_M_exponent) cw_M_exponent (by decide) (by decide) (Nat.le_of_ble_eq_true rfl) rfl hr rfl hcal hk
theorem k_M_compare_147 {g : jm_G} {d : Nat} {L : List (Option jm_V)} {r : List jm_V} {σ : jm_S} {K K' : jm_O → Prop} {x0 : Int32} {x1 : Int32} (hr : Nat.ble (jm_cs r) 8 = true) (hcal : J g d 80 0 [some (aI x0), some (aI x1)] [] σ K') (hk : ∀ u, K' u → jm_aft g (d + 1) 79 147 L r u K) : J g (d + 1) 79 147 L (aI x1 :: aI x0 :: r) σ K :=
  J_call' (id' := 80) jm_sk (vs := [aI x0, aI x1]) (inv_S (id' := 80) d_M_compare_147 wd_752 wd_753 wd_62 cw_M_exponent (by decide) pn_M_exponent) cw_M_exponent (by decide) (by decide) (Nat.le_of_ble_eq_true rfl) rfl hr rfl hcal hk
theorem k_M_compare_155 {g : jm_G} {d : Nat} {L : List (Option jm_V)} {r : List jm_V} {σ : jm_S} {K K' : jm_O → Prop} {x0 : Int32} {x1 : Int32} (hr : Nat.ble (jm_cs r) 8 = true) (hcal : J g d 80 0 [some (aI x0), some (aI x1)] [] σ K') (hk : ∀ u, K' u → jm_aft g (d + 1) 79 155 L r u K) : J g (d + 1) 79 155 L (aI x1 :: aI x0 :: r) σ K :=
  J_call' (id' := 80) jm_sk (vs := [aI x0, aI x1]) (inv_S (id' := 80) d_M_compare_155 wd_752 wd_753 wd_62 cw_M_exponent (by decide) pn_M_exponent) cw_M_exponent (by decide) (by decide) (Nat.le_of_ble_eq_true rfl) rfl hr rfl hcal hk
theorem k_M_compare_160 {g : jm_G} {d : Nat} {L : List (Option jm_V)} {r : List jm_V} {σ : jm_S} {K K' : jm_O → Prop} {x0 : Int32} {x1 : Int32} (hr : Nat.ble (jm_cs r) 8 = true) (hcal : J g d 80 0 [some (aI x0), some (aI x1)] [] σ K') (hk : ∀ u, K' u → jm_aft g (d + 1) 79 160 L r u K) : J g (d + 1) 79 160 L (aI x1 :: aI x0 :: r) σ K :=
  J_call' (id' := 80) jm_sk (vs := [aI x0, aI x1]) (inv_S (id' := 80) d_M_compare_160 wd_752 wd_753 wd_62 cw_M_exponent (by decide) pn_M_exponent) cw_M_exponent (by decide) (by decide) (Nat.le_of_ble_eq_true rfl) rfl hr rfl hcal hk
theorem r_M_compare_171 {g : jm_G} {d : Nat} {L : List (Option jm_V)} {σ : jm_S} {K : jm_O → Prop} {v : Int32} (hK : K (σ, .inl (some (aI v)))) : J g d 79 171 L [aI v] σ K := J_iret d_M_compare_171 rfl hK
theorem r_M_compare_179 {g : jm_G} {d : Nat} {L : List (Option jm_V)} {σ : jm_S} {K : jm_O → Prop} {v : Int32} (hK : K (σ, .inl (some (aI v)))) : J g d 79 179 L [aI v] σ K := J_iret d_M_compare_179 rfl hK
-- IdealProverModel exponent (II)I
theorem d_M_exponent_0 : decode prog_12_method_3_code 0 = .ok (.iload_n 0, 1) := by decide +kernel
theorem d_M_exponent_1 : decode prog_12_method_3_code 1 = .ok (.iconst 5, 1) := by decide +kernel
theorem d_M_exponent_2 : decode prog_12_method_3_code 2 = .ok (.iload_n 1, 1) := by decide +kernel
theorem d_M_exponent_3 : decode prog_12_method_3_code 3 = .ok (.imul, 1) := by decide +kernel
theorem d_M_exponent_4 : decode prog_12_method_3_code 4 = .ok (.ishr, 1) := by decide +kernel
theorem d_M_exponent_5 : decode prog_12_method_3_code 5 = .ok (.bipush 31, 2) := by decide +kernel
theorem d_M_exponent_7 : decode prog_12_method_3_code 7 = .ok (.iand, 1) := by decide +kernel
theorem d_M_exponent_8 : decode prog_12_method_3_code 8 = .ok (.ireturn, 1) := by decide +kernel
def tb_M_exponent : List (Nat × jm_Op) := [(0, oIl 0 1), (1, oC 5 2), (2, oIl 1 3), (3, oMul 4), (4, oShr 5), (5, oC 31 7), (7, oAnd 8)]
theorem ok_M_exponent : jm_all 80 tb_M_exponent := ⟨s_iload_n d_M_exponent_0 rfl, s_iconst d_M_exponent_1 (by decide), s_iload_n d_M_exponent_2 rfl, s_imul d_M_exponent_3, s_ishr d_M_exponent_4, s_bipush d_M_exponent_5 (by decide), s_iand d_M_exponent_7, trivial⟩
theorem r_M_exponent_8 {g : jm_G} {d : Nat} {L : List (Option jm_V)} {σ : jm_S} {K : jm_O → Prop} {v : Int32} (hK : K (σ, .inl (some (aI v)))) : J g d 80 8 L [aI v] σ K := J_iret d_M_exponent_8 rfl hK
-- IdealProverModel sum (I)I
theorem d_M_sum_0 : decode prog_12_method_4_code 0 = .ok (.iconst 0, 1) := by decide +kernel
theorem d_M_sum_1 : decode prog_12_method_4_code 1 = .ok (.istore_n 2, 1) := by decide +kernel
theorem d_M_sum_2 : decode prog_12_method_4_code 2 = .ok (.iconst 0, 1) := by decide +kernel
theorem d_M_sum_3 : decode prog_12_method_4_code 3 = .ok (.istore_n 3, 1) := by decide +kernel
theorem d_M_sum_4 : decode prog_12_method_4_code 4 = .ok (.iload_n 3, 1) := by decide +kernel
theorem d_M_sum_5 : decode prog_12_method_4_code 5 = .ok (.aload_n 0, 1) := by decide +kernel
theorem d_M_sum_6 : decode prog_12_method_4_code 6 = .ok (.getfield 40, 3) := by decide +kernel
theorem d_M_sum_9 : decode prog_12_method_4_code 9 = .ok (.if_icmp .ge 17, 3) := by decide +kernel
theorem d_M_sum_12 : decode prog_12_method_4_code 12 = .ok (.iload_n 2, 1) := by decide +kernel
theorem d_M_sum_13 : decode prog_12_method_4_code 13 = .ok (.iload_n 1, 1) := by decide +kernel
theorem d_M_sum_14 : decode prog_12_method_4_code 14 = .ok (.iload_n 3, 1) := by decide +kernel
theorem d_M_sum_15 : decode prog_12_method_4_code 15 = .ok (.invokestatic 43, 3) := by decide +kernel
theorem d_M_sum_18 : decode prog_12_method_4_code 18 = .ok (.iadd, 1) := by decide +kernel
theorem d_M_sum_19 : decode prog_12_method_4_code 19 = .ok (.istore_n 2, 1) := by decide +kernel
theorem d_M_sum_20 : decode prog_12_method_4_code 20 = .ok (.iinc 3 1, 3) := by decide +kernel
theorem d_M_sum_23 : decode prog_12_method_4_code 23 = .ok (.goto (-19), 3) := by decide +kernel
theorem d_M_sum_26 : decode prog_12_method_4_code 26 = .ok (.iload_n 2, 1) := by decide +kernel
theorem d_M_sum_27 : decode prog_12_method_4_code 27 = .ok (.ireturn, 1) := by decide +kernel
def tb_M_sum : List (Nat × jm_Op) := [(0, oC 0 1), (1, oIs 2 2), (2, oC 0 3), (3, oIs 3 4), (4, oIl 3 5), (5, oAl 0 6), (6, oGi 6 1 9), (9, oIcGe 26 12), (12, oIl 2 13), (13, oIl 1 14), (14, oIl 3 15), (18, oAdd 19), (19, oIs 2 20), (20, oInc 3 1 23), (23, oGo 4), (26, oIl 2 27)]
theorem ok_M_sum : jm_all 81 tb_M_sum := ⟨s_iconst d_M_sum_0 (by decide), s_istore_n d_M_sum_1 rfl (by decide), s_iconst d_M_sum_2 (by decide), s_istore_n d_M_sum_3 rfl (by decide), s_iload_n d_M_sum_4 rfl, s_aload_n d_M_sum_5 rfl, s_geti d_M_sum_6 ci_M rfl wd_652, s_icmp_ge d_M_sum_9 (by decide), s_iload_n d_M_sum_12 rfl, s_iload_n d_M_sum_13 rfl, s_iload_n d_M_sum_14 rfl, s_iadd d_M_sum_18, s_istore_n d_M_sum_19 rfl (by decide), s_iinc d_M_sum_20 (by decide) (by decide), s_goto d_M_sum_23 (by decide), s_iload_n d_M_sum_26 rfl, trivial⟩
theorem k_M_sum_15 {g : jm_G} {d : Nat} {L : List (Option jm_V)} {r : List jm_V} {σ : jm_S} {K K' : jm_O → Prop} {x0 : Int32} {x1 : Int32} (hr : Nat.ble (jm_cs r) 8 = true) (hcal : J g d 80 0 [some (aI x0), some (aI x1)] [] σ K') (hk : ∀ u, K' u → jm_aft g (d + 1) 81 15 L r u K) : J g (d + 1) 81 15 L (aI x1 :: aI x0 :: r) σ K :=
  J_call' (id' := 80) jm_sk (vs := [aI x0, aI x1]) (inv_S (id' := 80) d_M_sum_15 wd_752 wd_753 wd_62 cw_M_exponent (by decide) pn_M_exponent) cw_M_exponent (by decide) (by decide) (Nat.le_of_ble_eq_true rfl) rfl hr rfl hcal hk
theorem r_M_sum_27 {g : jm_G} {d : Nat} {L : List (Option jm_V)} {σ : jm_S} {K : jm_O → Prop} {v : Int32} (hK : K (σ, .inl (some (aI v)))) : J g d 81 27 L [aI v] σ K := J_iret d_M_sum_27 rfl hK
-- IdealProverModel term (IIII)I
theorem d_M_term_0 : decode prog_12_method_20_code 0 = .ok (.iload_n 1, 1) := by decide +kernel
theorem d_M_term_1 : decode prog_12_method_20_code 1 = .ok (.invokestatic 100, 3) := by decide +kernel
theorem d_M_term_4 : decode prog_12_method_20_code 4 = .ok (.ifCond .ne 5, 3) := by decide +kernel
theorem d_M_term_7 : decode prog_12_method_20_code 7 = .ok (.iconst (-1), 1) := by decide +kernel
theorem d_M_term_8 : decode prog_12_method_20_code 8 = .ok (.ireturn, 1) := by decide +kernel
theorem d_M_term_9 : decode prog_12_method_20_code 9 = .ok (.iload_n 2, 1) := by decide +kernel
theorem d_M_term_10 : decode prog_12_method_20_code 10 = .ok (.ldc 104, 2) := by decide +kernel
theorem d_M_term_12 : decode prog_12_method_20_code 12 = .ok (.if_icmp .lt 29, 3) := by decide +kernel
theorem d_M_term_15 : decode prog_12_method_20_code 15 = .ok (.iload_n 2, 1) := by decide +kernel
theorem d_M_term_16 : decode prog_12_method_20_code 16 = .ok (.ldc 105, 2) := by decide +kernel
theorem d_M_term_18 : decode prog_12_method_20_code 18 = .ok (.if_icmp .gt 23, 3) := by decide +kernel
theorem d_M_term_21 : decode prog_12_method_20_code 21 = .ok (.iload_n 3, 1) := by decide +kernel
theorem d_M_term_22 : decode prog_12_method_20_code 22 = .ok (.ldc 104, 2) := by decide +kernel
theorem d_M_term_24 : decode prog_12_method_20_code 24 = .ok (.if_icmp .lt 17, 3) := by decide +kernel
theorem d_M_term_27 : decode prog_12_method_20_code 27 = .ok (.iload_n 3, 1) := by decide +kernel
theorem d_M_term_28 : decode prog_12_method_20_code 28 = .ok (.ldc 105, 2) := by decide +kernel
theorem d_M_term_30 : decode prog_12_method_20_code 30 = .ok (.if_icmp .gt 11, 3) := by decide +kernel
theorem d_M_term_33 : decode prog_12_method_20_code 33 = .ok (.iload_n 3, 1) := by decide +kernel
theorem d_M_term_34 : decode prog_12_method_20_code 34 = .ok (.ifCond .eq 7, 3) := by decide +kernel
theorem d_M_term_37 : decode prog_12_method_20_code 37 = .ok (.iconst 1, 1) := by decide +kernel
theorem d_M_term_38 : decode prog_12_method_20_code 38 = .ok (.goto 4, 3) := by decide +kernel
theorem d_M_term_41 : decode prog_12_method_20_code 41 = .ok (.iconst 0, 1) := by decide +kernel
theorem d_M_term_42 : decode prog_12_method_20_code 42 = .ok (.istore 5, 2) := by decide +kernel
theorem d_M_term_44 : decode prog_12_method_20_code 44 = .ok (.iconst 0, 1) := by decide +kernel
theorem d_M_term_45 : decode prog_12_method_20_code 45 = .ok (.istore 6, 2) := by decide +kernel
theorem d_M_term_47 : decode prog_12_method_20_code 47 = .ok (.iconst 0, 1) := by decide +kernel
theorem d_M_term_48 : decode prog_12_method_20_code 48 = .ok (.istore 7, 2) := by decide +kernel
theorem d_M_term_50 : decode prog_12_method_20_code 50 = .ok (.iload 7, 2) := by decide +kernel
theorem d_M_term_52 : decode prog_12_method_20_code 52 = .ok (.iconst 4, 1) := by decide +kernel
theorem d_M_term_53 : decode prog_12_method_20_code 53 = .ok (.if_icmp .ge 70, 3) := by decide +kernel
theorem d_M_term_56 : decode prog_12_method_20_code 56 = .ok (.iload 4, 2) := by decide +kernel
theorem d_M_term_58 : decode prog_12_method_20_code 58 = .ok (.bipush 8, 2) := by decide +kernel
theorem d_M_term_60 : decode prog_12_method_20_code 60 = .ok (.iload 7, 2) := by decide +kernel
theorem d_M_term_62 : decode prog_12_method_20_code 62 = .ok (.imul, 1) := by decide +kernel
theorem d_M_term_63 : decode prog_12_method_20_code 63 = .ok (.iushr, 1) := by decide +kernel
theorem d_M_term_64 : decode prog_12_method_20_code 64 = .ok (.sipush 255, 3) := by decide +kernel
theorem d_M_term_67 : decode prog_12_method_20_code 67 = .ok (.iand, 1) := by decide +kernel
theorem d_M_term_68 : decode prog_12_method_20_code 68 = .ok (.istore 8, 2) := by decide +kernel
theorem d_M_term_70 : decode prog_12_method_20_code 70 = .ok (.iload 5, 2) := by decide +kernel
theorem d_M_term_72 : decode prog_12_method_20_code 72 = .ok (.ifCond .eq 27, 3) := by decide +kernel
theorem d_M_term_75 : decode prog_12_method_20_code 75 = .ok (.iload 8, 2) := by decide +kernel
theorem d_M_term_77 : decode prog_12_method_20_code 77 = .ok (.iload 7, 2) := by decide +kernel
theorem d_M_term_79 : decode prog_12_method_20_code 79 = .ok (.aload_n 0, 1) := by decide +kernel
theorem d_M_term_80 : decode prog_12_method_20_code 80 = .ok (.getfield 36, 3) := by decide +kernel
theorem d_M_term_83 : decode prog_12_method_20_code 83 = .ok (.if_icmp .ge 8, 3) := by decide +kernel
theorem d_M_term_86 : decode prog_12_method_20_code 86 = .ok (.bipush 30, 2) := by decide +kernel
theorem d_M_term_88 : decode prog_12_method_20_code 88 = .ok (.goto 4, 3) := by decide +kernel
theorem d_M_term_91 : decode prog_12_method_20_code 91 = .ok (.iconst 0, 1) := by decide +kernel
theorem d_M_term_92 : decode prog_12_method_20_code 92 = .ok (.if_icmp .gt 7, 3) := by decide +kernel
theorem d_M_term_95 : decode prog_12_method_20_code 95 = .ok (.iconst 1, 1) := by decide +kernel
theorem d_M_term_96 : decode prog_12_method_20_code 96 = .ok (.goto 4, 3) := by decide +kernel
theorem d_M_term_99 : decode prog_12_method_20_code 99 = .ok (.iconst 0, 1) := by decide +kernel
theorem d_M_term_100 : decode prog_12_method_20_code 100 = .ok (.istore 5, 2) := by decide +kernel
theorem d_M_term_102 : decode prog_12_method_20_code 102 = .ok (.iload 6, 2) := by decide +kernel
theorem d_M_term_104 : decode prog_12_method_20_code 104 = .ok (.iload 8, 2) := by decide +kernel
theorem d_M_term_106 : decode prog_12_method_20_code 106 = .ok (.bipush 31, 2) := by decide +kernel
theorem d_M_term_108 : decode prog_12_method_20_code 108 = .ok (.iand, 1) := by decide +kernel
theorem d_M_term_109 : decode prog_12_method_20_code 109 = .ok (.iconst 5, 1) := by decide +kernel
theorem d_M_term_110 : decode prog_12_method_20_code 110 = .ok (.iload 7, 2) := by decide +kernel
theorem d_M_term_112 : decode prog_12_method_20_code 112 = .ok (.imul, 1) := by decide +kernel
theorem d_M_term_113 : decode prog_12_method_20_code 113 = .ok (.ishl, 1) := by decide +kernel
theorem d_M_term_114 : decode prog_12_method_20_code 114 = .ok (.ior, 1) := by decide +kernel
theorem d_M_term_115 : decode prog_12_method_20_code 115 = .ok (.istore 6, 2) := by decide +kernel
theorem d_M_term_117 : decode prog_12_method_20_code 117 = .ok (.iinc 7 1, 3) := by decide +kernel
theorem d_M_term_120 : decode prog_12_method_20_code 120 = .ok (.goto (-70), 3) := by decide +kernel
theorem d_M_term_123 : decode prog_12_method_20_code 123 = .ok (.iload 5, 2) := by decide +kernel
theorem d_M_term_125 : decode prog_12_method_20_code 125 = .ok (.ifCond .ne 6, 3) := by decide +kernel
theorem d_M_term_128 : decode prog_12_method_20_code 128 = .ok (.bipush (-2), 2) := by decide +kernel
theorem d_M_term_130 : decode prog_12_method_20_code 130 = .ok (.ireturn, 1) := by decide +kernel
theorem d_M_term_131 : decode prog_12_method_20_code 131 = .ok (.iload_n 2, 1) := by decide +kernel
theorem d_M_term_132 : decode prog_12_method_20_code 132 = .ok (.ifCond .ne 10, 3) := by decide +kernel
theorem d_M_term_135 : decode prog_12_method_20_code 135 = .ok (.aload_n 0, 1) := by decide +kernel
theorem d_M_term_136 : decode prog_12_method_20_code 136 = .ok (.getfield 20, 3) := by decide +kernel
theorem d_M_term_139 : decode prog_12_method_20_code 139 = .ok (.iload_n 1, 1) := by decide +kernel
theorem d_M_term_140 : decode prog_12_method_20_code 140 = .ok (.iaload, 1) := by decide +kernel
theorem d_M_term_141 : decode prog_12_method_20_code 141 = .ok (.ireturn, 1) := by decide +kernel
theorem d_M_term_142 : decode prog_12_method_20_code 142 = .ok (.aload_n 0, 1) := by decide +kernel
theorem d_M_term_143 : decode prog_12_method_20_code 143 = .ok (.iconst 0, 1) := by decide +kernel
theorem d_M_term_144 : decode prog_12_method_20_code 144 = .ok (.putfield 54, 3) := by decide +kernel
theorem d_M_term_147 : decode prog_12_method_20_code 147 = .ok (.aload_n 0, 1) := by decide +kernel
theorem d_M_term_148 : decode prog_12_method_20_code 148 = .ok (.iload_n 1, 1) := by decide +kernel
theorem d_M_term_149 : decode prog_12_method_20_code 149 = .ok (.sipush 150, 3) := by decide +kernel
theorem d_M_term_152 : decode prog_12_method_20_code 152 = .ok (.invokevirtual 106, 3) := by decide +kernel
theorem d_M_term_155 : decode prog_12_method_20_code 155 = .ok (.aload_n 0, 1) := by decide +kernel
theorem d_M_term_156 : decode prog_12_method_20_code 156 = .ok (.iload_n 3, 1) := by decide +kernel
theorem d_M_term_157 : decode prog_12_method_20_code 157 = .ok (.ifCond .ge 9, 3) := by decide +kernel
theorem d_M_term_160 : decode prog_12_method_20_code 160 = .ok (.iload_n 2, 1) := by decide +kernel
theorem d_M_term_161 : decode prog_12_method_20_code 161 = .ok (.ineg, 1) := by decide +kernel
theorem d_M_term_162 : decode prog_12_method_20_code 162 = .ok (.i2l, 1) := by decide +kernel
theorem d_M_term_163 : decode prog_12_method_20_code 163 = .ok (.goto 5, 3) := by decide +kernel
theorem d_M_term_166 : decode prog_12_method_20_code 166 = .ok (.iload_n 2, 1) := by decide +kernel
theorem d_M_term_167 : decode prog_12_method_20_code 167 = .ok (.i2l, 1) := by decide +kernel
theorem d_M_term_168 : decode prog_12_method_20_code 168 = .ok (.iload_n 3, 1) := by decide +kernel
theorem d_M_term_169 : decode prog_12_method_20_code 169 = .ok (.ifCond .ge 9, 3) := by decide +kernel
theorem d_M_term_172 : decode prog_12_method_20_code 172 = .ok (.iload_n 3, 1) := by decide +kernel
theorem d_M_term_173 : decode prog_12_method_20_code 173 = .ok (.ineg, 1) := by decide +kernel
theorem d_M_term_174 : decode prog_12_method_20_code 174 = .ok (.i2l, 1) := by decide +kernel
theorem d_M_term_175 : decode prog_12_method_20_code 175 = .ok (.goto 5, 3) := by decide +kernel
theorem d_M_term_178 : decode prog_12_method_20_code 178 = .ok (.iload_n 3, 1) := by decide +kernel
theorem d_M_term_179 : decode prog_12_method_20_code 179 = .ok (.i2l, 1) := by decide +kernel
theorem d_M_term_180 : decode prog_12_method_20_code 180 = .ok (.invokevirtual 68, 3) := by decide +kernel
theorem d_M_term_183 : decode prog_12_method_20_code 183 = .ok (.aload_n 0, 1) := by decide +kernel
theorem d_M_term_184 : decode prog_12_method_20_code 184 = .ok (.sipush 150, 3) := by decide +kernel
theorem d_M_term_187 : decode prog_12_method_20_code 187 = .ok (.aload_n 0, 1) := by decide +kernel
theorem d_M_term_188 : decode prog_12_method_20_code 188 = .ok (.getfield 62, 3) := by decide +kernel
theorem d_M_term_191 : decode prog_12_method_20_code 191 = .ok (.aload_n 0, 1) := by decide +kernel
theorem d_M_term_192 : decode prog_12_method_20_code 192 = .ok (.getfield 65, 3) := by decide +kernel
theorem d_M_term_195 : decode prog_12_method_20_code 195 = .ok (.iload 6, 2) := by decide +kernel
theorem d_M_term_197 : decode prog_12_method_20_code 197 = .ok (.invokevirtual 82, 3) := by decide +kernel
theorem d_M_term_200 : decode prog_12_method_20_code 200 = .ok (.aload_n 0, 1) := by decide +kernel
theorem d_M_term_201 : decode prog_12_method_20_code 201 = .ok (.sipush 150, 3) := by decide +kernel
theorem d_M_term_204 : decode prog_12_method_20_code 204 = .ok (.iload_n 1, 1) := by decide +kernel
theorem d_M_term_205 : decode prog_12_method_20_code 205 = .ok (.invokevirtual 110, 3) := by decide +kernel
theorem d_M_term_208 : decode prog_12_method_20_code 208 = .ok (.ireturn, 1) := by decide +kernel
def tb_M_term_0 : List (Nat × jm_Op) := [(0, oIl 1 1), (4, oIfNe 9 7), (7, oC (-1) 8), (9, oIl 2 10), (10, oC (-1000000000) 12), (12, oIcLt 41 15), (15, oIl 2 16), (16, oC 1000000000 18), (18, oIcGt 41 21), (21, oIl 3 22), (22, oC (-1000000000) 24), (24, oIcLt 41 27), (27, oIl 3 28), (28, oC 1000000000 30), (30, oIcGt 41 33), (33, oIl 3 34), (34, oIfEq 41 37), (37, oC 1 38), (38, oGo 42), (41, oC 0 42), (42, oIs 5 44), (44, oC 0 45), (45, oIs 6 47), (47, oC 0 48), (48, oIs 7 50), (50, oIl 7 52), (52, oC 4 53), (53, oIcGe 123 56), (56, oIl 4 58), (58, oC 8 60), (60, oIl 7 62), (62, oMul 63), (63, oUshr 64), (64, oC 255 67), (67, oAnd 68), (68, oIs 8 70), (70, oIl 5 72), (72, oIfEq 99 75), (75, oIl 8 77), (77, oIl 7 79), (79, oAl 0 80), (80, oGi 6 0 83), (83, oIcGe 91 86), (86, oC 30 88), (88, oGo 92), (91, oC 0 92), (92, oIcGt 99 95), (95, oC 1 96), (96, oGo 100), (99, oC 0 100)]
theorem ok_M_term_0 : jm_all 82 tb_M_term_0 := ⟨s_iload_n d_M_term_0 rfl, s_if_ne d_M_term_4 (by decide), s_iconst d_M_term_7 (by decide), s_iload_n d_M_term_9 rfl, s_ldc d_M_term_10 wd_766, s_icmp_lt d_M_term_12 (by decide), s_iload_n d_M_term_15 rfl, s_ldc d_M_term_16 wd_767, s_icmp_gt d_M_term_18 (by decide), s_iload_n d_M_term_21 rfl, s_ldc d_M_term_22 wd_766, s_icmp_lt d_M_term_24 (by decide), s_iload_n d_M_term_27 rfl, s_ldc d_M_term_28 wd_767, s_icmp_gt d_M_term_30 (by decide), s_iload_n d_M_term_33 rfl, s_if_eq d_M_term_34 (by decide), s_iconst d_M_term_37 (by decide), s_goto d_M_term_38 (by decide), s_iconst d_M_term_41 (by decide), s_istore d_M_term_42 (by decide), s_iconst d_M_term_44 (by decide), s_istore d_M_term_45 (by decide), s_iconst d_M_term_47 (by decide), s_istore d_M_term_48 (by decide), s_iload d_M_term_50, s_iconst d_M_term_52 (by decide), s_icmp_ge d_M_term_53 (by decide), s_iload d_M_term_56, s_bipush d_M_term_58 (by decide), s_iload d_M_term_60, s_imul d_M_term_62, s_iushr d_M_term_63, s_sipush d_M_term_64 (by decide), s_iand d_M_term_67, s_istore d_M_term_68 (by decide), s_iload d_M_term_70, s_if_eq d_M_term_72 (by decide), s_iload d_M_term_75, s_iload d_M_term_77, s_aload_n d_M_term_79 rfl, s_geti d_M_term_80 ci_M rfl wd_651, s_icmp_ge d_M_term_83 (by decide), s_bipush d_M_term_86 (by decide), s_goto d_M_term_88 (by decide), s_iconst d_M_term_91 (by decide), s_icmp_gt d_M_term_92 (by decide), s_iconst d_M_term_95 (by decide), s_goto d_M_term_96 (by decide), s_iconst d_M_term_99 (by decide), trivial⟩
def tb_M_term_1 : List (Nat × jm_Op) := [(100, oIs 5 102), (102, oIl 6 104), (104, oIl 8 106), (106, oC 31 108), (108, oAnd 109), (109, oC 5 110), (110, oIl 7 112), (112, oMul 113), (113, oShl 114), (114, oOr 115), (115, oIs 6 117), (117, oInc 7 1 120), (120, oGo 50), (123, oIl 5 125), (125, oIfNe 131 128), (128, oC (-2) 130), (131, oIl 2 132), (132, oIfNe 142 135), (135, oAl 0 136), (136, oGr 6 6 8 139), (139, oIl 1 140), (140, oIa 141), (142, oAl 0 143), (143, oC 0 144), (144, oPz 6 11 147), (147, oAl 0 148), (148, oIl 1 149), (149, oC 150 152), (155, oAl 0 156), (156, oIl 3 157), (157, oIfGe 166 160), (160, oIl 2 161), (161, oNeg 162), (162, oI2L 163), (163, oGo 168), (166, oIl 2 167), (167, oI2L 168), (168, oIl 3 169), (169, oIfGe 178 172), (172, oIl 3 173), (173, oNeg 174), (174, oI2L 175), (175, oGo 180), (178, oIl 3 179), (179, oI2L 180), (183, oAl 0 184), (184, oC 150 187), (187, oAl 0 188), (188, oGi 6 16 191), (191, oAl 0 192)]
theorem ok_M_term_1 : jm_all 82 tb_M_term_1 := ⟨s_istore d_M_term_100 (by decide), s_iload d_M_term_102, s_iload d_M_term_104, s_bipush d_M_term_106 (by decide), s_iand d_M_term_108, s_iconst d_M_term_109 (by decide), s_iload d_M_term_110, s_imul d_M_term_112, s_ishl d_M_term_113, s_ior d_M_term_114, s_istore d_M_term_115 (by decide), s_iinc d_M_term_117 (by decide) (by decide), s_goto d_M_term_120 (by decide), s_iload d_M_term_123, s_if_ne d_M_term_125 (by decide), s_bipush d_M_term_128 (by decide), s_iload_n d_M_term_131 rfl, s_if_ne d_M_term_132 (by decide), s_aload_n d_M_term_135 rfl, s_getr d_M_term_136 ci_M rfl wd_657, s_iload_n d_M_term_139 rfl, s_iaload d_M_term_140, s_aload_n d_M_term_142 rfl, s_iconst d_M_term_143 (by decide), s_putz d_M_term_144 ci_M rfl rfl rfl wd_662, s_aload_n d_M_term_147 rfl, s_iload_n d_M_term_148 rfl, s_sipush d_M_term_149 (by decide), s_aload_n d_M_term_155 rfl, s_iload_n d_M_term_156 rfl, s_if_ge d_M_term_157 (by decide), s_iload_n d_M_term_160 rfl, s_ineg d_M_term_161, s_i2l d_M_term_162, s_goto d_M_term_163 (by decide), s_iload_n d_M_term_166 rfl, s_i2l d_M_term_167, s_iload_n d_M_term_168 rfl, s_if_ge d_M_term_169 (by decide), s_iload_n d_M_term_172 rfl, s_ineg d_M_term_173, s_i2l d_M_term_174, s_goto d_M_term_175 (by decide), s_iload_n d_M_term_178 rfl, s_i2l d_M_term_179, s_aload_n d_M_term_183 rfl, s_sipush d_M_term_184 (by decide), s_aload_n d_M_term_187 rfl, s_geti d_M_term_188 ci_M rfl wd_667, s_aload_n d_M_term_191 rfl, trivial⟩
def tb_M_term_2 : List (Nat × jm_Op) := [(192, oGi 6 17 195), (195, oIl 6 197), (200, oAl 0 201), (201, oC 150 204), (204, oIl 1 205)]
theorem ok_M_term_2 : jm_all 82 tb_M_term_2 := ⟨s_geti d_M_term_192 ci_M rfl wd_668, s_iload d_M_term_195, s_aload_n d_M_term_200 rfl, s_sipush d_M_term_201 (by decide), s_iload_n d_M_term_204 rfl, trivial⟩
def tb_M_term : List (Nat × jm_Op) := tb_M_term_0 ++ (tb_M_term_1 ++ tb_M_term_2)
theorem ok_M_term : jm_all 82 tb_M_term := jm_all_app ok_M_term_0 (jm_all_app ok_M_term_1 ok_M_term_2)
theorem k_M_term_1 {g : jm_G} {d : Nat} {L : List (Option jm_V)} {r : List jm_V} {σ : jm_S} {K K' : jm_O → Prop} {x0 : Int32} (hr : Nat.ble (jm_cs r) 8 = true) (hcal : J g d 83 0 [some (aI x0)] [] σ K') (hk : ∀ u, K' u → jm_aft g (d + 1) 82 1 L r u K) : J g (d + 1) 82 1 L (aI x0 :: r) σ K :=
  J_call' (id' := 83) jm_sk (vs := [aI x0]) (inv_S (id' := 83) d_M_term_1 wd_763 wd_764 wd_62 cw_M_isPlace (by decide) pn_M_isPlace) cw_M_isPlace (by decide) (by decide) (Nat.le_of_ble_eq_true rfl) rfl hr rfl hcal hk
theorem r_M_term_8 {g : jm_G} {d : Nat} {L : List (Option jm_V)} {σ : jm_S} {K : jm_O → Prop} {v : Int32} (hK : K (σ, .inl (some (aI v)))) : J g d 82 8 L [aI v] σ K := J_iret d_M_term_8 rfl hK
theorem r_M_term_130 {g : jm_G} {d : Nat} {L : List (Option jm_V)} {σ : jm_S} {K : jm_O → Prop} {v : Int32} (hK : K (σ, .inl (some (aI v)))) : J g d 82 130 L [aI v] σ K := J_iret d_M_term_130 rfl hK
theorem r_M_term_141 {g : jm_G} {d : Nat} {L : List (Option jm_V)} {σ : jm_S} {K : jm_O → Prop} {v : Int32} (hK : K (σ, .inl (some (aI v)))) : J g d 82 141 L [aI v] σ K := J_iret d_M_term_141 rfl hK
theorem k_M_term_152 {g : jm_G} {d : Nat} {L : List (Option jm_V)} {r : List jm_V} {σ : jm_S} {K K' : jm_O → Prop} {q0 : Nat} {x0 : Int32} {x1 : Int32} (hr : Nat.ble (jm_cs r) 8 = true) (hcal : J g d 84 0 [some (aR 6 q0), some (aI x0), some (aI x1), none] [] σ K') (hk : ∀ u, K' u → jm_aft g (d + 1) 82 152 L r u K) : J g (d + 1) 82 152 L (aI x1 :: aI x0 :: aR 6 q0 :: r) σ K :=
  J_call' (id' := 84) jm_sk (vs := [aR 6 q0, aI x0, aI x1]) (inv_V (id' := 84) d_M_term_152 ci_M wd_768 wd_770 wd_26 cw_M_copy (by decide) pn_M_copy) cw_M_copy (by decide) (by decide) (Nat.le_of_ble_eq_true rfl) rfl hr rfl hcal hk
theorem k_M_term_180 {g : jm_G} {d : Nat} {L : List (Option jm_V)} {r : List jm_V} {σ : jm_S} {K K' : jm_O → Prop} {q0 : Nat} {x0 : Int64} {x1 : Int64} (hr : Nat.ble (jm_cs r) 8 = true) (hcal : J g d 85 0 [some (aR 6 q0), some (aL x0), none, some (aL x1), none, none, none, none, none, none, none, none, none] [] σ K') (hk : ∀ u, K' u → jm_aft g (d + 1) 82 180 L r u K) : J g (d + 1) 82 180 L (aL x1 :: aL x0 :: aR 6 q0 :: r) σ K :=
  J_call' (id' := 85) jm_sk (vs := [aR 6 q0, aL x0, aL x1]) (inv_V (id' := 85) d_M_term_180 ci_M wd_772 wd_774 wd_27 cw_M_lowest (by decide) pn_M_lowest) cw_M_lowest (by decide) (by decide) (Nat.le_of_ble_eq_true rfl) rfl hr rfl hcal hk
theorem k_M_term_197 {g : jm_G} {d : Nat} {L : List (Option jm_V)} {r : List jm_V} {σ : jm_S} {K K' : jm_O → Prop} {q0 : Nat} {x0 : Int32} {x1 : Int32} {x2 : Int32} {x3 : Int32} (hr : Nat.ble (jm_cs r) 8 = true) (hcal : J g d 86 0 [some (aR 6 q0), some (aI x0), some (aI x1), some (aI x2), some (aI x3), none, none, none] [] σ K') (hk : ∀ u, K' u → jm_aft g (d + 1) 82 197 L r u K) : J g (d + 1) 82 197 L (aI x3 :: aI x2 :: aI x1 :: aI x0 :: aR 6 q0 :: r) σ K :=
  J_call' (id' := 86) jm_sk (vs := [aR 6 q0, aI x0, aI x1, aI x2, aI x3]) (inv_V (id' := 86) d_M_term_197 ci_M wd_778 wd_780 wd_28 cw_M_comes (by decide) pn_M_comes) cw_M_comes (by decide) (by decide) (Nat.le_of_ble_eq_true rfl) rfl hr rfl hcal hk
theorem k_M_term_205 {g : jm_G} {d : Nat} {L : List (Option jm_V)} {r : List jm_V} {σ : jm_S} {K K' : jm_O → Prop} {q0 : Nat} {x0 : Int32} {x1 : Int32} (hr : Nat.ble (jm_cs r) 8 = true) (hcal : J g d 87 0 [some (aR 6 q0), some (aI x0), some (aI x1)] [] σ K') (hk : ∀ u, K' u → jm_aft g (d + 1) 82 205 L r u K) : J g (d + 1) 82 205 L (aI x1 :: aI x0 :: aR 6 q0 :: r) σ K :=
  J_call' (id' := 87) jm_sk (vs := [aR 6 q0, aI x0, aI x1]) (inv_V (id' := 87) d_M_term_205 ci_M wd_782 wd_784 wd_29 cw_M_taken (by decide) pn_M_taken) cw_M_taken (by decide) (by decide) (Nat.le_of_ble_eq_true rfl) rfl hr rfl hcal hk
theorem r_M_term_208 {g : jm_G} {d : Nat} {L : List (Option jm_V)} {σ : jm_S} {K : jm_O → Prop} {v : Int32} (hK : K (σ, .inl (some (aI v)))) : J g d 82 208 L [aI v] σ K := J_iret d_M_term_208 rfl hK
-- IdealProverModel isPlace (I)Z
theorem d_M_isPlace_0 : decode prog_12_method_19_code 0 = .ok (.iload_n 0, 1) := by decide +kernel
theorem d_M_isPlace_1 : decode prog_12_method_19_code 1 = .ok (.ifCond .lt 13, 3) := by decide +kernel
theorem d_M_isPlace_4 : decode prog_12_method_19_code 4 = .ok (.iload_n 0, 1) := by decide +kernel
theorem d_M_isPlace_5 : decode prog_12_method_19_code 5 = .ok (.bipush 40, 2) := by decide +kernel
theorem d_M_isPlace_7 : decode prog_12_method_19_code 7 = .ok (.if_icmp .ge 7, 3) := by decide +kernel
theorem d_M_isPlace_10 : decode prog_12_method_19_code 10 = .ok (.iconst 1, 1) := by decide +kernel
theorem d_M_isPlace_11 : decode prog_12_method_19_code 11 = .ok (.goto 4, 3) := by decide +kernel
theorem d_M_isPlace_14 : decode prog_12_method_19_code 14 = .ok (.iconst 0, 1) := by decide +kernel
theorem d_M_isPlace_15 : decode prog_12_method_19_code 15 = .ok (.ireturn, 1) := by decide +kernel
def tb_M_isPlace : List (Nat × jm_Op) := [(0, oIl 0 1), (1, oIfLt 14 4), (4, oIl 0 5), (5, oC 40 7), (7, oIcGe 14 10), (10, oC 1 11), (11, oGo 15), (14, oC 0 15)]
theorem ok_M_isPlace : jm_all 83 tb_M_isPlace := ⟨s_iload_n d_M_isPlace_0 rfl, s_if_lt d_M_isPlace_1 (by decide), s_iload_n d_M_isPlace_4 rfl, s_bipush d_M_isPlace_5 (by decide), s_icmp_ge d_M_isPlace_7 (by decide), s_iconst d_M_isPlace_10 (by decide), s_goto d_M_isPlace_11 (by decide), s_iconst d_M_isPlace_14 (by decide), trivial⟩
theorem r_M_isPlace_15 {g : jm_G} {d : Nat} {L : List (Option jm_V)} {σ : jm_S} {K : jm_O → Prop} {v : Int32} (hv : v = 0 ∨ v = 1) (hK : K (σ, .inl (some (aI v)))) : J g d 83 15 L [aI v] σ K := J_zret d_M_isPlace_15 rfl hv hK
-- IdealProverModel copy (II)V
theorem d_M_copy_0 : decode prog_12_method_11_code 0 = .ok (.aload_n 0, 1) := by decide +kernel
theorem d_M_copy_1 : decode prog_12_method_11_code 1 = .ok (.getfield 20, 3) := by decide +kernel
theorem d_M_copy_4 : decode prog_12_method_11_code 4 = .ok (.iload_n 2, 1) := by decide +kernel
theorem d_M_copy_5 : decode prog_12_method_11_code 5 = .ok (.aload_n 0, 1) := by decide +kernel
theorem d_M_copy_6 : decode prog_12_method_11_code 6 = .ok (.getfield 20, 3) := by decide +kernel
theorem d_M_copy_9 : decode prog_12_method_11_code 9 = .ok (.iload_n 1, 1) := by decide +kernel
theorem d_M_copy_10 : decode prog_12_method_11_code 10 = .ok (.iaload, 1) := by decide +kernel
theorem d_M_copy_11 : decode prog_12_method_11_code 11 = .ok (.iastore, 1) := by decide +kernel
theorem d_M_copy_12 : decode prog_12_method_11_code 12 = .ok (.iconst 0, 1) := by decide +kernel
theorem d_M_copy_13 : decode prog_12_method_11_code 13 = .ok (.istore_n 3, 1) := by decide +kernel
theorem d_M_copy_14 : decode prog_12_method_11_code 14 = .ok (.iload_n 3, 1) := by decide +kernel
theorem d_M_copy_15 : decode prog_12_method_11_code 15 = .ok (.aload_n 0, 1) := by decide +kernel
theorem d_M_copy_16 : decode prog_12_method_11_code 16 = .ok (.getfield 20, 3) := by decide +kernel
theorem d_M_copy_19 : decode prog_12_method_11_code 19 = .ok (.iload_n 1, 1) := by decide +kernel
theorem d_M_copy_20 : decode prog_12_method_11_code 20 = .ok (.iaload, 1) := by decide +kernel
theorem d_M_copy_21 : decode prog_12_method_11_code 21 = .ok (.if_icmp .ge 75, 3) := by decide +kernel
theorem d_M_copy_24 : decode prog_12_method_11_code 24 = .ok (.aload_n 0, 1) := by decide +kernel
theorem d_M_copy_25 : decode prog_12_method_11_code 25 = .ok (.getfield 8, 3) := by decide +kernel
theorem d_M_copy_28 : decode prog_12_method_11_code 28 = .ok (.bipush 100, 2) := by decide +kernel
theorem d_M_copy_30 : decode prog_12_method_11_code 30 = .ok (.iload_n 2, 1) := by decide +kernel
theorem d_M_copy_31 : decode prog_12_method_11_code 31 = .ok (.imul, 1) := by decide +kernel
theorem d_M_copy_32 : decode prog_12_method_11_code 32 = .ok (.iload_n 3, 1) := by decide +kernel
theorem d_M_copy_33 : decode prog_12_method_11_code 33 = .ok (.iadd, 1) := by decide +kernel
theorem d_M_copy_34 : decode prog_12_method_11_code 34 = .ok (.aload_n 0, 1) := by decide +kernel
theorem d_M_copy_35 : decode prog_12_method_11_code 35 = .ok (.getfield 8, 3) := by decide +kernel
theorem d_M_copy_38 : decode prog_12_method_11_code 38 = .ok (.bipush 100, 2) := by decide +kernel
theorem d_M_copy_40 : decode prog_12_method_11_code 40 = .ok (.iload_n 1, 1) := by decide +kernel
theorem d_M_copy_41 : decode prog_12_method_11_code 41 = .ok (.imul, 1) := by decide +kernel
theorem d_M_copy_42 : decode prog_12_method_11_code 42 = .ok (.iload_n 3, 1) := by decide +kernel
theorem d_M_copy_43 : decode prog_12_method_11_code 43 = .ok (.iadd, 1) := by decide +kernel
theorem d_M_copy_44 : decode prog_12_method_11_code 44 = .ok (.iaload, 1) := by decide +kernel
theorem d_M_copy_45 : decode prog_12_method_11_code 45 = .ok (.iastore, 1) := by decide +kernel
theorem d_M_copy_46 : decode prog_12_method_11_code 46 = .ok (.aload_n 0, 1) := by decide +kernel
theorem d_M_copy_47 : decode prog_12_method_11_code 47 = .ok (.getfield 14, 3) := by decide +kernel
theorem d_M_copy_50 : decode prog_12_method_11_code 50 = .ok (.bipush 100, 2) := by decide +kernel
theorem d_M_copy_52 : decode prog_12_method_11_code 52 = .ok (.iload_n 2, 1) := by decide +kernel
theorem d_M_copy_53 : decode prog_12_method_11_code 53 = .ok (.imul, 1) := by decide +kernel
theorem d_M_copy_54 : decode prog_12_method_11_code 54 = .ok (.iload_n 3, 1) := by decide +kernel
theorem d_M_copy_55 : decode prog_12_method_11_code 55 = .ok (.iadd, 1) := by decide +kernel
theorem d_M_copy_56 : decode prog_12_method_11_code 56 = .ok (.aload_n 0, 1) := by decide +kernel
theorem d_M_copy_57 : decode prog_12_method_11_code 57 = .ok (.getfield 14, 3) := by decide +kernel
theorem d_M_copy_60 : decode prog_12_method_11_code 60 = .ok (.bipush 100, 2) := by decide +kernel
theorem d_M_copy_62 : decode prog_12_method_11_code 62 = .ok (.iload_n 1, 1) := by decide +kernel
theorem d_M_copy_63 : decode prog_12_method_11_code 63 = .ok (.imul, 1) := by decide +kernel
theorem d_M_copy_64 : decode prog_12_method_11_code 64 = .ok (.iload_n 3, 1) := by decide +kernel
theorem d_M_copy_65 : decode prog_12_method_11_code 65 = .ok (.iadd, 1) := by decide +kernel
theorem d_M_copy_66 : decode prog_12_method_11_code 66 = .ok (.iaload, 1) := by decide +kernel
theorem d_M_copy_67 : decode prog_12_method_11_code 67 = .ok (.iastore, 1) := by decide +kernel
theorem d_M_copy_68 : decode prog_12_method_11_code 68 = .ok (.aload_n 0, 1) := by decide +kernel
theorem d_M_copy_69 : decode prog_12_method_11_code 69 = .ok (.getfield 17, 3) := by decide +kernel
theorem d_M_copy_72 : decode prog_12_method_11_code 72 = .ok (.bipush 100, 2) := by decide +kernel
theorem d_M_copy_74 : decode prog_12_method_11_code 74 = .ok (.iload_n 2, 1) := by decide +kernel
theorem d_M_copy_75 : decode prog_12_method_11_code 75 = .ok (.imul, 1) := by decide +kernel
theorem d_M_copy_76 : decode prog_12_method_11_code 76 = .ok (.iload_n 3, 1) := by decide +kernel
theorem d_M_copy_77 : decode prog_12_method_11_code 77 = .ok (.iadd, 1) := by decide +kernel
theorem d_M_copy_78 : decode prog_12_method_11_code 78 = .ok (.aload_n 0, 1) := by decide +kernel
theorem d_M_copy_79 : decode prog_12_method_11_code 79 = .ok (.getfield 17, 3) := by decide +kernel
theorem d_M_copy_82 : decode prog_12_method_11_code 82 = .ok (.bipush 100, 2) := by decide +kernel
theorem d_M_copy_84 : decode prog_12_method_11_code 84 = .ok (.iload_n 1, 1) := by decide +kernel
theorem d_M_copy_85 : decode prog_12_method_11_code 85 = .ok (.imul, 1) := by decide +kernel
theorem d_M_copy_86 : decode prog_12_method_11_code 86 = .ok (.iload_n 3, 1) := by decide +kernel
theorem d_M_copy_87 : decode prog_12_method_11_code 87 = .ok (.iadd, 1) := by decide +kernel
theorem d_M_copy_88 : decode prog_12_method_11_code 88 = .ok (.iaload, 1) := by decide +kernel
theorem d_M_copy_89 : decode prog_12_method_11_code 89 = .ok (.iastore, 1) := by decide +kernel
theorem d_M_copy_90 : decode prog_12_method_11_code 90 = .ok (.iinc 3 1, 3) := by decide +kernel
theorem d_M_copy_93 : decode prog_12_method_11_code 93 = .ok (.goto (-79), 3) := by decide +kernel
theorem d_M_copy_96 : decode prog_12_method_11_code 96 = .ok (.return_, 1) := by decide +kernel
def tb_M_copy_0 : List (Nat × jm_Op) := [(0, oAl 0 1), (1, oGr 6 6 8 4), (4, oIl 2 5), (5, oAl 0 6), (6, oGr 6 6 8 9), (9, oIl 1 10), (10, oIa 11), (11, oIw 12), (12, oC 0 13), (13, oIs 3 14), (14, oIl 3 15), (15, oAl 0 16), (16, oGr 6 6 8 19), (19, oIl 1 20), (20, oIa 21), (21, oIcGe 96 24), (24, oAl 0 25), (25, oGr 6 3 8 28), (28, oC 100 30), (30, oIl 2 31), (31, oMul 32), (32, oIl 3 33), (33, oAdd 34), (34, oAl 0 35), (35, oGr 6 3 8 38), (38, oC 100 40), (40, oIl 1 41), (41, oMul 42), (42, oIl 3 43), (43, oAdd 44), (44, oIa 45), (45, oIw 46), (46, oAl 0 47), (47, oGr 6 4 8 50), (50, oC 100 52), (52, oIl 2 53), (53, oMul 54), (54, oIl 3 55), (55, oAdd 56), (56, oAl 0 57), (57, oGr 6 4 8 60), (60, oC 100 62), (62, oIl 1 63), (63, oMul 64), (64, oIl 3 65), (65, oAdd 66), (66, oIa 67), (67, oIw 68), (68, oAl 0 69), (69, oGr 6 5 8 72)]
theorem ok_M_copy_0 : jm_all 84 tb_M_copy_0 := ⟨s_aload_n d_M_copy_0 rfl, s_getr d_M_copy_1 ci_M rfl wd_657, s_iload_n d_M_copy_4 rfl, s_aload_n d_M_copy_5 rfl, s_getr d_M_copy_6 ci_M rfl wd_657, s_iload_n d_M_copy_9 rfl, s_iaload d_M_copy_10, s_iastore d_M_copy_11, s_iconst d_M_copy_12 (by decide), s_istore_n d_M_copy_13 rfl (by decide), s_iload_n d_M_copy_14 rfl, s_aload_n d_M_copy_15 rfl, s_getr d_M_copy_16 ci_M rfl wd_657, s_iload_n d_M_copy_19 rfl, s_iaload d_M_copy_20, s_icmp_ge d_M_copy_21 (by decide), s_aload_n d_M_copy_24 rfl, s_getr d_M_copy_25 ci_M rfl wd_654, s_bipush d_M_copy_28 (by decide), s_iload_n d_M_copy_30 rfl, s_imul d_M_copy_31, s_iload_n d_M_copy_32 rfl, s_iadd d_M_copy_33, s_aload_n d_M_copy_34 rfl, s_getr d_M_copy_35 ci_M rfl wd_654, s_bipush d_M_copy_38 (by decide), s_iload_n d_M_copy_40 rfl, s_imul d_M_copy_41, s_iload_n d_M_copy_42 rfl, s_iadd d_M_copy_43, s_iaload d_M_copy_44, s_iastore d_M_copy_45, s_aload_n d_M_copy_46 rfl, s_getr d_M_copy_47 ci_M rfl wd_655, s_bipush d_M_copy_50 (by decide), s_iload_n d_M_copy_52 rfl, s_imul d_M_copy_53, s_iload_n d_M_copy_54 rfl, s_iadd d_M_copy_55, s_aload_n d_M_copy_56 rfl, s_getr d_M_copy_57 ci_M rfl wd_655, s_bipush d_M_copy_60 (by decide), s_iload_n d_M_copy_62 rfl, s_imul d_M_copy_63, s_iload_n d_M_copy_64 rfl, s_iadd d_M_copy_65, s_iaload d_M_copy_66, s_iastore d_M_copy_67, s_aload_n d_M_copy_68 rfl, s_getr d_M_copy_69 ci_M rfl wd_656, trivial⟩
def tb_M_copy_1 : List (Nat × jm_Op) := [(72, oC 100 74), (74, oIl 2 75), (75, oMul 76), (76, oIl 3 77), (77, oAdd 78), (78, oAl 0 79), (79, oGr 6 5 8 82), (82, oC 100 84), (84, oIl 1 85), (85, oMul 86), (86, oIl 3 87), (87, oAdd 88), (88, oIa 89), (89, oIw 90), (90, oInc 3 1 93), (93, oGo 14)]
theorem ok_M_copy_1 : jm_all 84 tb_M_copy_1 := ⟨s_bipush d_M_copy_72 (by decide), s_iload_n d_M_copy_74 rfl, s_imul d_M_copy_75, s_iload_n d_M_copy_76 rfl, s_iadd d_M_copy_77, s_aload_n d_M_copy_78 rfl, s_getr d_M_copy_79 ci_M rfl wd_656, s_bipush d_M_copy_82 (by decide), s_iload_n d_M_copy_84 rfl, s_imul d_M_copy_85, s_iload_n d_M_copy_86 rfl, s_iadd d_M_copy_87, s_iaload d_M_copy_88, s_iastore d_M_copy_89, s_iinc d_M_copy_90 (by decide) (by decide), s_goto d_M_copy_93 (by decide), trivial⟩
def tb_M_copy : List (Nat × jm_Op) := tb_M_copy_0 ++ tb_M_copy_1
theorem ok_M_copy : jm_all 84 tb_M_copy := jm_all_app ok_M_copy_0 ok_M_copy_1
theorem r_M_copy_96 {g : jm_G} {d : Nat} {L : List (Option jm_V)} {σ : jm_S} {K : jm_O → Prop} (hK : K (σ, .inl none)) : J g d 84 96 L [] σ K := J_vret d_M_copy_96 rfl hK
-- IdealProverModel lowest (JJ)V
theorem d_M_lowest_0 : decode prog_12_method_9_code 0 = .ok (.lload_n 1, 1) := by decide +kernel
theorem d_M_lowest_1 : decode prog_12_method_9_code 1 = .ok (.lconst 0, 1) := by decide +kernel
theorem d_M_lowest_2 : decode prog_12_method_9_code 2 = .ok (.lcmp, 1) := by decide +kernel
theorem d_M_lowest_3 : decode prog_12_method_9_code 3 = .ok (.ifCond .ge 8, 3) := by decide +kernel
theorem d_M_lowest_6 : decode prog_12_method_9_code 6 = .ok (.lload_n 1, 1) := by decide +kernel
theorem d_M_lowest_7 : decode prog_12_method_9_code 7 = .ok (.lneg, 1) := by decide +kernel
theorem d_M_lowest_8 : decode prog_12_method_9_code 8 = .ok (.goto 4, 3) := by decide +kernel
theorem d_M_lowest_11 : decode prog_12_method_9_code 11 = .ok (.lload_n 1, 1) := by decide +kernel
theorem d_M_lowest_12 : decode prog_12_method_9_code 12 = .ok (.lstore 5, 2) := by decide +kernel
theorem d_M_lowest_14 : decode prog_12_method_9_code 14 = .ok (.lload_n 3, 1) := by decide +kernel
theorem d_M_lowest_15 : decode prog_12_method_9_code 15 = .ok (.lstore 7, 2) := by decide +kernel
theorem d_M_lowest_17 : decode prog_12_method_9_code 17 = .ok (.lload 7, 2) := by decide +kernel
theorem d_M_lowest_19 : decode prog_12_method_9_code 19 = .ok (.lconst 0, 1) := by decide +kernel
theorem d_M_lowest_20 : decode prog_12_method_9_code 20 = .ok (.lcmp, 1) := by decide +kernel
theorem d_M_lowest_21 : decode prog_12_method_9_code 21 = .ok (.ifCond .eq 21, 3) := by decide +kernel
theorem d_M_lowest_24 : decode prog_12_method_9_code 24 = .ok (.lload 5, 2) := by decide +kernel
theorem d_M_lowest_26 : decode prog_12_method_9_code 26 = .ok (.lload 7, 2) := by decide +kernel
theorem d_M_lowest_28 : decode prog_12_method_9_code 28 = .ok (.lrem, 1) := by decide +kernel
theorem d_M_lowest_29 : decode prog_12_method_9_code 29 = .ok (.lstore 9, 2) := by decide +kernel
theorem d_M_lowest_31 : decode prog_12_method_9_code 31 = .ok (.lload 7, 2) := by decide +kernel
theorem d_M_lowest_33 : decode prog_12_method_9_code 33 = .ok (.lstore 5, 2) := by decide +kernel
theorem d_M_lowest_35 : decode prog_12_method_9_code 35 = .ok (.lload 9, 2) := by decide +kernel
theorem d_M_lowest_37 : decode prog_12_method_9_code 37 = .ok (.lstore 7, 2) := by decide +kernel
theorem d_M_lowest_39 : decode prog_12_method_9_code 39 = .ok (.goto (-22), 3) := by decide +kernel
theorem d_M_lowest_42 : decode prog_12_method_9_code 42 = .ok (.lload_n 1, 1) := by decide +kernel
theorem d_M_lowest_43 : decode prog_12_method_9_code 43 = .ok (.lload 5, 2) := by decide +kernel
theorem d_M_lowest_45 : decode prog_12_method_9_code 45 = .ok (.ldiv, 1) := by decide +kernel
theorem d_M_lowest_46 : decode prog_12_method_9_code 46 = .ok (.lstore 9, 2) := by decide +kernel
theorem d_M_lowest_48 : decode prog_12_method_9_code 48 = .ok (.lload_n 3, 1) := by decide +kernel
theorem d_M_lowest_49 : decode prog_12_method_9_code 49 = .ok (.lload 5, 2) := by decide +kernel
theorem d_M_lowest_51 : decode prog_12_method_9_code 51 = .ok (.ldiv, 1) := by decide +kernel
theorem d_M_lowest_52 : decode prog_12_method_9_code 52 = .ok (.lstore 11, 2) := by decide +kernel
theorem d_M_lowest_54 : decode prog_12_method_9_code 54 = .ok (.aload_n 0, 1) := by decide +kernel
theorem d_M_lowest_55 : decode prog_12_method_9_code 55 = .ok (.aload_n 0, 1) := by decide +kernel
theorem d_M_lowest_56 : decode prog_12_method_9_code 56 = .ok (.getfield 54, 3) := by decide +kernel
theorem d_M_lowest_59 : decode prog_12_method_9_code 59 = .ok (.ifCond .ne 30, 3) := by decide +kernel
theorem d_M_lowest_62 : decode prog_12_method_9_code 62 = .ok (.lload 9, 2) := by decide +kernel
theorem d_M_lowest_64 : decode prog_12_method_9_code 64 = .ok (.ldc2_w 58, 3) := by decide +kernel
theorem d_M_lowest_67 : decode prog_12_method_9_code 67 = .ok (.lcmp, 1) := by decide +kernel
theorem d_M_lowest_68 : decode prog_12_method_9_code 68 = .ok (.ifCond .gt 21, 3) := by decide +kernel
theorem d_M_lowest_71 : decode prog_12_method_9_code 71 = .ok (.lload 9, 2) := by decide +kernel
theorem d_M_lowest_73 : decode prog_12_method_9_code 73 = .ok (.ldc2_w 60, 3) := by decide +kernel
theorem d_M_lowest_76 : decode prog_12_method_9_code 76 = .ok (.lcmp, 1) := by decide +kernel
theorem d_M_lowest_77 : decode prog_12_method_9_code 77 = .ok (.ifCond .lt 12, 3) := by decide +kernel
theorem d_M_lowest_80 : decode prog_12_method_9_code 80 = .ok (.lload 11, 2) := by decide +kernel
theorem d_M_lowest_82 : decode prog_12_method_9_code 82 = .ok (.ldc2_w 58, 3) := by decide +kernel
theorem d_M_lowest_85 : decode prog_12_method_9_code 85 = .ok (.lcmp, 1) := by decide +kernel
theorem d_M_lowest_86 : decode prog_12_method_9_code 86 = .ok (.ifCond .le 7, 3) := by decide +kernel
theorem d_M_lowest_89 : decode prog_12_method_9_code 89 = .ok (.iconst 1, 1) := by decide +kernel
theorem d_M_lowest_90 : decode prog_12_method_9_code 90 = .ok (.goto 4, 3) := by decide +kernel
theorem d_M_lowest_93 : decode prog_12_method_9_code 93 = .ok (.iconst 0, 1) := by decide +kernel
theorem d_M_lowest_94 : decode prog_12_method_9_code 94 = .ok (.putfield 54, 3) := by decide +kernel
theorem d_M_lowest_97 : decode prog_12_method_9_code 97 = .ok (.aload_n 0, 1) := by decide +kernel
theorem d_M_lowest_98 : decode prog_12_method_9_code 98 = .ok (.aload_n 0, 1) := by decide +kernel
theorem d_M_lowest_99 : decode prog_12_method_9_code 99 = .ok (.getfield 54, 3) := by decide +kernel
theorem d_M_lowest_102 : decode prog_12_method_9_code 102 = .ok (.ifCond .eq 7, 3) := by decide +kernel
theorem d_M_lowest_105 : decode prog_12_method_9_code 105 = .ok (.iconst 0, 1) := by decide +kernel
theorem d_M_lowest_106 : decode prog_12_method_9_code 106 = .ok (.goto 6, 3) := by decide +kernel
theorem d_M_lowest_109 : decode prog_12_method_9_code 109 = .ok (.lload 9, 2) := by decide +kernel
theorem d_M_lowest_111 : decode prog_12_method_9_code 111 = .ok (.l2i, 1) := by decide +kernel
theorem d_M_lowest_112 : decode prog_12_method_9_code 112 = .ok (.putfield 62, 3) := by decide +kernel
theorem d_M_lowest_115 : decode prog_12_method_9_code 115 = .ok (.aload_n 0, 1) := by decide +kernel
theorem d_M_lowest_116 : decode prog_12_method_9_code 116 = .ok (.aload_n 0, 1) := by decide +kernel
theorem d_M_lowest_117 : decode prog_12_method_9_code 117 = .ok (.getfield 54, 3) := by decide +kernel
theorem d_M_lowest_120 : decode prog_12_method_9_code 120 = .ok (.ifCond .eq 7, 3) := by decide +kernel
theorem d_M_lowest_123 : decode prog_12_method_9_code 123 = .ok (.iconst 1, 1) := by decide +kernel
theorem d_M_lowest_124 : decode prog_12_method_9_code 124 = .ok (.goto 6, 3) := by decide +kernel
theorem d_M_lowest_127 : decode prog_12_method_9_code 127 = .ok (.lload 11, 2) := by decide +kernel
theorem d_M_lowest_129 : decode prog_12_method_9_code 129 = .ok (.l2i, 1) := by decide +kernel
theorem d_M_lowest_130 : decode prog_12_method_9_code 130 = .ok (.putfield 65, 3) := by decide +kernel
theorem d_M_lowest_133 : decode prog_12_method_9_code 133 = .ok (.return_, 1) := by decide +kernel
def tb_M_lowest_0 : List (Nat × jm_Op) := [(0, oLl 1 1), (1, oCL 0 2), (2, oLcmp 3), (3, oIfGe 11 6), (6, oLl 1 7), (7, oLNeg 8), (8, oGo 12), (11, oLl 1 12), (12, oLs 5 14), (14, oLl 3 15), (15, oLs 7 17), (17, oLl 7 19), (19, oCL 0 20), (20, oLcmp 21), (21, oIfEq 42 24), (24, oLl 5 26), (26, oLl 7 28), (28, oLRem 29), (29, oLs 9 31), (31, oLl 7 33), (33, oLs 5 35), (35, oLl 9 37), (37, oLs 7 39), (39, oGo 17), (42, oLl 1 43), (43, oLl 5 45), (45, oLDiv 46), (46, oLs 9 48), (48, oLl 3 49), (49, oLl 5 51), (51, oLDiv 52), (52, oLs 11 54), (54, oAl 0 55), (55, oAl 0 56), (56, oGi 6 11 59), (59, oIfNe 89 62), (62, oLl 9 64), (64, oCL 1000000000 67), (67, oLcmp 68), (68, oIfGt 89 71), (71, oLl 9 73), (73, oCL (-1000000000) 76), (76, oLcmp 77), (77, oIfLt 89 80), (80, oLl 11 82), (82, oCL 1000000000 85), (85, oLcmp 86), (86, oIfLe 93 89), (89, oC 1 90), (90, oGo 94)]
theorem ok_M_lowest_0 : jm_all 85 tb_M_lowest_0 := ⟨s_lload_n d_M_lowest_0 rfl, s_lconst d_M_lowest_1 (by decide), s_lcmp d_M_lowest_2, s_if_ge d_M_lowest_3 (by decide), s_lload_n d_M_lowest_6 rfl, s_lneg d_M_lowest_7, s_goto d_M_lowest_8 (by decide), s_lload_n d_M_lowest_11 rfl, s_lstore d_M_lowest_12 (by decide), s_lload_n d_M_lowest_14 rfl, s_lstore d_M_lowest_15 (by decide), s_lload d_M_lowest_17, s_lconst d_M_lowest_19 (by decide), s_lcmp d_M_lowest_20, s_if_eq d_M_lowest_21 (by decide), s_lload d_M_lowest_24, s_lload d_M_lowest_26, s_lrem d_M_lowest_28, s_lstore d_M_lowest_29 (by decide), s_lload d_M_lowest_31, s_lstore d_M_lowest_33 (by decide), s_lload d_M_lowest_35, s_lstore d_M_lowest_37 (by decide), s_goto d_M_lowest_39 (by decide), s_lload_n d_M_lowest_42 rfl, s_lload d_M_lowest_43, s_ldiv d_M_lowest_45, s_lstore d_M_lowest_46 (by decide), s_lload_n d_M_lowest_48 rfl, s_lload d_M_lowest_49, s_ldiv d_M_lowest_51, s_lstore d_M_lowest_52 (by decide), s_aload_n d_M_lowest_54 rfl, s_aload_n d_M_lowest_55 rfl, s_geti d_M_lowest_56 ci_M rfl wd_662, s_if_ne d_M_lowest_59 (by decide), s_lload d_M_lowest_62, s_ldc2 d_M_lowest_64 wd_776, s_lcmp d_M_lowest_67, s_if_gt d_M_lowest_68 (by decide), s_lload d_M_lowest_71, s_ldc2 d_M_lowest_73 wd_777, s_lcmp d_M_lowest_76, s_if_lt d_M_lowest_77 (by decide), s_lload d_M_lowest_80, s_ldc2 d_M_lowest_82 wd_776, s_lcmp d_M_lowest_85, s_if_le d_M_lowest_86 (by decide), s_iconst d_M_lowest_89 (by decide), s_goto d_M_lowest_90 (by decide), trivial⟩
def tb_M_lowest_1 : List (Nat × jm_Op) := [(93, oC 0 94), (94, oPz 6 11 97), (97, oAl 0 98), (98, oAl 0 99), (99, oGi 6 11 102), (102, oIfEq 109 105), (105, oC 0 106), (106, oGo 112), (109, oLl 9 111), (111, oL2I 112), (112, oPi 6 16 115), (115, oAl 0 116), (116, oAl 0 117), (117, oGi 6 11 120), (120, oIfEq 127 123), (123, oC 1 124), (124, oGo 130), (127, oLl 11 129), (129, oL2I 130), (130, oPi 6 17 133)]
theorem ok_M_lowest_1 : jm_all 85 tb_M_lowest_1 := ⟨s_iconst d_M_lowest_93 (by decide), s_putz d_M_lowest_94 ci_M rfl rfl rfl wd_662, s_aload_n d_M_lowest_97 rfl, s_aload_n d_M_lowest_98 rfl, s_geti d_M_lowest_99 ci_M rfl wd_662, s_if_eq d_M_lowest_102 (by decide), s_iconst d_M_lowest_105 (by decide), s_goto d_M_lowest_106 (by decide), s_lload d_M_lowest_109, s_l2i d_M_lowest_111, s_puti d_M_lowest_112 ci_M rfl rfl rfl wd_667, s_aload_n d_M_lowest_115 rfl, s_aload_n d_M_lowest_116 rfl, s_geti d_M_lowest_117 ci_M rfl wd_662, s_if_eq d_M_lowest_120 (by decide), s_iconst d_M_lowest_123 (by decide), s_goto d_M_lowest_124 (by decide), s_lload d_M_lowest_127, s_l2i d_M_lowest_129, s_puti d_M_lowest_130 ci_M rfl rfl rfl wd_668, trivial⟩
def tb_M_lowest : List (Nat × jm_Op) := tb_M_lowest_0 ++ tb_M_lowest_1
theorem ok_M_lowest : jm_all 85 tb_M_lowest := jm_all_app ok_M_lowest_0 ok_M_lowest_1
theorem r_M_lowest_133 {g : jm_G} {d : Nat} {L : List (Option jm_V)} {σ : jm_S} {K : jm_O → Prop} (hK : K (σ, .inl none)) : J g d 85 133 L [] σ K := J_vret d_M_lowest_133 rfl hK
-- IdealProverModel comes (IIII)V
theorem d_M_comes_0 : decode prog_12_method_13_code 0 = .ok (.aload_n 0, 1) := by decide +kernel
theorem d_M_comes_1 : decode prog_12_method_13_code 1 = .ok (.getfield 54, 3) := by decide +kernel
theorem d_M_comes_4 : decode prog_12_method_13_code 4 = .ok (.ifCond .eq 4, 3) := by decide +kernel
theorem d_M_comes_7 : decode prog_12_method_13_code 7 = .ok (.return_, 1) := by decide +kernel
theorem d_M_comes_8 : decode prog_12_method_13_code 8 = .ok (.bipush 100, 2) := by decide +kernel
theorem d_M_comes_10 : decode prog_12_method_13_code 10 = .ok (.iload_n 1, 1) := by decide +kernel
theorem d_M_comes_11 : decode prog_12_method_13_code 11 = .ok (.imul, 1) := by decide +kernel
theorem d_M_comes_12 : decode prog_12_method_13_code 12 = .ok (.istore 5, 2) := by decide +kernel
theorem d_M_comes_14 : decode prog_12_method_13_code 14 = .ok (.iconst 0, 1) := by decide +kernel
theorem d_M_comes_15 : decode prog_12_method_13_code 15 = .ok (.istore 6, 2) := by decide +kernel
theorem d_M_comes_17 : decode prog_12_method_13_code 17 = .ok (.iload 6, 2) := by decide +kernel
theorem d_M_comes_19 : decode prog_12_method_13_code 19 = .ok (.aload_n 0, 1) := by decide +kernel
theorem d_M_comes_20 : decode prog_12_method_13_code 20 = .ok (.getfield 20, 3) := by decide +kernel
theorem d_M_comes_23 : decode prog_12_method_13_code 23 = .ok (.iload_n 1, 1) := by decide +kernel
theorem d_M_comes_24 : decode prog_12_method_13_code 24 = .ok (.iaload, 1) := by decide +kernel
theorem d_M_comes_25 : decode prog_12_method_13_code 25 = .ok (.if_icmp .ge 28, 3) := by decide +kernel
theorem d_M_comes_28 : decode prog_12_method_13_code 28 = .ok (.aload_n 0, 1) := by decide +kernel
theorem d_M_comes_29 : decode prog_12_method_13_code 29 = .ok (.aload_n 0, 1) := by decide +kernel
theorem d_M_comes_30 : decode prog_12_method_13_code 30 = .ok (.getfield 17, 3) := by decide +kernel
theorem d_M_comes_33 : decode prog_12_method_13_code 33 = .ok (.iload 5, 2) := by decide +kernel
theorem d_M_comes_35 : decode prog_12_method_13_code 35 = .ok (.iload 6, 2) := by decide +kernel
theorem d_M_comes_37 : decode prog_12_method_13_code 37 = .ok (.iadd, 1) := by decide +kernel
theorem d_M_comes_38 : decode prog_12_method_13_code 38 = .ok (.iaload, 1) := by decide +kernel
theorem d_M_comes_39 : decode prog_12_method_13_code 39 = .ok (.iload 4, 2) := by decide +kernel
theorem d_M_comes_41 : decode prog_12_method_13_code 41 = .ok (.invokevirtual 72, 3) := by decide +kernel
theorem d_M_comes_44 : decode prog_12_method_13_code 44 = .ok (.ifCond .le 9, 3) := by decide +kernel
theorem d_M_comes_47 : decode prog_12_method_13_code 47 = .ok (.iinc 6 1, 3) := by decide +kernel
theorem d_M_comes_50 : decode prog_12_method_13_code 50 = .ok (.goto (-33), 3) := by decide +kernel
theorem d_M_comes_53 : decode prog_12_method_13_code 53 = .ok (.iload 6, 2) := by decide +kernel
theorem d_M_comes_55 : decode prog_12_method_13_code 55 = .ok (.aload_n 0, 1) := by decide +kernel
theorem d_M_comes_56 : decode prog_12_method_13_code 56 = .ok (.getfield 20, 3) := by decide +kernel
theorem d_M_comes_59 : decode prog_12_method_13_code 59 = .ok (.iload_n 1, 1) := by decide +kernel
theorem d_M_comes_60 : decode prog_12_method_13_code 60 = .ok (.iaload, 1) := by decide +kernel
theorem d_M_comes_61 : decode prog_12_method_13_code 61 = .ok (.if_icmp .ge 206, 3) := by decide +kernel
theorem d_M_comes_64 : decode prog_12_method_13_code 64 = .ok (.aload_n 0, 1) := by decide +kernel
theorem d_M_comes_65 : decode prog_12_method_13_code 65 = .ok (.getfield 17, 3) := by decide +kernel
theorem d_M_comes_68 : decode prog_12_method_13_code 68 = .ok (.iload 5, 2) := by decide +kernel
theorem d_M_comes_70 : decode prog_12_method_13_code 70 = .ok (.iload 6, 2) := by decide +kernel
theorem d_M_comes_72 : decode prog_12_method_13_code 72 = .ok (.iadd, 1) := by decide +kernel
theorem d_M_comes_73 : decode prog_12_method_13_code 73 = .ok (.iaload, 1) := by decide +kernel
theorem d_M_comes_74 : decode prog_12_method_13_code 74 = .ok (.iload 4, 2) := by decide +kernel
theorem d_M_comes_76 : decode prog_12_method_13_code 76 = .ok (.if_icmp .ne 191, 3) := by decide +kernel
theorem d_M_comes_79 : decode prog_12_method_13_code 79 = .ok (.aload_n 0, 1) := by decide +kernel
theorem d_M_comes_80 : decode prog_12_method_13_code 80 = .ok (.aload_n 0, 1) := by decide +kernel
theorem d_M_comes_81 : decode prog_12_method_13_code 81 = .ok (.getfield 8, 3) := by decide +kernel
theorem d_M_comes_84 : decode prog_12_method_13_code 84 = .ok (.iload 5, 2) := by decide +kernel
theorem d_M_comes_86 : decode prog_12_method_13_code 86 = .ok (.iload 6, 2) := by decide +kernel
theorem d_M_comes_88 : decode prog_12_method_13_code 88 = .ok (.iadd, 1) := by decide +kernel
theorem d_M_comes_89 : decode prog_12_method_13_code 89 = .ok (.iaload, 1) := by decide +kernel
theorem d_M_comes_90 : decode prog_12_method_13_code 90 = .ok (.i2l, 1) := by decide +kernel
theorem d_M_comes_91 : decode prog_12_method_13_code 91 = .ok (.iload_n 3, 1) := by decide +kernel
theorem d_M_comes_92 : decode prog_12_method_13_code 92 = .ok (.i2l, 1) := by decide +kernel
theorem d_M_comes_93 : decode prog_12_method_13_code 93 = .ok (.lmul, 1) := by decide +kernel
theorem d_M_comes_94 : decode prog_12_method_13_code 94 = .ok (.iload_n 2, 1) := by decide +kernel
theorem d_M_comes_95 : decode prog_12_method_13_code 95 = .ok (.i2l, 1) := by decide +kernel
theorem d_M_comes_96 : decode prog_12_method_13_code 96 = .ok (.aload_n 0, 1) := by decide +kernel
theorem d_M_comes_97 : decode prog_12_method_13_code 97 = .ok (.getfield 14, 3) := by decide +kernel
theorem d_M_comes_100 : decode prog_12_method_13_code 100 = .ok (.iload 5, 2) := by decide +kernel
theorem d_M_comes_102 : decode prog_12_method_13_code 102 = .ok (.iload 6, 2) := by decide +kernel
theorem d_M_comes_104 : decode prog_12_method_13_code 104 = .ok (.iadd, 1) := by decide +kernel
theorem d_M_comes_105 : decode prog_12_method_13_code 105 = .ok (.iaload, 1) := by decide +kernel
theorem d_M_comes_106 : decode prog_12_method_13_code 106 = .ok (.i2l, 1) := by decide +kernel
theorem d_M_comes_107 : decode prog_12_method_13_code 107 = .ok (.lmul, 1) := by decide +kernel
theorem d_M_comes_108 : decode prog_12_method_13_code 108 = .ok (.ladd, 1) := by decide +kernel
theorem d_M_comes_109 : decode prog_12_method_13_code 109 = .ok (.aload_n 0, 1) := by decide +kernel
theorem d_M_comes_110 : decode prog_12_method_13_code 110 = .ok (.getfield 14, 3) := by decide +kernel
theorem d_M_comes_113 : decode prog_12_method_13_code 113 = .ok (.iload 5, 2) := by decide +kernel
theorem d_M_comes_115 : decode prog_12_method_13_code 115 = .ok (.iload 6, 2) := by decide +kernel
theorem d_M_comes_117 : decode prog_12_method_13_code 117 = .ok (.iadd, 1) := by decide +kernel
theorem d_M_comes_118 : decode prog_12_method_13_code 118 = .ok (.iaload, 1) := by decide +kernel
theorem d_M_comes_119 : decode prog_12_method_13_code 119 = .ok (.i2l, 1) := by decide +kernel
theorem d_M_comes_120 : decode prog_12_method_13_code 120 = .ok (.iload_n 3, 1) := by decide +kernel
theorem d_M_comes_121 : decode prog_12_method_13_code 121 = .ok (.i2l, 1) := by decide +kernel
theorem d_M_comes_122 : decode prog_12_method_13_code 122 = .ok (.lmul, 1) := by decide +kernel
theorem d_M_comes_123 : decode prog_12_method_13_code 123 = .ok (.invokevirtual 68, 3) := by decide +kernel
theorem d_M_comes_126 : decode prog_12_method_13_code 126 = .ok (.aload_n 0, 1) := by decide +kernel
theorem d_M_comes_127 : decode prog_12_method_13_code 127 = .ok (.getfield 54, 3) := by decide +kernel
theorem d_M_comes_130 : decode prog_12_method_13_code 130 = .ok (.ifCond .eq 4, 3) := by decide +kernel
theorem d_M_comes_133 : decode prog_12_method_13_code 133 = .ok (.return_, 1) := by decide +kernel
theorem d_M_comes_134 : decode prog_12_method_13_code 134 = .ok (.aload_n 0, 1) := by decide +kernel
theorem d_M_comes_135 : decode prog_12_method_13_code 135 = .ok (.getfield 8, 3) := by decide +kernel
theorem d_M_comes_138 : decode prog_12_method_13_code 138 = .ok (.iload 5, 2) := by decide +kernel
theorem d_M_comes_140 : decode prog_12_method_13_code 140 = .ok (.iload 6, 2) := by decide +kernel
theorem d_M_comes_142 : decode prog_12_method_13_code 142 = .ok (.iadd, 1) := by decide +kernel
theorem d_M_comes_143 : decode prog_12_method_13_code 143 = .ok (.aload_n 0, 1) := by decide +kernel
theorem d_M_comes_144 : decode prog_12_method_13_code 144 = .ok (.getfield 62, 3) := by decide +kernel
theorem d_M_comes_147 : decode prog_12_method_13_code 147 = .ok (.iastore, 1) := by decide +kernel
theorem d_M_comes_148 : decode prog_12_method_13_code 148 = .ok (.aload_n 0, 1) := by decide +kernel
theorem d_M_comes_149 : decode prog_12_method_13_code 149 = .ok (.getfield 14, 3) := by decide +kernel
theorem d_M_comes_152 : decode prog_12_method_13_code 152 = .ok (.iload 5, 2) := by decide +kernel
theorem d_M_comes_154 : decode prog_12_method_13_code 154 = .ok (.iload 6, 2) := by decide +kernel
theorem d_M_comes_156 : decode prog_12_method_13_code 156 = .ok (.iadd, 1) := by decide +kernel
theorem d_M_comes_157 : decode prog_12_method_13_code 157 = .ok (.aload_n 0, 1) := by decide +kernel
theorem d_M_comes_158 : decode prog_12_method_13_code 158 = .ok (.getfield 65, 3) := by decide +kernel
theorem d_M_comes_161 : decode prog_12_method_13_code 161 = .ok (.iastore, 1) := by decide +kernel
theorem d_M_comes_162 : decode prog_12_method_13_code 162 = .ok (.aload_n 0, 1) := by decide +kernel
theorem d_M_comes_163 : decode prog_12_method_13_code 163 = .ok (.getfield 62, 3) := by decide +kernel
theorem d_M_comes_166 : decode prog_12_method_13_code 166 = .ok (.ifCond .ne 100, 3) := by decide +kernel
theorem d_M_comes_169 : decode prog_12_method_13_code 169 = .ok (.aload_n 0, 1) := by decide +kernel
theorem d_M_comes_170 : decode prog_12_method_13_code 170 = .ok (.getfield 20, 3) := by decide +kernel
theorem d_M_comes_173 : decode prog_12_method_13_code 173 = .ok (.iload_n 1, 1) := by decide +kernel
theorem d_M_comes_174 : decode prog_12_method_13_code 174 = .ok (.dup2, 1) := by decide +kernel
theorem d_M_comes_175 : decode prog_12_method_13_code 175 = .ok (.iaload, 1) := by decide +kernel
theorem d_M_comes_176 : decode prog_12_method_13_code 176 = .ok (.iconst 1, 1) := by decide +kernel
theorem d_M_comes_177 : decode prog_12_method_13_code 177 = .ok (.isub, 1) := by decide +kernel
theorem d_M_comes_178 : decode prog_12_method_13_code 178 = .ok (.iastore, 1) := by decide +kernel
theorem d_M_comes_179 : decode prog_12_method_13_code 179 = .ok (.iload 6, 2) := by decide +kernel
theorem d_M_comes_181 : decode prog_12_method_13_code 181 = .ok (.istore 7, 2) := by decide +kernel
theorem d_M_comes_183 : decode prog_12_method_13_code 183 = .ok (.iload 7, 2) := by decide +kernel
theorem d_M_comes_185 : decode prog_12_method_13_code 185 = .ok (.aload_n 0, 1) := by decide +kernel
theorem d_M_comes_186 : decode prog_12_method_13_code 186 = .ok (.getfield 20, 3) := by decide +kernel
theorem d_M_comes_189 : decode prog_12_method_13_code 189 = .ok (.iload_n 1, 1) := by decide +kernel
theorem d_M_comes_190 : decode prog_12_method_13_code 190 = .ok (.iaload, 1) := by decide +kernel
theorem d_M_comes_191 : decode prog_12_method_13_code 191 = .ok (.if_icmp .ge 75, 3) := by decide +kernel
theorem d_M_comes_194 : decode prog_12_method_13_code 194 = .ok (.aload_n 0, 1) := by decide +kernel
theorem d_M_comes_195 : decode prog_12_method_13_code 195 = .ok (.getfield 8, 3) := by decide +kernel
theorem d_M_comes_198 : decode prog_12_method_13_code 198 = .ok (.iload 5, 2) := by decide +kernel
theorem d_M_comes_200 : decode prog_12_method_13_code 200 = .ok (.iload 7, 2) := by decide +kernel
theorem d_M_comes_202 : decode prog_12_method_13_code 202 = .ok (.iadd, 1) := by decide +kernel
theorem d_M_comes_203 : decode prog_12_method_13_code 203 = .ok (.aload_n 0, 1) := by decide +kernel
theorem d_M_comes_204 : decode prog_12_method_13_code 204 = .ok (.getfield 8, 3) := by decide +kernel
theorem d_M_comes_207 : decode prog_12_method_13_code 207 = .ok (.iload 5, 2) := by decide +kernel
theorem d_M_comes_209 : decode prog_12_method_13_code 209 = .ok (.iload 7, 2) := by decide +kernel
theorem d_M_comes_211 : decode prog_12_method_13_code 211 = .ok (.iadd, 1) := by decide +kernel
theorem d_M_comes_212 : decode prog_12_method_13_code 212 = .ok (.iconst 1, 1) := by decide +kernel
theorem d_M_comes_213 : decode prog_12_method_13_code 213 = .ok (.iadd, 1) := by decide +kernel
theorem d_M_comes_214 : decode prog_12_method_13_code 214 = .ok (.iaload, 1) := by decide +kernel
theorem d_M_comes_215 : decode prog_12_method_13_code 215 = .ok (.iastore, 1) := by decide +kernel
theorem d_M_comes_216 : decode prog_12_method_13_code 216 = .ok (.aload_n 0, 1) := by decide +kernel
theorem d_M_comes_217 : decode prog_12_method_13_code 217 = .ok (.getfield 14, 3) := by decide +kernel
theorem d_M_comes_220 : decode prog_12_method_13_code 220 = .ok (.iload 5, 2) := by decide +kernel
theorem d_M_comes_222 : decode prog_12_method_13_code 222 = .ok (.iload 7, 2) := by decide +kernel
theorem d_M_comes_224 : decode prog_12_method_13_code 224 = .ok (.iadd, 1) := by decide +kernel
theorem d_M_comes_225 : decode prog_12_method_13_code 225 = .ok (.aload_n 0, 1) := by decide +kernel
theorem d_M_comes_226 : decode prog_12_method_13_code 226 = .ok (.getfield 14, 3) := by decide +kernel
theorem d_M_comes_229 : decode prog_12_method_13_code 229 = .ok (.iload 5, 2) := by decide +kernel
theorem d_M_comes_231 : decode prog_12_method_13_code 231 = .ok (.iload 7, 2) := by decide +kernel
theorem d_M_comes_233 : decode prog_12_method_13_code 233 = .ok (.iadd, 1) := by decide +kernel
theorem d_M_comes_234 : decode prog_12_method_13_code 234 = .ok (.iconst 1, 1) := by decide +kernel
theorem d_M_comes_235 : decode prog_12_method_13_code 235 = .ok (.iadd, 1) := by decide +kernel
theorem d_M_comes_236 : decode prog_12_method_13_code 236 = .ok (.iaload, 1) := by decide +kernel
theorem d_M_comes_237 : decode prog_12_method_13_code 237 = .ok (.iastore, 1) := by decide +kernel
theorem d_M_comes_238 : decode prog_12_method_13_code 238 = .ok (.aload_n 0, 1) := by decide +kernel
theorem d_M_comes_239 : decode prog_12_method_13_code 239 = .ok (.getfield 17, 3) := by decide +kernel
theorem d_M_comes_242 : decode prog_12_method_13_code 242 = .ok (.iload 5, 2) := by decide +kernel
theorem d_M_comes_244 : decode prog_12_method_13_code 244 = .ok (.iload 7, 2) := by decide +kernel
theorem d_M_comes_246 : decode prog_12_method_13_code 246 = .ok (.iadd, 1) := by decide +kernel
theorem d_M_comes_247 : decode prog_12_method_13_code 247 = .ok (.aload_n 0, 1) := by decide +kernel
theorem d_M_comes_248 : decode prog_12_method_13_code 248 = .ok (.getfield 17, 3) := by decide +kernel
theorem d_M_comes_251 : decode prog_12_method_13_code 251 = .ok (.iload 5, 2) := by decide +kernel
theorem d_M_comes_253 : decode prog_12_method_13_code 253 = .ok (.iload 7, 2) := by decide +kernel
theorem d_M_comes_255 : decode prog_12_method_13_code 255 = .ok (.iadd, 1) := by decide +kernel
theorem d_M_comes_256 : decode prog_12_method_13_code 256 = .ok (.iconst 1, 1) := by decide +kernel
theorem d_M_comes_257 : decode prog_12_method_13_code 257 = .ok (.iadd, 1) := by decide +kernel
theorem d_M_comes_258 : decode prog_12_method_13_code 258 = .ok (.iaload, 1) := by decide +kernel
theorem d_M_comes_259 : decode prog_12_method_13_code 259 = .ok (.iastore, 1) := by decide +kernel
theorem d_M_comes_260 : decode prog_12_method_13_code 260 = .ok (.iinc 7 1, 3) := by decide +kernel
theorem d_M_comes_263 : decode prog_12_method_13_code 263 = .ok (.goto (-80), 3) := by decide +kernel
theorem d_M_comes_266 : decode prog_12_method_13_code 266 = .ok (.return_, 1) := by decide +kernel
theorem d_M_comes_267 : decode prog_12_method_13_code 267 = .ok (.aload_n 0, 1) := by decide +kernel
theorem d_M_comes_268 : decode prog_12_method_13_code 268 = .ok (.getfield 20, 3) := by decide +kernel
theorem d_M_comes_271 : decode prog_12_method_13_code 271 = .ok (.iload_n 1, 1) := by decide +kernel
theorem d_M_comes_272 : decode prog_12_method_13_code 272 = .ok (.iaload, 1) := by decide +kernel
theorem d_M_comes_273 : decode prog_12_method_13_code 273 = .ok (.bipush 100, 2) := by decide +kernel
theorem d_M_comes_275 : decode prog_12_method_13_code 275 = .ok (.if_icmp .ne 9, 3) := by decide +kernel
theorem d_M_comes_278 : decode prog_12_method_13_code 278 = .ok (.aload_n 0, 1) := by decide +kernel
theorem d_M_comes_279 : decode prog_12_method_13_code 279 = .ok (.iconst 1, 1) := by decide +kernel
theorem d_M_comes_280 : decode prog_12_method_13_code 280 = .ok (.putfield 54, 3) := by decide +kernel
theorem d_M_comes_283 : decode prog_12_method_13_code 283 = .ok (.return_, 1) := by decide +kernel
theorem d_M_comes_284 : decode prog_12_method_13_code 284 = .ok (.aload_n 0, 1) := by decide +kernel
theorem d_M_comes_285 : decode prog_12_method_13_code 285 = .ok (.getfield 20, 3) := by decide +kernel
theorem d_M_comes_288 : decode prog_12_method_13_code 288 = .ok (.iload_n 1, 1) := by decide +kernel
theorem d_M_comes_289 : decode prog_12_method_13_code 289 = .ok (.iaload, 1) := by decide +kernel
theorem d_M_comes_290 : decode prog_12_method_13_code 290 = .ok (.istore 7, 2) := by decide +kernel
theorem d_M_comes_292 : decode prog_12_method_13_code 292 = .ok (.iload 7, 2) := by decide +kernel
theorem d_M_comes_294 : decode prog_12_method_13_code 294 = .ok (.iload 6, 2) := by decide +kernel
theorem d_M_comes_296 : decode prog_12_method_13_code 296 = .ok (.if_icmp .le 75, 3) := by decide +kernel
theorem d_M_comes_299 : decode prog_12_method_13_code 299 = .ok (.aload_n 0, 1) := by decide +kernel
theorem d_M_comes_300 : decode prog_12_method_13_code 300 = .ok (.getfield 8, 3) := by decide +kernel
theorem d_M_comes_303 : decode prog_12_method_13_code 303 = .ok (.iload 5, 2) := by decide +kernel
theorem d_M_comes_305 : decode prog_12_method_13_code 305 = .ok (.iload 7, 2) := by decide +kernel
theorem d_M_comes_307 : decode prog_12_method_13_code 307 = .ok (.iadd, 1) := by decide +kernel
theorem d_M_comes_308 : decode prog_12_method_13_code 308 = .ok (.aload_n 0, 1) := by decide +kernel
theorem d_M_comes_309 : decode prog_12_method_13_code 309 = .ok (.getfield 8, 3) := by decide +kernel
theorem d_M_comes_312 : decode prog_12_method_13_code 312 = .ok (.iload 5, 2) := by decide +kernel
theorem d_M_comes_314 : decode prog_12_method_13_code 314 = .ok (.iload 7, 2) := by decide +kernel
theorem d_M_comes_316 : decode prog_12_method_13_code 316 = .ok (.iadd, 1) := by decide +kernel
theorem d_M_comes_317 : decode prog_12_method_13_code 317 = .ok (.iconst 1, 1) := by decide +kernel
theorem d_M_comes_318 : decode prog_12_method_13_code 318 = .ok (.isub, 1) := by decide +kernel
theorem d_M_comes_319 : decode prog_12_method_13_code 319 = .ok (.iaload, 1) := by decide +kernel
theorem d_M_comes_320 : decode prog_12_method_13_code 320 = .ok (.iastore, 1) := by decide +kernel
theorem d_M_comes_321 : decode prog_12_method_13_code 321 = .ok (.aload_n 0, 1) := by decide +kernel
theorem d_M_comes_322 : decode prog_12_method_13_code 322 = .ok (.getfield 14, 3) := by decide +kernel
theorem d_M_comes_325 : decode prog_12_method_13_code 325 = .ok (.iload 5, 2) := by decide +kernel
theorem d_M_comes_327 : decode prog_12_method_13_code 327 = .ok (.iload 7, 2) := by decide +kernel
theorem d_M_comes_329 : decode prog_12_method_13_code 329 = .ok (.iadd, 1) := by decide +kernel
theorem d_M_comes_330 : decode prog_12_method_13_code 330 = .ok (.aload_n 0, 1) := by decide +kernel
theorem d_M_comes_331 : decode prog_12_method_13_code 331 = .ok (.getfield 14, 3) := by decide +kernel
theorem d_M_comes_334 : decode prog_12_method_13_code 334 = .ok (.iload 5, 2) := by decide +kernel
theorem d_M_comes_336 : decode prog_12_method_13_code 336 = .ok (.iload 7, 2) := by decide +kernel
theorem d_M_comes_338 : decode prog_12_method_13_code 338 = .ok (.iadd, 1) := by decide +kernel
theorem d_M_comes_339 : decode prog_12_method_13_code 339 = .ok (.iconst 1, 1) := by decide +kernel
theorem d_M_comes_340 : decode prog_12_method_13_code 340 = .ok (.isub, 1) := by decide +kernel
theorem d_M_comes_341 : decode prog_12_method_13_code 341 = .ok (.iaload, 1) := by decide +kernel
theorem d_M_comes_342 : decode prog_12_method_13_code 342 = .ok (.iastore, 1) := by decide +kernel
theorem d_M_comes_343 : decode prog_12_method_13_code 343 = .ok (.aload_n 0, 1) := by decide +kernel
theorem d_M_comes_344 : decode prog_12_method_13_code 344 = .ok (.getfield 17, 3) := by decide +kernel
theorem d_M_comes_347 : decode prog_12_method_13_code 347 = .ok (.iload 5, 2) := by decide +kernel
theorem d_M_comes_349 : decode prog_12_method_13_code 349 = .ok (.iload 7, 2) := by decide +kernel
theorem d_M_comes_351 : decode prog_12_method_13_code 351 = .ok (.iadd, 1) := by decide +kernel
theorem d_M_comes_352 : decode prog_12_method_13_code 352 = .ok (.aload_n 0, 1) := by decide +kernel
theorem d_M_comes_353 : decode prog_12_method_13_code 353 = .ok (.getfield 17, 3) := by decide +kernel
theorem d_M_comes_356 : decode prog_12_method_13_code 356 = .ok (.iload 5, 2) := by decide +kernel
theorem d_M_comes_358 : decode prog_12_method_13_code 358 = .ok (.iload 7, 2) := by decide +kernel
theorem d_M_comes_360 : decode prog_12_method_13_code 360 = .ok (.iadd, 1) := by decide +kernel
theorem d_M_comes_361 : decode prog_12_method_13_code 361 = .ok (.iconst 1, 1) := by decide +kernel
theorem d_M_comes_362 : decode prog_12_method_13_code 362 = .ok (.isub, 1) := by decide +kernel
theorem d_M_comes_363 : decode prog_12_method_13_code 363 = .ok (.iaload, 1) := by decide +kernel
theorem d_M_comes_364 : decode prog_12_method_13_code 364 = .ok (.iastore, 1) := by decide +kernel
theorem d_M_comes_365 : decode prog_12_method_13_code 365 = .ok (.iinc 7 (-1), 3) := by decide +kernel
theorem d_M_comes_368 : decode prog_12_method_13_code 368 = .ok (.goto (-76), 3) := by decide +kernel
theorem d_M_comes_371 : decode prog_12_method_13_code 371 = .ok (.aload_n 0, 1) := by decide +kernel
theorem d_M_comes_372 : decode prog_12_method_13_code 372 = .ok (.getfield 8, 3) := by decide +kernel
theorem d_M_comes_375 : decode prog_12_method_13_code 375 = .ok (.iload 5, 2) := by decide +kernel
theorem d_M_comes_377 : decode prog_12_method_13_code 377 = .ok (.iload 6, 2) := by decide +kernel
theorem d_M_comes_379 : decode prog_12_method_13_code 379 = .ok (.iadd, 1) := by decide +kernel
theorem d_M_comes_380 : decode prog_12_method_13_code 380 = .ok (.iload_n 2, 1) := by decide +kernel
theorem d_M_comes_381 : decode prog_12_method_13_code 381 = .ok (.iastore, 1) := by decide +kernel
theorem d_M_comes_382 : decode prog_12_method_13_code 382 = .ok (.aload_n 0, 1) := by decide +kernel
theorem d_M_comes_383 : decode prog_12_method_13_code 383 = .ok (.getfield 14, 3) := by decide +kernel
theorem d_M_comes_386 : decode prog_12_method_13_code 386 = .ok (.iload 5, 2) := by decide +kernel
theorem d_M_comes_388 : decode prog_12_method_13_code 388 = .ok (.iload 6, 2) := by decide +kernel
theorem d_M_comes_390 : decode prog_12_method_13_code 390 = .ok (.iadd, 1) := by decide +kernel
theorem d_M_comes_391 : decode prog_12_method_13_code 391 = .ok (.iload_n 3, 1) := by decide +kernel
theorem d_M_comes_392 : decode prog_12_method_13_code 392 = .ok (.iastore, 1) := by decide +kernel
theorem d_M_comes_393 : decode prog_12_method_13_code 393 = .ok (.aload_n 0, 1) := by decide +kernel
theorem d_M_comes_394 : decode prog_12_method_13_code 394 = .ok (.getfield 17, 3) := by decide +kernel
theorem d_M_comes_397 : decode prog_12_method_13_code 397 = .ok (.iload 5, 2) := by decide +kernel
theorem d_M_comes_399 : decode prog_12_method_13_code 399 = .ok (.iload 6, 2) := by decide +kernel
theorem d_M_comes_401 : decode prog_12_method_13_code 401 = .ok (.iadd, 1) := by decide +kernel
theorem d_M_comes_402 : decode prog_12_method_13_code 402 = .ok (.iload 4, 2) := by decide +kernel
theorem d_M_comes_404 : decode prog_12_method_13_code 404 = .ok (.iastore, 1) := by decide +kernel
theorem d_M_comes_405 : decode prog_12_method_13_code 405 = .ok (.aload_n 0, 1) := by decide +kernel
theorem d_M_comes_406 : decode prog_12_method_13_code 406 = .ok (.getfield 20, 3) := by decide +kernel
theorem d_M_comes_409 : decode prog_12_method_13_code 409 = .ok (.iload_n 1, 1) := by decide +kernel
theorem d_M_comes_410 : decode prog_12_method_13_code 410 = .ok (.dup2, 1) := by decide +kernel
theorem d_M_comes_411 : decode prog_12_method_13_code 411 = .ok (.iaload, 1) := by decide +kernel
theorem d_M_comes_412 : decode prog_12_method_13_code 412 = .ok (.iconst 1, 1) := by decide +kernel
theorem d_M_comes_413 : decode prog_12_method_13_code 413 = .ok (.iadd, 1) := by decide +kernel
theorem d_M_comes_414 : decode prog_12_method_13_code 414 = .ok (.iastore, 1) := by decide +kernel
theorem d_M_comes_415 : decode prog_12_method_13_code 415 = .ok (.return_, 1) := by decide +kernel
def tb_M_comes_0 : List (Nat × jm_Op) := [(0, oAl 0 1), (1, oGi 6 11 4), (4, oIfEq 8 7), (8, oC 100 10), (10, oIl 1 11), (11, oMul 12), (12, oIs 5 14), (14, oC 0 15), (15, oIs 6 17), (17, oIl 6 19), (19, oAl 0 20), (20, oGr 6 6 8 23), (23, oIl 1 24), (24, oIa 25), (25, oIcGe 53 28), (28, oAl 0 29), (29, oAl 0 30), (30, oGr 6 5 8 33), (33, oIl 5 35), (35, oIl 6 37), (37, oAdd 38), (38, oIa 39), (39, oIl 4 41), (44, oIfLe 53 47), (47, oInc 6 1 50), (50, oGo 17), (53, oIl 6 55), (55, oAl 0 56), (56, oGr 6 6 8 59), (59, oIl 1 60), (60, oIa 61), (61, oIcGe 267 64), (64, oAl 0 65), (65, oGr 6 5 8 68), (68, oIl 5 70), (70, oIl 6 72), (72, oAdd 73), (73, oIa 74), (74, oIl 4 76), (76, oIcNe 267 79), (79, oAl 0 80), (80, oAl 0 81), (81, oGr 6 3 8 84), (84, oIl 5 86), (86, oIl 6 88), (88, oAdd 89), (89, oIa 90), (90, oI2L 91), (91, oIl 3 92), (92, oI2L 93)]
theorem ok_M_comes_0 : jm_all 86 tb_M_comes_0 := ⟨s_aload_n d_M_comes_0 rfl, s_geti d_M_comes_1 ci_M rfl wd_662, s_if_eq d_M_comes_4 (by decide), s_bipush d_M_comes_8 (by decide), s_iload_n d_M_comes_10 rfl, s_imul d_M_comes_11, s_istore d_M_comes_12 (by decide), s_iconst d_M_comes_14 (by decide), s_istore d_M_comes_15 (by decide), s_iload d_M_comes_17, s_aload_n d_M_comes_19 rfl, s_getr d_M_comes_20 ci_M rfl wd_657, s_iload_n d_M_comes_23 rfl, s_iaload d_M_comes_24, s_icmp_ge d_M_comes_25 (by decide), s_aload_n d_M_comes_28 rfl, s_aload_n d_M_comes_29 rfl, s_getr d_M_comes_30 ci_M rfl wd_656, s_iload d_M_comes_33, s_iload d_M_comes_35, s_iadd d_M_comes_37, s_iaload d_M_comes_38, s_iload d_M_comes_39, s_if_le d_M_comes_44 (by decide), s_iinc d_M_comes_47 (by decide) (by decide), s_goto d_M_comes_50 (by decide), s_iload d_M_comes_53, s_aload_n d_M_comes_55 rfl, s_getr d_M_comes_56 ci_M rfl wd_657, s_iload_n d_M_comes_59 rfl, s_iaload d_M_comes_60, s_icmp_ge d_M_comes_61 (by decide), s_aload_n d_M_comes_64 rfl, s_getr d_M_comes_65 ci_M rfl wd_656, s_iload d_M_comes_68, s_iload d_M_comes_70, s_iadd d_M_comes_72, s_iaload d_M_comes_73, s_iload d_M_comes_74, s_icmp_ne d_M_comes_76 (by decide), s_aload_n d_M_comes_79 rfl, s_aload_n d_M_comes_80 rfl, s_getr d_M_comes_81 ci_M rfl wd_654, s_iload d_M_comes_84, s_iload d_M_comes_86, s_iadd d_M_comes_88, s_iaload d_M_comes_89, s_i2l d_M_comes_90, s_iload_n d_M_comes_91 rfl, s_i2l d_M_comes_92, trivial⟩
def tb_M_comes_1 : List (Nat × jm_Op) := [(93, oLMul 94), (94, oIl 2 95), (95, oI2L 96), (96, oAl 0 97), (97, oGr 6 4 8 100), (100, oIl 5 102), (102, oIl 6 104), (104, oAdd 105), (105, oIa 106), (106, oI2L 107), (107, oLMul 108), (108, oLAdd 109), (109, oAl 0 110), (110, oGr 6 4 8 113), (113, oIl 5 115), (115, oIl 6 117), (117, oAdd 118), (118, oIa 119), (119, oI2L 120), (120, oIl 3 121), (121, oI2L 122), (122, oLMul 123), (126, oAl 0 127), (127, oGi 6 11 130), (130, oIfEq 134 133), (134, oAl 0 135), (135, oGr 6 3 8 138), (138, oIl 5 140), (140, oIl 6 142), (142, oAdd 143), (143, oAl 0 144), (144, oGi 6 16 147), (147, oIw 148), (148, oAl 0 149), (149, oGr 6 4 8 152), (152, oIl 5 154), (154, oIl 6 156), (156, oAdd 157), (157, oAl 0 158), (158, oGi 6 17 161), (161, oIw 162), (162, oAl 0 163), (163, oGi 6 16 166), (166, oIfNe 266 169), (169, oAl 0 170), (170, oGr 6 6 8 173), (173, oIl 1 174), (174, oDup2 175), (175, oIa 176), (176, oC 1 177)]
theorem ok_M_comes_1 : jm_all 86 tb_M_comes_1 := ⟨s_lmul d_M_comes_93, s_iload_n d_M_comes_94 rfl, s_i2l d_M_comes_95, s_aload_n d_M_comes_96 rfl, s_getr d_M_comes_97 ci_M rfl wd_655, s_iload d_M_comes_100, s_iload d_M_comes_102, s_iadd d_M_comes_104, s_iaload d_M_comes_105, s_i2l d_M_comes_106, s_lmul d_M_comes_107, s_ladd d_M_comes_108, s_aload_n d_M_comes_109 rfl, s_getr d_M_comes_110 ci_M rfl wd_655, s_iload d_M_comes_113, s_iload d_M_comes_115, s_iadd d_M_comes_117, s_iaload d_M_comes_118, s_i2l d_M_comes_119, s_iload_n d_M_comes_120 rfl, s_i2l d_M_comes_121, s_lmul d_M_comes_122, s_aload_n d_M_comes_126 rfl, s_geti d_M_comes_127 ci_M rfl wd_662, s_if_eq d_M_comes_130 (by decide), s_aload_n d_M_comes_134 rfl, s_getr d_M_comes_135 ci_M rfl wd_654, s_iload d_M_comes_138, s_iload d_M_comes_140, s_iadd d_M_comes_142, s_aload_n d_M_comes_143 rfl, s_geti d_M_comes_144 ci_M rfl wd_667, s_iastore d_M_comes_147, s_aload_n d_M_comes_148 rfl, s_getr d_M_comes_149 ci_M rfl wd_655, s_iload d_M_comes_152, s_iload d_M_comes_154, s_iadd d_M_comes_156, s_aload_n d_M_comes_157 rfl, s_geti d_M_comes_158 ci_M rfl wd_668, s_iastore d_M_comes_161, s_aload_n d_M_comes_162 rfl, s_geti d_M_comes_163 ci_M rfl wd_667, s_if_ne d_M_comes_166 (by decide), s_aload_n d_M_comes_169 rfl, s_getr d_M_comes_170 ci_M rfl wd_657, s_iload_n d_M_comes_173 rfl, s_dup2 d_M_comes_174, s_iaload d_M_comes_175, s_iconst d_M_comes_176 (by decide), trivial⟩
def tb_M_comes_2 : List (Nat × jm_Op) := [(177, oSub 178), (178, oIw 179), (179, oIl 6 181), (181, oIs 7 183), (183, oIl 7 185), (185, oAl 0 186), (186, oGr 6 6 8 189), (189, oIl 1 190), (190, oIa 191), (191, oIcGe 266 194), (194, oAl 0 195), (195, oGr 6 3 8 198), (198, oIl 5 200), (200, oIl 7 202), (202, oAdd 203), (203, oAl 0 204), (204, oGr 6 3 8 207), (207, oIl 5 209), (209, oIl 7 211), (211, oAdd 212), (212, oC 1 213), (213, oAdd 214), (214, oIa 215), (215, oIw 216), (216, oAl 0 217), (217, oGr 6 4 8 220), (220, oIl 5 222), (222, oIl 7 224), (224, oAdd 225), (225, oAl 0 226), (226, oGr 6 4 8 229), (229, oIl 5 231), (231, oIl 7 233), (233, oAdd 234), (234, oC 1 235), (235, oAdd 236), (236, oIa 237), (237, oIw 238), (238, oAl 0 239), (239, oGr 6 5 8 242), (242, oIl 5 244), (244, oIl 7 246), (246, oAdd 247), (247, oAl 0 248), (248, oGr 6 5 8 251), (251, oIl 5 253), (253, oIl 7 255), (255, oAdd 256), (256, oC 1 257), (257, oAdd 258)]
theorem ok_M_comes_2 : jm_all 86 tb_M_comes_2 := ⟨s_isub d_M_comes_177, s_iastore d_M_comes_178, s_iload d_M_comes_179, s_istore d_M_comes_181 (by decide), s_iload d_M_comes_183, s_aload_n d_M_comes_185 rfl, s_getr d_M_comes_186 ci_M rfl wd_657, s_iload_n d_M_comes_189 rfl, s_iaload d_M_comes_190, s_icmp_ge d_M_comes_191 (by decide), s_aload_n d_M_comes_194 rfl, s_getr d_M_comes_195 ci_M rfl wd_654, s_iload d_M_comes_198, s_iload d_M_comes_200, s_iadd d_M_comes_202, s_aload_n d_M_comes_203 rfl, s_getr d_M_comes_204 ci_M rfl wd_654, s_iload d_M_comes_207, s_iload d_M_comes_209, s_iadd d_M_comes_211, s_iconst d_M_comes_212 (by decide), s_iadd d_M_comes_213, s_iaload d_M_comes_214, s_iastore d_M_comes_215, s_aload_n d_M_comes_216 rfl, s_getr d_M_comes_217 ci_M rfl wd_655, s_iload d_M_comes_220, s_iload d_M_comes_222, s_iadd d_M_comes_224, s_aload_n d_M_comes_225 rfl, s_getr d_M_comes_226 ci_M rfl wd_655, s_iload d_M_comes_229, s_iload d_M_comes_231, s_iadd d_M_comes_233, s_iconst d_M_comes_234 (by decide), s_iadd d_M_comes_235, s_iaload d_M_comes_236, s_iastore d_M_comes_237, s_aload_n d_M_comes_238 rfl, s_getr d_M_comes_239 ci_M rfl wd_656, s_iload d_M_comes_242, s_iload d_M_comes_244, s_iadd d_M_comes_246, s_aload_n d_M_comes_247 rfl, s_getr d_M_comes_248 ci_M rfl wd_656, s_iload d_M_comes_251, s_iload d_M_comes_253, s_iadd d_M_comes_255, s_iconst d_M_comes_256 (by decide), s_iadd d_M_comes_257, trivial⟩
def tb_M_comes_3 : List (Nat × jm_Op) := [(258, oIa 259), (259, oIw 260), (260, oInc 7 1 263), (263, oGo 183), (267, oAl 0 268), (268, oGr 6 6 8 271), (271, oIl 1 272), (272, oIa 273), (273, oC 100 275), (275, oIcNe 284 278), (278, oAl 0 279), (279, oC 1 280), (280, oPz 6 11 283), (284, oAl 0 285), (285, oGr 6 6 8 288), (288, oIl 1 289), (289, oIa 290), (290, oIs 7 292), (292, oIl 7 294), (294, oIl 6 296), (296, oIcLe 371 299), (299, oAl 0 300), (300, oGr 6 3 8 303), (303, oIl 5 305), (305, oIl 7 307), (307, oAdd 308), (308, oAl 0 309), (309, oGr 6 3 8 312), (312, oIl 5 314), (314, oIl 7 316), (316, oAdd 317), (317, oC 1 318), (318, oSub 319), (319, oIa 320), (320, oIw 321), (321, oAl 0 322), (322, oGr 6 4 8 325), (325, oIl 5 327), (327, oIl 7 329), (329, oAdd 330), (330, oAl 0 331), (331, oGr 6 4 8 334), (334, oIl 5 336), (336, oIl 7 338), (338, oAdd 339), (339, oC 1 340), (340, oSub 341), (341, oIa 342), (342, oIw 343), (343, oAl 0 344)]
theorem ok_M_comes_3 : jm_all 86 tb_M_comes_3 := ⟨s_iaload d_M_comes_258, s_iastore d_M_comes_259, s_iinc d_M_comes_260 (by decide) (by decide), s_goto d_M_comes_263 (by decide), s_aload_n d_M_comes_267 rfl, s_getr d_M_comes_268 ci_M rfl wd_657, s_iload_n d_M_comes_271 rfl, s_iaload d_M_comes_272, s_bipush d_M_comes_273 (by decide), s_icmp_ne d_M_comes_275 (by decide), s_aload_n d_M_comes_278 rfl, s_iconst d_M_comes_279 (by decide), s_putz d_M_comes_280 ci_M rfl rfl rfl wd_662, s_aload_n d_M_comes_284 rfl, s_getr d_M_comes_285 ci_M rfl wd_657, s_iload_n d_M_comes_288 rfl, s_iaload d_M_comes_289, s_istore d_M_comes_290 (by decide), s_iload d_M_comes_292, s_iload d_M_comes_294, s_icmp_le d_M_comes_296 (by decide), s_aload_n d_M_comes_299 rfl, s_getr d_M_comes_300 ci_M rfl wd_654, s_iload d_M_comes_303, s_iload d_M_comes_305, s_iadd d_M_comes_307, s_aload_n d_M_comes_308 rfl, s_getr d_M_comes_309 ci_M rfl wd_654, s_iload d_M_comes_312, s_iload d_M_comes_314, s_iadd d_M_comes_316, s_iconst d_M_comes_317 (by decide), s_isub d_M_comes_318, s_iaload d_M_comes_319, s_iastore d_M_comes_320, s_aload_n d_M_comes_321 rfl, s_getr d_M_comes_322 ci_M rfl wd_655, s_iload d_M_comes_325, s_iload d_M_comes_327, s_iadd d_M_comes_329, s_aload_n d_M_comes_330 rfl, s_getr d_M_comes_331 ci_M rfl wd_655, s_iload d_M_comes_334, s_iload d_M_comes_336, s_iadd d_M_comes_338, s_iconst d_M_comes_339 (by decide), s_isub d_M_comes_340, s_iaload d_M_comes_341, s_iastore d_M_comes_342, s_aload_n d_M_comes_343 rfl, trivial⟩
def tb_M_comes_4 : List (Nat × jm_Op) := [(344, oGr 6 5 8 347), (347, oIl 5 349), (349, oIl 7 351), (351, oAdd 352), (352, oAl 0 353), (353, oGr 6 5 8 356), (356, oIl 5 358), (358, oIl 7 360), (360, oAdd 361), (361, oC 1 362), (362, oSub 363), (363, oIa 364), (364, oIw 365), (365, oInc 7 (-1) 368), (368, oGo 292), (371, oAl 0 372), (372, oGr 6 3 8 375), (375, oIl 5 377), (377, oIl 6 379), (379, oAdd 380), (380, oIl 2 381), (381, oIw 382), (382, oAl 0 383), (383, oGr 6 4 8 386), (386, oIl 5 388), (388, oIl 6 390), (390, oAdd 391), (391, oIl 3 392), (392, oIw 393), (393, oAl 0 394), (394, oGr 6 5 8 397), (397, oIl 5 399), (399, oIl 6 401), (401, oAdd 402), (402, oIl 4 404), (404, oIw 405), (405, oAl 0 406), (406, oGr 6 6 8 409), (409, oIl 1 410), (410, oDup2 411), (411, oIa 412), (412, oC 1 413), (413, oAdd 414), (414, oIw 415)]
theorem ok_M_comes_4 : jm_all 86 tb_M_comes_4 := ⟨s_getr d_M_comes_344 ci_M rfl wd_656, s_iload d_M_comes_347, s_iload d_M_comes_349, s_iadd d_M_comes_351, s_aload_n d_M_comes_352 rfl, s_getr d_M_comes_353 ci_M rfl wd_656, s_iload d_M_comes_356, s_iload d_M_comes_358, s_iadd d_M_comes_360, s_iconst d_M_comes_361 (by decide), s_isub d_M_comes_362, s_iaload d_M_comes_363, s_iastore d_M_comes_364, s_iinc d_M_comes_365 (by decide) (by decide), s_goto d_M_comes_368 (by decide), s_aload_n d_M_comes_371 rfl, s_getr d_M_comes_372 ci_M rfl wd_654, s_iload d_M_comes_375, s_iload d_M_comes_377, s_iadd d_M_comes_379, s_iload_n d_M_comes_380 rfl, s_iastore d_M_comes_381, s_aload_n d_M_comes_382 rfl, s_getr d_M_comes_383 ci_M rfl wd_655, s_iload d_M_comes_386, s_iload d_M_comes_388, s_iadd d_M_comes_390, s_iload_n d_M_comes_391 rfl, s_iastore d_M_comes_392, s_aload_n d_M_comes_393 rfl, s_getr d_M_comes_394 ci_M rfl wd_656, s_iload d_M_comes_397, s_iload d_M_comes_399, s_iadd d_M_comes_401, s_iload d_M_comes_402, s_iastore d_M_comes_404, s_aload_n d_M_comes_405 rfl, s_getr d_M_comes_406 ci_M rfl wd_657, s_iload_n d_M_comes_409 rfl, s_dup2 d_M_comes_410, s_iaload d_M_comes_411, s_iconst d_M_comes_412 (by decide), s_iadd d_M_comes_413, s_iastore d_M_comes_414, trivial⟩
def tb_M_comes : List (Nat × jm_Op) := tb_M_comes_0 ++ (tb_M_comes_1 ++ (tb_M_comes_2 ++ (tb_M_comes_3 ++ tb_M_comes_4)))
theorem ok_M_comes : jm_all 86 tb_M_comes := jm_all_app ok_M_comes_0 (jm_all_app ok_M_comes_1 (jm_all_app ok_M_comes_2 (jm_all_app ok_M_comes_3 ok_M_comes_4)))
theorem r_M_comes_7 {g : jm_G} {d : Nat} {L : List (Option jm_V)} {σ : jm_S} {K : jm_O → Prop} (hK : K (σ, .inl none)) : J g d 86 7 L [] σ K := J_vret d_M_comes_7 rfl hK
theorem k_M_comes_41 {g : jm_G} {d : Nat} {L : List (Option jm_V)} {r : List jm_V} {σ : jm_S} {K K' : jm_O → Prop} {q0 : Nat} {x0 : Int32} {x1 : Int32} (hr : Nat.ble (jm_cs r) 8 = true) (hcal : J g d 79 0 [some (aR 6 q0), some (aI x0), some (aI x1), none] [] σ K') (hk : ∀ u, K' u → jm_aft g (d + 1) 86 41 L r u K) : J g (d + 1) 86 41 L (aI x1 :: aI x0 :: aR 6 q0 :: r) σ K :=
  J_call' (id' := 79) jm_sk (vs := [aR 6 q0, aI x0, aI x1]) (inv_V (id' := 79) d_M_comes_41 ci_M wd_748 wd_750 wd_24 cw_M_compare (by decide) pn_M_compare) cw_M_compare (by decide) (by decide) (Nat.le_of_ble_eq_true rfl) rfl hr rfl hcal hk
theorem k_M_comes_123 {g : jm_G} {d : Nat} {L : List (Option jm_V)} {r : List jm_V} {σ : jm_S} {K K' : jm_O → Prop} {q0 : Nat} {x0 : Int64} {x1 : Int64} (hr : Nat.ble (jm_cs r) 8 = true) (hcal : J g d 85 0 [some (aR 6 q0), some (aL x0), none, some (aL x1), none, none, none, none, none, none, none, none, none] [] σ K') (hk : ∀ u, K' u → jm_aft g (d + 1) 86 123 L r u K) : J g (d + 1) 86 123 L (aL x1 :: aL x0 :: aR 6 q0 :: r) σ K :=
  J_call' (id' := 85) jm_sk (vs := [aR 6 q0, aL x0, aL x1]) (inv_V (id' := 85) d_M_comes_123 ci_M wd_772 wd_774 wd_27 cw_M_lowest (by decide) pn_M_lowest) cw_M_lowest (by decide) (by decide) (Nat.le_of_ble_eq_true rfl) rfl hr rfl hcal hk
theorem r_M_comes_133 {g : jm_G} {d : Nat} {L : List (Option jm_V)} {σ : jm_S} {K : jm_O → Prop} (hK : K (σ, .inl none)) : J g d 86 133 L [] σ K := J_vret d_M_comes_133 rfl hK
theorem r_M_comes_266 {g : jm_G} {d : Nat} {L : List (Option jm_V)} {σ : jm_S} {K : jm_O → Prop} (hK : K (σ, .inl none)) : J g d 86 266 L [] σ K := J_vret d_M_comes_266 rfl hK
theorem r_M_comes_283 {g : jm_G} {d : Nat} {L : List (Option jm_V)} {σ : jm_S} {K : jm_O → Prop} (hK : K (σ, .inl none)) : J g d 86 283 L [] σ K := J_vret d_M_comes_283 rfl hK
theorem r_M_comes_415 {g : jm_G} {d : Nat} {L : List (Option jm_V)} {σ : jm_S} {K : jm_O → Prop} (hK : K (σ, .inl none)) : J g d 86 415 L [] σ K := J_vret d_M_comes_415 rfl hK
-- IdealProverModel taken (II)I
theorem d_M_taken_0 : decode prog_12_method_21_code 0 = .ok (.aload_n 0, 1) := by decide +kernel
theorem d_M_taken_1 : decode prog_12_method_21_code 1 = .ok (.getfield 54, 3) := by decide +kernel
theorem d_M_taken_4 : decode prog_12_method_21_code 4 = .ok (.ifCond .eq 6, 3) := by decide +kernel
theorem d_M_taken_7 : decode prog_12_method_21_code 7 = .ok (.bipush (-7), 2) := by decide +kernel
theorem d_M_taken_9 : decode prog_12_method_21_code 9 = .ok (.ireturn, 1) := by decide +kernel
theorem d_M_taken_10 : decode prog_12_method_21_code 10 = .ok (.aload_n 0, 1) := by decide +kernel
theorem d_M_taken_11 : decode prog_12_method_21_code 11 = .ok (.iload_n 1, 1) := by decide +kernel
theorem d_M_taken_12 : decode prog_12_method_21_code 12 = .ok (.iload_n 2, 1) := by decide +kernel
theorem d_M_taken_13 : decode prog_12_method_21_code 13 = .ok (.invokevirtual 106, 3) := by decide +kernel
theorem d_M_taken_16 : decode prog_12_method_21_code 16 = .ok (.aload_n 0, 1) := by decide +kernel
theorem d_M_taken_17 : decode prog_12_method_21_code 17 = .ok (.getfield 20, 3) := by decide +kernel
theorem d_M_taken_20 : decode prog_12_method_21_code 20 = .ok (.iload_n 2, 1) := by decide +kernel
theorem d_M_taken_21 : decode prog_12_method_21_code 21 = .ok (.iaload, 1) := by decide +kernel
theorem d_M_taken_22 : decode prog_12_method_21_code 22 = .ok (.ireturn, 1) := by decide +kernel
def tb_M_taken : List (Nat × jm_Op) := [(0, oAl 0 1), (1, oGi 6 11 4), (4, oIfEq 10 7), (7, oC (-7) 9), (10, oAl 0 11), (11, oIl 1 12), (12, oIl 2 13), (16, oAl 0 17), (17, oGr 6 6 8 20), (20, oIl 2 21), (21, oIa 22)]
theorem ok_M_taken : jm_all 87 tb_M_taken := ⟨s_aload_n d_M_taken_0 rfl, s_geti d_M_taken_1 ci_M rfl wd_662, s_if_eq d_M_taken_4 (by decide), s_bipush d_M_taken_7 (by decide), s_aload_n d_M_taken_10 rfl, s_iload_n d_M_taken_11 rfl, s_iload_n d_M_taken_12 rfl, s_aload_n d_M_taken_16 rfl, s_getr d_M_taken_17 ci_M rfl wd_657, s_iload_n d_M_taken_20 rfl, s_iaload d_M_taken_21, trivial⟩
theorem r_M_taken_9 {g : jm_G} {d : Nat} {L : List (Option jm_V)} {σ : jm_S} {K : jm_O → Prop} {v : Int32} (hK : K (σ, .inl (some (aI v)))) : J g d 87 9 L [aI v] σ K := J_iret d_M_taken_9 rfl hK
theorem k_M_taken_13 {g : jm_G} {d : Nat} {L : List (Option jm_V)} {r : List jm_V} {σ : jm_S} {K K' : jm_O → Prop} {q0 : Nat} {x0 : Int32} {x1 : Int32} (hr : Nat.ble (jm_cs r) 8 = true) (hcal : J g d 84 0 [some (aR 6 q0), some (aI x0), some (aI x1), none] [] σ K') (hk : ∀ u, K' u → jm_aft g (d + 1) 87 13 L r u K) : J g (d + 1) 87 13 L (aI x1 :: aI x0 :: aR 6 q0 :: r) σ K :=
  J_call' (id' := 84) jm_sk (vs := [aR 6 q0, aI x0, aI x1]) (inv_V (id' := 84) d_M_taken_13 ci_M wd_768 wd_770 wd_26 cw_M_copy (by decide) pn_M_copy) cw_M_copy (by decide) (by decide) (Nat.le_of_ble_eq_true rfl) rfl hr rfl hcal hk
theorem r_M_taken_22 {g : jm_G} {d : Nat} {L : List (Option jm_V)} {σ : jm_S} {K : jm_O → Prop} {v : Int32} (hK : K (σ, .inl (some (aI v)))) : J g d 87 22 L [aI v] σ K := J_iret d_M_taken_22 rfl hK
-- IdealProverModel zero (I)I
theorem d_M_zero_0 : decode prog_12_method_22_code 0 = .ok (.iload_n 1, 1) := by decide +kernel
theorem d_M_zero_1 : decode prog_12_method_22_code 1 = .ok (.invokestatic 100, 3) := by decide +kernel
theorem d_M_zero_4 : decode prog_12_method_22_code 4 = .ok (.ifCond .ne 5, 3) := by decide +kernel
theorem d_M_zero_7 : decode prog_12_method_22_code 7 = .ok (.iconst (-1), 1) := by decide +kernel
theorem d_M_zero_8 : decode prog_12_method_22_code 8 = .ok (.ireturn, 1) := by decide +kernel
theorem d_M_zero_9 : decode prog_12_method_22_code 9 = .ok (.aload_n 0, 1) := by decide +kernel
theorem d_M_zero_10 : decode prog_12_method_22_code 10 = .ok (.getfield 20, 3) := by decide +kernel
theorem d_M_zero_13 : decode prog_12_method_22_code 13 = .ok (.iload_n 1, 1) := by decide +kernel
theorem d_M_zero_14 : decode prog_12_method_22_code 14 = .ok (.iaload, 1) := by decide +kernel
theorem d_M_zero_15 : decode prog_12_method_22_code 15 = .ok (.istore_n 2, 1) := by decide +kernel
theorem d_M_zero_16 : decode prog_12_method_22_code 16 = .ok (.aload_n 0, 1) := by decide +kernel
theorem d_M_zero_17 : decode prog_12_method_22_code 17 = .ok (.getfield 20, 3) := by decide +kernel
theorem d_M_zero_20 : decode prog_12_method_22_code 20 = .ok (.iload_n 1, 1) := by decide +kernel
theorem d_M_zero_21 : decode prog_12_method_22_code 21 = .ok (.iconst 0, 1) := by decide +kernel
theorem d_M_zero_22 : decode prog_12_method_22_code 22 = .ok (.iastore, 1) := by decide +kernel
theorem d_M_zero_23 : decode prog_12_method_22_code 23 = .ok (.iload_n 2, 1) := by decide +kernel
theorem d_M_zero_24 : decode prog_12_method_22_code 24 = .ok (.ireturn, 1) := by decide +kernel
def tb_M_zero : List (Nat × jm_Op) := [(0, oIl 1 1), (4, oIfNe 9 7), (7, oC (-1) 8), (9, oAl 0 10), (10, oGr 6 6 8 13), (13, oIl 1 14), (14, oIa 15), (15, oIs 2 16), (16, oAl 0 17), (17, oGr 6 6 8 20), (20, oIl 1 21), (21, oC 0 22), (22, oIw 23), (23, oIl 2 24)]
theorem ok_M_zero : jm_all 88 tb_M_zero := ⟨s_iload_n d_M_zero_0 rfl, s_if_ne d_M_zero_4 (by decide), s_iconst d_M_zero_7 (by decide), s_aload_n d_M_zero_9 rfl, s_getr d_M_zero_10 ci_M rfl wd_657, s_iload_n d_M_zero_13 rfl, s_iaload d_M_zero_14, s_istore_n d_M_zero_15 rfl (by decide), s_aload_n d_M_zero_16 rfl, s_getr d_M_zero_17 ci_M rfl wd_657, s_iload_n d_M_zero_20 rfl, s_iconst d_M_zero_21 (by decide), s_iastore d_M_zero_22, s_iload_n d_M_zero_23 rfl, trivial⟩
theorem k_M_zero_1 {g : jm_G} {d : Nat} {L : List (Option jm_V)} {r : List jm_V} {σ : jm_S} {K K' : jm_O → Prop} {x0 : Int32} (hr : Nat.ble (jm_cs r) 8 = true) (hcal : J g d 83 0 [some (aI x0)] [] σ K') (hk : ∀ u, K' u → jm_aft g (d + 1) 88 1 L r u K) : J g (d + 1) 88 1 L (aI x0 :: r) σ K :=
  J_call' (id' := 83) jm_sk (vs := [aI x0]) (inv_S (id' := 83) d_M_zero_1 wd_763 wd_764 wd_62 cw_M_isPlace (by decide) pn_M_isPlace) cw_M_isPlace (by decide) (by decide) (Nat.le_of_ble_eq_true rfl) rfl hr rfl hcal hk
theorem r_M_zero_8 {g : jm_G} {d : Nat} {L : List (Option jm_V)} {σ : jm_S} {K : jm_O → Prop} {v : Int32} (hK : K (σ, .inl (some (aI v)))) : J g d 88 8 L [aI v] σ K := J_iret d_M_zero_8 rfl hK
theorem r_M_zero_24 {g : jm_G} {d : Nat} {L : List (Option jm_V)} {σ : jm_S} {K : jm_O → Prop} {v : Int32} (hK : K (σ, .inl (some (aI v)))) : J g d 88 24 L [aI v] σ K := J_iret d_M_zero_24 rfl hK
-- IdealProverModel size (I)I
theorem d_M_size_0 : decode prog_12_method_23_code 0 = .ok (.iload_n 1, 1) := by decide +kernel
theorem d_M_size_1 : decode prog_12_method_23_code 1 = .ok (.invokestatic 100, 3) := by decide +kernel
theorem d_M_size_4 : decode prog_12_method_23_code 4 = .ok (.ifCond .eq 12, 3) := by decide +kernel
theorem d_M_size_7 : decode prog_12_method_23_code 7 = .ok (.aload_n 0, 1) := by decide +kernel
theorem d_M_size_8 : decode prog_12_method_23_code 8 = .ok (.getfield 20, 3) := by decide +kernel
theorem d_M_size_11 : decode prog_12_method_23_code 11 = .ok (.iload_n 1, 1) := by decide +kernel
theorem d_M_size_12 : decode prog_12_method_23_code 12 = .ok (.iaload, 1) := by decide +kernel
theorem d_M_size_13 : decode prog_12_method_23_code 13 = .ok (.goto 4, 3) := by decide +kernel
theorem d_M_size_16 : decode prog_12_method_23_code 16 = .ok (.iconst (-1), 1) := by decide +kernel
theorem d_M_size_17 : decode prog_12_method_23_code 17 = .ok (.ireturn, 1) := by decide +kernel
def tb_M_size : List (Nat × jm_Op) := [(0, oIl 1 1), (4, oIfEq 16 7), (7, oAl 0 8), (8, oGr 6 6 8 11), (11, oIl 1 12), (12, oIa 13), (13, oGo 17), (16, oC (-1) 17)]
theorem ok_M_size : jm_all 89 tb_M_size := ⟨s_iload_n d_M_size_0 rfl, s_if_eq d_M_size_4 (by decide), s_aload_n d_M_size_7 rfl, s_getr d_M_size_8 ci_M rfl wd_657, s_iload_n d_M_size_11 rfl, s_iaload d_M_size_12, s_goto d_M_size_13 (by decide), s_iconst d_M_size_16 (by decide), trivial⟩
theorem k_M_size_1 {g : jm_G} {d : Nat} {L : List (Option jm_V)} {r : List jm_V} {σ : jm_S} {K K' : jm_O → Prop} {x0 : Int32} (hr : Nat.ble (jm_cs r) 8 = true) (hcal : J g d 83 0 [some (aI x0)] [] σ K') (hk : ∀ u, K' u → jm_aft g (d + 1) 89 1 L r u K) : J g (d + 1) 89 1 L (aI x0 :: r) σ K :=
  J_call' (id' := 83) jm_sk (vs := [aI x0]) (inv_S (id' := 83) d_M_size_1 wd_763 wd_764 wd_62 cw_M_isPlace (by decide) pn_M_isPlace) cw_M_isPlace (by decide) (by decide) (Nat.le_of_ble_eq_true rfl) rfl hr rfl hcal hk
theorem r_M_size_17 {g : jm_G} {d : Nat} {L : List (Option jm_V)} {σ : jm_S} {K : jm_O → Prop} {v : Int32} (hK : K (σ, .inl (some (aI v)))) : J g d 89 17 L [aI v] σ K := J_iret d_M_size_17 rfl hK
-- IdealProverModel told (III)I
theorem d_M_told_0 : decode prog_12_method_24_code 0 = .ok (.iload_n 1, 1) := by decide +kernel
theorem d_M_told_1 : decode prog_12_method_24_code 1 = .ok (.invokestatic 100, 3) := by decide +kernel
theorem d_M_told_4 : decode prog_12_method_24_code 4 = .ok (.ifCond .eq 17, 3) := by decide +kernel
theorem d_M_told_7 : decode prog_12_method_24_code 7 = .ok (.iload_n 2, 1) := by decide +kernel
theorem d_M_told_8 : decode prog_12_method_24_code 8 = .ok (.ifCond .lt 13, 3) := by decide +kernel
theorem d_M_told_11 : decode prog_12_method_24_code 11 = .ok (.iload_n 2, 1) := by decide +kernel
theorem d_M_told_12 : decode prog_12_method_24_code 12 = .ok (.aload_n 0, 1) := by decide +kernel
theorem d_M_told_13 : decode prog_12_method_24_code 13 = .ok (.getfield 20, 3) := by decide +kernel
theorem d_M_told_16 : decode prog_12_method_24_code 16 = .ok (.iload_n 1, 1) := by decide +kernel
theorem d_M_told_17 : decode prog_12_method_24_code 17 = .ok (.iaload, 1) := by decide +kernel
theorem d_M_told_18 : decode prog_12_method_24_code 18 = .ok (.if_icmp .lt 5, 3) := by decide +kernel
theorem d_M_told_21 : decode prog_12_method_24_code 21 = .ok (.iconst (-1), 1) := by decide +kernel
theorem d_M_told_22 : decode prog_12_method_24_code 22 = .ok (.ireturn, 1) := by decide +kernel
theorem d_M_told_23 : decode prog_12_method_24_code 23 = .ok (.bipush 100, 2) := by decide +kernel
theorem d_M_told_25 : decode prog_12_method_24_code 25 = .ok (.iload_n 1, 1) := by decide +kernel
theorem d_M_told_26 : decode prog_12_method_24_code 26 = .ok (.imul, 1) := by decide +kernel
theorem d_M_told_27 : decode prog_12_method_24_code 27 = .ok (.iload_n 2, 1) := by decide +kernel
theorem d_M_told_28 : decode prog_12_method_24_code 28 = .ok (.iadd, 1) := by decide +kernel
theorem d_M_told_29 : decode prog_12_method_24_code 29 = .ok (.istore 4, 2) := by decide +kernel
theorem d_M_told_31 : decode prog_12_method_24_code 31 = .ok (.iconst 0, 1) := by decide +kernel
theorem d_M_told_32 : decode prog_12_method_24_code 32 = .ok (.istore 5, 2) := by decide +kernel
theorem d_M_told_34 : decode prog_12_method_24_code 34 = .ok (.iconst 0, 1) := by decide +kernel
theorem d_M_told_35 : decode prog_12_method_24_code 35 = .ok (.istore 6, 2) := by decide +kernel
theorem d_M_told_37 : decode prog_12_method_24_code 37 = .ok (.iload 6, 2) := by decide +kernel
theorem d_M_told_39 : decode prog_12_method_24_code 39 = .ok (.iconst 4, 1) := by decide +kernel
theorem d_M_told_40 : decode prog_12_method_24_code 40 = .ok (.if_icmp .ge 32, 3) := by decide +kernel
theorem d_M_told_43 : decode prog_12_method_24_code 43 = .ok (.iload 5, 2) := by decide +kernel
theorem d_M_told_45 : decode prog_12_method_24_code 45 = .ok (.aload_n 0, 1) := by decide +kernel
theorem d_M_told_46 : decode prog_12_method_24_code 46 = .ok (.getfield 17, 3) := by decide +kernel
theorem d_M_told_49 : decode prog_12_method_24_code 49 = .ok (.iload 4, 2) := by decide +kernel
theorem d_M_told_51 : decode prog_12_method_24_code 51 = .ok (.iaload, 1) := by decide +kernel
theorem d_M_told_52 : decode prog_12_method_24_code 52 = .ok (.iload 6, 2) := by decide +kernel
theorem d_M_told_54 : decode prog_12_method_24_code 54 = .ok (.invokestatic 43, 3) := by decide +kernel
theorem d_M_told_57 : decode prog_12_method_24_code 57 = .ok (.bipush 8, 2) := by decide +kernel
theorem d_M_told_59 : decode prog_12_method_24_code 59 = .ok (.iload 6, 2) := by decide +kernel
theorem d_M_told_61 : decode prog_12_method_24_code 61 = .ok (.imul, 1) := by decide +kernel
theorem d_M_told_62 : decode prog_12_method_24_code 62 = .ok (.ishl, 1) := by decide +kernel
theorem d_M_told_63 : decode prog_12_method_24_code 63 = .ok (.ior, 1) := by decide +kernel
theorem d_M_told_64 : decode prog_12_method_24_code 64 = .ok (.istore 5, 2) := by decide +kernel
theorem d_M_told_66 : decode prog_12_method_24_code 66 = .ok (.iinc 6 1, 3) := by decide +kernel
theorem d_M_told_69 : decode prog_12_method_24_code 69 = .ok (.goto (-32), 3) := by decide +kernel
theorem d_M_told_72 : decode prog_12_method_24_code 72 = .ok (.iload_n 3, 1) := by decide +kernel
theorem d_M_told_73 : decode prog_12_method_24_code 73 = .ok (.ifCond .ne 13, 3) := by decide +kernel
theorem d_M_told_76 : decode prog_12_method_24_code 76 = .ok (.aload_n 0, 1) := by decide +kernel
theorem d_M_told_77 : decode prog_12_method_24_code 77 = .ok (.getfield 8, 3) := by decide +kernel
theorem d_M_told_80 : decode prog_12_method_24_code 80 = .ok (.iload 4, 2) := by decide +kernel
theorem d_M_told_82 : decode prog_12_method_24_code 82 = .ok (.iaload, 1) := by decide +kernel
theorem d_M_told_83 : decode prog_12_method_24_code 83 = .ok (.goto 30, 3) := by decide +kernel
theorem d_M_told_86 : decode prog_12_method_24_code 86 = .ok (.iload_n 3, 1) := by decide +kernel
theorem d_M_told_87 : decode prog_12_method_24_code 87 = .ok (.iconst 1, 1) := by decide +kernel
theorem d_M_told_88 : decode prog_12_method_24_code 88 = .ok (.if_icmp .ne 13, 3) := by decide +kernel
theorem d_M_told_91 : decode prog_12_method_24_code 91 = .ok (.aload_n 0, 1) := by decide +kernel
theorem d_M_told_92 : decode prog_12_method_24_code 92 = .ok (.getfield 14, 3) := by decide +kernel
theorem d_M_told_95 : decode prog_12_method_24_code 95 = .ok (.iload 4, 2) := by decide +kernel
theorem d_M_told_97 : decode prog_12_method_24_code 97 = .ok (.iaload, 1) := by decide +kernel
theorem d_M_told_98 : decode prog_12_method_24_code 98 = .ok (.goto 15, 3) := by decide +kernel
theorem d_M_told_101 : decode prog_12_method_24_code 101 = .ok (.iload_n 3, 1) := by decide +kernel
theorem d_M_told_102 : decode prog_12_method_24_code 102 = .ok (.iconst 2, 1) := by decide +kernel
theorem d_M_told_103 : decode prog_12_method_24_code 103 = .ok (.if_icmp .ne 8, 3) := by decide +kernel
theorem d_M_told_106 : decode prog_12_method_24_code 106 = .ok (.iload 5, 2) := by decide +kernel
theorem d_M_told_108 : decode prog_12_method_24_code 108 = .ok (.goto 5, 3) := by decide +kernel
theorem d_M_told_111 : decode prog_12_method_24_code 111 = .ok (.bipush (-2), 2) := by decide +kernel
theorem d_M_told_113 : decode prog_12_method_24_code 113 = .ok (.ireturn, 1) := by decide +kernel
def tb_M_told_0 : List (Nat × jm_Op) := [(0, oIl 1 1), (4, oIfEq 21 7), (7, oIl 2 8), (8, oIfLt 21 11), (11, oIl 2 12), (12, oAl 0 13), (13, oGr 6 6 8 16), (16, oIl 1 17), (17, oIa 18), (18, oIcLt 23 21), (21, oC (-1) 22), (23, oC 100 25), (25, oIl 1 26), (26, oMul 27), (27, oIl 2 28), (28, oAdd 29), (29, oIs 4 31), (31, oC 0 32), (32, oIs 5 34), (34, oC 0 35), (35, oIs 6 37), (37, oIl 6 39), (39, oC 4 40), (40, oIcGe 72 43), (43, oIl 5 45), (45, oAl 0 46), (46, oGr 6 5 8 49), (49, oIl 4 51), (51, oIa 52), (52, oIl 6 54), (57, oC 8 59), (59, oIl 6 61), (61, oMul 62), (62, oShl 63), (63, oOr 64), (64, oIs 5 66), (66, oInc 6 1 69), (69, oGo 37), (72, oIl 3 73), (73, oIfNe 86 76), (76, oAl 0 77), (77, oGr 6 3 8 80), (80, oIl 4 82), (82, oIa 83), (83, oGo 113), (86, oIl 3 87), (87, oC 1 88), (88, oIcNe 101 91), (91, oAl 0 92), (92, oGr 6 4 8 95)]
theorem ok_M_told_0 : jm_all 90 tb_M_told_0 := ⟨s_iload_n d_M_told_0 rfl, s_if_eq d_M_told_4 (by decide), s_iload_n d_M_told_7 rfl, s_if_lt d_M_told_8 (by decide), s_iload_n d_M_told_11 rfl, s_aload_n d_M_told_12 rfl, s_getr d_M_told_13 ci_M rfl wd_657, s_iload_n d_M_told_16 rfl, s_iaload d_M_told_17, s_icmp_lt d_M_told_18 (by decide), s_iconst d_M_told_21 (by decide), s_bipush d_M_told_23 (by decide), s_iload_n d_M_told_25 rfl, s_imul d_M_told_26, s_iload_n d_M_told_27 rfl, s_iadd d_M_told_28, s_istore d_M_told_29 (by decide), s_iconst d_M_told_31 (by decide), s_istore d_M_told_32 (by decide), s_iconst d_M_told_34 (by decide), s_istore d_M_told_35 (by decide), s_iload d_M_told_37, s_iconst d_M_told_39 (by decide), s_icmp_ge d_M_told_40 (by decide), s_iload d_M_told_43, s_aload_n d_M_told_45 rfl, s_getr d_M_told_46 ci_M rfl wd_656, s_iload d_M_told_49, s_iaload d_M_told_51, s_iload d_M_told_52, s_bipush d_M_told_57 (by decide), s_iload d_M_told_59, s_imul d_M_told_61, s_ishl d_M_told_62, s_ior d_M_told_63, s_istore d_M_told_64 (by decide), s_iinc d_M_told_66 (by decide) (by decide), s_goto d_M_told_69 (by decide), s_iload_n d_M_told_72 rfl, s_if_ne d_M_told_73 (by decide), s_aload_n d_M_told_76 rfl, s_getr d_M_told_77 ci_M rfl wd_654, s_iload d_M_told_80, s_iaload d_M_told_82, s_goto d_M_told_83 (by decide), s_iload_n d_M_told_86 rfl, s_iconst d_M_told_87 (by decide), s_icmp_ne d_M_told_88 (by decide), s_aload_n d_M_told_91 rfl, s_getr d_M_told_92 ci_M rfl wd_655, trivial⟩
def tb_M_told_1 : List (Nat × jm_Op) := [(95, oIl 4 97), (97, oIa 98), (98, oGo 113), (101, oIl 3 102), (102, oC 2 103), (103, oIcNe 111 106), (106, oIl 5 108), (108, oGo 113), (111, oC (-2) 113)]
theorem ok_M_told_1 : jm_all 90 tb_M_told_1 := ⟨s_iload d_M_told_95, s_iaload d_M_told_97, s_goto d_M_told_98 (by decide), s_iload_n d_M_told_101 rfl, s_iconst d_M_told_102 (by decide), s_icmp_ne d_M_told_103 (by decide), s_iload d_M_told_106, s_goto d_M_told_108 (by decide), s_bipush d_M_told_111 (by decide), trivial⟩
def tb_M_told : List (Nat × jm_Op) := tb_M_told_0 ++ tb_M_told_1
theorem ok_M_told : jm_all 90 tb_M_told := jm_all_app ok_M_told_0 ok_M_told_1
theorem k_M_told_1 {g : jm_G} {d : Nat} {L : List (Option jm_V)} {r : List jm_V} {σ : jm_S} {K K' : jm_O → Prop} {x0 : Int32} (hr : Nat.ble (jm_cs r) 8 = true) (hcal : J g d 83 0 [some (aI x0)] [] σ K') (hk : ∀ u, K' u → jm_aft g (d + 1) 90 1 L r u K) : J g (d + 1) 90 1 L (aI x0 :: r) σ K :=
  J_call' (id' := 83) jm_sk (vs := [aI x0]) (inv_S (id' := 83) d_M_told_1 wd_763 wd_764 wd_62 cw_M_isPlace (by decide) pn_M_isPlace) cw_M_isPlace (by decide) (by decide) (Nat.le_of_ble_eq_true rfl) rfl hr rfl hcal hk
theorem r_M_told_22 {g : jm_G} {d : Nat} {L : List (Option jm_V)} {σ : jm_S} {K : jm_O → Prop} {v : Int32} (hK : K (σ, .inl (some (aI v)))) : J g d 90 22 L [aI v] σ K := J_iret d_M_told_22 rfl hK
theorem k_M_told_54 {g : jm_G} {d : Nat} {L : List (Option jm_V)} {r : List jm_V} {σ : jm_S} {K K' : jm_O → Prop} {x0 : Int32} {x1 : Int32} (hr : Nat.ble (jm_cs r) 8 = true) (hcal : J g d 80 0 [some (aI x0), some (aI x1)] [] σ K') (hk : ∀ u, K' u → jm_aft g (d + 1) 90 54 L r u K) : J g (d + 1) 90 54 L (aI x1 :: aI x0 :: r) σ K :=
  J_call' (id' := 80) jm_sk (vs := [aI x0, aI x1]) (inv_S (id' := 80) d_M_told_54 wd_752 wd_753 wd_62 cw_M_exponent (by decide) pn_M_exponent) cw_M_exponent (by decide) (by decide) (Nat.le_of_ble_eq_true rfl) rfl hr rfl hcal hk
theorem r_M_told_113 {g : jm_G} {d : Nat} {L : List (Option jm_V)} {σ : jm_S} {K : jm_O → Prop} {v : Int32} (hK : K (σ, .inl (some (aI v)))) : J g d 90 113 L [aI v] σ K := J_iret d_M_told_113 rfl hK
-- IdealProverModel plus (III)I
theorem d_M_plus_0 : decode prog_12_method_25_code 0 = .ok (.iload_n 1, 1) := by decide +kernel
theorem d_M_plus_1 : decode prog_12_method_25_code 1 = .ok (.invokestatic 100, 3) := by decide +kernel
theorem d_M_plus_4 : decode prog_12_method_25_code 4 = .ok (.ifCond .eq 17, 3) := by decide +kernel
theorem d_M_plus_7 : decode prog_12_method_25_code 7 = .ok (.iload_n 2, 1) := by decide +kernel
theorem d_M_plus_8 : decode prog_12_method_25_code 8 = .ok (.invokestatic 100, 3) := by decide +kernel
theorem d_M_plus_11 : decode prog_12_method_25_code 11 = .ok (.ifCond .eq 10, 3) := by decide +kernel
theorem d_M_plus_14 : decode prog_12_method_25_code 14 = .ok (.iload_n 3, 1) := by decide +kernel
theorem d_M_plus_15 : decode prog_12_method_25_code 15 = .ok (.invokestatic 100, 3) := by decide +kernel
theorem d_M_plus_18 : decode prog_12_method_25_code 18 = .ok (.ifCond .ne 5, 3) := by decide +kernel
theorem d_M_plus_21 : decode prog_12_method_25_code 21 = .ok (.iconst (-1), 1) := by decide +kernel
theorem d_M_plus_22 : decode prog_12_method_25_code 22 = .ok (.ireturn, 1) := by decide +kernel
theorem d_M_plus_23 : decode prog_12_method_25_code 23 = .ok (.aload_n 0, 1) := by decide +kernel
theorem d_M_plus_24 : decode prog_12_method_25_code 24 = .ok (.iconst 0, 1) := by decide +kernel
theorem d_M_plus_25 : decode prog_12_method_25_code 25 = .ok (.putfield 54, 3) := by decide +kernel
theorem d_M_plus_28 : decode prog_12_method_25_code 28 = .ok (.aload_n 0, 1) := by decide +kernel
theorem d_M_plus_29 : decode prog_12_method_25_code 29 = .ok (.iload_n 1, 1) := by decide +kernel
theorem d_M_plus_30 : decode prog_12_method_25_code 30 = .ok (.sipush 150, 3) := by decide +kernel
theorem d_M_plus_33 : decode prog_12_method_25_code 33 = .ok (.invokevirtual 106, 3) := by decide +kernel
theorem d_M_plus_36 : decode prog_12_method_25_code 36 = .ok (.aload_n 0, 1) := by decide +kernel
theorem d_M_plus_37 : decode prog_12_method_25_code 37 = .ok (.sipush 150, 3) := by decide +kernel
theorem d_M_plus_40 : decode prog_12_method_25_code 40 = .ok (.iconst 1, 1) := by decide +kernel
theorem d_M_plus_41 : decode prog_12_method_25_code 41 = .ok (.iconst 1, 1) := by decide +kernel
theorem d_M_plus_42 : decode prog_12_method_25_code 42 = .ok (.iconst 0, 1) := by decide +kernel
theorem d_M_plus_43 : decode prog_12_method_25_code 43 = .ok (.iload_n 2, 1) := by decide +kernel
theorem d_M_plus_44 : decode prog_12_method_25_code 44 = .ok (.invokevirtual 86, 3) := by decide +kernel
theorem d_M_plus_47 : decode prog_12_method_25_code 47 = .ok (.aload_n 0, 1) := by decide +kernel
theorem d_M_plus_48 : decode prog_12_method_25_code 48 = .ok (.sipush 150, 3) := by decide +kernel
theorem d_M_plus_51 : decode prog_12_method_25_code 51 = .ok (.iload_n 3, 1) := by decide +kernel
theorem d_M_plus_52 : decode prog_12_method_25_code 52 = .ok (.invokevirtual 110, 3) := by decide +kernel
theorem d_M_plus_55 : decode prog_12_method_25_code 55 = .ok (.ireturn, 1) := by decide +kernel
def tb_M_plus : List (Nat × jm_Op) := [(0, oIl 1 1), (4, oIfEq 21 7), (7, oIl 2 8), (11, oIfEq 21 14), (14, oIl 3 15), (18, oIfNe 23 21), (21, oC (-1) 22), (23, oAl 0 24), (24, oC 0 25), (25, oPz 6 11 28), (28, oAl 0 29), (29, oIl 1 30), (30, oC 150 33), (36, oAl 0 37), (37, oC 150 40), (40, oC 1 41), (41, oC 1 42), (42, oC 0 43), (43, oIl 2 44), (47, oAl 0 48), (48, oC 150 51), (51, oIl 3 52)]
theorem ok_M_plus : jm_all 91 tb_M_plus := ⟨s_iload_n d_M_plus_0 rfl, s_if_eq d_M_plus_4 (by decide), s_iload_n d_M_plus_7 rfl, s_if_eq d_M_plus_11 (by decide), s_iload_n d_M_plus_14 rfl, s_if_ne d_M_plus_18 (by decide), s_iconst d_M_plus_21 (by decide), s_aload_n d_M_plus_23 rfl, s_iconst d_M_plus_24 (by decide), s_putz d_M_plus_25 ci_M rfl rfl rfl wd_662, s_aload_n d_M_plus_28 rfl, s_iload_n d_M_plus_29 rfl, s_sipush d_M_plus_30 (by decide), s_aload_n d_M_plus_36 rfl, s_sipush d_M_plus_37 (by decide), s_iconst d_M_plus_40 (by decide), s_iconst d_M_plus_41 (by decide), s_iconst d_M_plus_42 (by decide), s_iload_n d_M_plus_43 rfl, s_aload_n d_M_plus_47 rfl, s_sipush d_M_plus_48 (by decide), s_iload_n d_M_plus_51 rfl, trivial⟩
theorem k_M_plus_1 {g : jm_G} {d : Nat} {L : List (Option jm_V)} {r : List jm_V} {σ : jm_S} {K K' : jm_O → Prop} {x0 : Int32} (hr : Nat.ble (jm_cs r) 8 = true) (hcal : J g d 83 0 [some (aI x0)] [] σ K') (hk : ∀ u, K' u → jm_aft g (d + 1) 91 1 L r u K) : J g (d + 1) 91 1 L (aI x0 :: r) σ K :=
  J_call' (id' := 83) jm_sk (vs := [aI x0]) (inv_S (id' := 83) d_M_plus_1 wd_763 wd_764 wd_62 cw_M_isPlace (by decide) pn_M_isPlace) cw_M_isPlace (by decide) (by decide) (Nat.le_of_ble_eq_true rfl) rfl hr rfl hcal hk
theorem k_M_plus_8 {g : jm_G} {d : Nat} {L : List (Option jm_V)} {r : List jm_V} {σ : jm_S} {K K' : jm_O → Prop} {x0 : Int32} (hr : Nat.ble (jm_cs r) 8 = true) (hcal : J g d 83 0 [some (aI x0)] [] σ K') (hk : ∀ u, K' u → jm_aft g (d + 1) 91 8 L r u K) : J g (d + 1) 91 8 L (aI x0 :: r) σ K :=
  J_call' (id' := 83) jm_sk (vs := [aI x0]) (inv_S (id' := 83) d_M_plus_8 wd_763 wd_764 wd_62 cw_M_isPlace (by decide) pn_M_isPlace) cw_M_isPlace (by decide) (by decide) (Nat.le_of_ble_eq_true rfl) rfl hr rfl hcal hk
theorem k_M_plus_15 {g : jm_G} {d : Nat} {L : List (Option jm_V)} {r : List jm_V} {σ : jm_S} {K K' : jm_O → Prop} {x0 : Int32} (hr : Nat.ble (jm_cs r) 8 = true) (hcal : J g d 83 0 [some (aI x0)] [] σ K') (hk : ∀ u, K' u → jm_aft g (d + 1) 91 15 L r u K) : J g (d + 1) 91 15 L (aI x0 :: r) σ K :=
  J_call' (id' := 83) jm_sk (vs := [aI x0]) (inv_S (id' := 83) d_M_plus_15 wd_763 wd_764 wd_62 cw_M_isPlace (by decide) pn_M_isPlace) cw_M_isPlace (by decide) (by decide) (Nat.le_of_ble_eq_true rfl) rfl hr rfl hcal hk
theorem r_M_plus_22 {g : jm_G} {d : Nat} {L : List (Option jm_V)} {σ : jm_S} {K : jm_O → Prop} {v : Int32} (hK : K (σ, .inl (some (aI v)))) : J g d 91 22 L [aI v] σ K := J_iret d_M_plus_22 rfl hK
theorem k_M_plus_33 {g : jm_G} {d : Nat} {L : List (Option jm_V)} {r : List jm_V} {σ : jm_S} {K K' : jm_O → Prop} {q0 : Nat} {x0 : Int32} {x1 : Int32} (hr : Nat.ble (jm_cs r) 8 = true) (hcal : J g d 84 0 [some (aR 6 q0), some (aI x0), some (aI x1), none] [] σ K') (hk : ∀ u, K' u → jm_aft g (d + 1) 91 33 L r u K) : J g (d + 1) 91 33 L (aI x1 :: aI x0 :: aR 6 q0 :: r) σ K :=
  J_call' (id' := 84) jm_sk (vs := [aR 6 q0, aI x0, aI x1]) (inv_V (id' := 84) d_M_plus_33 ci_M wd_768 wd_770 wd_26 cw_M_copy (by decide) pn_M_copy) cw_M_copy (by decide) (by decide) (Nat.le_of_ble_eq_true rfl) rfl hr rfl hcal hk
theorem k_M_plus_44 {g : jm_G} {d : Nat} {L : List (Option jm_V)} {r : List jm_V} {σ : jm_S} {K K' : jm_O → Prop} {q0 : Nat} {x0 : Int32} {x1 : Int32} {x2 : Int32} {x3 : Int32} {x4 : Int32} (hr : Nat.ble (jm_cs r) 8 = true) (hcal : J g d 92 0 [some (aR 6 q0), some (aI x0), some (aI x1), some (aI x2), some (aI x3), some (aI x4), none, none, none] [] σ K') (hk : ∀ u, K' u → jm_aft g (d + 1) 91 44 L r u K) : J g (d + 1) 91 44 L (aI x4 :: aI x3 :: aI x2 :: aI x1 :: aI x0 :: aR 6 q0 :: r) σ K :=
  J_call' (id' := 92) jm_sk (vs := [aR 6 q0, aI x0, aI x1, aI x2, aI x3, aI x4]) (inv_V (id' := 92) d_M_plus_44 ci_M wd_802 wd_804 wd_30 cw_M_adds (by decide) pn_M_adds) cw_M_adds (by decide) (by decide) (Nat.le_of_ble_eq_true rfl) rfl hr rfl hcal hk
theorem k_M_plus_52 {g : jm_G} {d : Nat} {L : List (Option jm_V)} {r : List jm_V} {σ : jm_S} {K K' : jm_O → Prop} {q0 : Nat} {x0 : Int32} {x1 : Int32} (hr : Nat.ble (jm_cs r) 8 = true) (hcal : J g d 87 0 [some (aR 6 q0), some (aI x0), some (aI x1)] [] σ K') (hk : ∀ u, K' u → jm_aft g (d + 1) 91 52 L r u K) : J g (d + 1) 91 52 L (aI x1 :: aI x0 :: aR 6 q0 :: r) σ K :=
  J_call' (id' := 87) jm_sk (vs := [aR 6 q0, aI x0, aI x1]) (inv_V (id' := 87) d_M_plus_52 ci_M wd_782 wd_784 wd_29 cw_M_taken (by decide) pn_M_taken) cw_M_taken (by decide) (by decide) (Nat.le_of_ble_eq_true rfl) rfl hr rfl hcal hk
theorem r_M_plus_55 {g : jm_G} {d : Nat} {L : List (Option jm_V)} {σ : jm_S} {K : jm_O → Prop} {v : Int32} (hK : K (σ, .inl (some (aI v)))) : J g d 91 55 L [aI v] σ K := J_iret d_M_plus_55 rfl hK
-- IdealProverModel adds (IIIII)V
theorem d_M_adds_0 : decode prog_12_method_14_code 0 = .ok (.iconst 0, 1) := by decide +kernel
theorem d_M_adds_1 : decode prog_12_method_14_code 1 = .ok (.istore 6, 2) := by decide +kernel
theorem d_M_adds_3 : decode prog_12_method_14_code 3 = .ok (.iload 6, 2) := by decide +kernel
theorem d_M_adds_5 : decode prog_12_method_14_code 5 = .ok (.aload_n 0, 1) := by decide +kernel
theorem d_M_adds_6 : decode prog_12_method_14_code 6 = .ok (.getfield 20, 3) := by decide +kernel
theorem d_M_adds_9 : decode prog_12_method_14_code 9 = .ok (.iload 5, 2) := by decide +kernel
theorem d_M_adds_11 : decode prog_12_method_14_code 11 = .ok (.iaload, 1) := by decide +kernel
theorem d_M_adds_12 : decode prog_12_method_14_code 12 = .ok (.if_icmp .ge 94, 3) := by decide +kernel
theorem d_M_adds_15 : decode prog_12_method_14_code 15 = .ok (.aload_n 0, 1) := by decide +kernel
theorem d_M_adds_16 : decode prog_12_method_14_code 16 = .ok (.getfield 54, 3) := by decide +kernel
theorem d_M_adds_19 : decode prog_12_method_14_code 19 = .ok (.ifCond .ne 87, 3) := by decide +kernel
theorem d_M_adds_22 : decode prog_12_method_14_code 22 = .ok (.bipush 100, 2) := by decide +kernel
theorem d_M_adds_24 : decode prog_12_method_14_code 24 = .ok (.iload 5, 2) := by decide +kernel
theorem d_M_adds_26 : decode prog_12_method_14_code 26 = .ok (.imul, 1) := by decide +kernel
theorem d_M_adds_27 : decode prog_12_method_14_code 27 = .ok (.iload 6, 2) := by decide +kernel
theorem d_M_adds_29 : decode prog_12_method_14_code 29 = .ok (.iadd, 1) := by decide +kernel
theorem d_M_adds_30 : decode prog_12_method_14_code 30 = .ok (.istore 7, 2) := by decide +kernel
theorem d_M_adds_32 : decode prog_12_method_14_code 32 = .ok (.aload_n 0, 1) := by decide +kernel
theorem d_M_adds_33 : decode prog_12_method_14_code 33 = .ok (.iload 4, 2) := by decide +kernel
theorem d_M_adds_35 : decode prog_12_method_14_code 35 = .ok (.aload_n 0, 1) := by decide +kernel
theorem d_M_adds_36 : decode prog_12_method_14_code 36 = .ok (.getfield 17, 3) := by decide +kernel
theorem d_M_adds_39 : decode prog_12_method_14_code 39 = .ok (.iload 7, 2) := by decide +kernel
theorem d_M_adds_41 : decode prog_12_method_14_code 41 = .ok (.iaload, 1) := by decide +kernel
theorem d_M_adds_42 : decode prog_12_method_14_code 42 = .ok (.invokevirtual 75, 3) := by decide +kernel
theorem d_M_adds_45 : decode prog_12_method_14_code 45 = .ok (.istore 8, 2) := by decide +kernel
theorem d_M_adds_47 : decode prog_12_method_14_code 47 = .ok (.aload_n 0, 1) := by decide +kernel
theorem d_M_adds_48 : decode prog_12_method_14_code 48 = .ok (.getfield 54, 3) := by decide +kernel
theorem d_M_adds_51 : decode prog_12_method_14_code 51 = .ok (.ifCond .ne 27, 3) := by decide +kernel
theorem d_M_adds_54 : decode prog_12_method_14_code 54 = .ok (.aload_n 0, 1) := by decide +kernel
theorem d_M_adds_55 : decode prog_12_method_14_code 55 = .ok (.iload_n 2, 1) := by decide +kernel
theorem d_M_adds_56 : decode prog_12_method_14_code 56 = .ok (.i2l, 1) := by decide +kernel
theorem d_M_adds_57 : decode prog_12_method_14_code 57 = .ok (.iload_n 3, 1) := by decide +kernel
theorem d_M_adds_58 : decode prog_12_method_14_code 58 = .ok (.i2l, 1) := by decide +kernel
theorem d_M_adds_59 : decode prog_12_method_14_code 59 = .ok (.aload_n 0, 1) := by decide +kernel
theorem d_M_adds_60 : decode prog_12_method_14_code 60 = .ok (.getfield 8, 3) := by decide +kernel
theorem d_M_adds_63 : decode prog_12_method_14_code 63 = .ok (.iload 7, 2) := by decide +kernel
theorem d_M_adds_65 : decode prog_12_method_14_code 65 = .ok (.iaload, 1) := by decide +kernel
theorem d_M_adds_66 : decode prog_12_method_14_code 66 = .ok (.i2l, 1) := by decide +kernel
theorem d_M_adds_67 : decode prog_12_method_14_code 67 = .ok (.aload_n 0, 1) := by decide +kernel
theorem d_M_adds_68 : decode prog_12_method_14_code 68 = .ok (.getfield 14, 3) := by decide +kernel
theorem d_M_adds_71 : decode prog_12_method_14_code 71 = .ok (.iload 7, 2) := by decide +kernel
theorem d_M_adds_73 : decode prog_12_method_14_code 73 = .ok (.iaload, 1) := by decide +kernel
theorem d_M_adds_74 : decode prog_12_method_14_code 74 = .ok (.i2l, 1) := by decide +kernel
theorem d_M_adds_75 : decode prog_12_method_14_code 75 = .ok (.invokevirtual 78, 3) := by decide +kernel
theorem d_M_adds_78 : decode prog_12_method_14_code 78 = .ok (.aload_n 0, 1) := by decide +kernel
theorem d_M_adds_79 : decode prog_12_method_14_code 79 = .ok (.getfield 54, 3) := by decide +kernel
theorem d_M_adds_82 : decode prog_12_method_14_code 82 = .ok (.ifCond .ne 18, 3) := by decide +kernel
theorem d_M_adds_85 : decode prog_12_method_14_code 85 = .ok (.aload_n 0, 1) := by decide +kernel
theorem d_M_adds_86 : decode prog_12_method_14_code 86 = .ok (.iload_n 1, 1) := by decide +kernel
theorem d_M_adds_87 : decode prog_12_method_14_code 87 = .ok (.aload_n 0, 1) := by decide +kernel
theorem d_M_adds_88 : decode prog_12_method_14_code 88 = .ok (.getfield 62, 3) := by decide +kernel
theorem d_M_adds_91 : decode prog_12_method_14_code 91 = .ok (.aload_n 0, 1) := by decide +kernel
theorem d_M_adds_92 : decode prog_12_method_14_code 92 = .ok (.getfield 65, 3) := by decide +kernel
theorem d_M_adds_95 : decode prog_12_method_14_code 95 = .ok (.iload 8, 2) := by decide +kernel
theorem d_M_adds_97 : decode prog_12_method_14_code 97 = .ok (.invokevirtual 82, 3) := by decide +kernel
theorem d_M_adds_100 : decode prog_12_method_14_code 100 = .ok (.iinc 6 1, 3) := by decide +kernel
theorem d_M_adds_103 : decode prog_12_method_14_code 103 = .ok (.goto (-100), 3) := by decide +kernel
theorem d_M_adds_106 : decode prog_12_method_14_code 106 = .ok (.return_, 1) := by decide +kernel
def tb_M_adds_0 : List (Nat × jm_Op) := [(0, oC 0 1), (1, oIs 6 3), (3, oIl 6 5), (5, oAl 0 6), (6, oGr 6 6 8 9), (9, oIl 5 11), (11, oIa 12), (12, oIcGe 106 15), (15, oAl 0 16), (16, oGi 6 11 19), (19, oIfNe 106 22), (22, oC 100 24), (24, oIl 5 26), (26, oMul 27), (27, oIl 6 29), (29, oAdd 30), (30, oIs 7 32), (32, oAl 0 33), (33, oIl 4 35), (35, oAl 0 36), (36, oGr 6 5 8 39), (39, oIl 7 41), (41, oIa 42), (45, oIs 8 47), (47, oAl 0 48), (48, oGi 6 11 51), (51, oIfNe 78 54), (54, oAl 0 55), (55, oIl 2 56), (56, oI2L 57), (57, oIl 3 58), (58, oI2L 59), (59, oAl 0 60), (60, oGr 6 3 8 63), (63, oIl 7 65), (65, oIa 66), (66, oI2L 67), (67, oAl 0 68), (68, oGr 6 4 8 71), (71, oIl 7 73), (73, oIa 74), (74, oI2L 75), (78, oAl 0 79), (79, oGi 6 11 82), (82, oIfNe 100 85), (85, oAl 0 86), (86, oIl 1 87), (87, oAl 0 88), (88, oGi 6 16 91), (91, oAl 0 92)]
theorem ok_M_adds_0 : jm_all 92 tb_M_adds_0 := ⟨s_iconst d_M_adds_0 (by decide), s_istore d_M_adds_1 (by decide), s_iload d_M_adds_3, s_aload_n d_M_adds_5 rfl, s_getr d_M_adds_6 ci_M rfl wd_657, s_iload d_M_adds_9, s_iaload d_M_adds_11, s_icmp_ge d_M_adds_12 (by decide), s_aload_n d_M_adds_15 rfl, s_geti d_M_adds_16 ci_M rfl wd_662, s_if_ne d_M_adds_19 (by decide), s_bipush d_M_adds_22 (by decide), s_iload d_M_adds_24, s_imul d_M_adds_26, s_iload d_M_adds_27, s_iadd d_M_adds_29, s_istore d_M_adds_30 (by decide), s_aload_n d_M_adds_32 rfl, s_iload d_M_adds_33, s_aload_n d_M_adds_35 rfl, s_getr d_M_adds_36 ci_M rfl wd_656, s_iload d_M_adds_39, s_iaload d_M_adds_41, s_istore d_M_adds_45 (by decide), s_aload_n d_M_adds_47 rfl, s_geti d_M_adds_48 ci_M rfl wd_662, s_if_ne d_M_adds_51 (by decide), s_aload_n d_M_adds_54 rfl, s_iload_n d_M_adds_55 rfl, s_i2l d_M_adds_56, s_iload_n d_M_adds_57 rfl, s_i2l d_M_adds_58, s_aload_n d_M_adds_59 rfl, s_getr d_M_adds_60 ci_M rfl wd_654, s_iload d_M_adds_63, s_iaload d_M_adds_65, s_i2l d_M_adds_66, s_aload_n d_M_adds_67 rfl, s_getr d_M_adds_68 ci_M rfl wd_655, s_iload d_M_adds_71, s_iaload d_M_adds_73, s_i2l d_M_adds_74, s_aload_n d_M_adds_78 rfl, s_geti d_M_adds_79 ci_M rfl wd_662, s_if_ne d_M_adds_82 (by decide), s_aload_n d_M_adds_85 rfl, s_iload_n d_M_adds_86 rfl, s_aload_n d_M_adds_87 rfl, s_geti d_M_adds_88 ci_M rfl wd_667, s_aload_n d_M_adds_91 rfl, trivial⟩
def tb_M_adds_1 : List (Nat × jm_Op) := [(92, oGi 6 17 95), (95, oIl 8 97), (100, oInc 6 1 103), (103, oGo 3)]
theorem ok_M_adds_1 : jm_all 92 tb_M_adds_1 := ⟨s_geti d_M_adds_92 ci_M rfl wd_668, s_iload d_M_adds_95, s_iinc d_M_adds_100 (by decide) (by decide), s_goto d_M_adds_103 (by decide), trivial⟩
def tb_M_adds : List (Nat × jm_Op) := tb_M_adds_0 ++ tb_M_adds_1
theorem ok_M_adds : jm_all 92 tb_M_adds := jm_all_app ok_M_adds_0 ok_M_adds_1
theorem k_M_adds_42 {g : jm_G} {d : Nat} {L : List (Option jm_V)} {r : List jm_V} {σ : jm_S} {K K' : jm_O → Prop} {q0 : Nat} {x0 : Int32} {x1 : Int32} (hr : Nat.ble (jm_cs r) 8 = true) (hcal : J g d 93 0 [some (aR 6 q0), some (aI x0), some (aI x1), none] [] σ K') (hk : ∀ u, K' u → jm_aft g (d + 1) 92 42 L r u K) : J g (d + 1) 92 42 L (aI x1 :: aI x0 :: aR 6 q0 :: r) σ K :=
  J_call' (id' := 93) jm_sk (vs := [aR 6 q0, aI x0, aI x1]) (inv_V (id' := 93) d_M_adds_42 ci_M wd_806 wd_808 wd_31 cw_M_product (by decide) pn_M_product) cw_M_product (by decide) (by decide) (Nat.le_of_ble_eq_true rfl) rfl hr rfl hcal hk
theorem k_M_adds_75 {g : jm_G} {d : Nat} {L : List (Option jm_V)} {r : List jm_V} {σ : jm_S} {K K' : jm_O → Prop} {q0 : Nat} {x0 : Int64} {x1 : Int64} {x2 : Int64} {x3 : Int64} (hr : Nat.ble (jm_cs r) 8 = true) (hcal : J g d 94 0 [some (aR 6 q0), some (aL x0), none, some (aL x1), none, some (aL x2), none, some (aL x3), none] [] σ K') (hk : ∀ u, K' u → jm_aft g (d + 1) 92 75 L r u K) : J g (d + 1) 92 75 L (aL x3 :: aL x2 :: aL x1 :: aL x0 :: aR 6 q0 :: r) σ K :=
  J_call' (id' := 94) jm_sk (vs := [aR 6 q0, aL x0, aL x1, aL x2, aL x3]) (inv_V (id' := 94) d_M_adds_75 ci_M wd_810 wd_812 wd_32 cw_M_multiplied (by decide) pn_M_multiplied) cw_M_multiplied (by decide) (by decide) (Nat.le_of_ble_eq_true rfl) rfl hr rfl hcal hk
theorem k_M_adds_97 {g : jm_G} {d : Nat} {L : List (Option jm_V)} {r : List jm_V} {σ : jm_S} {K K' : jm_O → Prop} {q0 : Nat} {x0 : Int32} {x1 : Int32} {x2 : Int32} {x3 : Int32} (hr : Nat.ble (jm_cs r) 8 = true) (hcal : J g d 86 0 [some (aR 6 q0), some (aI x0), some (aI x1), some (aI x2), some (aI x3), none, none, none] [] σ K') (hk : ∀ u, K' u → jm_aft g (d + 1) 92 97 L r u K) : J g (d + 1) 92 97 L (aI x3 :: aI x2 :: aI x1 :: aI x0 :: aR 6 q0 :: r) σ K :=
  J_call' (id' := 86) jm_sk (vs := [aR 6 q0, aI x0, aI x1, aI x2, aI x3]) (inv_V (id' := 86) d_M_adds_97 ci_M wd_778 wd_780 wd_28 cw_M_comes (by decide) pn_M_comes) cw_M_comes (by decide) (by decide) (Nat.le_of_ble_eq_true rfl) rfl hr rfl hcal hk
theorem r_M_adds_106 {g : jm_G} {d : Nat} {L : List (Option jm_V)} {σ : jm_S} {K : jm_O → Prop} (hK : K (σ, .inl none)) : J g d 92 106 L [] σ K := J_vret d_M_adds_106 rfl hK
-- IdealProverModel product (II)I
theorem d_M_product_0 : decode prog_12_method_8_code 0 = .ok (.iconst 0, 1) := by decide +kernel
theorem d_M_product_1 : decode prog_12_method_8_code 1 = .ok (.istore_n 3, 1) := by decide +kernel
theorem d_M_product_2 : decode prog_12_method_8_code 2 = .ok (.iload_n 3, 1) := by decide +kernel
theorem d_M_product_3 : decode prog_12_method_8_code 3 = .ok (.aload_n 0, 1) := by decide +kernel
theorem d_M_product_4 : decode prog_12_method_8_code 4 = .ok (.getfield 40, 3) := by decide +kernel
theorem d_M_product_7 : decode prog_12_method_8_code 7 = .ok (.if_icmp .ge 41, 3) := by decide +kernel
theorem d_M_product_10 : decode prog_12_method_8_code 10 = .ok (.aload_n 0, 1) := by decide +kernel
theorem d_M_product_11 : decode prog_12_method_8_code 11 = .ok (.aload_n 0, 1) := by decide +kernel
theorem d_M_product_12 : decode prog_12_method_8_code 12 = .ok (.getfield 54, 3) := by decide +kernel
theorem d_M_product_15 : decode prog_12_method_8_code 15 = .ok (.ifCond .ne 19, 3) := by decide +kernel
theorem d_M_product_18 : decode prog_12_method_8_code 18 = .ok (.iload_n 1, 1) := by decide +kernel
theorem d_M_product_19 : decode prog_12_method_8_code 19 = .ok (.iload_n 3, 1) := by decide +kernel
theorem d_M_product_20 : decode prog_12_method_8_code 20 = .ok (.invokestatic 43, 3) := by decide +kernel
theorem d_M_product_23 : decode prog_12_method_8_code 23 = .ok (.iload_n 2, 1) := by decide +kernel
theorem d_M_product_24 : decode prog_12_method_8_code 24 = .ok (.iload_n 3, 1) := by decide +kernel
theorem d_M_product_25 : decode prog_12_method_8_code 25 = .ok (.invokestatic 43, 3) := by decide +kernel
theorem d_M_product_28 : decode prog_12_method_8_code 28 = .ok (.iadd, 1) := by decide +kernel
theorem d_M_product_29 : decode prog_12_method_8_code 29 = .ok (.bipush 30, 2) := by decide +kernel
theorem d_M_product_31 : decode prog_12_method_8_code 31 = .ok (.if_icmp .le 7, 3) := by decide +kernel
theorem d_M_product_34 : decode prog_12_method_8_code 34 = .ok (.iconst 1, 1) := by decide +kernel
theorem d_M_product_35 : decode prog_12_method_8_code 35 = .ok (.goto 4, 3) := by decide +kernel
theorem d_M_product_38 : decode prog_12_method_8_code 38 = .ok (.iconst 0, 1) := by decide +kernel
theorem d_M_product_39 : decode prog_12_method_8_code 39 = .ok (.putfield 54, 3) := by decide +kernel
theorem d_M_product_42 : decode prog_12_method_8_code 42 = .ok (.iinc 3 1, 3) := by decide +kernel
theorem d_M_product_45 : decode prog_12_method_8_code 45 = .ok (.goto (-43), 3) := by decide +kernel
theorem d_M_product_48 : decode prog_12_method_8_code 48 = .ok (.aload_n 0, 1) := by decide +kernel
theorem d_M_product_49 : decode prog_12_method_8_code 49 = .ok (.getfield 54, 3) := by decide +kernel
theorem d_M_product_52 : decode prog_12_method_8_code 52 = .ok (.ifCond .eq 7, 3) := by decide +kernel
theorem d_M_product_55 : decode prog_12_method_8_code 55 = .ok (.iconst 0, 1) := by decide +kernel
theorem d_M_product_56 : decode prog_12_method_8_code 56 = .ok (.goto 6, 3) := by decide +kernel
theorem d_M_product_59 : decode prog_12_method_8_code 59 = .ok (.iload_n 1, 1) := by decide +kernel
theorem d_M_product_60 : decode prog_12_method_8_code 60 = .ok (.iload_n 2, 1) := by decide +kernel
theorem d_M_product_61 : decode prog_12_method_8_code 61 = .ok (.iadd, 1) := by decide +kernel
theorem d_M_product_62 : decode prog_12_method_8_code 62 = .ok (.ireturn, 1) := by decide +kernel
def tb_M_product : List (Nat × jm_Op) := [(0, oC 0 1), (1, oIs 3 2), (2, oIl 3 3), (3, oAl 0 4), (4, oGi 6 1 7), (7, oIcGe 48 10), (10, oAl 0 11), (11, oAl 0 12), (12, oGi 6 11 15), (15, oIfNe 34 18), (18, oIl 1 19), (19, oIl 3 20), (23, oIl 2 24), (24, oIl 3 25), (28, oAdd 29), (29, oC 30 31), (31, oIcLe 38 34), (34, oC 1 35), (35, oGo 39), (38, oC 0 39), (39, oPz 6 11 42), (42, oInc 3 1 45), (45, oGo 2), (48, oAl 0 49), (49, oGi 6 11 52), (52, oIfEq 59 55), (55, oC 0 56), (56, oGo 62), (59, oIl 1 60), (60, oIl 2 61), (61, oAdd 62)]
theorem ok_M_product : jm_all 93 tb_M_product := ⟨s_iconst d_M_product_0 (by decide), s_istore_n d_M_product_1 rfl (by decide), s_iload_n d_M_product_2 rfl, s_aload_n d_M_product_3 rfl, s_geti d_M_product_4 ci_M rfl wd_652, s_icmp_ge d_M_product_7 (by decide), s_aload_n d_M_product_10 rfl, s_aload_n d_M_product_11 rfl, s_geti d_M_product_12 ci_M rfl wd_662, s_if_ne d_M_product_15 (by decide), s_iload_n d_M_product_18 rfl, s_iload_n d_M_product_19 rfl, s_iload_n d_M_product_23 rfl, s_iload_n d_M_product_24 rfl, s_iadd d_M_product_28, s_bipush d_M_product_29 (by decide), s_icmp_le d_M_product_31 (by decide), s_iconst d_M_product_34 (by decide), s_goto d_M_product_35 (by decide), s_iconst d_M_product_38 (by decide), s_putz d_M_product_39 ci_M rfl rfl rfl wd_662, s_iinc d_M_product_42 (by decide) (by decide), s_goto d_M_product_45 (by decide), s_aload_n d_M_product_48 rfl, s_geti d_M_product_49 ci_M rfl wd_662, s_if_eq d_M_product_52 (by decide), s_iconst d_M_product_55 (by decide), s_goto d_M_product_56 (by decide), s_iload_n d_M_product_59 rfl, s_iload_n d_M_product_60 rfl, s_iadd d_M_product_61, trivial⟩
theorem k_M_product_20 {g : jm_G} {d : Nat} {L : List (Option jm_V)} {r : List jm_V} {σ : jm_S} {K K' : jm_O → Prop} {x0 : Int32} {x1 : Int32} (hr : Nat.ble (jm_cs r) 8 = true) (hcal : J g d 80 0 [some (aI x0), some (aI x1)] [] σ K') (hk : ∀ u, K' u → jm_aft g (d + 1) 93 20 L r u K) : J g (d + 1) 93 20 L (aI x1 :: aI x0 :: r) σ K :=
  J_call' (id' := 80) jm_sk (vs := [aI x0, aI x1]) (inv_S (id' := 80) d_M_product_20 wd_752 wd_753 wd_62 cw_M_exponent (by decide) pn_M_exponent) cw_M_exponent (by decide) (by decide) (Nat.le_of_ble_eq_true rfl) rfl hr rfl hcal hk
theorem k_M_product_25 {g : jm_G} {d : Nat} {L : List (Option jm_V)} {r : List jm_V} {σ : jm_S} {K K' : jm_O → Prop} {x0 : Int32} {x1 : Int32} (hr : Nat.ble (jm_cs r) 8 = true) (hcal : J g d 80 0 [some (aI x0), some (aI x1)] [] σ K') (hk : ∀ u, K' u → jm_aft g (d + 1) 93 25 L r u K) : J g (d + 1) 93 25 L (aI x1 :: aI x0 :: r) σ K :=
  J_call' (id' := 80) jm_sk (vs := [aI x0, aI x1]) (inv_S (id' := 80) d_M_product_25 wd_752 wd_753 wd_62 cw_M_exponent (by decide) pn_M_exponent) cw_M_exponent (by decide) (by decide) (Nat.le_of_ble_eq_true rfl) rfl hr rfl hcal hk
theorem r_M_product_62 {g : jm_G} {d : Nat} {L : List (Option jm_V)} {σ : jm_S} {K : jm_O → Prop} {v : Int32} (hK : K (σ, .inl (some (aI v)))) : J g d 93 62 L [aI v] σ K := J_iret d_M_product_62 rfl hK
-- IdealProverModel multiplied (JJJJ)V
theorem d_M_multiplied_0 : decode prog_12_method_10_code 0 = .ok (.aload_n 0, 1) := by decide +kernel
theorem d_M_multiplied_1 : decode prog_12_method_10_code 1 = .ok (.lload_n 1, 1) := by decide +kernel
theorem d_M_multiplied_2 : decode prog_12_method_10_code 2 = .ok (.lload 5, 2) := by decide +kernel
theorem d_M_multiplied_4 : decode prog_12_method_10_code 4 = .ok (.lmul, 1) := by decide +kernel
theorem d_M_multiplied_5 : decode prog_12_method_10_code 5 = .ok (.lload_n 3, 1) := by decide +kernel
theorem d_M_multiplied_6 : decode prog_12_method_10_code 6 = .ok (.lload 7, 2) := by decide +kernel
theorem d_M_multiplied_8 : decode prog_12_method_10_code 8 = .ok (.lmul, 1) := by decide +kernel
theorem d_M_multiplied_9 : decode prog_12_method_10_code 9 = .ok (.invokevirtual 68, 3) := by decide +kernel
theorem d_M_multiplied_12 : decode prog_12_method_10_code 12 = .ok (.return_, 1) := by decide +kernel
def tb_M_multiplied : List (Nat × jm_Op) := [(0, oAl 0 1), (1, oLl 1 2), (2, oLl 5 4), (4, oLMul 5), (5, oLl 3 6), (6, oLl 7 8), (8, oLMul 9)]
theorem ok_M_multiplied : jm_all 94 tb_M_multiplied := ⟨s_aload_n d_M_multiplied_0 rfl, s_lload_n d_M_multiplied_1 rfl, s_lload d_M_multiplied_2, s_lmul d_M_multiplied_4, s_lload_n d_M_multiplied_5 rfl, s_lload d_M_multiplied_6, s_lmul d_M_multiplied_8, trivial⟩
theorem k_M_multiplied_9 {g : jm_G} {d : Nat} {L : List (Option jm_V)} {r : List jm_V} {σ : jm_S} {K K' : jm_O → Prop} {q0 : Nat} {x0 : Int64} {x1 : Int64} (hr : Nat.ble (jm_cs r) 8 = true) (hcal : J g d 85 0 [some (aR 6 q0), some (aL x0), none, some (aL x1), none, none, none, none, none, none, none, none, none] [] σ K') (hk : ∀ u, K' u → jm_aft g (d + 1) 94 9 L r u K) : J g (d + 1) 94 9 L (aL x1 :: aL x0 :: aR 6 q0 :: r) σ K :=
  J_call' (id' := 85) jm_sk (vs := [aR 6 q0, aL x0, aL x1]) (inv_V (id' := 85) d_M_multiplied_9 ci_M wd_772 wd_774 wd_27 cw_M_lowest (by decide) pn_M_lowest) cw_M_lowest (by decide) (by decide) (Nat.le_of_ble_eq_true rfl) rfl hr rfl hcal hk
theorem r_M_multiplied_12 {g : jm_G} {d : Nat} {L : List (Option jm_V)} {σ : jm_S} {K : jm_O → Prop} (hK : K (σ, .inl none)) : J g d 94 12 L [] σ K := J_vret d_M_multiplied_12 rfl hK
-- IdealProverModel times (III)I
theorem d_M_times_0 : decode prog_12_method_26_code 0 = .ok (.iload_n 1, 1) := by decide +kernel
theorem d_M_times_1 : decode prog_12_method_26_code 1 = .ok (.invokestatic 100, 3) := by decide +kernel
theorem d_M_times_4 : decode prog_12_method_26_code 4 = .ok (.ifCond .eq 17, 3) := by decide +kernel
theorem d_M_times_7 : decode prog_12_method_26_code 7 = .ok (.iload_n 2, 1) := by decide +kernel
theorem d_M_times_8 : decode prog_12_method_26_code 8 = .ok (.invokestatic 100, 3) := by decide +kernel
theorem d_M_times_11 : decode prog_12_method_26_code 11 = .ok (.ifCond .eq 10, 3) := by decide +kernel
theorem d_M_times_14 : decode prog_12_method_26_code 14 = .ok (.iload_n 3, 1) := by decide +kernel
theorem d_M_times_15 : decode prog_12_method_26_code 15 = .ok (.invokestatic 100, 3) := by decide +kernel
theorem d_M_times_18 : decode prog_12_method_26_code 18 = .ok (.ifCond .ne 5, 3) := by decide +kernel
theorem d_M_times_21 : decode prog_12_method_26_code 21 = .ok (.iconst (-1), 1) := by decide +kernel
theorem d_M_times_22 : decode prog_12_method_26_code 22 = .ok (.ireturn, 1) := by decide +kernel
theorem d_M_times_23 : decode prog_12_method_26_code 23 = .ok (.aload_n 0, 1) := by decide +kernel
theorem d_M_times_24 : decode prog_12_method_26_code 24 = .ok (.iconst 0, 1) := by decide +kernel
theorem d_M_times_25 : decode prog_12_method_26_code 25 = .ok (.putfield 54, 3) := by decide +kernel
theorem d_M_times_28 : decode prog_12_method_26_code 28 = .ok (.aload_n 0, 1) := by decide +kernel
theorem d_M_times_29 : decode prog_12_method_26_code 29 = .ok (.iload_n 1, 1) := by decide +kernel
theorem d_M_times_30 : decode prog_12_method_26_code 30 = .ok (.iload_n 2, 1) := by decide +kernel
theorem d_M_times_31 : decode prog_12_method_26_code 31 = .ok (.sipush 150, 3) := by decide +kernel
theorem d_M_times_34 : decode prog_12_method_26_code 34 = .ok (.invokevirtual 113, 3) := by decide +kernel
theorem d_M_times_37 : decode prog_12_method_26_code 37 = .ok (.aload_n 0, 1) := by decide +kernel
theorem d_M_times_38 : decode prog_12_method_26_code 38 = .ok (.sipush 150, 3) := by decide +kernel
theorem d_M_times_41 : decode prog_12_method_26_code 41 = .ok (.iload_n 3, 1) := by decide +kernel
theorem d_M_times_42 : decode prog_12_method_26_code 42 = .ok (.invokevirtual 110, 3) := by decide +kernel
theorem d_M_times_45 : decode prog_12_method_26_code 45 = .ok (.ireturn, 1) := by decide +kernel
def tb_M_times : List (Nat × jm_Op) := [(0, oIl 1 1), (4, oIfEq 21 7), (7, oIl 2 8), (11, oIfEq 21 14), (14, oIl 3 15), (18, oIfNe 23 21), (21, oC (-1) 22), (23, oAl 0 24), (24, oC 0 25), (25, oPz 6 11 28), (28, oAl 0 29), (29, oIl 1 30), (30, oIl 2 31), (31, oC 150 34), (37, oAl 0 38), (38, oC 150 41), (41, oIl 3 42)]
theorem ok_M_times : jm_all 95 tb_M_times := ⟨s_iload_n d_M_times_0 rfl, s_if_eq d_M_times_4 (by decide), s_iload_n d_M_times_7 rfl, s_if_eq d_M_times_11 (by decide), s_iload_n d_M_times_14 rfl, s_if_ne d_M_times_18 (by decide), s_iconst d_M_times_21 (by decide), s_aload_n d_M_times_23 rfl, s_iconst d_M_times_24 (by decide), s_putz d_M_times_25 ci_M rfl rfl rfl wd_662, s_aload_n d_M_times_28 rfl, s_iload_n d_M_times_29 rfl, s_iload_n d_M_times_30 rfl, s_sipush d_M_times_31 (by decide), s_aload_n d_M_times_37 rfl, s_sipush d_M_times_38 (by decide), s_iload_n d_M_times_41 rfl, trivial⟩
theorem k_M_times_1 {g : jm_G} {d : Nat} {L : List (Option jm_V)} {r : List jm_V} {σ : jm_S} {K K' : jm_O → Prop} {x0 : Int32} (hr : Nat.ble (jm_cs r) 8 = true) (hcal : J g d 83 0 [some (aI x0)] [] σ K') (hk : ∀ u, K' u → jm_aft g (d + 1) 95 1 L r u K) : J g (d + 1) 95 1 L (aI x0 :: r) σ K :=
  J_call' (id' := 83) jm_sk (vs := [aI x0]) (inv_S (id' := 83) d_M_times_1 wd_763 wd_764 wd_62 cw_M_isPlace (by decide) pn_M_isPlace) cw_M_isPlace (by decide) (by decide) (Nat.le_of_ble_eq_true rfl) rfl hr rfl hcal hk
theorem k_M_times_8 {g : jm_G} {d : Nat} {L : List (Option jm_V)} {r : List jm_V} {σ : jm_S} {K K' : jm_O → Prop} {x0 : Int32} (hr : Nat.ble (jm_cs r) 8 = true) (hcal : J g d 83 0 [some (aI x0)] [] σ K') (hk : ∀ u, K' u → jm_aft g (d + 1) 95 8 L r u K) : J g (d + 1) 95 8 L (aI x0 :: r) σ K :=
  J_call' (id' := 83) jm_sk (vs := [aI x0]) (inv_S (id' := 83) d_M_times_8 wd_763 wd_764 wd_62 cw_M_isPlace (by decide) pn_M_isPlace) cw_M_isPlace (by decide) (by decide) (Nat.le_of_ble_eq_true rfl) rfl hr rfl hcal hk
theorem k_M_times_15 {g : jm_G} {d : Nat} {L : List (Option jm_V)} {r : List jm_V} {σ : jm_S} {K K' : jm_O → Prop} {x0 : Int32} (hr : Nat.ble (jm_cs r) 8 = true) (hcal : J g d 83 0 [some (aI x0)] [] σ K') (hk : ∀ u, K' u → jm_aft g (d + 1) 95 15 L r u K) : J g (d + 1) 95 15 L (aI x0 :: r) σ K :=
  J_call' (id' := 83) jm_sk (vs := [aI x0]) (inv_S (id' := 83) d_M_times_15 wd_763 wd_764 wd_62 cw_M_isPlace (by decide) pn_M_isPlace) cw_M_isPlace (by decide) (by decide) (Nat.le_of_ble_eq_true rfl) rfl hr rfl hcal hk
theorem r_M_times_22 {g : jm_G} {d : Nat} {L : List (Option jm_V)} {σ : jm_S} {K : jm_O → Prop} {v : Int32} (hK : K (σ, .inl (some (aI v)))) : J g d 95 22 L [aI v] σ K := J_iret d_M_times_22 rfl hK
theorem k_M_times_34 {g : jm_G} {d : Nat} {L : List (Option jm_V)} {r : List jm_V} {σ : jm_S} {K K' : jm_O → Prop} {q0 : Nat} {x0 : Int32} {x1 : Int32} {x2 : Int32} (hr : Nat.ble (jm_cs r) 8 = true) (hcal : J g d 96 0 [some (aR 6 q0), some (aI x0), some (aI x1), some (aI x2), none] [] σ K') (hk : ∀ u, K' u → jm_aft g (d + 1) 95 34 L r u K) : J g (d + 1) 95 34 L (aI x2 :: aI x1 :: aI x0 :: aR 6 q0 :: r) σ K :=
  J_call' (id' := 96) jm_sk (vs := [aR 6 q0, aI x0, aI x1, aI x2]) (inv_V (id' := 96) d_M_times_34 ci_M wd_818 wd_820 wd_33 cw_M_made (by decide) pn_M_made) cw_M_made (by decide) (by decide) (Nat.le_of_ble_eq_true rfl) rfl hr rfl hcal hk
theorem k_M_times_42 {g : jm_G} {d : Nat} {L : List (Option jm_V)} {r : List jm_V} {σ : jm_S} {K K' : jm_O → Prop} {q0 : Nat} {x0 : Int32} {x1 : Int32} (hr : Nat.ble (jm_cs r) 8 = true) (hcal : J g d 87 0 [some (aR 6 q0), some (aI x0), some (aI x1)] [] σ K') (hk : ∀ u, K' u → jm_aft g (d + 1) 95 42 L r u K) : J g (d + 1) 95 42 L (aI x1 :: aI x0 :: aR 6 q0 :: r) σ K :=
  J_call' (id' := 87) jm_sk (vs := [aR 6 q0, aI x0, aI x1]) (inv_V (id' := 87) d_M_times_42 ci_M wd_782 wd_784 wd_29 cw_M_taken (by decide) pn_M_taken) cw_M_taken (by decide) (by decide) (Nat.le_of_ble_eq_true rfl) rfl hr rfl hcal hk
theorem r_M_times_45 {g : jm_G} {d : Nat} {L : List (Option jm_V)} {σ : jm_S} {K : jm_O → Prop} {v : Int32} (hK : K (σ, .inl (some (aI v)))) : J g d 95 45 L [aI v] σ K := J_iret d_M_times_45 rfl hK
-- IdealProverModel made (III)V
theorem d_M_made_0 : decode prog_12_method_15_code 0 = .ok (.aload_n 0, 1) := by decide +kernel
theorem d_M_made_1 : decode prog_12_method_15_code 1 = .ok (.getfield 20, 3) := by decide +kernel
theorem d_M_made_4 : decode prog_12_method_15_code 4 = .ok (.iload_n 3, 1) := by decide +kernel
theorem d_M_made_5 : decode prog_12_method_15_code 5 = .ok (.iconst 0, 1) := by decide +kernel
theorem d_M_made_6 : decode prog_12_method_15_code 6 = .ok (.iastore, 1) := by decide +kernel
theorem d_M_made_7 : decode prog_12_method_15_code 7 = .ok (.iconst 0, 1) := by decide +kernel
theorem d_M_made_8 : decode prog_12_method_15_code 8 = .ok (.istore 4, 2) := by decide +kernel
theorem d_M_made_10 : decode prog_12_method_15_code 10 = .ok (.iload 4, 2) := by decide +kernel
theorem d_M_made_12 : decode prog_12_method_15_code 12 = .ok (.aload_n 0, 1) := by decide +kernel
theorem d_M_made_13 : decode prog_12_method_15_code 13 = .ok (.getfield 20, 3) := by decide +kernel
theorem d_M_made_16 : decode prog_12_method_15_code 16 = .ok (.iload_n 1, 1) := by decide +kernel
theorem d_M_made_17 : decode prog_12_method_15_code 17 = .ok (.iaload, 1) := by decide +kernel
theorem d_M_made_18 : decode prog_12_method_15_code 18 = .ok (.if_icmp .ge 58, 3) := by decide +kernel
theorem d_M_made_21 : decode prog_12_method_15_code 21 = .ok (.aload_n 0, 1) := by decide +kernel
theorem d_M_made_22 : decode prog_12_method_15_code 22 = .ok (.getfield 54, 3) := by decide +kernel
theorem d_M_made_25 : decode prog_12_method_15_code 25 = .ok (.ifCond .ne 51, 3) := by decide +kernel
theorem d_M_made_28 : decode prog_12_method_15_code 28 = .ok (.aload_n 0, 1) := by decide +kernel
theorem d_M_made_29 : decode prog_12_method_15_code 29 = .ok (.iload_n 3, 1) := by decide +kernel
theorem d_M_made_30 : decode prog_12_method_15_code 30 = .ok (.aload_n 0, 1) := by decide +kernel
theorem d_M_made_31 : decode prog_12_method_15_code 31 = .ok (.getfield 8, 3) := by decide +kernel
theorem d_M_made_34 : decode prog_12_method_15_code 34 = .ok (.bipush 100, 2) := by decide +kernel
theorem d_M_made_36 : decode prog_12_method_15_code 36 = .ok (.iload_n 1, 1) := by decide +kernel
theorem d_M_made_37 : decode prog_12_method_15_code 37 = .ok (.imul, 1) := by decide +kernel
theorem d_M_made_38 : decode prog_12_method_15_code 38 = .ok (.iload 4, 2) := by decide +kernel
theorem d_M_made_40 : decode prog_12_method_15_code 40 = .ok (.iadd, 1) := by decide +kernel
theorem d_M_made_41 : decode prog_12_method_15_code 41 = .ok (.iaload, 1) := by decide +kernel
theorem d_M_made_42 : decode prog_12_method_15_code 42 = .ok (.aload_n 0, 1) := by decide +kernel
theorem d_M_made_43 : decode prog_12_method_15_code 43 = .ok (.getfield 14, 3) := by decide +kernel
theorem d_M_made_46 : decode prog_12_method_15_code 46 = .ok (.bipush 100, 2) := by decide +kernel
theorem d_M_made_48 : decode prog_12_method_15_code 48 = .ok (.iload_n 1, 1) := by decide +kernel
theorem d_M_made_49 : decode prog_12_method_15_code 49 = .ok (.imul, 1) := by decide +kernel
theorem d_M_made_50 : decode prog_12_method_15_code 50 = .ok (.iload 4, 2) := by decide +kernel
theorem d_M_made_52 : decode prog_12_method_15_code 52 = .ok (.iadd, 1) := by decide +kernel
theorem d_M_made_53 : decode prog_12_method_15_code 53 = .ok (.iaload, 1) := by decide +kernel
theorem d_M_made_54 : decode prog_12_method_15_code 54 = .ok (.aload_n 0, 1) := by decide +kernel
theorem d_M_made_55 : decode prog_12_method_15_code 55 = .ok (.getfield 17, 3) := by decide +kernel
theorem d_M_made_58 : decode prog_12_method_15_code 58 = .ok (.bipush 100, 2) := by decide +kernel
theorem d_M_made_60 : decode prog_12_method_15_code 60 = .ok (.iload_n 1, 1) := by decide +kernel
theorem d_M_made_61 : decode prog_12_method_15_code 61 = .ok (.imul, 1) := by decide +kernel
theorem d_M_made_62 : decode prog_12_method_15_code 62 = .ok (.iload 4, 2) := by decide +kernel
theorem d_M_made_64 : decode prog_12_method_15_code 64 = .ok (.iadd, 1) := by decide +kernel
theorem d_M_made_65 : decode prog_12_method_15_code 65 = .ok (.iaload, 1) := by decide +kernel
theorem d_M_made_66 : decode prog_12_method_15_code 66 = .ok (.iload_n 2, 1) := by decide +kernel
theorem d_M_made_67 : decode prog_12_method_15_code 67 = .ok (.invokevirtual 86, 3) := by decide +kernel
theorem d_M_made_70 : decode prog_12_method_15_code 70 = .ok (.iinc 4 1, 3) := by decide +kernel
theorem d_M_made_73 : decode prog_12_method_15_code 73 = .ok (.goto (-63), 3) := by decide +kernel
theorem d_M_made_76 : decode prog_12_method_15_code 76 = .ok (.return_, 1) := by decide +kernel
def tb_M_made : List (Nat × jm_Op) := [(0, oAl 0 1), (1, oGr 6 6 8 4), (4, oIl 3 5), (5, oC 0 6), (6, oIw 7), (7, oC 0 8), (8, oIs 4 10), (10, oIl 4 12), (12, oAl 0 13), (13, oGr 6 6 8 16), (16, oIl 1 17), (17, oIa 18), (18, oIcGe 76 21), (21, oAl 0 22), (22, oGi 6 11 25), (25, oIfNe 76 28), (28, oAl 0 29), (29, oIl 3 30), (30, oAl 0 31), (31, oGr 6 3 8 34), (34, oC 100 36), (36, oIl 1 37), (37, oMul 38), (38, oIl 4 40), (40, oAdd 41), (41, oIa 42), (42, oAl 0 43), (43, oGr 6 4 8 46), (46, oC 100 48), (48, oIl 1 49), (49, oMul 50), (50, oIl 4 52), (52, oAdd 53), (53, oIa 54), (54, oAl 0 55), (55, oGr 6 5 8 58), (58, oC 100 60), (60, oIl 1 61), (61, oMul 62), (62, oIl 4 64), (64, oAdd 65), (65, oIa 66), (66, oIl 2 67), (70, oInc 4 1 73), (73, oGo 10)]
theorem ok_M_made : jm_all 96 tb_M_made := ⟨s_aload_n d_M_made_0 rfl, s_getr d_M_made_1 ci_M rfl wd_657, s_iload_n d_M_made_4 rfl, s_iconst d_M_made_5 (by decide), s_iastore d_M_made_6, s_iconst d_M_made_7 (by decide), s_istore d_M_made_8 (by decide), s_iload d_M_made_10, s_aload_n d_M_made_12 rfl, s_getr d_M_made_13 ci_M rfl wd_657, s_iload_n d_M_made_16 rfl, s_iaload d_M_made_17, s_icmp_ge d_M_made_18 (by decide), s_aload_n d_M_made_21 rfl, s_geti d_M_made_22 ci_M rfl wd_662, s_if_ne d_M_made_25 (by decide), s_aload_n d_M_made_28 rfl, s_iload_n d_M_made_29 rfl, s_aload_n d_M_made_30 rfl, s_getr d_M_made_31 ci_M rfl wd_654, s_bipush d_M_made_34 (by decide), s_iload_n d_M_made_36 rfl, s_imul d_M_made_37, s_iload d_M_made_38, s_iadd d_M_made_40, s_iaload d_M_made_41, s_aload_n d_M_made_42 rfl, s_getr d_M_made_43 ci_M rfl wd_655, s_bipush d_M_made_46 (by decide), s_iload_n d_M_made_48 rfl, s_imul d_M_made_49, s_iload d_M_made_50, s_iadd d_M_made_52, s_iaload d_M_made_53, s_aload_n d_M_made_54 rfl, s_getr d_M_made_55 ci_M rfl wd_656, s_bipush d_M_made_58 (by decide), s_iload_n d_M_made_60 rfl, s_imul d_M_made_61, s_iload d_M_made_62, s_iadd d_M_made_64, s_iaload d_M_made_65, s_iload_n d_M_made_66 rfl, s_iinc d_M_made_70 (by decide) (by decide), s_goto d_M_made_73 (by decide), trivial⟩
theorem k_M_made_67 {g : jm_G} {d : Nat} {L : List (Option jm_V)} {r : List jm_V} {σ : jm_S} {K K' : jm_O → Prop} {q0 : Nat} {x0 : Int32} {x1 : Int32} {x2 : Int32} {x3 : Int32} {x4 : Int32} (hr : Nat.ble (jm_cs r) 8 = true) (hcal : J g d 92 0 [some (aR 6 q0), some (aI x0), some (aI x1), some (aI x2), some (aI x3), some (aI x4), none, none, none] [] σ K') (hk : ∀ u, K' u → jm_aft g (d + 1) 96 67 L r u K) : J g (d + 1) 96 67 L (aI x4 :: aI x3 :: aI x2 :: aI x1 :: aI x0 :: aR 6 q0 :: r) σ K :=
  J_call' (id' := 92) jm_sk (vs := [aR 6 q0, aI x0, aI x1, aI x2, aI x3, aI x4]) (inv_V (id' := 92) d_M_made_67 ci_M wd_802 wd_804 wd_30 cw_M_adds (by decide) pn_M_adds) cw_M_adds (by decide) (by decide) (Nat.le_of_ble_eq_true rfl) rfl hr rfl hcal hk
theorem r_M_made_76 {g : jm_G} {d : Nat} {L : List (Option jm_V)} {σ : jm_S} {K : jm_O → Prop} (hK : K (σ, .inl none)) : J g d 96 76 L [] σ K := J_vret d_M_made_76 rfl hK
-- IdealProverModel same (II)I
theorem d_M_same_0 : decode prog_12_method_27_code 0 = .ok (.iload_n 1, 1) := by decide +kernel
theorem d_M_same_1 : decode prog_12_method_27_code 1 = .ok (.invokestatic 100, 3) := by decide +kernel
theorem d_M_same_4 : decode prog_12_method_27_code 4 = .ok (.ifCond .eq 10, 3) := by decide +kernel
theorem d_M_same_7 : decode prog_12_method_27_code 7 = .ok (.iload_n 2, 1) := by decide +kernel
theorem d_M_same_8 : decode prog_12_method_27_code 8 = .ok (.invokestatic 100, 3) := by decide +kernel
theorem d_M_same_11 : decode prog_12_method_27_code 11 = .ok (.ifCond .ne 7, 3) := by decide +kernel
theorem d_M_same_14 : decode prog_12_method_27_code 14 = .ok (.iconst (-1), 1) := by decide +kernel
theorem d_M_same_15 : decode prog_12_method_27_code 15 = .ok (.goto 17, 3) := by decide +kernel
theorem d_M_same_18 : decode prog_12_method_27_code 18 = .ok (.aload_n 0, 1) := by decide +kernel
theorem d_M_same_19 : decode prog_12_method_27_code 19 = .ok (.iload_n 1, 1) := by decide +kernel
theorem d_M_same_20 : decode prog_12_method_27_code 20 = .ok (.iload_n 2, 1) := by decide +kernel
theorem d_M_same_21 : decode prog_12_method_27_code 21 = .ok (.invokevirtual 117, 3) := by decide +kernel
theorem d_M_same_24 : decode prog_12_method_27_code 24 = .ok (.ifCond .eq 7, 3) := by decide +kernel
theorem d_M_same_27 : decode prog_12_method_27_code 27 = .ok (.iconst 1, 1) := by decide +kernel
theorem d_M_same_28 : decode prog_12_method_27_code 28 = .ok (.goto 4, 3) := by decide +kernel
theorem d_M_same_31 : decode prog_12_method_27_code 31 = .ok (.iconst 0, 1) := by decide +kernel
theorem d_M_same_32 : decode prog_12_method_27_code 32 = .ok (.ireturn, 1) := by decide +kernel
def tb_M_same : List (Nat × jm_Op) := [(0, oIl 1 1), (4, oIfEq 14 7), (7, oIl 2 8), (11, oIfNe 18 14), (14, oC (-1) 15), (15, oGo 32), (18, oAl 0 19), (19, oIl 1 20), (20, oIl 2 21), (24, oIfEq 31 27), (27, oC 1 28), (28, oGo 32), (31, oC 0 32)]
theorem ok_M_same : jm_all 97 tb_M_same := ⟨s_iload_n d_M_same_0 rfl, s_if_eq d_M_same_4 (by decide), s_iload_n d_M_same_7 rfl, s_if_ne d_M_same_11 (by decide), s_iconst d_M_same_14 (by decide), s_goto d_M_same_15 (by decide), s_aload_n d_M_same_18 rfl, s_iload_n d_M_same_19 rfl, s_iload_n d_M_same_20 rfl, s_if_eq d_M_same_24 (by decide), s_iconst d_M_same_27 (by decide), s_goto d_M_same_28 (by decide), s_iconst d_M_same_31 (by decide), trivial⟩
theorem k_M_same_1 {g : jm_G} {d : Nat} {L : List (Option jm_V)} {r : List jm_V} {σ : jm_S} {K K' : jm_O → Prop} {x0 : Int32} (hr : Nat.ble (jm_cs r) 8 = true) (hcal : J g d 83 0 [some (aI x0)] [] σ K') (hk : ∀ u, K' u → jm_aft g (d + 1) 97 1 L r u K) : J g (d + 1) 97 1 L (aI x0 :: r) σ K :=
  J_call' (id' := 83) jm_sk (vs := [aI x0]) (inv_S (id' := 83) d_M_same_1 wd_763 wd_764 wd_62 cw_M_isPlace (by decide) pn_M_isPlace) cw_M_isPlace (by decide) (by decide) (Nat.le_of_ble_eq_true rfl) rfl hr rfl hcal hk
theorem k_M_same_8 {g : jm_G} {d : Nat} {L : List (Option jm_V)} {r : List jm_V} {σ : jm_S} {K K' : jm_O → Prop} {x0 : Int32} (hr : Nat.ble (jm_cs r) 8 = true) (hcal : J g d 83 0 [some (aI x0)] [] σ K') (hk : ∀ u, K' u → jm_aft g (d + 1) 97 8 L r u K) : J g (d + 1) 97 8 L (aI x0 :: r) σ K :=
  J_call' (id' := 83) jm_sk (vs := [aI x0]) (inv_S (id' := 83) d_M_same_8 wd_763 wd_764 wd_62 cw_M_isPlace (by decide) pn_M_isPlace) cw_M_isPlace (by decide) (by decide) (Nat.le_of_ble_eq_true rfl) rfl hr rfl hcal hk
theorem k_M_same_21 {g : jm_G} {d : Nat} {L : List (Option jm_V)} {r : List jm_V} {σ : jm_S} {K K' : jm_O → Prop} {q0 : Nat} {x0 : Int32} {x1 : Int32} (hr : Nat.ble (jm_cs r) 8 = true) (hcal : J g d 98 0 [some (aR 6 q0), some (aI x0), some (aI x1), none] [] σ K') (hk : ∀ u, K' u → jm_aft g (d + 1) 97 21 L r u K) : J g (d + 1) 97 21 L (aI x1 :: aI x0 :: aR 6 q0 :: r) σ K :=
  J_call' (id' := 98) jm_sk (vs := [aR 6 q0, aI x0, aI x1]) (inv_V (id' := 98) d_M_same_21 ci_M wd_826 wd_828 wd_34 cw_M_isSame (by decide) pn_M_isSame) cw_M_isSame (by decide) (by decide) (Nat.le_of_ble_eq_true rfl) rfl hr rfl hcal hk
theorem r_M_same_32 {g : jm_G} {d : Nat} {L : List (Option jm_V)} {σ : jm_S} {K : jm_O → Prop} {v : Int32} (hK : K (σ, .inl (some (aI v)))) : J g d 97 32 L [aI v] σ K := J_iret d_M_same_32 rfl hK
-- IdealProverModel isSame (II)Z
theorem d_M_isSame_0 : decode prog_12_method_16_code 0 = .ok (.aload_n 0, 1) := by decide +kernel
theorem d_M_isSame_1 : decode prog_12_method_16_code 1 = .ok (.getfield 20, 3) := by decide +kernel
theorem d_M_isSame_4 : decode prog_12_method_16_code 4 = .ok (.iload_n 1, 1) := by decide +kernel
theorem d_M_isSame_5 : decode prog_12_method_16_code 5 = .ok (.iaload, 1) := by decide +kernel
theorem d_M_isSame_6 : decode prog_12_method_16_code 6 = .ok (.aload_n 0, 1) := by decide +kernel
theorem d_M_isSame_7 : decode prog_12_method_16_code 7 = .ok (.getfield 20, 3) := by decide +kernel
theorem d_M_isSame_10 : decode prog_12_method_16_code 10 = .ok (.iload_n 2, 1) := by decide +kernel
theorem d_M_isSame_11 : decode prog_12_method_16_code 11 = .ok (.iaload, 1) := by decide +kernel
theorem d_M_isSame_12 : decode prog_12_method_16_code 12 = .ok (.if_icmp .eq 5, 3) := by decide +kernel
theorem d_M_isSame_15 : decode prog_12_method_16_code 15 = .ok (.iconst 0, 1) := by decide +kernel
theorem d_M_isSame_16 : decode prog_12_method_16_code 16 = .ok (.ireturn, 1) := by decide +kernel
theorem d_M_isSame_17 : decode prog_12_method_16_code 17 = .ok (.iconst 0, 1) := by decide +kernel
theorem d_M_isSame_18 : decode prog_12_method_16_code 18 = .ok (.istore_n 3, 1) := by decide +kernel
theorem d_M_isSame_19 : decode prog_12_method_16_code 19 = .ok (.iload_n 3, 1) := by decide +kernel
theorem d_M_isSame_20 : decode prog_12_method_16_code 20 = .ok (.aload_n 0, 1) := by decide +kernel
theorem d_M_isSame_21 : decode prog_12_method_16_code 21 = .ok (.getfield 20, 3) := by decide +kernel
theorem d_M_isSame_24 : decode prog_12_method_16_code 24 = .ok (.iload_n 1, 1) := by decide +kernel
theorem d_M_isSame_25 : decode prog_12_method_16_code 25 = .ok (.iaload, 1) := by decide +kernel
theorem d_M_isSame_26 : decode prog_12_method_16_code 26 = .ok (.if_icmp .ge 86, 3) := by decide +kernel
theorem d_M_isSame_29 : decode prog_12_method_16_code 29 = .ok (.aload_n 0, 1) := by decide +kernel
theorem d_M_isSame_30 : decode prog_12_method_16_code 30 = .ok (.getfield 8, 3) := by decide +kernel
theorem d_M_isSame_33 : decode prog_12_method_16_code 33 = .ok (.bipush 100, 2) := by decide +kernel
theorem d_M_isSame_35 : decode prog_12_method_16_code 35 = .ok (.iload_n 1, 1) := by decide +kernel
theorem d_M_isSame_36 : decode prog_12_method_16_code 36 = .ok (.imul, 1) := by decide +kernel
theorem d_M_isSame_37 : decode prog_12_method_16_code 37 = .ok (.iload_n 3, 1) := by decide +kernel
theorem d_M_isSame_38 : decode prog_12_method_16_code 38 = .ok (.iadd, 1) := by decide +kernel
theorem d_M_isSame_39 : decode prog_12_method_16_code 39 = .ok (.iaload, 1) := by decide +kernel
theorem d_M_isSame_40 : decode prog_12_method_16_code 40 = .ok (.aload_n 0, 1) := by decide +kernel
theorem d_M_isSame_41 : decode prog_12_method_16_code 41 = .ok (.getfield 8, 3) := by decide +kernel
theorem d_M_isSame_44 : decode prog_12_method_16_code 44 = .ok (.bipush 100, 2) := by decide +kernel
theorem d_M_isSame_46 : decode prog_12_method_16_code 46 = .ok (.iload_n 2, 1) := by decide +kernel
theorem d_M_isSame_47 : decode prog_12_method_16_code 47 = .ok (.imul, 1) := by decide +kernel
theorem d_M_isSame_48 : decode prog_12_method_16_code 48 = .ok (.iload_n 3, 1) := by decide +kernel
theorem d_M_isSame_49 : decode prog_12_method_16_code 49 = .ok (.iadd, 1) := by decide +kernel
theorem d_M_isSame_50 : decode prog_12_method_16_code 50 = .ok (.iaload, 1) := by decide +kernel
theorem d_M_isSame_51 : decode prog_12_method_16_code 51 = .ok (.if_icmp .ne 53, 3) := by decide +kernel
theorem d_M_isSame_54 : decode prog_12_method_16_code 54 = .ok (.aload_n 0, 1) := by decide +kernel
theorem d_M_isSame_55 : decode prog_12_method_16_code 55 = .ok (.getfield 14, 3) := by decide +kernel
theorem d_M_isSame_58 : decode prog_12_method_16_code 58 = .ok (.bipush 100, 2) := by decide +kernel
theorem d_M_isSame_60 : decode prog_12_method_16_code 60 = .ok (.iload_n 1, 1) := by decide +kernel
theorem d_M_isSame_61 : decode prog_12_method_16_code 61 = .ok (.imul, 1) := by decide +kernel
theorem d_M_isSame_62 : decode prog_12_method_16_code 62 = .ok (.iload_n 3, 1) := by decide +kernel
theorem d_M_isSame_63 : decode prog_12_method_16_code 63 = .ok (.iadd, 1) := by decide +kernel
theorem d_M_isSame_64 : decode prog_12_method_16_code 64 = .ok (.iaload, 1) := by decide +kernel
theorem d_M_isSame_65 : decode prog_12_method_16_code 65 = .ok (.aload_n 0, 1) := by decide +kernel
theorem d_M_isSame_66 : decode prog_12_method_16_code 66 = .ok (.getfield 14, 3) := by decide +kernel
theorem d_M_isSame_69 : decode prog_12_method_16_code 69 = .ok (.bipush 100, 2) := by decide +kernel
theorem d_M_isSame_71 : decode prog_12_method_16_code 71 = .ok (.iload_n 2, 1) := by decide +kernel
theorem d_M_isSame_72 : decode prog_12_method_16_code 72 = .ok (.imul, 1) := by decide +kernel
theorem d_M_isSame_73 : decode prog_12_method_16_code 73 = .ok (.iload_n 3, 1) := by decide +kernel
theorem d_M_isSame_74 : decode prog_12_method_16_code 74 = .ok (.iadd, 1) := by decide +kernel
theorem d_M_isSame_75 : decode prog_12_method_16_code 75 = .ok (.iaload, 1) := by decide +kernel
theorem d_M_isSame_76 : decode prog_12_method_16_code 76 = .ok (.if_icmp .ne 28, 3) := by decide +kernel
theorem d_M_isSame_79 : decode prog_12_method_16_code 79 = .ok (.aload_n 0, 1) := by decide +kernel
theorem d_M_isSame_80 : decode prog_12_method_16_code 80 = .ok (.getfield 17, 3) := by decide +kernel
theorem d_M_isSame_83 : decode prog_12_method_16_code 83 = .ok (.bipush 100, 2) := by decide +kernel
theorem d_M_isSame_85 : decode prog_12_method_16_code 85 = .ok (.iload_n 1, 1) := by decide +kernel
theorem d_M_isSame_86 : decode prog_12_method_16_code 86 = .ok (.imul, 1) := by decide +kernel
theorem d_M_isSame_87 : decode prog_12_method_16_code 87 = .ok (.iload_n 3, 1) := by decide +kernel
theorem d_M_isSame_88 : decode prog_12_method_16_code 88 = .ok (.iadd, 1) := by decide +kernel
theorem d_M_isSame_89 : decode prog_12_method_16_code 89 = .ok (.iaload, 1) := by decide +kernel
theorem d_M_isSame_90 : decode prog_12_method_16_code 90 = .ok (.aload_n 0, 1) := by decide +kernel
theorem d_M_isSame_91 : decode prog_12_method_16_code 91 = .ok (.getfield 17, 3) := by decide +kernel
theorem d_M_isSame_94 : decode prog_12_method_16_code 94 = .ok (.bipush 100, 2) := by decide +kernel
theorem d_M_isSame_96 : decode prog_12_method_16_code 96 = .ok (.iload_n 2, 1) := by decide +kernel
theorem d_M_isSame_97 : decode prog_12_method_16_code 97 = .ok (.imul, 1) := by decide +kernel
theorem d_M_isSame_98 : decode prog_12_method_16_code 98 = .ok (.iload_n 3, 1) := by decide +kernel
theorem d_M_isSame_99 : decode prog_12_method_16_code 99 = .ok (.iadd, 1) := by decide +kernel
theorem d_M_isSame_100 : decode prog_12_method_16_code 100 = .ok (.iaload, 1) := by decide +kernel
theorem d_M_isSame_101 : decode prog_12_method_16_code 101 = .ok (.if_icmp .eq 5, 3) := by decide +kernel
theorem d_M_isSame_104 : decode prog_12_method_16_code 104 = .ok (.iconst 0, 1) := by decide +kernel
theorem d_M_isSame_105 : decode prog_12_method_16_code 105 = .ok (.ireturn, 1) := by decide +kernel
theorem d_M_isSame_106 : decode prog_12_method_16_code 106 = .ok (.iinc 3 1, 3) := by decide +kernel
theorem d_M_isSame_109 : decode prog_12_method_16_code 109 = .ok (.goto (-90), 3) := by decide +kernel
theorem d_M_isSame_112 : decode prog_12_method_16_code 112 = .ok (.iconst 1, 1) := by decide +kernel
theorem d_M_isSame_113 : decode prog_12_method_16_code 113 = .ok (.ireturn, 1) := by decide +kernel
def tb_M_isSame_0 : List (Nat × jm_Op) := [(0, oAl 0 1), (1, oGr 6 6 8 4), (4, oIl 1 5), (5, oIa 6), (6, oAl 0 7), (7, oGr 6 6 8 10), (10, oIl 2 11), (11, oIa 12), (12, oIcEq 17 15), (15, oC 0 16), (17, oC 0 18), (18, oIs 3 19), (19, oIl 3 20), (20, oAl 0 21), (21, oGr 6 6 8 24), (24, oIl 1 25), (25, oIa 26), (26, oIcGe 112 29), (29, oAl 0 30), (30, oGr 6 3 8 33), (33, oC 100 35), (35, oIl 1 36), (36, oMul 37), (37, oIl 3 38), (38, oAdd 39), (39, oIa 40), (40, oAl 0 41), (41, oGr 6 3 8 44), (44, oC 100 46), (46, oIl 2 47), (47, oMul 48), (48, oIl 3 49), (49, oAdd 50), (50, oIa 51), (51, oIcNe 104 54), (54, oAl 0 55), (55, oGr 6 4 8 58), (58, oC 100 60), (60, oIl 1 61), (61, oMul 62), (62, oIl 3 63), (63, oAdd 64), (64, oIa 65), (65, oAl 0 66), (66, oGr 6 4 8 69), (69, oC 100 71), (71, oIl 2 72), (72, oMul 73), (73, oIl 3 74), (74, oAdd 75)]
theorem ok_M_isSame_0 : jm_all 98 tb_M_isSame_0 := ⟨s_aload_n d_M_isSame_0 rfl, s_getr d_M_isSame_1 ci_M rfl wd_657, s_iload_n d_M_isSame_4 rfl, s_iaload d_M_isSame_5, s_aload_n d_M_isSame_6 rfl, s_getr d_M_isSame_7 ci_M rfl wd_657, s_iload_n d_M_isSame_10 rfl, s_iaload d_M_isSame_11, s_icmp_eq d_M_isSame_12 (by decide), s_iconst d_M_isSame_15 (by decide), s_iconst d_M_isSame_17 (by decide), s_istore_n d_M_isSame_18 rfl (by decide), s_iload_n d_M_isSame_19 rfl, s_aload_n d_M_isSame_20 rfl, s_getr d_M_isSame_21 ci_M rfl wd_657, s_iload_n d_M_isSame_24 rfl, s_iaload d_M_isSame_25, s_icmp_ge d_M_isSame_26 (by decide), s_aload_n d_M_isSame_29 rfl, s_getr d_M_isSame_30 ci_M rfl wd_654, s_bipush d_M_isSame_33 (by decide), s_iload_n d_M_isSame_35 rfl, s_imul d_M_isSame_36, s_iload_n d_M_isSame_37 rfl, s_iadd d_M_isSame_38, s_iaload d_M_isSame_39, s_aload_n d_M_isSame_40 rfl, s_getr d_M_isSame_41 ci_M rfl wd_654, s_bipush d_M_isSame_44 (by decide), s_iload_n d_M_isSame_46 rfl, s_imul d_M_isSame_47, s_iload_n d_M_isSame_48 rfl, s_iadd d_M_isSame_49, s_iaload d_M_isSame_50, s_icmp_ne d_M_isSame_51 (by decide), s_aload_n d_M_isSame_54 rfl, s_getr d_M_isSame_55 ci_M rfl wd_655, s_bipush d_M_isSame_58 (by decide), s_iload_n d_M_isSame_60 rfl, s_imul d_M_isSame_61, s_iload_n d_M_isSame_62 rfl, s_iadd d_M_isSame_63, s_iaload d_M_isSame_64, s_aload_n d_M_isSame_65 rfl, s_getr d_M_isSame_66 ci_M rfl wd_655, s_bipush d_M_isSame_69 (by decide), s_iload_n d_M_isSame_71 rfl, s_imul d_M_isSame_72, s_iload_n d_M_isSame_73 rfl, s_iadd d_M_isSame_74, trivial⟩
def tb_M_isSame_1 : List (Nat × jm_Op) := [(75, oIa 76), (76, oIcNe 104 79), (79, oAl 0 80), (80, oGr 6 5 8 83), (83, oC 100 85), (85, oIl 1 86), (86, oMul 87), (87, oIl 3 88), (88, oAdd 89), (89, oIa 90), (90, oAl 0 91), (91, oGr 6 5 8 94), (94, oC 100 96), (96, oIl 2 97), (97, oMul 98), (98, oIl 3 99), (99, oAdd 100), (100, oIa 101), (101, oIcEq 106 104), (104, oC 0 105), (106, oInc 3 1 109), (109, oGo 19), (112, oC 1 113)]
theorem ok_M_isSame_1 : jm_all 98 tb_M_isSame_1 := ⟨s_iaload d_M_isSame_75, s_icmp_ne d_M_isSame_76 (by decide), s_aload_n d_M_isSame_79 rfl, s_getr d_M_isSame_80 ci_M rfl wd_656, s_bipush d_M_isSame_83 (by decide), s_iload_n d_M_isSame_85 rfl, s_imul d_M_isSame_86, s_iload_n d_M_isSame_87 rfl, s_iadd d_M_isSame_88, s_iaload d_M_isSame_89, s_aload_n d_M_isSame_90 rfl, s_getr d_M_isSame_91 ci_M rfl wd_656, s_bipush d_M_isSame_94 (by decide), s_iload_n d_M_isSame_96 rfl, s_imul d_M_isSame_97, s_iload_n d_M_isSame_98 rfl, s_iadd d_M_isSame_99, s_iaload d_M_isSame_100, s_icmp_eq d_M_isSame_101 (by decide), s_iconst d_M_isSame_104 (by decide), s_iinc d_M_isSame_106 (by decide) (by decide), s_goto d_M_isSame_109 (by decide), s_iconst d_M_isSame_112 (by decide), trivial⟩
def tb_M_isSame : List (Nat × jm_Op) := tb_M_isSame_0 ++ tb_M_isSame_1
theorem ok_M_isSame : jm_all 98 tb_M_isSame := jm_all_app ok_M_isSame_0 ok_M_isSame_1
theorem r_M_isSame_16 {g : jm_G} {d : Nat} {L : List (Option jm_V)} {σ : jm_S} {K : jm_O → Prop} {v : Int32} (hv : v = 0 ∨ v = 1) (hK : K (σ, .inl (some (aI v)))) : J g d 98 16 L [aI v] σ K := J_zret d_M_isSame_16 rfl hv hK
theorem r_M_isSame_105 {g : jm_G} {d : Nat} {L : List (Option jm_V)} {σ : jm_S} {K : jm_O → Prop} {v : Int32} (hv : v = 0 ∨ v = 1) (hK : K (σ, .inl (some (aI v)))) : J g d 98 105 L [aI v] σ K := J_zret d_M_isSame_105 rfl hv hK
theorem r_M_isSame_113 {g : jm_G} {d : Nat} {L : List (Option jm_V)} {σ : jm_S} {K : jm_O → Prop} {v : Int32} (hv : v = 0 ∨ v = 1) (hK : K (σ, .inl (some (aI v)))) : J g d 98 113 L [aI v] σ K := J_zret d_M_isSame_113 rfl hv hK
-- IdealProverModel vanishes (IIIII)I
theorem d_M_vanishes_0 : decode prog_12_method_28_code 0 = .ok (.iload_n 1, 1) := by decide +kernel
theorem d_M_vanishes_1 : decode prog_12_method_28_code 1 = .ok (.invokestatic 100, 3) := by decide +kernel
theorem d_M_vanishes_4 : decode prog_12_method_28_code 4 = .ok (.ifCond .ne 5, 3) := by decide +kernel
theorem d_M_vanishes_7 : decode prog_12_method_28_code 7 = .ok (.iconst (-1), 1) := by decide +kernel
theorem d_M_vanishes_8 : decode prog_12_method_28_code 8 = .ok (.ireturn, 1) := by decide +kernel
theorem d_M_vanishes_9 : decode prog_12_method_28_code 9 = .ok (.aload_n 0, 1) := by decide +kernel
theorem d_M_vanishes_10 : decode prog_12_method_28_code 10 = .ok (.getfield 26, 3) := by decide +kernel
theorem d_M_vanishes_13 : decode prog_12_method_28_code 13 = .ok (.iconst 0, 1) := by decide +kernel
theorem d_M_vanishes_14 : decode prog_12_method_28_code 14 = .ok (.iload_n 2, 1) := by decide +kernel
theorem d_M_vanishes_15 : decode prog_12_method_28_code 15 = .ok (.iastore, 1) := by decide +kernel
theorem d_M_vanishes_16 : decode prog_12_method_28_code 16 = .ok (.aload_n 0, 1) := by decide +kernel
theorem d_M_vanishes_17 : decode prog_12_method_28_code 17 = .ok (.getfield 26, 3) := by decide +kernel
theorem d_M_vanishes_20 : decode prog_12_method_28_code 20 = .ok (.iconst 1, 1) := by decide +kernel
theorem d_M_vanishes_21 : decode prog_12_method_28_code 21 = .ok (.iload_n 3, 1) := by decide +kernel
theorem d_M_vanishes_22 : decode prog_12_method_28_code 22 = .ok (.iastore, 1) := by decide +kernel
theorem d_M_vanishes_23 : decode prog_12_method_28_code 23 = .ok (.aload_n 0, 1) := by decide +kernel
theorem d_M_vanishes_24 : decode prog_12_method_28_code 24 = .ok (.getfield 26, 3) := by decide +kernel
theorem d_M_vanishes_27 : decode prog_12_method_28_code 27 = .ok (.iconst 2, 1) := by decide +kernel
theorem d_M_vanishes_28 : decode prog_12_method_28_code 28 = .ok (.iload 4, 2) := by decide +kernel
theorem d_M_vanishes_30 : decode prog_12_method_28_code 30 = .ok (.iastore, 1) := by decide +kernel
theorem d_M_vanishes_31 : decode prog_12_method_28_code 31 = .ok (.aload_n 0, 1) := by decide +kernel
theorem d_M_vanishes_32 : decode prog_12_method_28_code 32 = .ok (.getfield 26, 3) := by decide +kernel
theorem d_M_vanishes_35 : decode prog_12_method_28_code 35 = .ok (.iconst 3, 1) := by decide +kernel
theorem d_M_vanishes_36 : decode prog_12_method_28_code 36 = .ok (.iload 5, 2) := by decide +kernel
theorem d_M_vanishes_38 : decode prog_12_method_28_code 38 = .ok (.iastore, 1) := by decide +kernel
theorem d_M_vanishes_39 : decode prog_12_method_28_code 39 = .ok (.iconst 0, 1) := by decide +kernel
theorem d_M_vanishes_40 : decode prog_12_method_28_code 40 = .ok (.istore 6, 2) := by decide +kernel
theorem d_M_vanishes_42 : decode prog_12_method_28_code 42 = .ok (.iload 6, 2) := by decide +kernel
theorem d_M_vanishes_44 : decode prog_12_method_28_code 44 = .ok (.aload_n 0, 1) := by decide +kernel
theorem d_M_vanishes_45 : decode prog_12_method_28_code 45 = .ok (.getfield 36, 3) := by decide +kernel
theorem d_M_vanishes_48 : decode prog_12_method_28_code 48 = .ok (.if_icmp .ge 38, 3) := by decide +kernel
theorem d_M_vanishes_51 : decode prog_12_method_28_code 51 = .ok (.aload_n 0, 1) := by decide +kernel
theorem d_M_vanishes_52 : decode prog_12_method_28_code 52 = .ok (.getfield 26, 3) := by decide +kernel
theorem d_M_vanishes_55 : decode prog_12_method_28_code 55 = .ok (.iload 6, 2) := by decide +kernel
theorem d_M_vanishes_57 : decode prog_12_method_28_code 57 = .ok (.iaload, 1) := by decide +kernel
theorem d_M_vanishes_58 : decode prog_12_method_28_code 58 = .ok (.sipush (-1000), 3) := by decide +kernel
theorem d_M_vanishes_61 : decode prog_12_method_28_code 61 = .ok (.if_icmp .lt 16, 3) := by decide +kernel
theorem d_M_vanishes_64 : decode prog_12_method_28_code 64 = .ok (.aload_n 0, 1) := by decide +kernel
theorem d_M_vanishes_65 : decode prog_12_method_28_code 65 = .ok (.getfield 26, 3) := by decide +kernel
theorem d_M_vanishes_68 : decode prog_12_method_28_code 68 = .ok (.iload 6, 2) := by decide +kernel
theorem d_M_vanishes_70 : decode prog_12_method_28_code 70 = .ok (.iaload, 1) := by decide +kernel
theorem d_M_vanishes_71 : decode prog_12_method_28_code 71 = .ok (.sipush 1000, 3) := by decide +kernel
theorem d_M_vanishes_74 : decode prog_12_method_28_code 74 = .ok (.if_icmp .le 6, 3) := by decide +kernel
theorem d_M_vanishes_77 : decode prog_12_method_28_code 77 = .ok (.bipush (-2), 2) := by decide +kernel
theorem d_M_vanishes_79 : decode prog_12_method_28_code 79 = .ok (.ireturn, 1) := by decide +kernel
theorem d_M_vanishes_80 : decode prog_12_method_28_code 80 = .ok (.iinc 6 1, 3) := by decide +kernel
theorem d_M_vanishes_83 : decode prog_12_method_28_code 83 = .ok (.goto (-41), 3) := by decide +kernel
theorem d_M_vanishes_86 : decode prog_12_method_28_code 86 = .ok (.aload_n 0, 1) := by decide +kernel
theorem d_M_vanishes_87 : decode prog_12_method_28_code 87 = .ok (.iconst 0, 1) := by decide +kernel
theorem d_M_vanishes_88 : decode prog_12_method_28_code 88 = .ok (.putfield 54, 3) := by decide +kernel
theorem d_M_vanishes_91 : decode prog_12_method_28_code 91 = .ok (.iconst 0, 1) := by decide +kernel
theorem d_M_vanishes_92 : decode prog_12_method_28_code 92 = .ok (.istore 6, 2) := by decide +kernel
theorem d_M_vanishes_94 : decode prog_12_method_28_code 94 = .ok (.iconst 1, 1) := by decide +kernel
theorem d_M_vanishes_95 : decode prog_12_method_28_code 95 = .ok (.istore 7, 2) := by decide +kernel
theorem d_M_vanishes_97 : decode prog_12_method_28_code 97 = .ok (.iconst 0, 1) := by decide +kernel
theorem d_M_vanishes_98 : decode prog_12_method_28_code 98 = .ok (.istore 8, 2) := by decide +kernel
theorem d_M_vanishes_100 : decode prog_12_method_28_code 100 = .ok (.iload 8, 2) := by decide +kernel
theorem d_M_vanishes_102 : decode prog_12_method_28_code 102 = .ok (.aload_n 0, 1) := by decide +kernel
theorem d_M_vanishes_103 : decode prog_12_method_28_code 103 = .ok (.getfield 20, 3) := by decide +kernel
theorem d_M_vanishes_106 : decode prog_12_method_28_code 106 = .ok (.iload_n 1, 1) := by decide +kernel
theorem d_M_vanishes_107 : decode prog_12_method_28_code 107 = .ok (.iaload, 1) := by decide +kernel
theorem d_M_vanishes_108 : decode prog_12_method_28_code 108 = .ok (.if_icmp .ge 175, 3) := by decide +kernel
theorem d_M_vanishes_111 : decode prog_12_method_28_code 111 = .ok (.aload_n 0, 1) := by decide +kernel
theorem d_M_vanishes_112 : decode prog_12_method_28_code 112 = .ok (.getfield 8, 3) := by decide +kernel
theorem d_M_vanishes_115 : decode prog_12_method_28_code 115 = .ok (.bipush 100, 2) := by decide +kernel
theorem d_M_vanishes_117 : decode prog_12_method_28_code 117 = .ok (.iload_n 1, 1) := by decide +kernel
theorem d_M_vanishes_118 : decode prog_12_method_28_code 118 = .ok (.imul, 1) := by decide +kernel
theorem d_M_vanishes_119 : decode prog_12_method_28_code 119 = .ok (.iload 8, 2) := by decide +kernel
theorem d_M_vanishes_121 : decode prog_12_method_28_code 121 = .ok (.iadd, 1) := by decide +kernel
theorem d_M_vanishes_122 : decode prog_12_method_28_code 122 = .ok (.iaload, 1) := by decide +kernel
theorem d_M_vanishes_123 : decode prog_12_method_28_code 123 = .ok (.istore 9, 2) := by decide +kernel
theorem d_M_vanishes_125 : decode prog_12_method_28_code 125 = .ok (.aload_n 0, 1) := by decide +kernel
theorem d_M_vanishes_126 : decode prog_12_method_28_code 126 = .ok (.getfield 14, 3) := by decide +kernel
theorem d_M_vanishes_129 : decode prog_12_method_28_code 129 = .ok (.bipush 100, 2) := by decide +kernel
theorem d_M_vanishes_131 : decode prog_12_method_28_code 131 = .ok (.iload_n 1, 1) := by decide +kernel
theorem d_M_vanishes_132 : decode prog_12_method_28_code 132 = .ok (.imul, 1) := by decide +kernel
theorem d_M_vanishes_133 : decode prog_12_method_28_code 133 = .ok (.iload 8, 2) := by decide +kernel
theorem d_M_vanishes_135 : decode prog_12_method_28_code 135 = .ok (.iadd, 1) := by decide +kernel
theorem d_M_vanishes_136 : decode prog_12_method_28_code 136 = .ok (.iaload, 1) := by decide +kernel
theorem d_M_vanishes_137 : decode prog_12_method_28_code 137 = .ok (.istore 10, 2) := by decide +kernel
theorem d_M_vanishes_139 : decode prog_12_method_28_code 139 = .ok (.iconst 0, 1) := by decide +kernel
theorem d_M_vanishes_140 : decode prog_12_method_28_code 140 = .ok (.istore 11, 2) := by decide +kernel
theorem d_M_vanishes_142 : decode prog_12_method_28_code 142 = .ok (.iload 11, 2) := by decide +kernel
theorem d_M_vanishes_144 : decode prog_12_method_28_code 144 = .ok (.aload_n 0, 1) := by decide +kernel
theorem d_M_vanishes_145 : decode prog_12_method_28_code 145 = .ok (.getfield 36, 3) := by decide +kernel
theorem d_M_vanishes_148 : decode prog_12_method_28_code 148 = .ok (.if_icmp .ge 81, 3) := by decide +kernel
theorem d_M_vanishes_151 : decode prog_12_method_28_code 151 = .ok (.iconst 0, 1) := by decide +kernel
theorem d_M_vanishes_152 : decode prog_12_method_28_code 152 = .ok (.istore 12, 2) := by decide +kernel
theorem d_M_vanishes_154 : decode prog_12_method_28_code 154 = .ok (.iload 12, 2) := by decide +kernel
theorem d_M_vanishes_156 : decode prog_12_method_28_code 156 = .ok (.aload_n 0, 1) := by decide +kernel
theorem d_M_vanishes_157 : decode prog_12_method_28_code 157 = .ok (.getfield 17, 3) := by decide +kernel
theorem d_M_vanishes_160 : decode prog_12_method_28_code 160 = .ok (.bipush 100, 2) := by decide +kernel
theorem d_M_vanishes_162 : decode prog_12_method_28_code 162 = .ok (.iload_n 1, 1) := by decide +kernel
theorem d_M_vanishes_163 : decode prog_12_method_28_code 163 = .ok (.imul, 1) := by decide +kernel
theorem d_M_vanishes_164 : decode prog_12_method_28_code 164 = .ok (.iload 8, 2) := by decide +kernel
theorem d_M_vanishes_166 : decode prog_12_method_28_code 166 = .ok (.iadd, 1) := by decide +kernel
theorem d_M_vanishes_167 : decode prog_12_method_28_code 167 = .ok (.iaload, 1) := by decide +kernel
theorem d_M_vanishes_168 : decode prog_12_method_28_code 168 = .ok (.iload 11, 2) := by decide +kernel
theorem d_M_vanishes_170 : decode prog_12_method_28_code 170 = .ok (.invokestatic 43, 3) := by decide +kernel
theorem d_M_vanishes_173 : decode prog_12_method_28_code 173 = .ok (.if_icmp .ge 50, 3) := by decide +kernel
theorem d_M_vanishes_176 : decode prog_12_method_28_code 176 = .ok (.aload_n 0, 1) := by decide +kernel
theorem d_M_vanishes_177 : decode prog_12_method_28_code 177 = .ok (.iload 9, 2) := by decide +kernel
theorem d_M_vanishes_179 : decode prog_12_method_28_code 179 = .ok (.i2l, 1) := by decide +kernel
theorem d_M_vanishes_180 : decode prog_12_method_28_code 180 = .ok (.iload 10, 2) := by decide +kernel
theorem d_M_vanishes_182 : decode prog_12_method_28_code 182 = .ok (.i2l, 1) := by decide +kernel
theorem d_M_vanishes_183 : decode prog_12_method_28_code 183 = .ok (.aload_n 0, 1) := by decide +kernel
theorem d_M_vanishes_184 : decode prog_12_method_28_code 184 = .ok (.getfield 26, 3) := by decide +kernel
theorem d_M_vanishes_187 : decode prog_12_method_28_code 187 = .ok (.iload 11, 2) := by decide +kernel
theorem d_M_vanishes_189 : decode prog_12_method_28_code 189 = .ok (.iaload, 1) := by decide +kernel
theorem d_M_vanishes_190 : decode prog_12_method_28_code 190 = .ok (.i2l, 1) := by decide +kernel
theorem d_M_vanishes_191 : decode prog_12_method_28_code 191 = .ok (.lconst 1, 1) := by decide +kernel
theorem d_M_vanishes_192 : decode prog_12_method_28_code 192 = .ok (.invokevirtual 78, 3) := by decide +kernel
theorem d_M_vanishes_195 : decode prog_12_method_28_code 195 = .ok (.aload_n 0, 1) := by decide +kernel
theorem d_M_vanishes_196 : decode prog_12_method_28_code 196 = .ok (.getfield 54, 3) := by decide +kernel
theorem d_M_vanishes_199 : decode prog_12_method_28_code 199 = .ok (.ifCond .eq 6, 3) := by decide +kernel
theorem d_M_vanishes_202 : decode prog_12_method_28_code 202 = .ok (.bipush (-7), 2) := by decide +kernel
theorem d_M_vanishes_204 : decode prog_12_method_28_code 204 = .ok (.ireturn, 1) := by decide +kernel
theorem d_M_vanishes_205 : decode prog_12_method_28_code 205 = .ok (.aload_n 0, 1) := by decide +kernel
theorem d_M_vanishes_206 : decode prog_12_method_28_code 206 = .ok (.getfield 62, 3) := by decide +kernel
theorem d_M_vanishes_209 : decode prog_12_method_28_code 209 = .ok (.istore 9, 2) := by decide +kernel
theorem d_M_vanishes_211 : decode prog_12_method_28_code 211 = .ok (.aload_n 0, 1) := by decide +kernel
theorem d_M_vanishes_212 : decode prog_12_method_28_code 212 = .ok (.getfield 65, 3) := by decide +kernel
theorem d_M_vanishes_215 : decode prog_12_method_28_code 215 = .ok (.istore 10, 2) := by decide +kernel
theorem d_M_vanishes_217 : decode prog_12_method_28_code 217 = .ok (.iinc 12 1, 3) := by decide +kernel
theorem d_M_vanishes_220 : decode prog_12_method_28_code 220 = .ok (.goto (-66), 3) := by decide +kernel
theorem d_M_vanishes_223 : decode prog_12_method_28_code 223 = .ok (.iinc 11 1, 3) := by decide +kernel
theorem d_M_vanishes_226 : decode prog_12_method_28_code 226 = .ok (.goto (-84), 3) := by decide +kernel
theorem d_M_vanishes_229 : decode prog_12_method_28_code 229 = .ok (.aload_n 0, 1) := by decide +kernel
theorem d_M_vanishes_230 : decode prog_12_method_28_code 230 = .ok (.iload 6, 2) := by decide +kernel
theorem d_M_vanishes_232 : decode prog_12_method_28_code 232 = .ok (.i2l, 1) := by decide +kernel
theorem d_M_vanishes_233 : decode prog_12_method_28_code 233 = .ok (.iload 10, 2) := by decide +kernel
theorem d_M_vanishes_235 : decode prog_12_method_28_code 235 = .ok (.i2l, 1) := by decide +kernel
theorem d_M_vanishes_236 : decode prog_12_method_28_code 236 = .ok (.lmul, 1) := by decide +kernel
theorem d_M_vanishes_237 : decode prog_12_method_28_code 237 = .ok (.iload 9, 2) := by decide +kernel
theorem d_M_vanishes_239 : decode prog_12_method_28_code 239 = .ok (.i2l, 1) := by decide +kernel
theorem d_M_vanishes_240 : decode prog_12_method_28_code 240 = .ok (.iload 7, 2) := by decide +kernel
theorem d_M_vanishes_242 : decode prog_12_method_28_code 242 = .ok (.i2l, 1) := by decide +kernel
theorem d_M_vanishes_243 : decode prog_12_method_28_code 243 = .ok (.lmul, 1) := by decide +kernel
theorem d_M_vanishes_244 : decode prog_12_method_28_code 244 = .ok (.ladd, 1) := by decide +kernel
theorem d_M_vanishes_245 : decode prog_12_method_28_code 245 = .ok (.iload 7, 2) := by decide +kernel
theorem d_M_vanishes_247 : decode prog_12_method_28_code 247 = .ok (.i2l, 1) := by decide +kernel
theorem d_M_vanishes_248 : decode prog_12_method_28_code 248 = .ok (.iload 10, 2) := by decide +kernel
theorem d_M_vanishes_250 : decode prog_12_method_28_code 250 = .ok (.i2l, 1) := by decide +kernel
theorem d_M_vanishes_251 : decode prog_12_method_28_code 251 = .ok (.lmul, 1) := by decide +kernel
theorem d_M_vanishes_252 : decode prog_12_method_28_code 252 = .ok (.invokevirtual 68, 3) := by decide +kernel
theorem d_M_vanishes_255 : decode prog_12_method_28_code 255 = .ok (.aload_n 0, 1) := by decide +kernel
theorem d_M_vanishes_256 : decode prog_12_method_28_code 256 = .ok (.getfield 54, 3) := by decide +kernel
theorem d_M_vanishes_259 : decode prog_12_method_28_code 259 = .ok (.ifCond .eq 6, 3) := by decide +kernel
theorem d_M_vanishes_262 : decode prog_12_method_28_code 262 = .ok (.bipush (-7), 2) := by decide +kernel
theorem d_M_vanishes_264 : decode prog_12_method_28_code 264 = .ok (.ireturn, 1) := by decide +kernel
theorem d_M_vanishes_265 : decode prog_12_method_28_code 265 = .ok (.aload_n 0, 1) := by decide +kernel
theorem d_M_vanishes_266 : decode prog_12_method_28_code 266 = .ok (.getfield 62, 3) := by decide +kernel
theorem d_M_vanishes_269 : decode prog_12_method_28_code 269 = .ok (.istore 6, 2) := by decide +kernel
theorem d_M_vanishes_271 : decode prog_12_method_28_code 271 = .ok (.aload_n 0, 1) := by decide +kernel
theorem d_M_vanishes_272 : decode prog_12_method_28_code 272 = .ok (.getfield 65, 3) := by decide +kernel
theorem d_M_vanishes_275 : decode prog_12_method_28_code 275 = .ok (.istore 7, 2) := by decide +kernel
theorem d_M_vanishes_277 : decode prog_12_method_28_code 277 = .ok (.iinc 8 1, 3) := by decide +kernel
theorem d_M_vanishes_280 : decode prog_12_method_28_code 280 = .ok (.goto (-180), 3) := by decide +kernel
theorem d_M_vanishes_283 : decode prog_12_method_28_code 283 = .ok (.iload 6, 2) := by decide +kernel
theorem d_M_vanishes_285 : decode prog_12_method_28_code 285 = .ok (.ifCond .ne 7, 3) := by decide +kernel
theorem d_M_vanishes_288 : decode prog_12_method_28_code 288 = .ok (.iconst 1, 1) := by decide +kernel
theorem d_M_vanishes_289 : decode prog_12_method_28_code 289 = .ok (.goto 4, 3) := by decide +kernel
theorem d_M_vanishes_292 : decode prog_12_method_28_code 292 = .ok (.iconst 0, 1) := by decide +kernel
theorem d_M_vanishes_293 : decode prog_12_method_28_code 293 = .ok (.ireturn, 1) := by decide +kernel
def tb_M_vanishes_0 : List (Nat × jm_Op) := [(0, oIl 1 1), (4, oIfNe 9 7), (7, oC (-1) 8), (9, oAl 0 10), (10, oGr 6 18 8 13), (13, oC 0 14), (14, oIl 2 15), (15, oIw 16), (16, oAl 0 17), (17, oGr 6 18 8 20), (20, oC 1 21), (21, oIl 3 22), (22, oIw 23), (23, oAl 0 24), (24, oGr 6 18 8 27), (27, oC 2 28), (28, oIl 4 30), (30, oIw 31), (31, oAl 0 32), (32, oGr 6 18 8 35), (35, oC 3 36), (36, oIl 5 38), (38, oIw 39), (39, oC 0 40), (40, oIs 6 42), (42, oIl 6 44), (44, oAl 0 45), (45, oGi 6 0 48), (48, oIcGe 86 51), (51, oAl 0 52), (52, oGr 6 18 8 55), (55, oIl 6 57), (57, oIa 58), (58, oC (-1000) 61), (61, oIcLt 77 64), (64, oAl 0 65), (65, oGr 6 18 8 68), (68, oIl 6 70), (70, oIa 71), (71, oC 1000 74), (74, oIcLe 80 77), (77, oC (-2) 79), (80, oInc 6 1 83), (83, oGo 42), (86, oAl 0 87), (87, oC 0 88), (88, oPz 6 11 91), (91, oC 0 92), (92, oIs 6 94), (94, oC 1 95)]
theorem ok_M_vanishes_0 : jm_all 99 tb_M_vanishes_0 := ⟨s_iload_n d_M_vanishes_0 rfl, s_if_ne d_M_vanishes_4 (by decide), s_iconst d_M_vanishes_7 (by decide), s_aload_n d_M_vanishes_9 rfl, s_getr d_M_vanishes_10 ci_M rfl wd_669, s_iconst d_M_vanishes_13 (by decide), s_iload_n d_M_vanishes_14 rfl, s_iastore d_M_vanishes_15, s_aload_n d_M_vanishes_16 rfl, s_getr d_M_vanishes_17 ci_M rfl wd_669, s_iconst d_M_vanishes_20 (by decide), s_iload_n d_M_vanishes_21 rfl, s_iastore d_M_vanishes_22, s_aload_n d_M_vanishes_23 rfl, s_getr d_M_vanishes_24 ci_M rfl wd_669, s_iconst d_M_vanishes_27 (by decide), s_iload d_M_vanishes_28, s_iastore d_M_vanishes_30, s_aload_n d_M_vanishes_31 rfl, s_getr d_M_vanishes_32 ci_M rfl wd_669, s_iconst d_M_vanishes_35 (by decide), s_iload d_M_vanishes_36, s_iastore d_M_vanishes_38, s_iconst d_M_vanishes_39 (by decide), s_istore d_M_vanishes_40 (by decide), s_iload d_M_vanishes_42, s_aload_n d_M_vanishes_44 rfl, s_geti d_M_vanishes_45 ci_M rfl wd_651, s_icmp_ge d_M_vanishes_48 (by decide), s_aload_n d_M_vanishes_51 rfl, s_getr d_M_vanishes_52 ci_M rfl wd_669, s_iload d_M_vanishes_55, s_iaload d_M_vanishes_57, s_sipush d_M_vanishes_58 (by decide), s_icmp_lt d_M_vanishes_61 (by decide), s_aload_n d_M_vanishes_64 rfl, s_getr d_M_vanishes_65 ci_M rfl wd_669, s_iload d_M_vanishes_68, s_iaload d_M_vanishes_70, s_sipush d_M_vanishes_71 (by decide), s_icmp_le d_M_vanishes_74 (by decide), s_bipush d_M_vanishes_77 (by decide), s_iinc d_M_vanishes_80 (by decide) (by decide), s_goto d_M_vanishes_83 (by decide), s_aload_n d_M_vanishes_86 rfl, s_iconst d_M_vanishes_87 (by decide), s_putz d_M_vanishes_88 ci_M rfl rfl rfl wd_662, s_iconst d_M_vanishes_91 (by decide), s_istore d_M_vanishes_92 (by decide), s_iconst d_M_vanishes_94 (by decide), trivial⟩
def tb_M_vanishes_1 : List (Nat × jm_Op) := [(95, oIs 7 97), (97, oC 0 98), (98, oIs 8 100), (100, oIl 8 102), (102, oAl 0 103), (103, oGr 6 6 8 106), (106, oIl 1 107), (107, oIa 108), (108, oIcGe 283 111), (111, oAl 0 112), (112, oGr 6 3 8 115), (115, oC 100 117), (117, oIl 1 118), (118, oMul 119), (119, oIl 8 121), (121, oAdd 122), (122, oIa 123), (123, oIs 9 125), (125, oAl 0 126), (126, oGr 6 4 8 129), (129, oC 100 131), (131, oIl 1 132), (132, oMul 133), (133, oIl 8 135), (135, oAdd 136), (136, oIa 137), (137, oIs 10 139), (139, oC 0 140), (140, oIs 11 142), (142, oIl 11 144), (144, oAl 0 145), (145, oGi 6 0 148), (148, oIcGe 229 151), (151, oC 0 152), (152, oIs 12 154), (154, oIl 12 156), (156, oAl 0 157), (157, oGr 6 5 8 160), (160, oC 100 162), (162, oIl 1 163), (163, oMul 164), (164, oIl 8 166), (166, oAdd 167), (167, oIa 168), (168, oIl 11 170), (173, oIcGe 223 176), (176, oAl 0 177), (177, oIl 9 179), (179, oI2L 180), (180, oIl 10 182)]
theorem ok_M_vanishes_1 : jm_all 99 tb_M_vanishes_1 := ⟨s_istore d_M_vanishes_95 (by decide), s_iconst d_M_vanishes_97 (by decide), s_istore d_M_vanishes_98 (by decide), s_iload d_M_vanishes_100, s_aload_n d_M_vanishes_102 rfl, s_getr d_M_vanishes_103 ci_M rfl wd_657, s_iload_n d_M_vanishes_106 rfl, s_iaload d_M_vanishes_107, s_icmp_ge d_M_vanishes_108 (by decide), s_aload_n d_M_vanishes_111 rfl, s_getr d_M_vanishes_112 ci_M rfl wd_654, s_bipush d_M_vanishes_115 (by decide), s_iload_n d_M_vanishes_117 rfl, s_imul d_M_vanishes_118, s_iload d_M_vanishes_119, s_iadd d_M_vanishes_121, s_iaload d_M_vanishes_122, s_istore d_M_vanishes_123 (by decide), s_aload_n d_M_vanishes_125 rfl, s_getr d_M_vanishes_126 ci_M rfl wd_655, s_bipush d_M_vanishes_129 (by decide), s_iload_n d_M_vanishes_131 rfl, s_imul d_M_vanishes_132, s_iload d_M_vanishes_133, s_iadd d_M_vanishes_135, s_iaload d_M_vanishes_136, s_istore d_M_vanishes_137 (by decide), s_iconst d_M_vanishes_139 (by decide), s_istore d_M_vanishes_140 (by decide), s_iload d_M_vanishes_142, s_aload_n d_M_vanishes_144 rfl, s_geti d_M_vanishes_145 ci_M rfl wd_651, s_icmp_ge d_M_vanishes_148 (by decide), s_iconst d_M_vanishes_151 (by decide), s_istore d_M_vanishes_152 (by decide), s_iload d_M_vanishes_154, s_aload_n d_M_vanishes_156 rfl, s_getr d_M_vanishes_157 ci_M rfl wd_656, s_bipush d_M_vanishes_160 (by decide), s_iload_n d_M_vanishes_162 rfl, s_imul d_M_vanishes_163, s_iload d_M_vanishes_164, s_iadd d_M_vanishes_166, s_iaload d_M_vanishes_167, s_iload d_M_vanishes_168, s_icmp_ge d_M_vanishes_173 (by decide), s_aload_n d_M_vanishes_176 rfl, s_iload d_M_vanishes_177, s_i2l d_M_vanishes_179, s_iload d_M_vanishes_180, trivial⟩
def tb_M_vanishes_2 : List (Nat × jm_Op) := [(182, oI2L 183), (183, oAl 0 184), (184, oGr 6 18 8 187), (187, oIl 11 189), (189, oIa 190), (190, oI2L 191), (191, oCL 1 192), (195, oAl 0 196), (196, oGi 6 11 199), (199, oIfEq 205 202), (202, oC (-7) 204), (205, oAl 0 206), (206, oGi 6 16 209), (209, oIs 9 211), (211, oAl 0 212), (212, oGi 6 17 215), (215, oIs 10 217), (217, oInc 12 1 220), (220, oGo 154), (223, oInc 11 1 226), (226, oGo 142), (229, oAl 0 230), (230, oIl 6 232), (232, oI2L 233), (233, oIl 10 235), (235, oI2L 236), (236, oLMul 237), (237, oIl 9 239), (239, oI2L 240), (240, oIl 7 242), (242, oI2L 243), (243, oLMul 244), (244, oLAdd 245), (245, oIl 7 247), (247, oI2L 248), (248, oIl 10 250), (250, oI2L 251), (251, oLMul 252), (255, oAl 0 256), (256, oGi 6 11 259), (259, oIfEq 265 262), (262, oC (-7) 264), (265, oAl 0 266), (266, oGi 6 16 269), (269, oIs 6 271), (271, oAl 0 272), (272, oGi 6 17 275), (275, oIs 7 277), (277, oInc 8 1 280), (280, oGo 100)]
theorem ok_M_vanishes_2 : jm_all 99 tb_M_vanishes_2 := ⟨s_i2l d_M_vanishes_182, s_aload_n d_M_vanishes_183 rfl, s_getr d_M_vanishes_184 ci_M rfl wd_669, s_iload d_M_vanishes_187, s_iaload d_M_vanishes_189, s_i2l d_M_vanishes_190, s_lconst d_M_vanishes_191 (by decide), s_aload_n d_M_vanishes_195 rfl, s_geti d_M_vanishes_196 ci_M rfl wd_662, s_if_eq d_M_vanishes_199 (by decide), s_bipush d_M_vanishes_202 (by decide), s_aload_n d_M_vanishes_205 rfl, s_geti d_M_vanishes_206 ci_M rfl wd_667, s_istore d_M_vanishes_209 (by decide), s_aload_n d_M_vanishes_211 rfl, s_geti d_M_vanishes_212 ci_M rfl wd_668, s_istore d_M_vanishes_215 (by decide), s_iinc d_M_vanishes_217 (by decide) (by decide), s_goto d_M_vanishes_220 (by decide), s_iinc d_M_vanishes_223 (by decide) (by decide), s_goto d_M_vanishes_226 (by decide), s_aload_n d_M_vanishes_229 rfl, s_iload d_M_vanishes_230, s_i2l d_M_vanishes_232, s_iload d_M_vanishes_233, s_i2l d_M_vanishes_235, s_lmul d_M_vanishes_236, s_iload d_M_vanishes_237, s_i2l d_M_vanishes_239, s_iload d_M_vanishes_240, s_i2l d_M_vanishes_242, s_lmul d_M_vanishes_243, s_ladd d_M_vanishes_244, s_iload d_M_vanishes_245, s_i2l d_M_vanishes_247, s_iload d_M_vanishes_248, s_i2l d_M_vanishes_250, s_lmul d_M_vanishes_251, s_aload_n d_M_vanishes_255 rfl, s_geti d_M_vanishes_256 ci_M rfl wd_662, s_if_eq d_M_vanishes_259 (by decide), s_bipush d_M_vanishes_262 (by decide), s_aload_n d_M_vanishes_265 rfl, s_geti d_M_vanishes_266 ci_M rfl wd_667, s_istore d_M_vanishes_269 (by decide), s_aload_n d_M_vanishes_271 rfl, s_geti d_M_vanishes_272 ci_M rfl wd_668, s_istore d_M_vanishes_275 (by decide), s_iinc d_M_vanishes_277 (by decide) (by decide), s_goto d_M_vanishes_280 (by decide), trivial⟩
def tb_M_vanishes_3 : List (Nat × jm_Op) := [(283, oIl 6 285), (285, oIfNe 292 288), (288, oC 1 289), (289, oGo 293), (292, oC 0 293)]
theorem ok_M_vanishes_3 : jm_all 99 tb_M_vanishes_3 := ⟨s_iload d_M_vanishes_283, s_if_ne d_M_vanishes_285 (by decide), s_iconst d_M_vanishes_288 (by decide), s_goto d_M_vanishes_289 (by decide), s_iconst d_M_vanishes_292 (by decide), trivial⟩
def tb_M_vanishes : List (Nat × jm_Op) := tb_M_vanishes_0 ++ (tb_M_vanishes_1 ++ (tb_M_vanishes_2 ++ tb_M_vanishes_3))
theorem ok_M_vanishes : jm_all 99 tb_M_vanishes := jm_all_app ok_M_vanishes_0 (jm_all_app ok_M_vanishes_1 (jm_all_app ok_M_vanishes_2 ok_M_vanishes_3))
theorem k_M_vanishes_1 {g : jm_G} {d : Nat} {L : List (Option jm_V)} {r : List jm_V} {σ : jm_S} {K K' : jm_O → Prop} {x0 : Int32} (hr : Nat.ble (jm_cs r) 8 = true) (hcal : J g d 83 0 [some (aI x0)] [] σ K') (hk : ∀ u, K' u → jm_aft g (d + 1) 99 1 L r u K) : J g (d + 1) 99 1 L (aI x0 :: r) σ K :=
  J_call' (id' := 83) jm_sk (vs := [aI x0]) (inv_S (id' := 83) d_M_vanishes_1 wd_763 wd_764 wd_62 cw_M_isPlace (by decide) pn_M_isPlace) cw_M_isPlace (by decide) (by decide) (Nat.le_of_ble_eq_true rfl) rfl hr rfl hcal hk
theorem r_M_vanishes_8 {g : jm_G} {d : Nat} {L : List (Option jm_V)} {σ : jm_S} {K : jm_O → Prop} {v : Int32} (hK : K (σ, .inl (some (aI v)))) : J g d 99 8 L [aI v] σ K := J_iret d_M_vanishes_8 rfl hK
theorem r_M_vanishes_79 {g : jm_G} {d : Nat} {L : List (Option jm_V)} {σ : jm_S} {K : jm_O → Prop} {v : Int32} (hK : K (σ, .inl (some (aI v)))) : J g d 99 79 L [aI v] σ K := J_iret d_M_vanishes_79 rfl hK
theorem k_M_vanishes_170 {g : jm_G} {d : Nat} {L : List (Option jm_V)} {r : List jm_V} {σ : jm_S} {K K' : jm_O → Prop} {x0 : Int32} {x1 : Int32} (hr : Nat.ble (jm_cs r) 8 = true) (hcal : J g d 80 0 [some (aI x0), some (aI x1)] [] σ K') (hk : ∀ u, K' u → jm_aft g (d + 1) 99 170 L r u K) : J g (d + 1) 99 170 L (aI x1 :: aI x0 :: r) σ K :=
  J_call' (id' := 80) jm_sk (vs := [aI x0, aI x1]) (inv_S (id' := 80) d_M_vanishes_170 wd_752 wd_753 wd_62 cw_M_exponent (by decide) pn_M_exponent) cw_M_exponent (by decide) (by decide) (Nat.le_of_ble_eq_true rfl) rfl hr rfl hcal hk
theorem k_M_vanishes_192 {g : jm_G} {d : Nat} {L : List (Option jm_V)} {r : List jm_V} {σ : jm_S} {K K' : jm_O → Prop} {q0 : Nat} {x0 : Int64} {x1 : Int64} {x2 : Int64} {x3 : Int64} (hr : Nat.ble (jm_cs r) 8 = true) (hcal : J g d 94 0 [some (aR 6 q0), some (aL x0), none, some (aL x1), none, some (aL x2), none, some (aL x3), none] [] σ K') (hk : ∀ u, K' u → jm_aft g (d + 1) 99 192 L r u K) : J g (d + 1) 99 192 L (aL x3 :: aL x2 :: aL x1 :: aL x0 :: aR 6 q0 :: r) σ K :=
  J_call' (id' := 94) jm_sk (vs := [aR 6 q0, aL x0, aL x1, aL x2, aL x3]) (inv_V (id' := 94) d_M_vanishes_192 ci_M wd_810 wd_812 wd_32 cw_M_multiplied (by decide) pn_M_multiplied) cw_M_multiplied (by decide) (by decide) (Nat.le_of_ble_eq_true rfl) rfl hr rfl hcal hk
theorem r_M_vanishes_204 {g : jm_G} {d : Nat} {L : List (Option jm_V)} {σ : jm_S} {K : jm_O → Prop} {v : Int32} (hK : K (σ, .inl (some (aI v)))) : J g d 99 204 L [aI v] σ K := J_iret d_M_vanishes_204 rfl hK
theorem k_M_vanishes_252 {g : jm_G} {d : Nat} {L : List (Option jm_V)} {r : List jm_V} {σ : jm_S} {K K' : jm_O → Prop} {q0 : Nat} {x0 : Int64} {x1 : Int64} (hr : Nat.ble (jm_cs r) 8 = true) (hcal : J g d 85 0 [some (aR 6 q0), some (aL x0), none, some (aL x1), none, none, none, none, none, none, none, none, none] [] σ K') (hk : ∀ u, K' u → jm_aft g (d + 1) 99 252 L r u K) : J g (d + 1) 99 252 L (aL x1 :: aL x0 :: aR 6 q0 :: r) σ K :=
  J_call' (id' := 85) jm_sk (vs := [aR 6 q0, aL x0, aL x1]) (inv_V (id' := 85) d_M_vanishes_252 ci_M wd_772 wd_774 wd_27 cw_M_lowest (by decide) pn_M_lowest) cw_M_lowest (by decide) (by decide) (Nat.le_of_ble_eq_true rfl) rfl hr rfl hcal hk
theorem r_M_vanishes_264 {g : jm_G} {d : Nat} {L : List (Option jm_V)} {σ : jm_S} {K : jm_O → Prop} {v : Int32} (hK : K (σ, .inl (some (aI v)))) : J g d 99 264 L [aI v] σ K := J_iret d_M_vanishes_264 rfl hK
theorem r_M_vanishes_293 {g : jm_G} {d : Nat} {L : List (Option jm_V)} {σ : jm_S} {K : jm_O → Prop} {v : Int32} (hK : K (σ, .inl (some (aI v)))) : J g d 99 293 L [aI v] σ K := J_iret d_M_vanishes_293 rfl hK
-- IdealProverModel generator (I)I
theorem d_M_generator_0 : decode prog_12_method_42_code 0 = .ok (.iload_n 1, 1) := by decide +kernel
theorem d_M_generator_1 : decode prog_12_method_42_code 1 = .ok (.invokestatic 100, 3) := by decide +kernel
theorem d_M_generator_4 : decode prog_12_method_42_code 4 = .ok (.ifCond .ne 5, 3) := by decide +kernel
theorem d_M_generator_7 : decode prog_12_method_42_code 7 = .ok (.iconst (-1), 1) := by decide +kernel
theorem d_M_generator_8 : decode prog_12_method_42_code 8 = .ok (.ireturn, 1) := by decide +kernel
theorem d_M_generator_9 : decode prog_12_method_42_code 9 = .ok (.aload_n 0, 1) := by decide +kernel
theorem d_M_generator_10 : decode prog_12_method_42_code 10 = .ok (.getfield 90, 3) := by decide +kernel
theorem d_M_generator_13 : decode prog_12_method_42_code 13 = .ok (.bipush 8, 2) := by decide +kernel
theorem d_M_generator_15 : decode prog_12_method_42_code 15 = .ok (.if_icmp .ne 6, 3) := by decide +kernel
theorem d_M_generator_18 : decode prog_12_method_42_code 18 = .ok (.bipush (-4), 2) := by decide +kernel
theorem d_M_generator_20 : decode prog_12_method_42_code 20 = .ok (.ireturn, 1) := by decide +kernel
theorem d_M_generator_21 : decode prog_12_method_42_code 21 = .ok (.aload_n 0, 1) := by decide +kernel
theorem d_M_generator_22 : decode prog_12_method_42_code 22 = .ok (.iload_n 1, 1) := by decide +kernel
theorem d_M_generator_23 : decode prog_12_method_42_code 23 = .ok (.bipush 40, 2) := by decide +kernel
theorem d_M_generator_25 : decode prog_12_method_42_code 25 = .ok (.aload_n 0, 1) := by decide +kernel
theorem d_M_generator_26 : decode prog_12_method_42_code 26 = .ok (.getfield 90, 3) := by decide +kernel
theorem d_M_generator_29 : decode prog_12_method_42_code 29 = .ok (.iadd, 1) := by decide +kernel
theorem d_M_generator_30 : decode prog_12_method_42_code 30 = .ok (.invokevirtual 106, 3) := by decide +kernel
theorem d_M_generator_33 : decode prog_12_method_42_code 33 = .ok (.aload_n 0, 1) := by decide +kernel
theorem d_M_generator_34 : decode prog_12_method_42_code 34 = .ok (.dup, 1) := by decide +kernel
theorem d_M_generator_35 : decode prog_12_method_42_code 35 = .ok (.getfield 90, 3) := by decide +kernel
theorem d_M_generator_38 : decode prog_12_method_42_code 38 = .ok (.iconst 1, 1) := by decide +kernel
theorem d_M_generator_39 : decode prog_12_method_42_code 39 = .ok (.iadd, 1) := by decide +kernel
theorem d_M_generator_40 : decode prog_12_method_42_code 40 = .ok (.putfield 90, 3) := by decide +kernel
theorem d_M_generator_43 : decode prog_12_method_42_code 43 = .ok (.aload_n 0, 1) := by decide +kernel
theorem d_M_generator_44 : decode prog_12_method_42_code 44 = .ok (.iconst 0, 1) := by decide +kernel
theorem d_M_generator_45 : decode prog_12_method_42_code 45 = .ok (.putfield 97, 3) := by decide +kernel
theorem d_M_generator_48 : decode prog_12_method_42_code 48 = .ok (.aload_n 0, 1) := by decide +kernel
theorem d_M_generator_49 : decode prog_12_method_42_code 49 = .ok (.getfield 90, 3) := by decide +kernel
theorem d_M_generator_52 : decode prog_12_method_42_code 52 = .ok (.iconst 1, 1) := by decide +kernel
theorem d_M_generator_53 : decode prog_12_method_42_code 53 = .ok (.isub, 1) := by decide +kernel
theorem d_M_generator_54 : decode prog_12_method_42_code 54 = .ok (.ireturn, 1) := by decide +kernel
def tb_M_generator : List (Nat × jm_Op) := [(0, oIl 1 1), (4, oIfNe 9 7), (7, oC (-1) 8), (9, oAl 0 10), (10, oGi 6 7 13), (13, oC 8 15), (15, oIcNe 21 18), (18, oC (-4) 20), (21, oAl 0 22), (22, oIl 1 23), (23, oC 40 25), (25, oAl 0 26), (26, oGi 6 7 29), (29, oAdd 30), (33, oAl 0 34), (34, oDup 35), (35, oGi 6 7 38), (38, oC 1 39), (39, oAdd 40), (40, oPi 6 7 43), (43, oAl 0 44), (44, oC 0 45), (45, oPz 6 9 48), (48, oAl 0 49), (49, oGi 6 7 52), (52, oC 1 53), (53, oSub 54)]
theorem ok_M_generator : jm_all 100 tb_M_generator := ⟨s_iload_n d_M_generator_0 rfl, s_if_ne d_M_generator_4 (by decide), s_iconst d_M_generator_7 (by decide), s_aload_n d_M_generator_9 rfl, s_geti d_M_generator_10 ci_M rfl wd_658, s_bipush d_M_generator_13 (by decide), s_icmp_ne d_M_generator_15 (by decide), s_bipush d_M_generator_18 (by decide), s_aload_n d_M_generator_21 rfl, s_iload_n d_M_generator_22 rfl, s_bipush d_M_generator_23 (by decide), s_aload_n d_M_generator_25 rfl, s_geti d_M_generator_26 ci_M rfl wd_658, s_iadd d_M_generator_29, s_aload_n d_M_generator_33 rfl, s_dup d_M_generator_34, s_geti d_M_generator_35 ci_M rfl wd_658, s_iconst d_M_generator_38 (by decide), s_iadd d_M_generator_39, s_puti d_M_generator_40 ci_M rfl rfl rfl wd_658, s_aload_n d_M_generator_43 rfl, s_iconst d_M_generator_44 (by decide), s_putz d_M_generator_45 ci_M rfl rfl rfl wd_660, s_aload_n d_M_generator_48 rfl, s_geti d_M_generator_49 ci_M rfl wd_658, s_iconst d_M_generator_52 (by decide), s_isub d_M_generator_53, trivial⟩
theorem k_M_generator_1 {g : jm_G} {d : Nat} {L : List (Option jm_V)} {r : List jm_V} {σ : jm_S} {K K' : jm_O → Prop} {x0 : Int32} (hr : Nat.ble (jm_cs r) 8 = true) (hcal : J g d 83 0 [some (aI x0)] [] σ K') (hk : ∀ u, K' u → jm_aft g (d + 1) 100 1 L r u K) : J g (d + 1) 100 1 L (aI x0 :: r) σ K :=
  J_call' (id' := 83) jm_sk (vs := [aI x0]) (inv_S (id' := 83) d_M_generator_1 wd_763 wd_764 wd_62 cw_M_isPlace (by decide) pn_M_isPlace) cw_M_isPlace (by decide) (by decide) (Nat.le_of_ble_eq_true rfl) rfl hr rfl hcal hk
theorem r_M_generator_8 {g : jm_G} {d : Nat} {L : List (Option jm_V)} {σ : jm_S} {K : jm_O → Prop} {v : Int32} (hK : K (σ, .inl (some (aI v)))) : J g d 100 8 L [aI v] σ K := J_iret d_M_generator_8 rfl hK
theorem r_M_generator_20 {g : jm_G} {d : Nat} {L : List (Option jm_V)} {σ : jm_S} {K : jm_O → Prop} {v : Int32} (hK : K (σ, .inl (some (aI v)))) : J g d 100 20 L [aI v] σ K := J_iret d_M_generator_20 rfl hK
theorem k_M_generator_30 {g : jm_G} {d : Nat} {L : List (Option jm_V)} {r : List jm_V} {σ : jm_S} {K K' : jm_O → Prop} {q0 : Nat} {x0 : Int32} {x1 : Int32} (hr : Nat.ble (jm_cs r) 8 = true) (hcal : J g d 84 0 [some (aR 6 q0), some (aI x0), some (aI x1), none] [] σ K') (hk : ∀ u, K' u → jm_aft g (d + 1) 100 30 L r u K) : J g (d + 1) 100 30 L (aI x1 :: aI x0 :: aR 6 q0 :: r) σ K :=
  J_call' (id' := 84) jm_sk (vs := [aR 6 q0, aI x0, aI x1]) (inv_V (id' := 84) d_M_generator_30 ci_M wd_768 wd_770 wd_26 cw_M_copy (by decide) pn_M_copy) cw_M_copy (by decide) (by decide) (Nat.le_of_ble_eq_true rfl) rfl hr rfl hcal hk
theorem r_M_generator_54 {g : jm_G} {d : Nat} {L : List (Option jm_V)} {σ : jm_S} {K : jm_O → Prop} {v : Int32} (hK : K (σ, .inl (some (aI v)))) : J g d 100 54 L [aI v] σ K := J_iret d_M_generator_54 rfl hK
-- IdealProverModel clear ()I
theorem d_M_clear_0 : decode prog_12_method_43_code 0 = .ok (.aload_n 0, 1) := by decide +kernel
theorem d_M_clear_1 : decode prog_12_method_43_code 1 = .ok (.getfield 90, 3) := by decide +kernel
theorem d_M_clear_4 : decode prog_12_method_43_code 4 = .ok (.istore_n 1, 1) := by decide +kernel
theorem d_M_clear_5 : decode prog_12_method_43_code 5 = .ok (.aload_n 0, 1) := by decide +kernel
theorem d_M_clear_6 : decode prog_12_method_43_code 6 = .ok (.iconst 0, 1) := by decide +kernel
theorem d_M_clear_7 : decode prog_12_method_43_code 7 = .ok (.putfield 90, 3) := by decide +kernel
theorem d_M_clear_10 : decode prog_12_method_43_code 10 = .ok (.aload_n 0, 1) := by decide +kernel
theorem d_M_clear_11 : decode prog_12_method_43_code 11 = .ok (.iconst 0, 1) := by decide +kernel
theorem d_M_clear_12 : decode prog_12_method_43_code 12 = .ok (.putfield 97, 3) := by decide +kernel
theorem d_M_clear_15 : decode prog_12_method_43_code 15 = .ok (.iload_n 1, 1) := by decide +kernel
theorem d_M_clear_16 : decode prog_12_method_43_code 16 = .ok (.ireturn, 1) := by decide +kernel
def tb_M_clear : List (Nat × jm_Op) := [(0, oAl 0 1), (1, oGi 6 7 4), (4, oIs 1 5), (5, oAl 0 6), (6, oC 0 7), (7, oPi 6 7 10), (10, oAl 0 11), (11, oC 0 12), (12, oPz 6 9 15), (15, oIl 1 16)]
theorem ok_M_clear : jm_all 101 tb_M_clear := ⟨s_aload_n d_M_clear_0 rfl, s_geti d_M_clear_1 ci_M rfl wd_658, s_istore_n d_M_clear_4 rfl (by decide), s_aload_n d_M_clear_5 rfl, s_iconst d_M_clear_6 (by decide), s_puti d_M_clear_7 ci_M rfl rfl rfl wd_658, s_aload_n d_M_clear_10 rfl, s_iconst d_M_clear_11 (by decide), s_putz d_M_clear_12 ci_M rfl rfl rfl wd_660, s_iload_n d_M_clear_15 rfl, trivial⟩
theorem r_M_clear_16 {g : jm_G} {d : Nat} {L : List (Option jm_V)} {σ : jm_S} {K : jm_O → Prop} {v : Int32} (hK : K (σ, .inl (some (aI v)))) : J g d 101 16 L [aI v] σ K := J_iret d_M_clear_16 rfl hK
-- IdealProverModel basis (I)I
theorem d_M_basis_0 : decode prog_12_method_44_code 0 = .ok (.iload_n 1, 1) := by decide +kernel
theorem d_M_basis_1 : decode prog_12_method_44_code 1 = .ok (.ifCond .lt 10, 3) := by decide +kernel
theorem d_M_basis_4 : decode prog_12_method_44_code 4 = .ok (.iload_n 1, 1) := by decide +kernel
theorem d_M_basis_5 : decode prog_12_method_44_code 5 = .ok (.sipush 20000, 3) := by decide +kernel
theorem d_M_basis_8 : decode prog_12_method_44_code 8 = .ok (.if_icmp .le 6, 3) := by decide +kernel
theorem d_M_basis_11 : decode prog_12_method_44_code 11 = .ok (.bipush (-2), 2) := by decide +kernel
theorem d_M_basis_13 : decode prog_12_method_44_code 13 = .ok (.ireturn, 1) := by decide +kernel
theorem d_M_basis_14 : decode prog_12_method_44_code 14 = .ok (.aload_n 0, 1) := by decide +kernel
theorem d_M_basis_15 : decode prog_12_method_44_code 15 = .ok (.iconst 0, 1) := by decide +kernel
theorem d_M_basis_16 : decode prog_12_method_44_code 16 = .ok (.putfield 54, 3) := by decide +kernel
theorem d_M_basis_19 : decode prog_12_method_44_code 19 = .ok (.aload_n 0, 1) := by decide +kernel
theorem d_M_basis_20 : decode prog_12_method_44_code 20 = .ok (.iconst 0, 1) := by decide +kernel
theorem d_M_basis_21 : decode prog_12_method_44_code 21 = .ok (.putfield 127, 3) := by decide +kernel
theorem d_M_basis_24 : decode prog_12_method_44_code 24 = .ok (.aload_n 0, 1) := by decide +kernel
theorem d_M_basis_25 : decode prog_12_method_44_code 25 = .ok (.iconst 0, 1) := by decide +kernel
theorem d_M_basis_26 : decode prog_12_method_44_code 26 = .ok (.putfield 121, 3) := by decide +kernel
theorem d_M_basis_29 : decode prog_12_method_44_code 29 = .ok (.aload_n 0, 1) := by decide +kernel
theorem d_M_basis_30 : decode prog_12_method_44_code 30 = .ok (.iload_n 1, 1) := by decide +kernel
theorem d_M_basis_31 : decode prog_12_method_44_code 31 = .ok (.putfield 124, 3) := by decide +kernel
theorem d_M_basis_34 : decode prog_12_method_44_code 34 = .ok (.aload_n 0, 1) := by decide +kernel
theorem d_M_basis_35 : decode prog_12_method_44_code 35 = .ok (.iconst 0, 1) := by decide +kernel
theorem d_M_basis_36 : decode prog_12_method_44_code 36 = .ok (.putfield 198, 3) := by decide +kernel
theorem d_M_basis_39 : decode prog_12_method_44_code 39 = .ok (.aload_n 0, 1) := by decide +kernel
theorem d_M_basis_40 : decode prog_12_method_44_code 40 = .ok (.bipush 50, 2) := by decide +kernel
theorem d_M_basis_42 : decode prog_12_method_44_code 42 = .ok (.aload_n 0, 1) := by decide +kernel
theorem d_M_basis_43 : decode prog_12_method_44_code 43 = .ok (.getfield 90, 3) := by decide +kernel
theorem d_M_basis_46 : decode prog_12_method_44_code 46 = .ok (.iconst 1, 1) := by decide +kernel
theorem d_M_basis_47 : decode prog_12_method_44_code 47 = .ok (.invokevirtual 201, 3) := by decide +kernel
theorem d_M_basis_50 : decode prog_12_method_44_code 50 = .ok (.aload_n 0, 1) := by decide +kernel
theorem d_M_basis_51 : decode prog_12_method_44_code 51 = .ok (.getfield 23, 3) := by decide +kernel
theorem d_M_basis_54 : decode prog_12_method_44_code 54 = .ok (.iconst 0, 1) := by decide +kernel
theorem d_M_basis_55 : decode prog_12_method_44_code 55 = .ok (.aload_n 0, 1) := by decide +kernel
theorem d_M_basis_56 : decode prog_12_method_44_code 56 = .ok (.getfield 121, 3) := by decide +kernel
theorem d_M_basis_59 : decode prog_12_method_44_code 59 = .ok (.iastore, 1) := by decide +kernel
theorem d_M_basis_60 : decode prog_12_method_44_code 60 = .ok (.aload_n 0, 1) := by decide +kernel
theorem d_M_basis_61 : decode prog_12_method_44_code 61 = .ok (.getfield 23, 3) := by decide +kernel
theorem d_M_basis_64 : decode prog_12_method_44_code 64 = .ok (.iconst 1, 1) := by decide +kernel
theorem d_M_basis_65 : decode prog_12_method_44_code 65 = .ok (.aload_n 0, 1) := by decide +kernel
theorem d_M_basis_66 : decode prog_12_method_44_code 66 = .ok (.getfield 157, 3) := by decide +kernel
theorem d_M_basis_69 : decode prog_12_method_44_code 69 = .ok (.iastore, 1) := by decide +kernel
theorem d_M_basis_70 : decode prog_12_method_44_code 70 = .ok (.aload_n 0, 1) := by decide +kernel
theorem d_M_basis_71 : decode prog_12_method_44_code 71 = .ok (.getfield 23, 3) := by decide +kernel
theorem d_M_basis_74 : decode prog_12_method_44_code 74 = .ok (.iconst 2, 1) := by decide +kernel
theorem d_M_basis_75 : decode prog_12_method_44_code 75 = .ok (.aload_n 0, 1) := by decide +kernel
theorem d_M_basis_76 : decode prog_12_method_44_code 76 = .ok (.getfield 160, 3) := by decide +kernel
theorem d_M_basis_79 : decode prog_12_method_44_code 79 = .ok (.iastore, 1) := by decide +kernel
theorem d_M_basis_80 : decode prog_12_method_44_code 80 = .ok (.aload_n 0, 1) := by decide +kernel
theorem d_M_basis_81 : decode prog_12_method_44_code 81 = .ok (.getfield 23, 3) := by decide +kernel
theorem d_M_basis_84 : decode prog_12_method_44_code 84 = .ok (.iconst 3, 1) := by decide +kernel
theorem d_M_basis_85 : decode prog_12_method_44_code 85 = .ok (.aload_n 0, 1) := by decide +kernel
theorem d_M_basis_86 : decode prog_12_method_44_code 86 = .ok (.getfield 173, 3) := by decide +kernel
theorem d_M_basis_89 : decode prog_12_method_44_code 89 = .ok (.iastore, 1) := by decide +kernel
theorem d_M_basis_90 : decode prog_12_method_44_code 90 = .ok (.aload_n 0, 1) := by decide +kernel
theorem d_M_basis_91 : decode prog_12_method_44_code 91 = .ok (.aload_n 0, 1) := by decide +kernel
theorem d_M_basis_92 : decode prog_12_method_44_code 92 = .ok (.getfield 133, 3) := by decide +kernel
theorem d_M_basis_95 : decode prog_12_method_44_code 95 = .ok (.putfield 205, 3) := by decide +kernel
theorem d_M_basis_98 : decode prog_12_method_44_code 98 = .ok (.aload_n 0, 1) := by decide +kernel
theorem d_M_basis_99 : decode prog_12_method_44_code 99 = .ok (.aload_n 0, 1) := by decide +kernel
theorem d_M_basis_100 : decode prog_12_method_44_code 100 = .ok (.getfield 54, 3) := by decide +kernel
theorem d_M_basis_103 : decode prog_12_method_44_code 103 = .ok (.ifCond .ne 14, 3) := by decide +kernel
theorem d_M_basis_106 : decode prog_12_method_44_code 106 = .ok (.aload_n 0, 1) := by decide +kernel
theorem d_M_basis_107 : decode prog_12_method_44_code 107 = .ok (.getfield 127, 3) := by decide +kernel
theorem d_M_basis_110 : decode prog_12_method_44_code 110 = .ok (.ifCond .ne 7, 3) := by decide +kernel
theorem d_M_basis_113 : decode prog_12_method_44_code 113 = .ok (.iconst 1, 1) := by decide +kernel
theorem d_M_basis_114 : decode prog_12_method_44_code 114 = .ok (.goto 4, 3) := by decide +kernel
theorem d_M_basis_117 : decode prog_12_method_44_code 117 = .ok (.iconst 0, 1) := by decide +kernel
theorem d_M_basis_118 : decode prog_12_method_44_code 118 = .ok (.putfield 97, 3) := by decide +kernel
theorem d_M_basis_121 : decode prog_12_method_44_code 121 = .ok (.aload_n 0, 1) := by decide +kernel
theorem d_M_basis_122 : decode prog_12_method_44_code 122 = .ok (.getfield 127, 3) := by decide +kernel
theorem d_M_basis_125 : decode prog_12_method_44_code 125 = .ok (.ifCond .eq 8, 3) := by decide +kernel
theorem d_M_basis_128 : decode prog_12_method_44_code 128 = .ok (.bipush (-6), 2) := by decide +kernel
theorem d_M_basis_130 : decode prog_12_method_44_code 130 = .ok (.goto 19, 3) := by decide +kernel
theorem d_M_basis_133 : decode prog_12_method_44_code 133 = .ok (.aload_n 0, 1) := by decide +kernel
theorem d_M_basis_134 : decode prog_12_method_44_code 134 = .ok (.getfield 54, 3) := by decide +kernel
theorem d_M_basis_137 : decode prog_12_method_44_code 137 = .ok (.ifCond .eq 8, 3) := by decide +kernel
theorem d_M_basis_140 : decode prog_12_method_44_code 140 = .ok (.bipush (-7), 2) := by decide +kernel
theorem d_M_basis_142 : decode prog_12_method_44_code 142 = .ok (.goto 7, 3) := by decide +kernel
theorem d_M_basis_145 : decode prog_12_method_44_code 145 = .ok (.aload_n 0, 1) := by decide +kernel
theorem d_M_basis_146 : decode prog_12_method_44_code 146 = .ok (.getfield 205, 3) := by decide +kernel
theorem d_M_basis_149 : decode prog_12_method_44_code 149 = .ok (.ireturn, 1) := by decide +kernel
def tb_M_basis_0 : List (Nat × jm_Op) := [(0, oIl 1 1), (1, oIfLt 11 4), (4, oIl 1 5), (5, oC 20000 8), (8, oIcLe 14 11), (11, oC (-2) 13), (14, oAl 0 15), (15, oC 0 16), (16, oPz 6 11 19), (19, oAl 0 20), (20, oC 0 21), (21, oPz 6 12 24), (24, oAl 0 25), (25, oC 0 26), (26, oPi 6 13 29), (29, oAl 0 30), (30, oIl 1 31), (31, oPi 6 14 34), (34, oAl 0 35), (35, oC 0 36), (36, oPz 6 10 39), (39, oAl 0 40), (40, oC 50 42), (42, oAl 0 43), (43, oGi 6 7 46), (46, oC 1 47), (50, oAl 0 51), (51, oGr 6 15 8 54), (54, oC 0 55), (55, oAl 0 56), (56, oGi 6 13 59), (59, oIw 60), (60, oAl 0 61), (61, oGr 6 15 8 64), (64, oC 1 65), (65, oAl 0 66), (66, oGi 6 24 69), (69, oIw 70), (70, oAl 0 71), (71, oGr 6 15 8 74), (74, oC 2 75), (75, oAl 0 76), (76, oGi 6 25 79), (79, oIw 80), (80, oAl 0 81), (81, oGr 6 15 8 84), (84, oC 3 85), (85, oAl 0 86), (86, oGi 6 26 89), (89, oIw 90)]
theorem ok_M_basis_0 : jm_all 102 tb_M_basis_0 := ⟨s_iload_n d_M_basis_0 rfl, s_if_lt d_M_basis_1 (by decide), s_iload_n d_M_basis_4 rfl, s_sipush d_M_basis_5 (by decide), s_icmp_le d_M_basis_8 (by decide), s_bipush d_M_basis_11 (by decide), s_aload_n d_M_basis_14 rfl, s_iconst d_M_basis_15 (by decide), s_putz d_M_basis_16 ci_M rfl rfl rfl wd_662, s_aload_n d_M_basis_19 rfl, s_iconst d_M_basis_20 (by decide), s_putz d_M_basis_21 ci_M rfl rfl rfl wd_663, s_aload_n d_M_basis_24 rfl, s_iconst d_M_basis_25 (by decide), s_puti d_M_basis_26 ci_M rfl rfl rfl wd_664, s_aload_n d_M_basis_29 rfl, s_iload_n d_M_basis_30 rfl, s_puti d_M_basis_31 ci_M rfl rfl rfl wd_665, s_aload_n d_M_basis_34 rfl, s_iconst d_M_basis_35 (by decide), s_putz d_M_basis_36 ci_M rfl rfl rfl wd_661, s_aload_n d_M_basis_39 rfl, s_bipush d_M_basis_40 (by decide), s_aload_n d_M_basis_42 rfl, s_geti d_M_basis_43 ci_M rfl wd_658, s_iconst d_M_basis_46 (by decide), s_aload_n d_M_basis_50 rfl, s_getr d_M_basis_51 ci_M rfl wd_666, s_iconst d_M_basis_54 (by decide), s_aload_n d_M_basis_55 rfl, s_geti d_M_basis_56 ci_M rfl wd_664, s_iastore d_M_basis_59, s_aload_n d_M_basis_60 rfl, s_getr d_M_basis_61 ci_M rfl wd_666, s_iconst d_M_basis_64 (by decide), s_aload_n d_M_basis_65 rfl, s_geti d_M_basis_66 ci_M rfl wd_675, s_iastore d_M_basis_69, s_aload_n d_M_basis_70 rfl, s_getr d_M_basis_71 ci_M rfl wd_666, s_iconst d_M_basis_74 (by decide), s_aload_n d_M_basis_75 rfl, s_geti d_M_basis_76 ci_M rfl wd_676, s_iastore d_M_basis_79, s_aload_n d_M_basis_80 rfl, s_getr d_M_basis_81 ci_M rfl wd_666, s_iconst d_M_basis_84 (by decide), s_aload_n d_M_basis_85 rfl, s_geti d_M_basis_86 ci_M rfl wd_677, s_iastore d_M_basis_89, trivial⟩
def tb_M_basis_1 : List (Nat × jm_Op) := [(90, oAl 0 91), (91, oAl 0 92), (92, oGi 6 20 95), (95, oPi 6 8 98), (98, oAl 0 99), (99, oAl 0 100), (100, oGi 6 11 103), (103, oIfNe 117 106), (106, oAl 0 107), (107, oGi 6 12 110), (110, oIfNe 117 113), (113, oC 1 114), (114, oGo 118), (117, oC 0 118), (118, oPz 6 9 121), (121, oAl 0 122), (122, oGi 6 12 125), (125, oIfEq 133 128), (128, oC (-6) 130), (130, oGo 149), (133, oAl 0 134), (134, oGi 6 11 137), (137, oIfEq 145 140), (140, oC (-7) 142), (142, oGo 149), (145, oAl 0 146), (146, oGi 6 8 149)]
theorem ok_M_basis_1 : jm_all 102 tb_M_basis_1 := ⟨s_aload_n d_M_basis_90 rfl, s_aload_n d_M_basis_91 rfl, s_geti d_M_basis_92 ci_M rfl wd_671, s_puti d_M_basis_95 ci_M rfl rfl rfl wd_659, s_aload_n d_M_basis_98 rfl, s_aload_n d_M_basis_99 rfl, s_geti d_M_basis_100 ci_M rfl wd_662, s_if_ne d_M_basis_103 (by decide), s_aload_n d_M_basis_106 rfl, s_geti d_M_basis_107 ci_M rfl wd_663, s_if_ne d_M_basis_110 (by decide), s_iconst d_M_basis_113 (by decide), s_goto d_M_basis_114 (by decide), s_iconst d_M_basis_117 (by decide), s_putz d_M_basis_118 ci_M rfl rfl rfl wd_660, s_aload_n d_M_basis_121 rfl, s_geti d_M_basis_122 ci_M rfl wd_663, s_if_eq d_M_basis_125 (by decide), s_bipush d_M_basis_128 (by decide), s_goto d_M_basis_130 (by decide), s_aload_n d_M_basis_133 rfl, s_geti d_M_basis_134 ci_M rfl wd_662, s_if_eq d_M_basis_137 (by decide), s_bipush d_M_basis_140 (by decide), s_goto d_M_basis_142 (by decide), s_aload_n d_M_basis_145 rfl, s_geti d_M_basis_146 ci_M rfl wd_659, trivial⟩
def tb_M_basis : List (Nat × jm_Op) := tb_M_basis_0 ++ tb_M_basis_1
theorem ok_M_basis : jm_all 102 tb_M_basis := jm_all_app ok_M_basis_0 ok_M_basis_1
theorem r_M_basis_13 {g : jm_G} {d : Nat} {L : List (Option jm_V)} {σ : jm_S} {K : jm_O → Prop} {v : Int32} (hK : K (σ, .inl (some (aI v)))) : J g d 102 13 L [aI v] σ K := J_iret d_M_basis_13 rfl hK
theorem k_M_basis_47 {g : jm_G} {d : Nat} {L : List (Option jm_V)} {r : List jm_V} {σ : jm_S} {K K' : jm_O → Prop} {q0 : Nat} {x0 : Int32} {x1 : Int32} {x2 : Int32} (hr : Nat.ble (jm_cs r) 8 = true) (hcal : J g d 103 0 [some (aR 6 q0), some (aI x0), some (aI x1), some (aI x2), none, none] [] σ K') (hk : ∀ u, K' u → jm_aft g (d + 1) 102 47 L r u K) : J g (d + 1) 102 47 L (aI x2 :: aI x1 :: aI x0 :: aR 6 q0 :: r) σ K :=
  J_call' (id' := 103) jm_sk (vs := [aR 6 q0, aI x0, aI x1, aI x2]) (inv_V (id' := 103) d_M_basis_47 ci_M wd_846 wd_848 wd_35 cw_M_make (by decide) pn_M_make) cw_M_make (by decide) (by decide) (Nat.le_of_ble_eq_true rfl) rfl hr rfl hcal hk
theorem r_M_basis_149 {g : jm_G} {d : Nat} {L : List (Option jm_V)} {σ : jm_S} {K : jm_O → Prop} {v : Int32} (hK : K (σ, .inl (some (aI v)))) : J g d 102 149 L [aI v] σ K := J_iret d_M_basis_149 rfl hK
