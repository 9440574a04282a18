-- IdealProver <init> (I)V
theorem d_H_init_0 : decode prog_1_method_7_code 0 = .ok (.aload_n 0, 1) := by decide +kernel
theorem d_H_init_1 : decode prog_1_method_7_code 1 = .ok (.invokespecial 25, 3) := by decide +kernel
theorem d_H_init_4 : decode prog_1_method_7_code 4 = .ok (.aload_n 0, 1) := by decide +kernel
theorem d_H_init_5 : decode prog_1_method_7_code 5 = .ok (.invokestatic 28, 3) := by decide +kernel
theorem d_H_init_8 : decode prog_1_method_7_code 8 = .ok (.putfield 34, 3) := by decide +kernel
theorem d_H_init_11 : decode prog_1_method_7_code 11 = .ok (.aload_n 0, 1) := by decide +kernel
theorem d_H_init_12 : decode prog_1_method_7_code 12 = .ok (.bipush 40, 2) := by decide +kernel
theorem d_H_init_14 : decode prog_1_method_7_code 14 = .ok (.invokestatic 38, 3) := by decide +kernel
theorem d_H_init_17 : decode prog_1_method_7_code 17 = .ok (.putfield 42, 3) := by decide +kernel
theorem d_H_init_20 : decode prog_1_method_7_code 20 = .ok (.aload_n 0, 1) := by decide +kernel
theorem d_H_init_21 : decode prog_1_method_7_code 21 = .ok (.bipush 8, 2) := by decide +kernel
theorem d_H_init_23 : decode prog_1_method_7_code 23 = .ok (.invokestatic 38, 3) := by decide +kernel
theorem d_H_init_26 : decode prog_1_method_7_code 26 = .ok (.putfield 46, 3) := by decide +kernel
theorem d_H_init_29 : decode prog_1_method_7_code 29 = .ok (.aload_n 0, 1) := by decide +kernel
theorem d_H_init_30 : decode prog_1_method_7_code 30 = .ok (.new 49, 3) := by decide +kernel
theorem d_H_init_33 : decode prog_1_method_7_code 33 = .ok (.dup, 1) := by decide +kernel
theorem d_H_init_34 : decode prog_1_method_7_code 34 = .ok (.bipush 8, 2) := by decide +kernel
theorem d_H_init_36 : decode prog_1_method_7_code 36 = .ok (.invokespecial 51, 3) := by decide +kernel
theorem d_H_init_39 : decode prog_1_method_7_code 39 = .ok (.putfield 54, 3) := by decide +kernel
theorem d_H_init_42 : decode prog_1_method_7_code 42 = .ok (.aload_n 0, 1) := by decide +kernel
theorem d_H_init_43 : decode prog_1_method_7_code 43 = .ok (.new 49, 3) := by decide +kernel
theorem d_H_init_46 : decode prog_1_method_7_code 46 = .ok (.dup, 1) := by decide +kernel
theorem d_H_init_47 : decode prog_1_method_7_code 47 = .ok (.iconst 0, 1) := by decide +kernel
theorem d_H_init_48 : decode prog_1_method_7_code 48 = .ok (.invokespecial 51, 3) := by decide +kernel
theorem d_H_init_51 : decode prog_1_method_7_code 51 = .ok (.putfield 58, 3) := by decide +kernel
theorem d_H_init_54 : decode prog_1_method_7_code 54 = .ok (.aload_n 0, 1) := by decide +kernel
theorem d_H_init_55 : decode prog_1_method_7_code 55 = .ok (.new 61, 3) := by decide +kernel
theorem d_H_init_58 : decode prog_1_method_7_code 58 = .ok (.dup, 1) := by decide +kernel
theorem d_H_init_59 : decode prog_1_method_7_code 59 = .ok (.invokespecial 63, 3) := by decide +kernel
theorem d_H_init_62 : decode prog_1_method_7_code 62 = .ok (.putfield 64, 3) := by decide +kernel
theorem d_H_init_65 : decode prog_1_method_7_code 65 = .ok (.aload_n 0, 1) := by decide +kernel
theorem d_H_init_66 : decode prog_1_method_7_code 66 = .ok (.new 19, 3) := by decide +kernel
theorem d_H_init_69 : decode prog_1_method_7_code 69 = .ok (.dup, 1) := by decide +kernel
theorem d_H_init_70 : decode prog_1_method_7_code 70 = .ok (.invokespecial 21, 3) := by decide +kernel
theorem d_H_init_73 : decode prog_1_method_7_code 73 = .ok (.putfield 68, 3) := by decide +kernel
theorem d_H_init_76 : decode prog_1_method_7_code 76 = .ok (.aload_n 0, 1) := by decide +kernel
theorem d_H_init_77 : decode prog_1_method_7_code 77 = .ok (.new 19, 3) := by decide +kernel
theorem d_H_init_80 : decode prog_1_method_7_code 80 = .ok (.dup, 1) := by decide +kernel
theorem d_H_init_81 : decode prog_1_method_7_code 81 = .ok (.invokespecial 21, 3) := by decide +kernel
theorem d_H_init_84 : decode prog_1_method_7_code 84 = .ok (.putfield 72, 3) := by decide +kernel
theorem d_H_init_87 : decode prog_1_method_7_code 87 = .ok (.aload_n 0, 1) := by decide +kernel
theorem d_H_init_88 : decode prog_1_method_7_code 88 = .ok (.bipush 24, 2) := by decide +kernel
theorem d_H_init_90 : decode prog_1_method_7_code 90 = .ok (.invokestatic 38, 3) := by decide +kernel
theorem d_H_init_93 : decode prog_1_method_7_code 93 = .ok (.putfield 75, 3) := by decide +kernel
theorem d_H_init_96 : decode prog_1_method_7_code 96 = .ok (.aload_n 0, 1) := by decide +kernel
theorem d_H_init_97 : decode prog_1_method_7_code 97 = .ok (.iconst 4, 1) := by decide +kernel
theorem d_H_init_98 : decode prog_1_method_7_code 98 = .ok (.newarray .int, 2) := by decide +kernel
theorem d_H_init_100 : decode prog_1_method_7_code 100 = .ok (.putfield 78, 3) := by decide +kernel
theorem d_H_init_103 : decode prog_1_method_7_code 103 = .ok (.aload_n 0, 1) := by decide +kernel
theorem d_H_init_104 : decode prog_1_method_7_code 104 = .ok (.iconst 1, 1) := by decide +kernel
theorem d_H_init_105 : decode prog_1_method_7_code 105 = .ok (.iconst 4, 1) := by decide +kernel
theorem d_H_init_106 : decode prog_1_method_7_code 106 = .ok (.iload_n 1, 1) := by decide +kernel
theorem d_H_init_107 : decode prog_1_method_7_code 107 = .ok (.invokestatic 82, 3) := by decide +kernel
theorem d_H_init_110 : decode prog_1_method_7_code 110 = .ok (.invokestatic 7, 3) := by decide +kernel
theorem d_H_init_113 : decode prog_1_method_7_code 113 = .ok (.putfield 85, 3) := by decide +kernel
theorem d_H_init_116 : decode prog_1_method_7_code 116 = .ok (.return_, 1) := by decide +kernel
def tb_H_init : List (Nat × jm_Op) := [(0, oAl 0 1), (1, oObj 4), (4, oAl 0 5), (8, oPr 1 1 12 11), (11, oAl 0 12), (12, oC 40 14), (17, oPr 1 3 10 20), (20, oAl 0 21), (21, oC 8 23), (26, oPr 1 4 10 29), (29, oAl 0 30), (30, oNew 2 17 33), (33, oDup 34), (34, oC 8 36), (39, oPr 1 6 2 42), (42, oAl 0 43), (43, oNew 2 17 46), (46, oDup 47), (47, oC 0 48), (51, oPr 1 7 2 54), (54, oAl 0 55), (55, oNew 4 2 58), (58, oDup 59), (62, oPr 1 10 4 65), (65, oAl 0 66), (66, oNew 5 4 69), (69, oDup 70), (73, oPr 1 11 5 76), (76, oAl 0 77), (77, oNew 5 4 80), (80, oDup 81), (84, oPr 1 12 5 87), (87, oAl 0 88), (88, oC 24 90), (93, oPr 1 13 10 96), (96, oAl 0 97), (97, oC 4 98), (98, oNa 8 100), (100, oPr 1 14 8 103), (103, oAl 0 104), (104, oC 1 105), (105, oC 4 106), (106, oIl 1 107), (107, oMin 110), (110, oMax 113), (113, oPi 1 0 116)]
theorem ok_H_init : jm_all 0 tb_H_init := ⟨s_aload_n d_H_init_0 rfl, s_objInit d_H_init_1 wd_72 wd_73 wd_74, s_aload_n d_H_init_4 rfl, s_putrF d_H_init_8 ci_H rfl (fun _ => ⟨rfl, rfl⟩) rfl rfl rfl wd_243, s_aload_n d_H_init_11 rfl, s_bipush d_H_init_12 (by decide), s_putrF d_H_init_17 ci_H rfl (fun _ => ⟨rfl, rfl⟩) rfl rfl rfl wd_245, s_aload_n d_H_init_20 rfl, s_bipush d_H_init_21 (by decide), s_putrF d_H_init_26 ci_H rfl (fun _ => ⟨rfl, rfl⟩) rfl rfl rfl wd_246, s_aload_n d_H_init_29 rfl, s_new d_H_init_30 ci_G df_G wd_122 wd_123 wd_58, s_dup d_H_init_33, s_bipush d_H_init_34 (by decide), s_putrF d_H_init_39 ci_H rfl (fun _ => ⟨rfl, rfl⟩) rfl rfl rfl wd_248, s_aload_n d_H_init_42 rfl, s_new d_H_init_43 ci_G df_G wd_122 wd_123 wd_58, s_dup d_H_init_46, s_iconst d_H_init_47 (by decide), s_putrF d_H_init_51 ci_H rfl (fun _ => ⟨rfl, rfl⟩) rfl rfl rfl wd_249, s_aload_n d_H_init_54 rfl, s_new d_H_init_55 ci_F df_F wd_234 wd_129 wd_59, s_dup d_H_init_58, s_putrF d_H_init_62 ci_H rfl (fun _ => ⟨rfl, rfl⟩) rfl rfl rfl wd_252, s_aload_n d_H_init_65 rfl, s_new d_H_init_66 ci_P df_P wd_91 wd_93 wd_57, s_dup d_H_init_69, s_putrF d_H_init_73 ci_H rfl (fun _ => ⟨rfl, rfl⟩) rfl rfl rfl wd_253, s_aload_n d_H_init_76 rfl, s_new d_H_init_77 ci_P df_P wd_91 wd_93 wd_57, s_dup d_H_init_80, s_putrF d_H_init_84 ci_H rfl (fun _ => ⟨rfl, rfl⟩) rfl rfl rfl wd_254, s_aload_n d_H_init_87 rfl, s_bipush d_H_init_88 (by decide), s_putrF d_H_init_93 ci_H rfl (fun _ => ⟨rfl, rfl⟩) rfl rfl rfl wd_255, s_aload_n d_H_init_96 rfl, s_iconst d_H_init_97 (by decide), s_newarrayI d_H_init_98 wd_121, s_putrF d_H_init_100 ci_H rfl (fun _ => ⟨rfl, rfl⟩) rfl rfl rfl wd_256, s_aload_n d_H_init_103 rfl, s_iconst d_H_init_104 (by decide), s_iconst d_H_init_105 (by decide), s_iload_n d_H_init_106 rfl, s_min d_H_init_107 wd_236 wd_237 wd_61 wd_238, s_max d_H_init_110 wd_239 wd_240 wd_61 wd_241, s_putiF d_H_init_113 ci_H rfl rfl rfl rfl rfl wd_242, trivial⟩
theorem k_H_init_5 {g : jm_G} {d : Nat} {L : List (Option jm_V)} {r : List jm_V} {σ : jm_S} {K K' : jm_O → Prop}  (hr : Nat.ble (jm_cs r) 8 = true) (hcal : J g d 1 0 [] [] σ K') (hk : ∀ u, K' u → jm_aft g (d + 1) 0 5 L r u K) : J g (d + 1) 0 5 L (r) σ K :=
  J_call' (id' := 1) jm_sk (vs := []) (inv_S (id' := 1) d_H_init_5 wd_75 wd_76 wd_56 cw_O_values (by decide) pn_O_values) cw_O_values (by decide) (by decide) (Nat.le_of_ble_eq_true rfl) rfl hr rfl hcal hk
theorem k_H_init_14 {g : jm_G} {d : Nat} {L : List (Option jm_V)} {r : List jm_V} {σ : jm_S} {K K' : jm_O → Prop} {x0 : Int32} (hr : Nat.ble (jm_cs r) 8 = true) (hcal : J g d 2 0 [some (aI x0), none, none] [] σ K') (hk : ∀ u, K' u → jm_aft g (d + 1) 0 14 L r u K) : J g (d + 1) 0 14 L (aI x0 :: r) σ K :=
  J_call' (id' := 2) jm_sk (vs := [aI x0]) (inv_S (id' := 2) d_H_init_14 wd_88 wd_89 wd_54 cw_H_polys (by decide) pn_H_polys) cw_H_polys (by decide) (by decide) (Nat.le_of_ble_eq_true rfl) rfl hr rfl hcal hk
theorem k_H_init_23 {g : jm_G} {d : Nat} {L : List (Option jm_V)} {r : List jm_V} {σ : jm_S} {K K' : jm_O → Prop} {x0 : Int32} (hr : Nat.ble (jm_cs r) 8 = true) (hcal : J g d 2 0 [some (aI x0), none, none] [] σ K') (hk : ∀ u, K' u → jm_aft g (d + 1) 0 23 L r u K) : J g (d + 1) 0 23 L (aI x0 :: r) σ K :=
  J_call' (id' := 2) jm_sk (vs := [aI x0]) (inv_S (id' := 2) d_H_init_23 wd_88 wd_89 wd_54 cw_H_polys (by decide) pn_H_polys) cw_H_polys (by decide) (by decide) (Nat.le_of_ble_eq_true rfl) rfl hr rfl hcal hk
theorem k_H_init_36 {g : jm_G} {d : Nat} {L : List (Option jm_V)} {r : List jm_V} {σ : jm_S} {K K' : jm_O → Prop} {q0 : Nat} {x0 : Int32} (hr : Nat.ble (jm_cs r) 8 = true) (hcal : J g d 4 0 [some (aR 2 q0), some (aI x0), none] [] σ K') (hk : ∀ u, K' u → jm_aft g (d + 1) 0 36 L r u K) : J g (d + 1) 0 36 L (aI x0 :: aR 2 q0 :: r) σ K :=
  J_call' (id' := 4) jm_sk (vs := [aR 2 q0, aI x0]) (inv_I (id' := 4) (bytes := prog_3_method_1_code) (maxL := 3) d_H_init_36 wd_124 wd_125 rfl cw_G_init (by decide) pn_G_init) cw_G_init (by decide) (by decide) (Nat.le_of_ble_eq_true rfl) rfl hr rfl hcal hk
theorem k_H_init_48 {g : jm_G} {d : Nat} {L : List (Option jm_V)} {r : List jm_V} {σ : jm_S} {K K' : jm_O → Prop} {q0 : Nat} {x0 : Int32} (hr : Nat.ble (jm_cs r) 8 = true) (hcal : J g d 4 0 [some (aR 2 q0), some (aI x0), none] [] σ K') (hk : ∀ u, K' u → jm_aft g (d + 1) 0 48 L r u K) : J g (d + 1) 0 48 L (aI x0 :: aR 2 q0 :: r) σ K :=
  J_call' (id' := 4) jm_sk (vs := [aR 2 q0, aI x0]) (inv_I (id' := 4) (bytes := prog_3_method_1_code) (maxL := 3) d_H_init_48 wd_124 wd_125 rfl cw_G_init (by decide) pn_G_init) cw_G_init (by decide) (by decide) (Nat.le_of_ble_eq_true rfl) rfl hr rfl hcal hk
theorem k_H_init_59 {g : jm_G} {d : Nat} {L : List (Option jm_V)} {r : List jm_V} {σ : jm_S} {K K' : jm_O → Prop} {q0 : Nat} (hr : Nat.ble (jm_cs r) 8 = true) (hcal : J g d 5 0 [some (aR 4 q0)] [] σ K') (hk : ∀ u, K' u → jm_aft g (d + 1) 0 59 L r u K) : J g (d + 1) 0 59 L (aR 4 q0 :: r) σ K :=
  J_call' (id' := 5) jm_sk (vs := [aR 4 q0]) (inv_IN (id' := 5) (bytes := prog_4_method_1_code) (maxL := 1) d_H_init_59 wd_235 wd_131 rfl cw_F_init (by decide) pn_F_init) cw_F_init (by decide) (by decide) (Nat.le_of_ble_eq_true rfl) rfl hr rfl hcal hk
theorem k_H_init_70 {g : jm_G} {d : Nat} {L : List (Option jm_V)} {r : List jm_V} {σ : jm_S} {K K' : jm_O → Prop} {q0 : Nat} (hr : Nat.ble (jm_cs r) 8 = true) (hcal : J g d 3 0 [some (aR 5 q0)] [] σ K') (hk : ∀ u, K' u → jm_aft g (d + 1) 0 70 L r u K) : J g (d + 1) 0 70 L (aR 5 q0 :: r) σ K :=
  J_call' (id' := 3) jm_sk (vs := [aR 5 q0]) (inv_IN (id' := 3) (bytes := prog_9_method_1_code) (maxL := 1) d_H_init_70 wd_94 wd_95 rfl cw_P_init (by decide) pn_P_init) cw_P_init (by decide) (by decide) (Nat.le_of_ble_eq_true rfl) rfl hr rfl hcal hk
theorem k_H_init_81 {g : jm_G} {d : Nat} {L : List (Option jm_V)} {r : List jm_V} {σ : jm_S} {K K' : jm_O → Prop} {q0 : Nat} (hr : Nat.ble (jm_cs r) 8 = true) (hcal : J g d 3 0 [some (aR 5 q0)] [] σ K') (hk : ∀ u, K' u → jm_aft g (d + 1) 0 81 L r u K) : J g (d + 1) 0 81 L (aR 5 q0 :: r) σ K :=
  J_call' (id' := 3) jm_sk (vs := [aR 5 q0]) (inv_IN (id' := 3) (bytes := prog_9_method_1_code) (maxL := 1) d_H_init_81 wd_94 wd_95 rfl cw_P_init (by decide) pn_P_init) cw_P_init (by decide) (by decide) (Nat.le_of_ble_eq_true rfl) rfl hr rfl hcal hk
theorem k_H_init_90 {g : jm_G} {d : Nat} {L : List (Option jm_V)} {r : List jm_V} {σ : jm_S} {K K' : jm_O → Prop} {x0 : Int32} (hr : Nat.ble (jm_cs r) 8 = true) (hcal : J g d 2 0 [some (aI x0), none, none] [] σ K') (hk : ∀ u, K' u → jm_aft g (d + 1) 0 90 L r u K) : J g (d + 1) 0 90 L (aI x0 :: r) σ K :=
  J_call' (id' := 2) jm_sk (vs := [aI x0]) (inv_S (id' := 2) d_H_init_90 wd_88 wd_89 wd_54 cw_H_polys (by decide) pn_H_polys) cw_H_polys (by decide) (by decide) (Nat.le_of_ble_eq_true rfl) rfl hr rfl hcal hk
theorem r_H_init_116 {g : jm_G} {d : Nat} {L : List (Option jm_V)} {σ : jm_S} {K : jm_O → Prop} (hK : K (σ, .inl none)) : J g d 0 116 L [] σ K := J_vret d_H_init_116 rfl hK
-- IdealProver polys (I)[LIdealProver$Poly;
theorem d_H_polys_0 : decode prog_1_method_6_code 0 = .ok (.iload_n 0, 1) := by decide +kernel
theorem d_H_polys_1 : decode prog_1_method_6_code 1 = .ok (.anewarray 19, 3) := by decide +kernel
theorem d_H_polys_4 : decode prog_1_method_6_code 4 = .ok (.astore_n 1, 1) := by decide +kernel
theorem d_H_polys_5 : decode prog_1_method_6_code 5 = .ok (.iconst 0, 1) := by decide +kernel
theorem d_H_polys_6 : decode prog_1_method_6_code 6 = .ok (.istore_n 2, 1) := by decide +kernel
theorem d_H_polys_7 : decode prog_1_method_6_code 7 = .ok (.iload_n 2, 1) := by decide +kernel
theorem d_H_polys_8 : decode prog_1_method_6_code 8 = .ok (.iload_n 0, 1) := by decide +kernel
theorem d_H_polys_9 : decode prog_1_method_6_code 9 = .ok (.if_icmp .ge 19, 3) := by decide +kernel
theorem d_H_polys_12 : decode prog_1_method_6_code 12 = .ok (.aload_n 1, 1) := by decide +kernel
theorem d_H_polys_13 : decode prog_1_method_6_code 13 = .ok (.iload_n 2, 1) := by decide +kernel
theorem d_H_polys_14 : decode prog_1_method_6_code 14 = .ok (.new 19, 3) := by decide +kernel
theorem d_H_polys_17 : decode prog_1_method_6_code 17 = .ok (.dup, 1) := by decide +kernel
theorem d_H_polys_18 : decode prog_1_method_6_code 18 = .ok (.invokespecial 21, 3) := by decide +kernel
theorem d_H_polys_21 : decode prog_1_method_6_code 21 = .ok (.aastore, 1) := by decide +kernel
theorem d_H_polys_22 : decode prog_1_method_6_code 22 = .ok (.iinc 2 1, 3) := by decide +kernel
theorem d_H_polys_25 : decode prog_1_method_6_code 25 = .ok (.goto (-18), 3) := by decide +kernel
theorem d_H_polys_28 : decode prog_1_method_6_code 28 = .ok (.aload_n 1, 1) := by decide +kernel
theorem d_H_polys_29 : decode prog_1_method_6_code 29 = .ok (.areturn, 1) := by decide +kernel
def tb_H_polys : List (Nat × jm_Op) := [(0, oIl 0 1), (1, oNa 10 4), (4, oAs 1 5), (5, oC 0 6), (6, oIs 2 7), (7, oIl 2 8), (8, oIl 0 9), (9, oIcGe 28 12), (12, oAl 1 13), (13, oIl 2 14), (14, oNew 5 4 17), (17, oDup 18), (21, oRw 22), (22, oInc 2 1 25), (25, oGo 7), (28, oAl 1 29)]
theorem ok_H_polys : jm_all 2 tb_H_polys := ⟨s_iload_n d_H_polys_0 rfl, s_anewarray (t0 := 2) (by decide) (fun _ => rfl) d_H_polys_1 wd_91 wd_92, s_astore_n d_H_polys_4 rfl (by decide), s_iconst d_H_polys_5 (by decide), s_istore_n d_H_polys_6 rfl (by decide), s_iload_n d_H_polys_7 rfl, s_iload_n d_H_polys_8 rfl, s_icmp_ge d_H_polys_9 (by decide), s_aload_n d_H_polys_12 rfl, s_iload_n d_H_polys_13 rfl, s_new d_H_polys_14 ci_P df_P wd_91 wd_93 wd_57, s_dup d_H_polys_17, s_aastore d_H_polys_21, s_iinc d_H_polys_22 (by decide) (by decide), s_goto d_H_polys_25 (by decide), s_aload_n d_H_polys_28 rfl, trivial⟩
theorem k_H_polys_18 {g : jm_G} {d : Nat} {L : List (Option jm_V)} {r : List jm_V} {σ : jm_S} {K K' : jm_O → Prop} {q0 : Nat} (hr : Nat.ble (jm_cs r) 8 = true) (hcal : J g d 3 0 [some (aR 5 q0)] [] σ K') (hk : ∀ u, K' u → jm_aft g (d + 1) 2 18 L r u K) : J g (d + 1) 2 18 L (aR 5 q0 :: r) σ K :=
  J_call' (id' := 3) jm_sk (vs := [aR 5 q0]) (inv_IN (id' := 3) (bytes := prog_9_method_1_code) (maxL := 1) d_H_polys_18 wd_94 wd_95 rfl cw_P_init (by decide) pn_P_init) cw_P_init (by decide) (by decide) (Nat.le_of_ble_eq_true rfl) rfl hr rfl hcal hk
theorem r_H_polys_29 {g : jm_G} {d : Nat} {L : List (Option jm_V)} {σ : jm_S} {K : jm_O → Prop} {t q : Nat} (hK : K (σ, .inl (some (aR t q)))) : J g d 2 29 L [aR t q] σ K := J_aret d_H_polys_29 rfl (Or.inr ⟨_, rfl⟩) hK
-- IdealProver variables ()I
theorem d_H_variables_0 : decode prog_1_method_11_code 0 = .ok (.aload_n 0, 1) := by decide +kernel
theorem d_H_variables_1 : decode prog_1_method_11_code 1 = .ok (.getfield 85, 3) := by decide +kernel
theorem d_H_variables_4 : decode prog_1_method_11_code 4 = .ok (.ireturn, 1) := by decide +kernel
def tb_H_variables : List (Nat × jm_Op) := [(0, oAl 0 1), (1, oGi 1 0 4)]
theorem ok_H_variables : jm_all 7 tb_H_variables := ⟨s_aload_n d_H_variables_0 rfl, s_geti d_H_variables_1 ci_H rfl wd_242, trivial⟩
theorem r_H_variables_4 {g : jm_G} {d : Nat} {L : List (Option jm_V)} {σ : jm_S} {K : jm_O → Prop} {v : Int32} (hK : K (σ, .inl (some (aI v)))) : J g d 7 4 L [aI v] σ K := J_iret d_H_variables_4 rfl hK
-- IdealProver order (I)I
theorem d_H_order_0 : decode prog_1_method_12_code 0 = .ok (.iload_n 1, 1) := by decide +kernel
theorem d_H_order_1 : decode prog_1_method_12_code 1 = .ok (.ifCond .lt 8, 3) := by decide +kernel
theorem d_H_order_4 : decode prog_1_method_12_code 4 = .ok (.iload_n 1, 1) := by decide +kernel
theorem d_H_order_5 : decode prog_1_method_12_code 5 = .ok (.iconst 2, 1) := by decide +kernel
theorem d_H_order_6 : decode prog_1_method_12_code 6 = .ok (.if_icmp .le 6, 3) := by decide +kernel
theorem d_H_order_9 : decode prog_1_method_12_code 9 = .ok (.bipush (-2), 2) := by decide +kernel
theorem d_H_order_11 : decode prog_1_method_12_code 11 = .ok (.ireturn, 1) := by decide +kernel
theorem d_H_order_12 : decode prog_1_method_12_code 12 = .ok (.aload_n 0, 1) := by decide +kernel
theorem d_H_order_13 : decode prog_1_method_12_code 13 = .ok (.getfield 89, 3) := by decide +kernel
theorem d_H_order_16 : decode prog_1_method_12_code 16 = .ok (.istore_n 2, 1) := by decide +kernel
theorem d_H_order_17 : decode prog_1_method_12_code 17 = .ok (.aload_n 0, 1) := by decide +kernel
theorem d_H_order_18 : decode prog_1_method_12_code 18 = .ok (.iload_n 1, 1) := by decide +kernel
theorem d_H_order_19 : decode prog_1_method_12_code 19 = .ok (.putfield 89, 3) := by decide +kernel
theorem d_H_order_22 : decode prog_1_method_12_code 22 = .ok (.aload_n 0, 1) := by decide +kernel
theorem d_H_order_23 : decode prog_1_method_12_code 23 = .ok (.iconst 0, 1) := by decide +kernel
theorem d_H_order_24 : decode prog_1_method_12_code 24 = .ok (.putfield 99, 3) := by decide +kernel
theorem d_H_order_27 : decode prog_1_method_12_code 27 = .ok (.iconst 0, 1) := by decide +kernel
theorem d_H_order_28 : decode prog_1_method_12_code 28 = .ok (.istore_n 3, 1) := by decide +kernel
theorem d_H_order_29 : decode prog_1_method_12_code 29 = .ok (.iload_n 3, 1) := by decide +kernel
theorem d_H_order_30 : decode prog_1_method_12_code 30 = .ok (.bipush 40, 2) := by decide +kernel
theorem d_H_order_32 : decode prog_1_method_12_code 32 = .ok (.if_icmp .ge 22, 3) := by decide +kernel
theorem d_H_order_35 : decode prog_1_method_12_code 35 = .ok (.aload_n 0, 1) := by decide +kernel
theorem d_H_order_36 : decode prog_1_method_12_code 36 = .ok (.getfield 42, 3) := by decide +kernel
theorem d_H_order_39 : decode prog_1_method_12_code 39 = .ok (.iload_n 3, 1) := by decide +kernel
theorem d_H_order_40 : decode prog_1_method_12_code 40 = .ok (.aaload, 1) := by decide +kernel
theorem d_H_order_41 : decode prog_1_method_12_code 41 = .ok (.aload_n 0, 1) := by decide +kernel
theorem d_H_order_42 : decode prog_1_method_12_code 42 = .ok (.invokevirtual 103, 3) := by decide +kernel
theorem d_H_order_45 : decode prog_1_method_12_code 45 = .ok (.invokevirtual 107, 3) := by decide +kernel
theorem d_H_order_48 : decode prog_1_method_12_code 48 = .ok (.iinc 3 1, 3) := by decide +kernel
theorem d_H_order_51 : decode prog_1_method_12_code 51 = .ok (.goto (-22), 3) := by decide +kernel
theorem d_H_order_54 : decode prog_1_method_12_code 54 = .ok (.iconst 0, 1) := by decide +kernel
theorem d_H_order_55 : decode prog_1_method_12_code 55 = .ok (.istore_n 3, 1) := by decide +kernel
theorem d_H_order_56 : decode prog_1_method_12_code 56 = .ok (.iload_n 3, 1) := by decide +kernel
theorem d_H_order_57 : decode prog_1_method_12_code 57 = .ok (.aload_n 0, 1) := by decide +kernel
theorem d_H_order_58 : decode prog_1_method_12_code 58 = .ok (.getfield 111, 3) := by decide +kernel
theorem d_H_order_61 : decode prog_1_method_12_code 61 = .ok (.if_icmp .ge 22, 3) := by decide +kernel
theorem d_H_order_64 : decode prog_1_method_12_code 64 = .ok (.aload_n 0, 1) := by decide +kernel
theorem d_H_order_65 : decode prog_1_method_12_code 65 = .ok (.getfield 46, 3) := by decide +kernel
theorem d_H_order_68 : decode prog_1_method_12_code 68 = .ok (.iload_n 3, 1) := by decide +kernel
theorem d_H_order_69 : decode prog_1_method_12_code 69 = .ok (.aaload, 1) := by decide +kernel
theorem d_H_order_70 : decode prog_1_method_12_code 70 = .ok (.aload_n 0, 1) := by decide +kernel
theorem d_H_order_71 : decode prog_1_method_12_code 71 = .ok (.invokevirtual 103, 3) := by decide +kernel
theorem d_H_order_74 : decode prog_1_method_12_code 74 = .ok (.invokevirtual 107, 3) := by decide +kernel
theorem d_H_order_77 : decode prog_1_method_12_code 77 = .ok (.iinc 3 1, 3) := by decide +kernel
theorem d_H_order_80 : decode prog_1_method_12_code 80 = .ok (.goto (-24), 3) := by decide +kernel
theorem d_H_order_83 : decode prog_1_method_12_code 83 = .ok (.iload_n 2, 1) := by decide +kernel
theorem d_H_order_84 : decode prog_1_method_12_code 84 = .ok (.ireturn, 1) := by decide +kernel
def tb_H_order : List (Nat × jm_Op) := [(0, oIl 1 1), (1, oIfLt 9 4), (4, oIl 1 5), (5, oC 2 6), (6, oIcLe 12 9), (9, oC (-2) 11), (12, oAl 0 13), (13, oGi 1 2 16), (16, oIs 2 17), (17, oAl 0 18), (18, oIl 1 19), (19, oPi 1 2 22), (22, oAl 0 23), (23, oC 0 24), (24, oPz 1 8 27), (27, oC 0 28), (28, oIs 3 29), (29, oIl 3 30), (30, oC 40 32), (32, oIcGe 54 35), (35, oAl 0 36), (36, oGr 1 3 10 39), (39, oIl 3 40), (40, oRa 41), (41, oAl 0 42), (48, oInc 3 1 51), (51, oGo 29), (54, oC 0 55), (55, oIs 3 56), (56, oIl 3 57), (57, oAl 0 58), (58, oGi 1 5 61), (61, oIcGe 83 64), (64, oAl 0 65), (65, oGr 1 4 10 68), (68, oIl 3 69), (69, oRa 70), (70, oAl 0 71), (77, oInc 3 1 80), (80, oGo 56), (83, oIl 2 84)]
theorem ok_H_order : jm_all 8 tb_H_order := ⟨s_iload_n d_H_order_0 rfl, s_if_lt d_H_order_1 (by decide), s_iload_n d_H_order_4 rfl, s_iconst d_H_order_5 (by decide), s_icmp_le d_H_order_6 (by decide), s_bipush d_H_order_9 (by decide), s_aload_n d_H_order_12 rfl, s_geti d_H_order_13 ci_H rfl wd_244, s_istore_n d_H_order_16 rfl (by decide), s_aload_n d_H_order_17 rfl, s_iload_n d_H_order_18 rfl, s_puti d_H_order_19 ci_H rfl rfl rfl wd_244, s_aload_n d_H_order_22 rfl, s_iconst d_H_order_23 (by decide), s_putz d_H_order_24 ci_H rfl rfl rfl wd_250, s_iconst d_H_order_27 (by decide), s_istore_n d_H_order_28 rfl (by decide), s_iload_n d_H_order_29 rfl, s_bipush d_H_order_30 (by decide), s_icmp_ge d_H_order_32 (by decide), s_aload_n d_H_order_35 rfl, s_getr d_H_order_36 ci_H rfl wd_245, s_iload_n d_H_order_39 rfl, s_aaload d_H_order_40, s_aload_n d_H_order_41 rfl, s_iinc d_H_order_48 (by decide) (by decide), s_goto d_H_order_51 (by decide), s_iconst d_H_order_54 (by decide), s_istore_n d_H_order_55 rfl (by decide), s_iload_n d_H_order_56 rfl, s_aload_n d_H_order_57 rfl, s_geti d_H_order_58 ci_H rfl wd_247, s_icmp_ge d_H_order_61 (by decide), s_aload_n d_H_order_64 rfl, s_getr d_H_order_65 ci_H rfl wd_246, s_iload_n d_H_order_68 rfl, s_aaload d_H_order_69, s_aload_n d_H_order_70 rfl, s_iinc d_H_order_77 (by decide) (by decide), s_goto d_H_order_80 (by decide), s_iload_n d_H_order_83 rfl, trivial⟩
theorem r_H_order_11 {g : jm_G} {d : Nat} {L : List (Option jm_V)} {σ : jm_S} {K : jm_O → Prop} {v : Int32} (hK : K (σ, .inl (some (aI v)))) : J g d 8 11 L [aI v] σ K := J_iret d_H_order_11 rfl hK
theorem k_H_order_42 {g : jm_G} {d : Nat} {L : List (Option jm_V)} {r : List jm_V} {σ : jm_S} {K K' : jm_O → Prop} {q0 : Nat} (hr : Nat.ble (jm_cs r) 8 = true) (hcal : J g d 9 0 [some (aR 1 q0)] [] σ K') (hk : ∀ u, K' u → jm_aft g (d + 1) 8 42 L r u K) : J g (d + 1) 8 42 L (aR 1 q0 :: r) σ K :=
  J_call' (id' := 9) jm_sk (vs := [aR 1 q0]) (inv_V (id' := 9) d_H_order_42 ci_H wd_296 wd_298 wd_0 cw_H_order2 (by decide) pn_H_order2) cw_H_order2 (by decide) (by decide) (Nat.le_of_ble_eq_true rfl) rfl hr rfl hcal hk
theorem k_H_order_45 {g : jm_G} {d : Nat} {L : List (Option jm_V)} {r : List jm_V} {σ : jm_S} {K K' : jm_O → Prop} {q0 : Nat} {x0 : Nat} (hr : Nat.ble (jm_cs r) 8 = true) (hcal : J g d 10 0 [some (aR 5 q0), some (aR 13 x0), none, none, none, none, none] [] σ K') (hk : ∀ u, K' u → jm_aft g (d + 1) 8 45 L r u K) : J g (d + 1) 8 45 L (aR 13 x0 :: aR 5 q0 :: r) σ K :=
  J_call' (id' := 10) jm_sk (vs := [aR 5 q0, aR 13 x0]) (inv_V (id' := 10) d_H_order_45 ci_P wd_300 wd_301 wd_302 cw_P_sort (by decide) pn_P_sort) cw_P_sort (by decide) (by decide) (Nat.le_of_ble_eq_true rfl) rfl hr rfl hcal hk
theorem k_H_order_71 {g : jm_G} {d : Nat} {L : List (Option jm_V)} {r : List jm_V} {σ : jm_S} {K K' : jm_O → Prop} {q0 : Nat} (hr : Nat.ble (jm_cs r) 8 = true) (hcal : J g d 9 0 [some (aR 1 q0)] [] σ K') (hk : ∀ u, K' u → jm_aft g (d + 1) 8 71 L r u K) : J g (d + 1) 8 71 L (aR 1 q0 :: r) σ K :=
  J_call' (id' := 9) jm_sk (vs := [aR 1 q0]) (inv_V (id' := 9) d_H_order_71 ci_H wd_296 wd_298 wd_0 cw_H_order2 (by decide) pn_H_order2) cw_H_order2 (by decide) (by decide) (Nat.le_of_ble_eq_true rfl) rfl hr rfl hcal hk
theorem k_H_order_74 {g : jm_G} {d : Nat} {L : List (Option jm_V)} {r : List jm_V} {σ : jm_S} {K K' : jm_O → Prop} {q0 : Nat} {x0 : Nat} (hr : Nat.ble (jm_cs r) 8 = true) (hcal : J g d 10 0 [some (aR 5 q0), some (aR 13 x0), none, none, none, none, none] [] σ K') (hk : ∀ u, K' u → jm_aft g (d + 1) 8 74 L r u K) : J g (d + 1) 8 74 L (aR 13 x0 :: aR 5 q0 :: r) σ K :=
  J_call' (id' := 10) jm_sk (vs := [aR 5 q0, aR 13 x0]) (inv_V (id' := 10) d_H_order_74 ci_P wd_300 wd_301 wd_302 cw_P_sort (by decide) pn_P_sort) cw_P_sort (by decide) (by decide) (Nat.le_of_ble_eq_true rfl) rfl hr rfl hcal hk
theorem r_H_order_84 {g : jm_G} {d : Nat} {L : List (Option jm_V)} {σ : jm_S} {K : jm_O → Prop} {v : Int32} (hK : K (σ, .inl (some (aI v)))) : J g d 8 84 L [aI v] σ K := J_iret d_H_order_84 rfl hK
-- IdealProver order ()LIdealProver$Order;
theorem d_H_order2_0 : decode prog_1_method_8_code 0 = .ok (.aload_n 0, 1) := by decide +kernel
theorem d_H_order2_1 : decode prog_1_method_8_code 1 = .ok (.getfield 34, 3) := by decide +kernel
theorem d_H_order2_4 : decode prog_1_method_8_code 4 = .ok (.aload_n 0, 1) := by decide +kernel
theorem d_H_order2_5 : decode prog_1_method_8_code 5 = .ok (.getfield 89, 3) := by decide +kernel
theorem d_H_order2_8 : decode prog_1_method_8_code 8 = .ok (.aaload, 1) := by decide +kernel
theorem d_H_order2_9 : decode prog_1_method_8_code 9 = .ok (.areturn, 1) := by decide +kernel
def tb_H_order2 : List (Nat × jm_Op) := [(0, oAl 0 1), (1, oGr 1 1 12 4), (4, oAl 0 5), (5, oGi 1 2 8), (8, oRa 9)]
theorem ok_H_order2 : jm_all 9 tb_H_order2 := ⟨s_aload_n d_H_order2_0 rfl, s_getr d_H_order2_1 ci_H rfl wd_243, s_aload_n d_H_order2_4 rfl, s_geti d_H_order2_5 ci_H rfl wd_244, s_aaload d_H_order2_8, trivial⟩
theorem r_H_order2_9 {g : jm_G} {d : Nat} {L : List (Option jm_V)} {σ : jm_S} {K : jm_O → Prop} {t q : Nat} (hK : K (σ, .inl (some (aR t q)))) : J g d 9 9 L [aR t q] σ K := J_aret d_H_order2_9 rfl (Or.inl ⟨_, rfl⟩) hK
-- IdealProver exponent (II)I
theorem d_H_exponent_0 : decode prog_1_method_1_code 0 = .ok (.iload_n 0, 1) := by decide +kernel
theorem d_H_exponent_1 : decode prog_1_method_1_code 1 = .ok (.bipush 6, 2) := by decide +kernel
theorem d_H_exponent_3 : decode prog_1_method_1_code 3 = .ok (.iconst 4, 1) := by decide +kernel
theorem d_H_exponent_4 : decode prog_1_method_1_code 4 = .ok (.iload_n 1, 1) := by decide +kernel
theorem d_H_exponent_5 : decode prog_1_method_1_code 5 = .ok (.isub, 1) := by decide +kernel
theorem d_H_exponent_6 : decode prog_1_method_1_code 6 = .ok (.imul, 1) := by decide +kernel
theorem d_H_exponent_7 : decode prog_1_method_1_code 7 = .ok (.ishr, 1) := by decide +kernel
theorem d_H_exponent_8 : decode prog_1_method_1_code 8 = .ok (.bipush 63, 2) := by decide +kernel
theorem d_H_exponent_10 : decode prog_1_method_1_code 10 = .ok (.iand, 1) := by decide +kernel
theorem d_H_exponent_11 : decode prog_1_method_1_code 11 = .ok (.ireturn, 1) := by decide +kernel
def tb_H_exponent : List (Nat × jm_Op) := [(0, oIl 0 1), (1, oC 6 3), (3, oC 4 4), (4, oIl 1 5), (5, oSub 6), (6, oMul 7), (7, oShr 8), (8, oC 63 10), (10, oAnd 11)]
theorem ok_H_exponent : jm_all 14 tb_H_exponent := ⟨s_iload_n d_H_exponent_0 rfl, s_bipush d_H_exponent_1 (by decide), s_iconst d_H_exponent_3 (by decide), s_iload_n d_H_exponent_4 rfl, s_isub d_H_exponent_5, s_imul d_H_exponent_6, s_ishr d_H_exponent_7, s_bipush d_H_exponent_8 (by decide), s_iand d_H_exponent_10, trivial⟩
theorem r_H_exponent_11 {g : jm_G} {d : Nat} {L : List (Option jm_V)} {σ : jm_S} {K : jm_O → Prop} {v : Int32} (hK : K (σ, .inl (some (aI v)))) : J g d 14 11 L [aI v] σ K := J_iret d_H_exponent_11 rfl hK
-- IdealProver term (IIII)I
theorem d_H_term_0 : decode prog_1_method_13_code 0 = .ok (.iload_n 1, 1) := by decide +kernel
theorem d_H_term_1 : decode prog_1_method_13_code 1 = .ok (.invokestatic 114, 3) := by decide +kernel
theorem d_H_term_4 : decode prog_1_method_13_code 4 = .ok (.ifCond .ne 5, 3) := by decide +kernel
theorem d_H_term_7 : decode prog_1_method_13_code 7 = .ok (.iconst (-1), 1) := by decide +kernel
theorem d_H_term_8 : decode prog_1_method_13_code 8 = .ok (.ireturn, 1) := by decide +kernel
theorem d_H_term_9 : decode prog_1_method_13_code 9 = .ok (.iload_n 2, 1) := by decide +kernel
theorem d_H_term_10 : decode prog_1_method_13_code 10 = .ok (.i2l, 1) := by decide +kernel
theorem d_H_term_11 : decode prog_1_method_13_code 11 = .ok (.invokestatic 15, 3) := by decide +kernel
theorem d_H_term_14 : decode prog_1_method_13_code 14 = .ok (.ldc2_w 118, 3) := by decide +kernel
theorem d_H_term_17 : decode prog_1_method_13_code 17 = .ok (.lcmp, 1) := by decide +kernel
theorem d_H_term_18 : decode prog_1_method_13_code 18 = .ok (.ifCond .gt 23, 3) := by decide +kernel
theorem d_H_term_21 : decode prog_1_method_13_code 21 = .ok (.iload_n 3, 1) := by decide +kernel
theorem d_H_term_22 : decode prog_1_method_13_code 22 = .ok (.i2l, 1) := by decide +kernel
theorem d_H_term_23 : decode prog_1_method_13_code 23 = .ok (.invokestatic 15, 3) := by decide +kernel
theorem d_H_term_26 : decode prog_1_method_13_code 26 = .ok (.ldc2_w 118, 3) := by decide +kernel
theorem d_H_term_29 : decode prog_1_method_13_code 29 = .ok (.lcmp, 1) := by decide +kernel
theorem d_H_term_30 : decode prog_1_method_13_code 30 = .ok (.ifCond .gt 11, 3) := by decide +kernel
theorem d_H_term_33 : decode prog_1_method_13_code 33 = .ok (.iload_n 3, 1) := by decide +kernel
theorem d_H_term_34 : decode prog_1_method_13_code 34 = .ok (.ifCond .eq 7, 3) := by decide +kernel
theorem d_H_term_37 : decode prog_1_method_13_code 37 = .ok (.iconst 1, 1) := by decide +kernel
theorem d_H_term_38 : decode prog_1_method_13_code 38 = .ok (.goto 4, 3) := by decide +kernel
theorem d_H_term_41 : decode prog_1_method_13_code 41 = .ok (.iconst 0, 1) := by decide +kernel
theorem d_H_term_42 : decode prog_1_method_13_code 42 = .ok (.istore 5, 2) := by decide +kernel
theorem d_H_term_44 : decode prog_1_method_13_code 44 = .ok (.iconst 0, 1) := by decide +kernel
theorem d_H_term_45 : decode prog_1_method_13_code 45 = .ok (.istore 6, 2) := by decide +kernel
theorem d_H_term_47 : decode prog_1_method_13_code 47 = .ok (.iconst 0, 1) := by decide +kernel
theorem d_H_term_48 : decode prog_1_method_13_code 48 = .ok (.istore 7, 2) := by decide +kernel
theorem d_H_term_50 : decode prog_1_method_13_code 50 = .ok (.iload 7, 2) := by decide +kernel
theorem d_H_term_52 : decode prog_1_method_13_code 52 = .ok (.iconst 4, 1) := by decide +kernel
theorem d_H_term_53 : decode prog_1_method_13_code 53 = .ok (.if_icmp .ge 68, 3) := by decide +kernel
theorem d_H_term_56 : decode prog_1_method_13_code 56 = .ok (.iload 4, 2) := by decide +kernel
theorem d_H_term_58 : decode prog_1_method_13_code 58 = .ok (.bipush 8, 2) := by decide +kernel
theorem d_H_term_60 : decode prog_1_method_13_code 60 = .ok (.iload 7, 2) := by decide +kernel
theorem d_H_term_62 : decode prog_1_method_13_code 62 = .ok (.imul, 1) := by decide +kernel
theorem d_H_term_63 : decode prog_1_method_13_code 63 = .ok (.iushr, 1) := by decide +kernel
theorem d_H_term_64 : decode prog_1_method_13_code 64 = .ok (.sipush 255, 3) := by decide +kernel
theorem d_H_term_67 : decode prog_1_method_13_code 67 = .ok (.iand, 1) := by decide +kernel
theorem d_H_term_68 : decode prog_1_method_13_code 68 = .ok (.istore 8, 2) := by decide +kernel
theorem d_H_term_70 : decode prog_1_method_13_code 70 = .ok (.iload 5, 2) := by decide +kernel
theorem d_H_term_72 : decode prog_1_method_13_code 72 = .ok (.iload 8, 2) := by decide +kernel
theorem d_H_term_74 : decode prog_1_method_13_code 74 = .ok (.iload 7, 2) := by decide +kernel
theorem d_H_term_76 : decode prog_1_method_13_code 76 = .ok (.aload_n 0, 1) := by decide +kernel
theorem d_H_term_77 : decode prog_1_method_13_code 77 = .ok (.getfield 85, 3) := by decide +kernel
theorem d_H_term_80 : decode prog_1_method_13_code 80 = .ok (.if_icmp .ge 8, 3) := by decide +kernel
theorem d_H_term_83 : decode prog_1_method_13_code 83 = .ok (.bipush 30, 2) := by decide +kernel
theorem d_H_term_85 : decode prog_1_method_13_code 85 = .ok (.goto 4, 3) := by decide +kernel
theorem d_H_term_88 : decode prog_1_method_13_code 88 = .ok (.iconst 0, 1) := by decide +kernel
theorem d_H_term_89 : decode prog_1_method_13_code 89 = .ok (.if_icmp .gt 7, 3) := by decide +kernel
theorem d_H_term_92 : decode prog_1_method_13_code 92 = .ok (.iconst 1, 1) := by decide +kernel
theorem d_H_term_93 : decode prog_1_method_13_code 93 = .ok (.goto 4, 3) := by decide +kernel
theorem d_H_term_96 : decode prog_1_method_13_code 96 = .ok (.iconst 0, 1) := by decide +kernel
theorem d_H_term_97 : decode prog_1_method_13_code 97 = .ok (.iand, 1) := by decide +kernel
theorem d_H_term_98 : decode prog_1_method_13_code 98 = .ok (.istore 5, 2) := by decide +kernel
theorem d_H_term_100 : decode prog_1_method_13_code 100 = .ok (.iload 6, 2) := by decide +kernel
theorem d_H_term_102 : decode prog_1_method_13_code 102 = .ok (.iload 7, 2) := by decide +kernel
theorem d_H_term_104 : decode prog_1_method_13_code 104 = .ok (.iload 8, 2) := by decide +kernel
theorem d_H_term_106 : decode prog_1_method_13_code 106 = .ok (.bipush 63, 2) := by decide +kernel
theorem d_H_term_108 : decode prog_1_method_13_code 108 = .ok (.iand, 1) := by decide +kernel
theorem d_H_term_109 : decode prog_1_method_13_code 109 = .ok (.invokestatic 12, 3) := by decide +kernel
theorem d_H_term_112 : decode prog_1_method_13_code 112 = .ok (.ior, 1) := by decide +kernel
theorem d_H_term_113 : decode prog_1_method_13_code 113 = .ok (.istore 6, 2) := by decide +kernel
theorem d_H_term_115 : decode prog_1_method_13_code 115 = .ok (.iinc 7 1, 3) := by decide +kernel
theorem d_H_term_118 : decode prog_1_method_13_code 118 = .ok (.goto (-68), 3) := by decide +kernel
theorem d_H_term_121 : decode prog_1_method_13_code 121 = .ok (.iload 5, 2) := by decide +kernel
theorem d_H_term_123 : decode prog_1_method_13_code 123 = .ok (.ifCond .ne 6, 3) := by decide +kernel
theorem d_H_term_126 : decode prog_1_method_13_code 126 = .ok (.bipush (-2), 2) := by decide +kernel
theorem d_H_term_128 : decode prog_1_method_13_code 128 = .ok (.ireturn, 1) := by decide +kernel
theorem d_H_term_129 : decode prog_1_method_13_code 129 = .ok (.iload_n 2, 1) := by decide +kernel
theorem d_H_term_130 : decode prog_1_method_13_code 130 = .ok (.ifCond .ne 13, 3) := by decide +kernel
theorem d_H_term_133 : decode prog_1_method_13_code 133 = .ok (.aload_n 0, 1) := by decide +kernel
theorem d_H_term_134 : decode prog_1_method_13_code 134 = .ok (.getfield 42, 3) := by decide +kernel
theorem d_H_term_137 : decode prog_1_method_13_code 137 = .ok (.iload_n 1, 1) := by decide +kernel
theorem d_H_term_138 : decode prog_1_method_13_code 138 = .ok (.aaload, 1) := by decide +kernel
theorem d_H_term_139 : decode prog_1_method_13_code 139 = .ok (.getfield 96, 3) := by decide +kernel
theorem d_H_term_142 : decode prog_1_method_13_code 142 = .ok (.ireturn, 1) := by decide +kernel
theorem d_H_term_143 : decode prog_1_method_13_code 143 = .ok (.aload_n 0, 1) := by decide +kernel
theorem d_H_term_144 : decode prog_1_method_13_code 144 = .ok (.getfield 68, 3) := by decide +kernel
theorem d_H_term_147 : decode prog_1_method_13_code 147 = .ok (.aload_n 0, 1) := by decide +kernel
theorem d_H_term_148 : decode prog_1_method_13_code 148 = .ok (.getfield 42, 3) := by decide +kernel
theorem d_H_term_151 : decode prog_1_method_13_code 151 = .ok (.iload_n 1, 1) := by decide +kernel
theorem d_H_term_152 : decode prog_1_method_13_code 152 = .ok (.aaload, 1) := by decide +kernel
theorem d_H_term_153 : decode prog_1_method_13_code 153 = .ok (.invokevirtual 92, 3) := by decide +kernel
theorem d_H_term_156 : decode prog_1_method_13_code 156 = .ok (.aload_n 0, 1) := by decide +kernel
theorem d_H_term_157 : decode prog_1_method_13_code 157 = .ok (.getfield 64, 3) := by decide +kernel
theorem d_H_term_160 : decode prog_1_method_13_code 160 = .ok (.iload_n 2, 1) := by decide +kernel
theorem d_H_term_161 : decode prog_1_method_13_code 161 = .ok (.i2l, 1) := by decide +kernel
theorem d_H_term_162 : decode prog_1_method_13_code 162 = .ok (.iload_n 3, 1) := by decide +kernel
theorem d_H_term_163 : decode prog_1_method_13_code 163 = .ok (.i2l, 1) := by decide +kernel
theorem d_H_term_164 : decode prog_1_method_13_code 164 = .ok (.invokevirtual 120, 3) := by decide +kernel
theorem d_H_term_167 : decode prog_1_method_13_code 167 = .ok (.aload_n 0, 1) := by decide +kernel
theorem d_H_term_168 : decode prog_1_method_13_code 168 = .ok (.getfield 68, 3) := by decide +kernel
theorem d_H_term_171 : decode prog_1_method_13_code 171 = .ok (.aload_n 0, 1) := by decide +kernel
theorem d_H_term_172 : decode prog_1_method_13_code 172 = .ok (.invokevirtual 103, 3) := by decide +kernel
theorem d_H_term_175 : decode prog_1_method_13_code 175 = .ok (.aload_n 0, 1) := by decide +kernel
theorem d_H_term_176 : decode prog_1_method_13_code 176 = .ok (.getfield 64, 3) := by decide +kernel
theorem d_H_term_179 : decode prog_1_method_13_code 179 = .ok (.aload_n 0, 1) := by decide +kernel
theorem d_H_term_180 : decode prog_1_method_13_code 180 = .ok (.getfield 64, 3) := by decide +kernel
theorem d_H_term_183 : decode prog_1_method_13_code 183 = .ok (.getfield 124, 3) := by decide +kernel
theorem d_H_term_186 : decode prog_1_method_13_code 186 = .ok (.aload_n 0, 1) := by decide +kernel
theorem d_H_term_187 : decode prog_1_method_13_code 187 = .ok (.getfield 64, 3) := by decide +kernel
theorem d_H_term_190 : decode prog_1_method_13_code 190 = .ok (.getfield 127, 3) := by decide +kernel
theorem d_H_term_193 : decode prog_1_method_13_code 193 = .ok (.iload 6, 2) := by decide +kernel
theorem d_H_term_195 : decode prog_1_method_13_code 195 = .ok (.invokevirtual 130, 3) := by decide +kernel
theorem d_H_term_198 : decode prog_1_method_13_code 198 = .ok (.goto 11, 3) := by decide +kernel
theorem d_H_term_201 : decode prog_1_method_13_code 201 = .ok (.astore 7, 2) := by decide +kernel
theorem d_H_term_203 : decode prog_1_method_13_code 203 = .ok (.aload 7, 2) := by decide +kernel
theorem d_H_term_205 : decode prog_1_method_13_code 205 = .ok (.getfield 136, 3) := by decide +kernel
theorem d_H_term_208 : decode prog_1_method_13_code 208 = .ok (.ireturn, 1) := by decide +kernel
theorem d_H_term_209 : decode prog_1_method_13_code 209 = .ok (.aload_n 0, 1) := by decide +kernel
theorem d_H_term_210 : decode prog_1_method_13_code 210 = .ok (.aload_n 0, 1) := by decide +kernel
theorem d_H_term_211 : decode prog_1_method_13_code 211 = .ok (.getfield 68, 3) := by decide +kernel
theorem d_H_term_214 : decode prog_1_method_13_code 214 = .ok (.iload_n 1, 1) := by decide +kernel
theorem d_H_term_215 : decode prog_1_method_13_code 215 = .ok (.invokevirtual 139, 3) := by decide +kernel
theorem d_H_term_218 : decode prog_1_method_13_code 218 = .ok (.ireturn, 1) := by decide +kernel
def tb_H_term_0 : List (Nat × jm_Op) := [(0, oIl 1 1), (4, oIfNe 9 7), (7, oC (-1) 8), (9, oIl 2 10), (10, oI2L 11), (11, oAbsL 14), (14, oCL 1000000000 17), (17, oLcmp 18), (18, oIfGt 41 21), (21, oIl 3 22), (22, oI2L 23), (23, oAbsL 26), (26, oCL 1000000000 29), (29, oLcmp 30), (30, oIfGt 41 33), (33, oIl 3 34), (34, oIfEq 41 37), (37, oC 1 38), (38, oGo 42), (41, oC 0 42), (42, oIs 5 44), (44, oC 0 45), (45, oIs 6 47), (47, oC 0 48), (48, oIs 7 50), (50, oIl 7 52), (52, oC 4 53), (53, oIcGe 121 56), (56, oIl 4 58), (58, oC 8 60), (60, oIl 7 62), (62, oMul 63), (63, oUshr 64), (64, oC 255 67), (67, oAnd 68), (68, oIs 8 70), (70, oIl 5 72), (72, oIl 8 74), (74, oIl 7 76), (76, oAl 0 77), (77, oGi 1 0 80), (80, oIcGe 88 83), (83, oC 30 85), (85, oGo 89), (88, oC 0 89), (89, oIcGt 96 92), (92, oC 1 93), (93, oGo 97), (96, oC 0 97), (97, oAnd 98)]
theorem ok_H_term_0 : jm_all 16 tb_H_term_0 := ⟨s_iload_n d_H_term_0 rfl, s_if_ne d_H_term_4 (by decide), s_iconst d_H_term_7 (by decide), s_iload_n d_H_term_9 rfl, s_i2l d_H_term_10, s_absL d_H_term_11 wd_332 wd_333 wd_61 wd_334, s_ldc2 d_H_term_14 wd_335, s_lcmp d_H_term_17, s_if_gt d_H_term_18 (by decide), s_iload_n d_H_term_21 rfl, s_i2l d_H_term_22, s_absL d_H_term_23 wd_332 wd_333 wd_61 wd_334, s_ldc2 d_H_term_26 wd_335, s_lcmp d_H_term_29, s_if_gt d_H_term_30 (by decide), s_iload_n d_H_term_33 rfl, s_if_eq d_H_term_34 (by decide), s_iconst d_H_term_37 (by decide), s_goto d_H_term_38 (by decide), s_iconst d_H_term_41 (by decide), s_istore d_H_term_42 (by decide), s_iconst d_H_term_44 (by decide), s_istore d_H_term_45 (by decide), s_iconst d_H_term_47 (by decide), s_istore d_H_term_48 (by decide), s_iload d_H_term_50, s_iconst d_H_term_52 (by decide), s_icmp_ge d_H_term_53 (by decide), s_iload d_H_term_56, s_bipush d_H_term_58 (by decide), s_iload d_H_term_60, s_imul d_H_term_62, s_iushr d_H_term_63, s_sipush d_H_term_64 (by decide), s_iand d_H_term_67, s_istore d_H_term_68 (by decide), s_iload d_H_term_70, s_iload d_H_term_72, s_iload d_H_term_74, s_aload_n d_H_term_76 rfl, s_geti d_H_term_77 ci_H rfl wd_242, s_icmp_ge d_H_term_80 (by decide), s_bipush d_H_term_83 (by decide), s_goto d_H_term_85 (by decide), s_iconst d_H_term_88 (by decide), s_icmp_gt d_H_term_89 (by decide), s_iconst d_H_term_92 (by decide), s_goto d_H_term_93 (by decide), s_iconst d_H_term_96 (by decide), s_iand d_H_term_97, trivial⟩
def tb_H_term_1 : List (Nat × jm_Op) := [(98, oIs 5 100), (100, oIl 6 102), (102, oIl 7 104), (104, oIl 8 106), (106, oC 63 108), (108, oAnd 109), (112, oOr 113), (113, oIs 6 115), (115, oInc 7 1 118), (118, oGo 50), (121, oIl 5 123), (123, oIfNe 129 126), (126, oC (-2) 128), (129, oIl 2 130), (130, oIfNe 143 133), (133, oAl 0 134), (134, oGr 1 3 10 137), (137, oIl 1 138), (138, oRa 139), (139, oGi 5 0 142), (143, oAl 0 144), (144, oGr 1 11 5 147), (147, oAl 0 148), (148, oGr 1 3 10 151), (151, oIl 1 152), (152, oRa 153), (156, oAl 0 157), (157, oGr 1 10 4 160), (160, oIl 2 161), (161, oI2L 162), (162, oIl 3 163), (163, oI2L 164), (167, oAl 0 168), (168, oGr 1 11 5 171), (171, oAl 0 172), (175, oAl 0 176), (176, oGr 1 10 4 179), (179, oAl 0 180), (180, oGr 1 10 4 183), (183, oGi 4 0 186), (186, oAl 0 187), (187, oGr 1 10 4 190), (190, oGi 4 1 193), (193, oIl 6 195), (198, oGo 209), (201, oAs 7 203), (203, oAl 7 205), (205, oGi 7 0 208), (209, oAl 0 210), (210, oAl 0 211)]
theorem ok_H_term_1 : jm_all 16 tb_H_term_1 := ⟨s_istore d_H_term_98 (by decide), s_iload d_H_term_100, s_iload d_H_term_102, s_iload d_H_term_104, s_bipush d_H_term_106 (by decide), s_iand d_H_term_108, s_ior d_H_term_112, s_istore d_H_term_113 (by decide), s_iinc d_H_term_115 (by decide) (by decide), s_goto d_H_term_118 (by decide), s_iload d_H_term_121, s_if_ne d_H_term_123 (by decide), s_bipush d_H_term_126 (by decide), s_iload_n d_H_term_129 rfl, s_if_ne d_H_term_130 (by decide), s_aload_n d_H_term_133 rfl, s_getr d_H_term_134 ci_H rfl wd_245, s_iload_n d_H_term_137 rfl, s_aaload d_H_term_138, s_getiN d_H_term_139 ci_P rfl wd_100, s_aload_n d_H_term_143 rfl, s_getr d_H_term_144 ci_H rfl wd_253, s_aload_n d_H_term_147 rfl, s_getr d_H_term_148 ci_H rfl wd_245, s_iload_n d_H_term_151 rfl, s_aaload d_H_term_152, s_aload_n d_H_term_156 rfl, s_getr d_H_term_157 ci_H rfl wd_252, s_iload_n d_H_term_160 rfl, s_i2l d_H_term_161, s_iload_n d_H_term_162 rfl, s_i2l d_H_term_163, s_aload_n d_H_term_167 rfl, s_getr d_H_term_168 ci_H rfl wd_253, s_aload_n d_H_term_171 rfl, s_aload_n d_H_term_175 rfl, s_getr d_H_term_176 ci_H rfl wd_252, s_aload_n d_H_term_179 rfl, s_getr d_H_term_180 ci_H rfl wd_252, s_getiN d_H_term_183 ci_F rfl wd_137, s_aload_n d_H_term_186 rfl, s_getr d_H_term_187 ci_H rfl wd_252, s_getiN d_H_term_190 ci_F rfl wd_141, s_iload d_H_term_193, s_goto d_H_term_198 (by decide), s_astore d_H_term_201 (by decide), s_aload d_H_term_203, s_getiN d_H_term_205 ci_S rfl wd_400, s_aload_n d_H_term_209 rfl, s_aload_n d_H_term_210 rfl, trivial⟩
def tb_H_term_2 : List (Nat × jm_Op) := [(211, oGr 1 11 5 214), (214, oIl 1 215)]
theorem ok_H_term_2 : jm_all 16 tb_H_term_2 := ⟨s_getr d_H_term_211 ci_H rfl wd_253, s_iload_n d_H_term_214 rfl, trivial⟩
def tb_H_term : List (Nat × jm_Op) := tb_H_term_0 ++ (tb_H_term_1 ++ tb_H_term_2)
theorem ok_H_term : jm_all 16 tb_H_term := jm_all_app ok_H_term_0 (jm_all_app ok_H_term_1 ok_H_term_2)
theorem k_H_term_1 {g : jm_G} {d : Nat} {L : List (Option jm_V)} {r : List jm_V} {σ : jm_S} {K K' : jm_O → Prop} {x0 : Int32} (hr : Nat.ble (jm_cs r) 8 = true) (hcal : J g d 17 0 [some (aI x0)] [] σ K') (hk : ∀ u, K' u → jm_aft g (d + 1) 16 1 L r u K) : J g (d + 1) 16 1 L (aI x0 :: r) σ K :=
  J_call' (id' := 17) jm_sk (vs := [aI x0]) (inv_S (id' := 17) d_H_term_1 wd_329 wd_330 wd_54 cw_H_isPlace (by decide) pn_H_isPlace) cw_H_isPlace (by decide) (by decide) (Nat.le_of_ble_eq_true rfl) rfl hr rfl hcal hk
theorem r_H_term_8 {g : jm_G} {d : Nat} {L : List (Option jm_V)} {σ : jm_S} {K : jm_O → Prop} {v : Int32} (hK : K (σ, .inl (some (aI v)))) : J g d 16 8 L [aI v] σ K := J_iret d_H_term_8 rfl hK
theorem k_H_term_109 {g : jm_G} {d : Nat} {L : List (Option jm_V)} {r : List jm_V} {σ : jm_S} {K K' : jm_O → Prop} {x0 : Int32} {x1 : Int32} (hr : Nat.ble (jm_cs r) 8 = true) (hcal : J g d 18 0 [some (aI x0), some (aI x1)] [] σ K') (hk : ∀ u, K' u → jm_aft g (d + 1) 16 109 L r u K) : J g (d + 1) 16 109 L (aI x1 :: aI x0 :: r) σ K :=
  J_call' (id' := 18) jm_sk (vs := [aI x0, aI x1]) (inv_S (id' := 18) d_H_term_109 wd_336 wd_337 wd_54 cw_H_power (by decide) pn_H_power) cw_H_power (by decide) (by decide) (Nat.le_of_ble_eq_true rfl) rfl hr rfl hcal hk
theorem r_H_term_128 {g : jm_G} {d : Nat} {L : List (Option jm_V)} {σ : jm_S} {K : jm_O → Prop} {v : Int32} (hK : K (σ, .inl (some (aI v)))) : J g d 16 128 L [aI v] σ K := J_iret d_H_term_128 rfl hK
theorem r_H_term_142 {g : jm_G} {d : Nat} {L : List (Option jm_V)} {σ : jm_S} {K : jm_O → Prop} {v : Int32} (hK : K (σ, .inl (some (aI v)))) : J g d 16 142 L [aI v] σ K := J_iret d_H_term_142 rfl hK
theorem k_H_term_153 {g : jm_G} {d : Nat} {L : List (Option jm_V)} {r : List jm_V} {σ : jm_S} {K K' : jm_O → Prop} {q0 : Nat} {x0 : Nat} (hr : Nat.ble (jm_cs r) 8 = true) (hcal : J g d 19 0 [some (aR 5 q0), some (aR 5 x0)] [] σ K') (hk : ∀ u, K' u → jm_aft g (d + 1) 16 153 L r u K) : J g (d + 1) 16 153 L (aR 5 x0 :: aR 5 q0 :: r) σ K :=
  J_call' (id' := 19) jm_sk (vs := [aR 5 q0, aR 5 x0]) (inv_V (id' := 19) d_H_term_153 ci_P wd_339 wd_340 wd_341 cw_P_become (by decide) pn_P_become) cw_P_become (by decide) (by decide) (Nat.le_of_ble_eq_true rfl) rfl hr rfl hcal hk
theorem k_H_term_164 {g : jm_G} {d : Nat} {L : List (Option jm_V)} {r : List jm_V} {σ : jm_S} {K K' : jm_O → Prop} {q0 : Nat} {x0 : Int64} {x1 : Int64} (hr : Nat.ble (jm_cs r) 8 = true) (hcal : J g d 20 0 [some (aR 4 q0), some (aL x0), none, some (aL x1), none, none, none, none, none, none, none] [] σ K') (hk : ∀ u, K' u → jm_aft g (d + 1) 16 164 L r u K) : J g (d + 1) 16 164 L (aL x1 :: aL x0 :: aR 4 q0 :: r) σ K :=
  J_call' (id' := 20) jm_sk (vs := [aR 4 q0, aL x0, aL x1]) (inv_VN (id' := 20) d_H_term_164 ci_F wd_346 wd_348 wd_1 cw_F_set (by decide) pn_F_set) cw_F_set (by decide) (by decide) (Nat.le_of_ble_eq_true rfl) rfl hr rfl hcal hk
theorem k_H_term_172 {g : jm_G} {d : Nat} {L : List (Option jm_V)} {r : List jm_V} {σ : jm_S} {K K' : jm_O → Prop} {q0 : Nat} (hr : Nat.ble (jm_cs r) 8 = true) (hcal : J g d 9 0 [some (aR 1 q0)] [] σ K') (hk : ∀ u, K' u → jm_aft g (d + 1) 16 172 L r u K) : J g (d + 1) 16 172 L (aR 1 q0 :: r) σ K :=
  J_call' (id' := 9) jm_sk (vs := [aR 1 q0]) (inv_V (id' := 9) d_H_term_172 ci_H wd_296 wd_298 wd_0 cw_H_order2 (by decide) pn_H_order2) cw_H_order2 (by decide) (by decide) (Nat.le_of_ble_eq_true rfl) rfl hr rfl hcal hk
theorem k_H_term_195 {g : jm_G} {d : Nat} {L : List (Option jm_V)} {r : List jm_V} {σ : jm_S} {K K' : jm_O → Prop} {q0 : Nat} {x0 : Nat} {x1 : Nat} {x2 : Int32} {x3 : Int32} {x4 : Int32} (hr : Nat.ble (jm_cs r) 8 = true) (hcal : J g d 23 0 [some (aR 5 q0), some (aR 13 x0), some (aR 4 x1), some (aI x2), some (aI x3), some (aI x4), none] [] σ K') (hk : ∀ u, K' u → jm_aft g (d + 1) 16 195 L r u K) : J g (d + 1) 16 195 L (aI x4 :: aI x3 :: aI x2 :: aR 4 x1 :: aR 13 x0 :: aR 5 q0 :: r) σ K :=
  J_call' (id' := 23) jm_sk (vs := [aR 5 q0, aR 13 x0, aR 4 x1, aI x2, aI x3, aI x4]) (inv_V (id' := 23) d_H_term_195 ci_P wd_415 wd_416 wd_417 cw_P_come (by decide) pn_P_come) cw_P_come (by decide) (by decide) (Nat.le_of_ble_eq_true rfl) rfl hr rfl hcal hk
theorem r_H_term_208 {g : jm_G} {d : Nat} {L : List (Option jm_V)} {σ : jm_S} {K : jm_O → Prop} {v : Int32} (hK : K (σ, .inl (some (aI v)))) : J g d 16 208 L [aI v] σ K := J_iret d_H_term_208 rfl hK
theorem k_H_term_215 {g : jm_G} {d : Nat} {L : List (Option jm_V)} {r : List jm_V} {σ : jm_S} {K K' : jm_O → Prop} {q0 : Nat} {x0 : Nat} {x1 : Int32} (hr : Nat.ble (jm_cs r) 8 = true) (hcal : J g d 27 0 [some (aR 1 q0), some (aR 5 x0), some (aI x1)] [] σ K') (hk : ∀ u, K' u → jm_aft g (d + 1) 16 215 L r u K) : J g (d + 1) 16 215 L (aI x1 :: aR 5 x0 :: aR 1 q0 :: r) σ K :=
  J_call' (id' := 27) jm_sk (vs := [aR 1 q0, aR 5 x0, aI x1]) (inv_V (id' := 27) d_H_term_215 ci_H wd_434 wd_436 wd_5 cw_H_give (by decide) pn_H_give) cw_H_give (by decide) (by decide) (Nat.le_of_ble_eq_true rfl) rfl hr rfl hcal hk
theorem r_H_term_218 {g : jm_G} {d : Nat} {L : List (Option jm_V)} {σ : jm_S} {K : jm_O → Prop} {v : Int32} (hK : K (σ, .inl (some (aI v)))) : J g d 16 218 L [aI v] σ K := J_iret d_H_term_218 rfl hK
-- IdealProver isPlace (I)Z
theorem d_H_isPlace_0 : decode prog_1_method_9_code 0 = .ok (.iload_n 0, 1) := by decide +kernel
theorem d_H_isPlace_1 : decode prog_1_method_9_code 1 = .ok (.ifCond .lt 13, 3) := by decide +kernel
theorem d_H_isPlace_4 : decode prog_1_method_9_code 4 = .ok (.iload_n 0, 1) := by decide +kernel
theorem d_H_isPlace_5 : decode prog_1_method_9_code 5 = .ok (.bipush 40, 2) := by decide +kernel
theorem d_H_isPlace_7 : decode prog_1_method_9_code 7 = .ok (.if_icmp .ge 7, 3) := by decide +kernel
theorem d_H_isPlace_10 : decode prog_1_method_9_code 10 = .ok (.iconst 1, 1) := by decide +kernel
theorem d_H_isPlace_11 : decode prog_1_method_9_code 11 = .ok (.goto 4, 3) := by decide +kernel
theorem d_H_isPlace_14 : decode prog_1_method_9_code 14 = .ok (.iconst 0, 1) := by decide +kernel
theorem d_H_isPlace_15 : decode prog_1_method_9_code 15 = .ok (.ireturn, 1) := by decide +kernel
def tb_H_isPlace : List (Nat × jm_Op) := [(0, oIl 0 1), (1, oIfLt 14 4), (4, oIl 0 5), (5, oC 40 7), (7, oIcGe 14 10), (10, oC 1 11), (11, oGo 15), (14, oC 0 15)]
theorem ok_H_isPlace : jm_all 17 tb_H_isPlace := ⟨s_iload_n d_H_isPlace_0 rfl, s_if_lt d_H_isPlace_1 (by decide), s_iload_n d_H_isPlace_4 rfl, s_bipush d_H_isPlace_5 (by decide), s_icmp_ge d_H_isPlace_7 (by decide), s_iconst d_H_isPlace_10 (by decide), s_goto d_H_isPlace_11 (by decide), s_iconst d_H_isPlace_14 (by decide), trivial⟩
theorem r_H_isPlace_15 {g : jm_G} {d : Nat} {L : List (Option jm_V)} {σ : jm_S} {K : jm_O → Prop} {v : Int32} (hv : v = 0 ∨ v = 1) (hK : K (σ, .inl (some (aI v)))) : J g d 17 15 L [aI v] σ K := J_zret d_H_isPlace_15 rfl hv hK
-- IdealProver power (II)I
theorem d_H_power_0 : decode prog_1_method_2_code 0 = .ok (.iload_n 1, 1) := by decide +kernel
theorem d_H_power_1 : decode prog_1_method_2_code 1 = .ok (.bipush 6, 2) := by decide +kernel
theorem d_H_power_3 : decode prog_1_method_2_code 3 = .ok (.iconst 4, 1) := by decide +kernel
theorem d_H_power_4 : decode prog_1_method_2_code 4 = .ok (.iload_n 0, 1) := by decide +kernel
theorem d_H_power_5 : decode prog_1_method_2_code 5 = .ok (.isub, 1) := by decide +kernel
theorem d_H_power_6 : decode prog_1_method_2_code 6 = .ok (.imul, 1) := by decide +kernel
theorem d_H_power_7 : decode prog_1_method_2_code 7 = .ok (.ishl, 1) := by decide +kernel
theorem d_H_power_8 : decode prog_1_method_2_code 8 = .ok (.ireturn, 1) := by decide +kernel
def tb_H_power : List (Nat × jm_Op) := [(0, oIl 1 1), (1, oC 6 3), (3, oC 4 4), (4, oIl 0 5), (5, oSub 6), (6, oMul 7), (7, oShl 8)]
theorem ok_H_power : jm_all 18 tb_H_power := ⟨s_iload_n d_H_power_0 rfl, s_bipush d_H_power_1 (by decide), s_iconst d_H_power_3 (by decide), s_iload_n d_H_power_4 rfl, s_isub d_H_power_5, s_imul d_H_power_6, s_ishl d_H_power_7, trivial⟩
theorem r_H_power_8 {g : jm_G} {d : Nat} {L : List (Option jm_V)} {σ : jm_S} {K : jm_O → Prop} {v : Int32} (hK : K (σ, .inl (some (aI v)))) : J g d 18 8 L [aI v] σ K := J_iret d_H_power_8 rfl hK
-- IdealProver gcd (JJ)J
theorem d_H_gcd_0 : decode prog_1_method_5_code 0 = .ok (.lload_n 0, 1) := by decide +kernel
theorem d_H_gcd_1 : decode prog_1_method_5_code 1 = .ok (.invokestatic 15, 3) := by decide +kernel
theorem d_H_gcd_4 : decode prog_1_method_5_code 4 = .ok (.lstore 4, 2) := by decide +kernel
theorem d_H_gcd_6 : decode prog_1_method_5_code 6 = .ok (.lload_n 2, 1) := by decide +kernel
theorem d_H_gcd_7 : decode prog_1_method_5_code 7 = .ok (.invokestatic 15, 3) := by decide +kernel
theorem d_H_gcd_10 : decode prog_1_method_5_code 10 = .ok (.lstore 6, 2) := by decide +kernel
theorem d_H_gcd_12 : decode prog_1_method_5_code 12 = .ok (.lload 6, 2) := by decide +kernel
theorem d_H_gcd_14 : decode prog_1_method_5_code 14 = .ok (.lconst 0, 1) := by decide +kernel
theorem d_H_gcd_15 : decode prog_1_method_5_code 15 = .ok (.lcmp, 1) := by decide +kernel
theorem d_H_gcd_16 : decode prog_1_method_5_code 16 = .ok (.ifCond .eq 21, 3) := by decide +kernel
theorem d_H_gcd_19 : decode prog_1_method_5_code 19 = .ok (.lload 4, 2) := by decide +kernel
theorem d_H_gcd_21 : decode prog_1_method_5_code 21 = .ok (.lload 6, 2) := by decide +kernel
theorem d_H_gcd_23 : decode prog_1_method_5_code 23 = .ok (.lrem, 1) := by decide +kernel
theorem d_H_gcd_24 : decode prog_1_method_5_code 24 = .ok (.lstore 8, 2) := by decide +kernel
theorem d_H_gcd_26 : decode prog_1_method_5_code 26 = .ok (.lload 6, 2) := by decide +kernel
theorem d_H_gcd_28 : decode prog_1_method_5_code 28 = .ok (.lstore 4, 2) := by decide +kernel
theorem d_H_gcd_30 : decode prog_1_method_5_code 30 = .ok (.lload 8, 2) := by decide +kernel
theorem d_H_gcd_32 : decode prog_1_method_5_code 32 = .ok (.lstore 6, 2) := by decide +kernel
theorem d_H_gcd_34 : decode prog_1_method_5_code 34 = .ok (.goto (-22), 3) := by decide +kernel
theorem d_H_gcd_37 : decode prog_1_method_5_code 37 = .ok (.lload 4, 2) := by decide +kernel
theorem d_H_gcd_39 : decode prog_1_method_5_code 39 = .ok (.lreturn, 1) := by decide +kernel
def tb_H_gcd : List (Nat × jm_Op) := [(0, oLl 0 1), (1, oAbsL 4), (4, oLs 4 6), (6, oLl 2 7), (7, oAbsL 10), (10, oLs 6 12), (12, oLl 6 14), (14, oCL 0 15), (15, oLcmp 16), (16, oIfEq 37 19), (19, oLl 4 21), (21, oLl 6 23), (23, oLRem 24), (24, oLs 8 26), (26, oLl 6 28), (28, oLs 4 30), (30, oLl 8 32), (32, oLs 6 34), (34, oGo 12), (37, oLl 4 39)]
theorem ok_H_gcd : jm_all 21 tb_H_gcd := ⟨s_lload_n d_H_gcd_0 rfl, s_absL d_H_gcd_1 wd_332 wd_333 wd_61 wd_334, s_lstore d_H_gcd_4 (by decide), s_lload_n d_H_gcd_6 rfl, s_absL d_H_gcd_7 wd_332 wd_333 wd_61 wd_334, s_lstore d_H_gcd_10 (by decide), s_lload d_H_gcd_12, s_lconst d_H_gcd_14 (by decide), s_lcmp d_H_gcd_15, s_if_eq d_H_gcd_16 (by decide), s_lload d_H_gcd_19, s_lload d_H_gcd_21, s_lrem d_H_gcd_23, s_lstore d_H_gcd_24 (by decide), s_lload d_H_gcd_26, s_lstore d_H_gcd_28 (by decide), s_lload d_H_gcd_30, s_lstore d_H_gcd_32 (by decide), s_goto d_H_gcd_34 (by decide), s_lload d_H_gcd_37, trivial⟩
theorem r_H_gcd_39 {g : jm_G} {d : Nat} {L : List (Option jm_V)} {σ : jm_S} {K : jm_O → Prop} {v : Int64} (hK : K (σ, .inl (some (aL v)))) : J g d 21 39 L [aL v] σ K := J_lret d_H_gcd_39 rfl hK
-- IdealProver give (LIdealProver$Poly;I)I
theorem d_H_give_0 : decode prog_1_method_10_code 0 = .ok (.aload_n 0, 1) := by decide +kernel
theorem d_H_give_1 : decode prog_1_method_10_code 1 = .ok (.getfield 42, 3) := by decide +kernel
theorem d_H_give_4 : decode prog_1_method_10_code 4 = .ok (.iload_n 2, 1) := by decide +kernel
theorem d_H_give_5 : decode prog_1_method_10_code 5 = .ok (.aaload, 1) := by decide +kernel
theorem d_H_give_6 : decode prog_1_method_10_code 6 = .ok (.aload_n 1, 1) := by decide +kernel
theorem d_H_give_7 : decode prog_1_method_10_code 7 = .ok (.invokevirtual 92, 3) := by decide +kernel
theorem d_H_give_10 : decode prog_1_method_10_code 10 = .ok (.aload_n 1, 1) := by decide +kernel
theorem d_H_give_11 : decode prog_1_method_10_code 11 = .ok (.getfield 96, 3) := by decide +kernel
theorem d_H_give_14 : decode prog_1_method_10_code 14 = .ok (.ireturn, 1) := by decide +kernel
def tb_H_give : List (Nat × jm_Op) := [(0, oAl 0 1), (1, oGr 1 3 10 4), (4, oIl 2 5), (5, oRa 6), (6, oAl 1 7), (10, oAl 1 11), (11, oGi 5 0 14)]
theorem ok_H_give : jm_all 27 tb_H_give := ⟨s_aload_n d_H_give_0 rfl, s_getr d_H_give_1 ci_H rfl wd_245, s_iload_n d_H_give_4 rfl, s_aaload d_H_give_5, s_aload_n d_H_give_6 rfl, s_aload_n d_H_give_10 rfl, s_getiN d_H_give_11 ci_P rfl wd_100, trivial⟩
theorem k_H_give_7 {g : jm_G} {d : Nat} {L : List (Option jm_V)} {r : List jm_V} {σ : jm_S} {K K' : jm_O → Prop} {q0 : Nat} {x0 : Nat} (hr : Nat.ble (jm_cs r) 8 = true) (hcal : J g d 19 0 [some (aR 5 q0), some (aR 5 x0)] [] σ K') (hk : ∀ u, K' u → jm_aft g (d + 1) 27 7 L r u K) : J g (d + 1) 27 7 L (aR 5 x0 :: aR 5 q0 :: r) σ K :=
  J_call' (id' := 19) jm_sk (vs := [aR 5 q0, aR 5 x0]) (inv_V (id' := 19) d_H_give_7 ci_P wd_339 wd_340 wd_341 cw_P_become (by decide) pn_P_become) cw_P_become (by decide) (by decide) (Nat.le_of_ble_eq_true rfl) rfl hr rfl hcal hk
theorem r_H_give_14 {g : jm_G} {d : Nat} {L : List (Option jm_V)} {σ : jm_S} {K : jm_O → Prop} {v : Int32} (hK : K (σ, .inl (some (aI v)))) : J g d 27 14 L [aI v] σ K := J_iret d_H_give_14 rfl hK
-- IdealProver zero (I)I
theorem d_H_zero_0 : decode prog_1_method_14_code 0 = .ok (.iload_n 1, 1) := by decide +kernel
theorem d_H_zero_1 : decode prog_1_method_14_code 1 = .ok (.invokestatic 114, 3) := by decide +kernel
theorem d_H_zero_4 : decode prog_1_method_14_code 4 = .ok (.ifCond .ne 5, 3) := by decide +kernel
theorem d_H_zero_7 : decode prog_1_method_14_code 7 = .ok (.iconst (-1), 1) := by decide +kernel
theorem d_H_zero_8 : decode prog_1_method_14_code 8 = .ok (.ireturn, 1) := by decide +kernel
theorem d_H_zero_9 : decode prog_1_method_14_code 9 = .ok (.aload_n 0, 1) := by decide +kernel
theorem d_H_zero_10 : decode prog_1_method_14_code 10 = .ok (.getfield 42, 3) := by decide +kernel
theorem d_H_zero_13 : decode prog_1_method_14_code 13 = .ok (.iload_n 1, 1) := by decide +kernel
theorem d_H_zero_14 : decode prog_1_method_14_code 14 = .ok (.aaload, 1) := by decide +kernel
theorem d_H_zero_15 : decode prog_1_method_14_code 15 = .ok (.getfield 96, 3) := by decide +kernel
theorem d_H_zero_18 : decode prog_1_method_14_code 18 = .ok (.istore_n 2, 1) := by decide +kernel
theorem d_H_zero_19 : decode prog_1_method_14_code 19 = .ok (.aload_n 0, 1) := by decide +kernel
theorem d_H_zero_20 : decode prog_1_method_14_code 20 = .ok (.getfield 42, 3) := by decide +kernel
theorem d_H_zero_23 : decode prog_1_method_14_code 23 = .ok (.iload_n 1, 1) := by decide +kernel
theorem d_H_zero_24 : decode prog_1_method_14_code 24 = .ok (.aaload, 1) := by decide +kernel
theorem d_H_zero_25 : decode prog_1_method_14_code 25 = .ok (.iconst 0, 1) := by decide +kernel
theorem d_H_zero_26 : decode prog_1_method_14_code 26 = .ok (.putfield 96, 3) := by decide +kernel
theorem d_H_zero_29 : decode prog_1_method_14_code 29 = .ok (.iload_n 2, 1) := by decide +kernel
theorem d_H_zero_30 : decode prog_1_method_14_code 30 = .ok (.ireturn, 1) := by decide +kernel
def tb_H_zero : List (Nat × jm_Op) := [(0, oIl 1 1), (4, oIfNe 9 7), (7, oC (-1) 8), (9, oAl 0 10), (10, oGr 1 3 10 13), (13, oIl 1 14), (14, oRa 15), (15, oGi 5 0 18), (18, oIs 2 19), (19, oAl 0 20), (20, oGr 1 3 10 23), (23, oIl 1 24), (24, oRa 25), (25, oC 0 26), (26, oPi 5 0 29), (29, oIl 2 30)]
theorem ok_H_zero : jm_all 28 tb_H_zero := ⟨s_iload_n d_H_zero_0 rfl, s_if_ne d_H_zero_4 (by decide), s_iconst d_H_zero_7 (by decide), s_aload_n d_H_zero_9 rfl, s_getr d_H_zero_10 ci_H rfl wd_245, s_iload_n d_H_zero_13 rfl, s_aaload d_H_zero_14, s_getiN d_H_zero_15 ci_P rfl wd_100, s_istore_n d_H_zero_18 rfl (by decide), s_aload_n d_H_zero_19 rfl, s_getr d_H_zero_20 ci_H rfl wd_245, s_iload_n d_H_zero_23 rfl, s_aaload d_H_zero_24, s_iconst d_H_zero_25 (by decide), s_putiN d_H_zero_26 ci_P rfl rfl rfl wd_100, s_iload_n d_H_zero_29 rfl, trivial⟩
theorem k_H_zero_1 {g : jm_G} {d : Nat} {L : List (Option jm_V)} {r : List jm_V} {σ : jm_S} {K K' : jm_O → Prop} {x0 : Int32} (hr : Nat.ble (jm_cs r) 8 = true) (hcal : J g d 17 0 [some (aI x0)] [] σ K') (hk : ∀ u, K' u → jm_aft g (d + 1) 28 1 L r u K) : J g (d + 1) 28 1 L (aI x0 :: r) σ K :=
  J_call' (id' := 17) jm_sk (vs := [aI x0]) (inv_S (id' := 17) d_H_zero_1 wd_329 wd_330 wd_54 cw_H_isPlace (by decide) pn_H_isPlace) cw_H_isPlace (by decide) (by decide) (Nat.le_of_ble_eq_true rfl) rfl hr rfl hcal hk
theorem r_H_zero_8 {g : jm_G} {d : Nat} {L : List (Option jm_V)} {σ : jm_S} {K : jm_O → Prop} {v : Int32} (hK : K (σ, .inl (some (aI v)))) : J g d 28 8 L [aI v] σ K := J_iret d_H_zero_8 rfl hK
theorem r_H_zero_30 {g : jm_G} {d : Nat} {L : List (Option jm_V)} {σ : jm_S} {K : jm_O → Prop} {v : Int32} (hK : K (σ, .inl (some (aI v)))) : J g d 28 30 L [aI v] σ K := J_iret d_H_zero_30 rfl hK
-- IdealProver size (I)I
theorem d_H_size_0 : decode prog_1_method_15_code 0 = .ok (.iload_n 1, 1) := by decide +kernel
theorem d_H_size_1 : decode prog_1_method_15_code 1 = .ok (.invokestatic 114, 3) := by decide +kernel
theorem d_H_size_4 : decode prog_1_method_15_code 4 = .ok (.ifCond .eq 15, 3) := by decide +kernel
theorem d_H_size_7 : decode prog_1_method_15_code 7 = .ok (.aload_n 0, 1) := by decide +kernel
theorem d_H_size_8 : decode prog_1_method_15_code 8 = .ok (.getfield 42, 3) := by decide +kernel
theorem d_H_size_11 : decode prog_1_method_15_code 11 = .ok (.iload_n 1, 1) := by decide +kernel
theorem d_H_size_12 : decode prog_1_method_15_code 12 = .ok (.aaload, 1) := by decide +kernel
theorem d_H_size_13 : decode prog_1_method_15_code 13 = .ok (.getfield 96, 3) := by decide +kernel
theorem d_H_size_16 : decode prog_1_method_15_code 16 = .ok (.goto 4, 3) := by decide +kernel
theorem d_H_size_19 : decode prog_1_method_15_code 19 = .ok (.iconst (-1), 1) := by decide +kernel
theorem d_H_size_20 : decode prog_1_method_15_code 20 = .ok (.ireturn, 1) := by decide +kernel
def tb_H_size : List (Nat × jm_Op) := [(0, oIl 1 1), (4, oIfEq 19 7), (7, oAl 0 8), (8, oGr 1 3 10 11), (11, oIl 1 12), (12, oRa 13), (13, oGi 5 0 16), (16, oGo 20), (19, oC (-1) 20)]
theorem ok_H_size : jm_all 29 tb_H_size := ⟨s_iload_n d_H_size_0 rfl, s_if_eq d_H_size_4 (by decide), s_aload_n d_H_size_7 rfl, s_getr d_H_size_8 ci_H rfl wd_245, s_iload_n d_H_size_11 rfl, s_aaload d_H_size_12, s_getiN d_H_size_13 ci_P rfl wd_100, s_goto d_H_size_16 (by decide), s_iconst d_H_size_19 (by decide), trivial⟩
theorem k_H_size_1 {g : jm_G} {d : Nat} {L : List (Option jm_V)} {r : List jm_V} {σ : jm_S} {K K' : jm_O → Prop} {x0 : Int32} (hr : Nat.ble (jm_cs r) 8 = true) (hcal : J g d 17 0 [some (aI x0)] [] σ K') (hk : ∀ u, K' u → jm_aft g (d + 1) 29 1 L r u K) : J g (d + 1) 29 1 L (aI x0 :: r) σ K :=
  J_call' (id' := 17) jm_sk (vs := [aI x0]) (inv_S (id' := 17) d_H_size_1 wd_329 wd_330 wd_54 cw_H_isPlace (by decide) pn_H_isPlace) cw_H_isPlace (by decide) (by decide) (Nat.le_of_ble_eq_true rfl) rfl hr rfl hcal hk
theorem r_H_size_20 {g : jm_G} {d : Nat} {L : List (Option jm_V)} {σ : jm_S} {K : jm_O → Prop} {v : Int32} (hK : K (σ, .inl (some (aI v)))) : J g d 29 20 L [aI v] σ K := J_iret d_H_size_20 rfl hK
-- IdealProver told (III)I
theorem d_H_told_0 : decode prog_1_method_16_code 0 = .ok (.iload_n 1, 1) := by decide +kernel
theorem d_H_told_1 : decode prog_1_method_16_code 1 = .ok (.invokestatic 114, 3) := by decide +kernel
theorem d_H_told_4 : decode prog_1_method_16_code 4 = .ok (.ifCond .eq 20, 3) := by decide +kernel
theorem d_H_told_7 : decode prog_1_method_16_code 7 = .ok (.iload_n 2, 1) := by decide +kernel
theorem d_H_told_8 : decode prog_1_method_16_code 8 = .ok (.ifCond .lt 16, 3) := by decide +kernel
theorem d_H_told_11 : decode prog_1_method_16_code 11 = .ok (.iload_n 2, 1) := by decide +kernel
theorem d_H_told_12 : decode prog_1_method_16_code 12 = .ok (.aload_n 0, 1) := by decide +kernel
theorem d_H_told_13 : decode prog_1_method_16_code 13 = .ok (.getfield 42, 3) := by decide +kernel
theorem d_H_told_16 : decode prog_1_method_16_code 16 = .ok (.iload_n 1, 1) := by decide +kernel
theorem d_H_told_17 : decode prog_1_method_16_code 17 = .ok (.aaload, 1) := by decide +kernel
theorem d_H_told_18 : decode prog_1_method_16_code 18 = .ok (.getfield 96, 3) := by decide +kernel
theorem d_H_told_21 : decode prog_1_method_16_code 21 = .ok (.if_icmp .lt 5, 3) := by decide +kernel
theorem d_H_told_24 : decode prog_1_method_16_code 24 = .ok (.iconst (-1), 1) := by decide +kernel
theorem d_H_told_25 : decode prog_1_method_16_code 25 = .ok (.ireturn, 1) := by decide +kernel
theorem d_H_told_26 : decode prog_1_method_16_code 26 = .ok (.iload_n 3, 1) := by decide +kernel
theorem d_H_told_27 : decode prog_1_method_16_code 27 = .ok (.tableswitch 97 0 2 #[25, 37, 49], 25) := by decide +kernel
theorem d_H_told_52 : decode prog_1_method_16_code 52 = .ok (.aload_n 0, 1) := by decide +kernel
theorem d_H_told_53 : decode prog_1_method_16_code 53 = .ok (.getfield 42, 3) := by decide +kernel
theorem d_H_told_56 : decode prog_1_method_16_code 56 = .ok (.iload_n 1, 1) := by decide +kernel
theorem d_H_told_57 : decode prog_1_method_16_code 57 = .ok (.aaload, 1) := by decide +kernel
theorem d_H_told_58 : decode prog_1_method_16_code 58 = .ok (.getfield 143, 3) := by decide +kernel
theorem d_H_told_61 : decode prog_1_method_16_code 61 = .ok (.iload_n 2, 1) := by decide +kernel
theorem d_H_told_62 : decode prog_1_method_16_code 62 = .ok (.iaload, 1) := by decide +kernel
theorem d_H_told_63 : decode prog_1_method_16_code 63 = .ok (.ireturn, 1) := by decide +kernel
theorem d_H_told_64 : decode prog_1_method_16_code 64 = .ok (.aload_n 0, 1) := by decide +kernel
theorem d_H_told_65 : decode prog_1_method_16_code 65 = .ok (.getfield 42, 3) := by decide +kernel
theorem d_H_told_68 : decode prog_1_method_16_code 68 = .ok (.iload_n 1, 1) := by decide +kernel
theorem d_H_told_69 : decode prog_1_method_16_code 69 = .ok (.aaload, 1) := by decide +kernel
theorem d_H_told_70 : decode prog_1_method_16_code 70 = .ok (.getfield 145, 3) := by decide +kernel
theorem d_H_told_73 : decode prog_1_method_16_code 73 = .ok (.iload_n 2, 1) := by decide +kernel
theorem d_H_told_74 : decode prog_1_method_16_code 74 = .ok (.iaload, 1) := by decide +kernel
theorem d_H_told_75 : decode prog_1_method_16_code 75 = .ok (.ireturn, 1) := by decide +kernel
theorem d_H_told_76 : decode prog_1_method_16_code 76 = .ok (.iconst 0, 1) := by decide +kernel
theorem d_H_told_77 : decode prog_1_method_16_code 77 = .ok (.istore 4, 2) := by decide +kernel
theorem d_H_told_79 : decode prog_1_method_16_code 79 = .ok (.iconst 0, 1) := by decide +kernel
theorem d_H_told_80 : decode prog_1_method_16_code 80 = .ok (.istore 5, 2) := by decide +kernel
theorem d_H_told_82 : decode prog_1_method_16_code 82 = .ok (.iload 5, 2) := by decide +kernel
theorem d_H_told_84 : decode prog_1_method_16_code 84 = .ok (.iconst 4, 1) := by decide +kernel
theorem d_H_told_85 : decode prog_1_method_16_code 85 = .ok (.if_icmp .ge 36, 3) := by decide +kernel
theorem d_H_told_88 : decode prog_1_method_16_code 88 = .ok (.iload 4, 2) := by decide +kernel
theorem d_H_told_90 : decode prog_1_method_16_code 90 = .ok (.aload_n 0, 1) := by decide +kernel
theorem d_H_told_91 : decode prog_1_method_16_code 91 = .ok (.getfield 42, 3) := by decide +kernel
theorem d_H_told_94 : decode prog_1_method_16_code 94 = .ok (.iload_n 1, 1) := by decide +kernel
theorem d_H_told_95 : decode prog_1_method_16_code 95 = .ok (.aaload, 1) := by decide +kernel
theorem d_H_told_96 : decode prog_1_method_16_code 96 = .ok (.getfield 147, 3) := by decide +kernel
theorem d_H_told_99 : decode prog_1_method_16_code 99 = .ok (.iload_n 2, 1) := by decide +kernel
theorem d_H_told_100 : decode prog_1_method_16_code 100 = .ok (.iaload, 1) := by decide +kernel
theorem d_H_told_101 : decode prog_1_method_16_code 101 = .ok (.iload 5, 2) := by decide +kernel
theorem d_H_told_103 : decode prog_1_method_16_code 103 = .ok (.invokestatic 1, 3) := by decide +kernel
theorem d_H_told_106 : decode prog_1_method_16_code 106 = .ok (.bipush 8, 2) := by decide +kernel
theorem d_H_told_108 : decode prog_1_method_16_code 108 = .ok (.iload 5, 2) := by decide +kernel
theorem d_H_told_110 : decode prog_1_method_16_code 110 = .ok (.imul, 1) := by decide +kernel
theorem d_H_told_111 : decode prog_1_method_16_code 111 = .ok (.ishl, 1) := by decide +kernel
theorem d_H_told_112 : decode prog_1_method_16_code 112 = .ok (.ior, 1) := by decide +kernel
theorem d_H_told_113 : decode prog_1_method_16_code 113 = .ok (.istore 4, 2) := by decide +kernel
theorem d_H_told_115 : decode prog_1_method_16_code 115 = .ok (.iinc 5 1, 3) := by decide +kernel
theorem d_H_told_118 : decode prog_1_method_16_code 118 = .ok (.goto (-36), 3) := by decide +kernel
theorem d_H_told_121 : decode prog_1_method_16_code 121 = .ok (.iload 4, 2) := by decide +kernel
theorem d_H_told_123 : decode prog_1_method_16_code 123 = .ok (.ireturn, 1) := by decide +kernel
theorem d_H_told_124 : decode prog_1_method_16_code 124 = .ok (.bipush (-2), 2) := by decide +kernel
theorem d_H_told_126 : decode prog_1_method_16_code 126 = .ok (.ireturn, 1) := by decide +kernel
def tb_H_told_0 : List (Nat × jm_Op) := [(0, oIl 1 1), (4, oIfEq 24 7), (7, oIl 2 8), (8, oIfLt 24 11), (11, oIl 2 12), (12, oAl 0 13), (13, oGr 1 3 10 16), (16, oIl 1 17), (17, oRa 18), (18, oGi 5 0 21), (21, oIcLt 26 24), (24, oC (-1) 25), (26, oIl 3 27), (27, oTsw [52, 64, 76] 124), (52, oAl 0 53), (53, oGr 1 3 10 56), (56, oIl 1 57), (57, oRa 58), (58, oGr 5 1 8 61), (61, oIl 2 62), (62, oIa 63), (64, oAl 0 65), (65, oGr 1 3 10 68), (68, oIl 1 69), (69, oRa 70), (70, oGr 5 2 8 73), (73, oIl 2 74), (74, oIa 75), (76, oC 0 77), (77, oIs 4 79), (79, oC 0 80), (80, oIs 5 82), (82, oIl 5 84), (84, oC 4 85), (85, oIcGe 121 88), (88, oIl 4 90), (90, oAl 0 91), (91, oGr 1 3 10 94), (94, oIl 1 95), (95, oRa 96), (96, oGr 5 3 8 99), (99, oIl 2 100), (100, oIa 101), (101, oIl 5 103), (106, oC 8 108), (108, oIl 5 110), (110, oMul 111), (111, oShl 112), (112, oOr 113), (113, oIs 4 115)]
theorem ok_H_told_0 : jm_all 30 tb_H_told_0 := ⟨s_iload_n d_H_told_0 rfl, s_if_eq d_H_told_4 (by decide), s_iload_n d_H_told_7 rfl, s_if_lt d_H_told_8 (by decide), s_iload_n d_H_told_11 rfl, s_aload_n d_H_told_12 rfl, s_getr d_H_told_13 ci_H rfl wd_245, s_iload_n d_H_told_16 rfl, s_aaload d_H_told_17, s_getiN d_H_told_18 ci_P rfl wd_100, s_icmp_lt d_H_told_21 (by decide), s_iconst d_H_told_24 (by decide), s_iload_n d_H_told_26 rfl, s_tsw d_H_told_27 (by decide) (by decide) (by decide) (by decide), s_aload_n d_H_told_52 rfl, s_getr d_H_told_53 ci_H rfl wd_245, s_iload_n d_H_told_56 rfl, s_aaload d_H_told_57, s_getrN d_H_told_58 ci_P rfl wd_104, s_iload_n d_H_told_61 rfl, s_iaload d_H_told_62, s_aload_n d_H_told_64 rfl, s_getr d_H_told_65 ci_H rfl wd_245, s_iload_n d_H_told_68 rfl, s_aaload d_H_told_69, s_getrN d_H_told_70 ci_P rfl wd_108, s_iload_n d_H_told_73 rfl, s_iaload d_H_told_74, s_iconst d_H_told_76 (by decide), s_istore d_H_told_77 (by decide), s_iconst d_H_told_79 (by decide), s_istore d_H_told_80 (by decide), s_iload d_H_told_82, s_iconst d_H_told_84 (by decide), s_icmp_ge d_H_told_85 (by decide), s_iload d_H_told_88, s_aload_n d_H_told_90 rfl, s_getr d_H_told_91 ci_H rfl wd_245, s_iload_n d_H_told_94 rfl, s_aaload d_H_told_95, s_getrN d_H_told_96 ci_P rfl wd_111, s_iload_n d_H_told_99 rfl, s_iaload d_H_told_100, s_iload d_H_told_101, s_bipush d_H_told_106 (by decide), s_iload d_H_told_108, s_imul d_H_told_110, s_ishl d_H_told_111, s_ior d_H_told_112, s_istore d_H_told_113 (by decide), trivial⟩
def tb_H_told_1 : List (Nat × jm_Op) := [(115, oInc 5 1 118), (118, oGo 82), (121, oIl 4 123), (124, oC (-2) 126)]
theorem ok_H_told_1 : jm_all 30 tb_H_told_1 := ⟨s_iinc d_H_told_115 (by decide) (by decide), s_goto d_H_told_118 (by decide), s_iload d_H_told_121, s_bipush d_H_told_124 (by decide), trivial⟩
def tb_H_told : List (Nat × jm_Op) := tb_H_told_0 ++ tb_H_told_1
theorem ok_H_told : jm_all 30 tb_H_told := jm_all_app ok_H_told_0 ok_H_told_1
theorem k_H_told_1 {g : jm_G} {d : Nat} {L : List (Option jm_V)} {r : List jm_V} {σ : jm_S} {K K' : jm_O → Prop} {x0 : Int32} (hr : Nat.ble (jm_cs r) 8 = true) (hcal : J g d 17 0 [some (aI x0)] [] σ K') (hk : ∀ u, K' u → jm_aft g (d + 1) 30 1 L r u K) : J g (d + 1) 30 1 L (aI x0 :: r) σ K :=
  J_call' (id' := 17) jm_sk (vs := [aI x0]) (inv_S (id' := 17) d_H_told_1 wd_329 wd_330 wd_54 cw_H_isPlace (by decide) pn_H_isPlace) cw_H_isPlace (by decide) (by decide) (Nat.le_of_ble_eq_true rfl) rfl hr rfl hcal hk
theorem r_H_told_25 {g : jm_G} {d : Nat} {L : List (Option jm_V)} {σ : jm_S} {K : jm_O → Prop} {v : Int32} (hK : K (σ, .inl (some (aI v)))) : J g d 30 25 L [aI v] σ K := J_iret d_H_told_25 rfl hK
theorem r_H_told_63 {g : jm_G} {d : Nat} {L : List (Option jm_V)} {σ : jm_S} {K : jm_O → Prop} {v : Int32} (hK : K (σ, .inl (some (aI v)))) : J g d 30 63 L [aI v] σ K := J_iret d_H_told_63 rfl hK
theorem r_H_told_75 {g : jm_G} {d : Nat} {L : List (Option jm_V)} {σ : jm_S} {K : jm_O → Prop} {v : Int32} (hK : K (σ, .inl (some (aI v)))) : J g d 30 75 L [aI v] σ K := J_iret d_H_told_75 rfl hK
theorem k_H_told_103 {g : jm_G} {d : Nat} {L : List (Option jm_V)} {r : List jm_V} {σ : jm_S} {K K' : jm_O → Prop} {x0 : Int32} {x1 : Int32} (hr : Nat.ble (jm_cs r) 8 = true) (hcal : J g d 14 0 [some (aI x0), some (aI x1)] [] σ K') (hk : ∀ u, K' u → jm_aft g (d + 1) 30 103 L r u K) : J g (d + 1) 30 103 L (aI x1 :: aI x0 :: r) σ K :=
  J_call' (id' := 14) jm_sk (vs := [aI x0, aI x1]) (inv_S (id' := 14) d_H_told_103 wd_450 wd_317 wd_54 cw_H_exponent (by decide) pn_H_exponent) cw_H_exponent (by decide) (by decide) (Nat.le_of_ble_eq_true rfl) rfl hr rfl hcal hk
theorem r_H_told_123 {g : jm_G} {d : Nat} {L : List (Option jm_V)} {σ : jm_S} {K : jm_O → Prop} {v : Int32} (hK : K (σ, .inl (some (aI v)))) : J g d 30 123 L [aI v] σ K := J_iret d_H_told_123 rfl hK
theorem r_H_told_126 {g : jm_G} {d : Nat} {L : List (Option jm_V)} {σ : jm_S} {K : jm_O → Prop} {v : Int32} (hK : K (σ, .inl (some (aI v)))) : J g d 30 126 L [aI v] σ K := J_iret d_H_told_126 rfl hK
-- IdealProver plus (III)I
theorem d_H_plus_0 : decode prog_1_method_17_code 0 = .ok (.iload_n 1, 1) := by decide +kernel
theorem d_H_plus_1 : decode prog_1_method_17_code 1 = .ok (.invokestatic 114, 3) := by decide +kernel
theorem d_H_plus_4 : decode prog_1_method_17_code 4 = .ok (.ifCond .eq 17, 3) := by decide +kernel
theorem d_H_plus_7 : decode prog_1_method_17_code 7 = .ok (.iload_n 2, 1) := by decide +kernel
theorem d_H_plus_8 : decode prog_1_method_17_code 8 = .ok (.invokestatic 114, 3) := by decide +kernel
theorem d_H_plus_11 : decode prog_1_method_17_code 11 = .ok (.ifCond .eq 10, 3) := by decide +kernel
theorem d_H_plus_14 : decode prog_1_method_17_code 14 = .ok (.iload_n 3, 1) := by decide +kernel
theorem d_H_plus_15 : decode prog_1_method_17_code 15 = .ok (.invokestatic 114, 3) := by decide +kernel
theorem d_H_plus_18 : decode prog_1_method_17_code 18 = .ok (.ifCond .ne 5, 3) := by decide +kernel
theorem d_H_plus_21 : decode prog_1_method_17_code 21 = .ok (.iconst (-1), 1) := by decide +kernel
theorem d_H_plus_22 : decode prog_1_method_17_code 22 = .ok (.ireturn, 1) := by decide +kernel
theorem d_H_plus_23 : decode prog_1_method_17_code 23 = .ok (.aload_n 0, 1) := by decide +kernel
theorem d_H_plus_24 : decode prog_1_method_17_code 24 = .ok (.getfield 68, 3) := by decide +kernel
theorem d_H_plus_27 : decode prog_1_method_17_code 27 = .ok (.aload_n 0, 1) := by decide +kernel
theorem d_H_plus_28 : decode prog_1_method_17_code 28 = .ok (.getfield 42, 3) := by decide +kernel
theorem d_H_plus_31 : decode prog_1_method_17_code 31 = .ok (.iload_n 1, 1) := by decide +kernel
theorem d_H_plus_32 : decode prog_1_method_17_code 32 = .ok (.aaload, 1) := by decide +kernel
theorem d_H_plus_33 : decode prog_1_method_17_code 33 = .ok (.invokevirtual 92, 3) := by decide +kernel
theorem d_H_plus_36 : decode prog_1_method_17_code 36 = .ok (.aload_n 0, 1) := by decide +kernel
theorem d_H_plus_37 : decode prog_1_method_17_code 37 = .ok (.getfield 68, 3) := by decide +kernel
theorem d_H_plus_40 : decode prog_1_method_17_code 40 = .ok (.aload_n 0, 1) := by decide +kernel
theorem d_H_plus_41 : decode prog_1_method_17_code 41 = .ok (.invokevirtual 103, 3) := by decide +kernel
theorem d_H_plus_44 : decode prog_1_method_17_code 44 = .ok (.aload_n 0, 1) := by decide +kernel
theorem d_H_plus_45 : decode prog_1_method_17_code 45 = .ok (.getfield 64, 3) := by decide +kernel
theorem d_H_plus_48 : decode prog_1_method_17_code 48 = .ok (.iconst 1, 1) := by decide +kernel
theorem d_H_plus_49 : decode prog_1_method_17_code 49 = .ok (.iconst 1, 1) := by decide +kernel
theorem d_H_plus_50 : decode prog_1_method_17_code 50 = .ok (.iconst 0, 1) := by decide +kernel
theorem d_H_plus_51 : decode prog_1_method_17_code 51 = .ok (.aload_n 0, 1) := by decide +kernel
theorem d_H_plus_52 : decode prog_1_method_17_code 52 = .ok (.getfield 42, 3) := by decide +kernel
theorem d_H_plus_55 : decode prog_1_method_17_code 55 = .ok (.iload_n 2, 1) := by decide +kernel
theorem d_H_plus_56 : decode prog_1_method_17_code 56 = .ok (.aaload, 1) := by decide +kernel
theorem d_H_plus_57 : decode prog_1_method_17_code 57 = .ok (.invokevirtual 150, 3) := by decide +kernel
theorem d_H_plus_60 : decode prog_1_method_17_code 60 = .ok (.goto 11, 3) := by decide +kernel
theorem d_H_plus_63 : decode prog_1_method_17_code 63 = .ok (.astore 4, 2) := by decide +kernel
theorem d_H_plus_65 : decode prog_1_method_17_code 65 = .ok (.aload 4, 2) := by decide +kernel
theorem d_H_plus_67 : decode prog_1_method_17_code 67 = .ok (.getfield 136, 3) := by decide +kernel
theorem d_H_plus_70 : decode prog_1_method_17_code 70 = .ok (.ireturn, 1) := by decide +kernel
theorem d_H_plus_71 : decode prog_1_method_17_code 71 = .ok (.aload_n 0, 1) := by decide +kernel
theorem d_H_plus_72 : decode prog_1_method_17_code 72 = .ok (.aload_n 0, 1) := by decide +kernel
theorem d_H_plus_73 : decode prog_1_method_17_code 73 = .ok (.getfield 68, 3) := by decide +kernel
theorem d_H_plus_76 : decode prog_1_method_17_code 76 = .ok (.iload_n 3, 1) := by decide +kernel
theorem d_H_plus_77 : decode prog_1_method_17_code 77 = .ok (.invokevirtual 139, 3) := by decide +kernel
theorem d_H_plus_80 : decode prog_1_method_17_code 80 = .ok (.ireturn, 1) := by decide +kernel
def tb_H_plus : List (Nat × jm_Op) := [(0, oIl 1 1), (4, oIfEq 21 7), (7, oIl 2 8), (11, oIfEq 21 14), (14, oIl 3 15), (18, oIfNe 23 21), (21, oC (-1) 22), (23, oAl 0 24), (24, oGr 1 11 5 27), (27, oAl 0 28), (28, oGr 1 3 10 31), (31, oIl 1 32), (32, oRa 33), (36, oAl 0 37), (37, oGr 1 11 5 40), (40, oAl 0 41), (44, oAl 0 45), (45, oGr 1 10 4 48), (48, oC 1 49), (49, oC 1 50), (50, oC 0 51), (51, oAl 0 52), (52, oGr 1 3 10 55), (55, oIl 2 56), (56, oRa 57), (60, oGo 71), (63, oAs 4 65), (65, oAl 4 67), (67, oGi 7 0 70), (71, oAl 0 72), (72, oAl 0 73), (73, oGr 1 11 5 76), (76, oIl 3 77)]
theorem ok_H_plus : jm_all 31 tb_H_plus := ⟨s_iload_n d_H_plus_0 rfl, s_if_eq d_H_plus_4 (by decide), s_iload_n d_H_plus_7 rfl, s_if_eq d_H_plus_11 (by decide), s_iload_n d_H_plus_14 rfl, s_if_ne d_H_plus_18 (by decide), s_iconst d_H_plus_21 (by decide), s_aload_n d_H_plus_23 rfl, s_getr d_H_plus_24 ci_H rfl wd_253, s_aload_n d_H_plus_27 rfl, s_getr d_H_plus_28 ci_H rfl wd_245, s_iload_n d_H_plus_31 rfl, s_aaload d_H_plus_32, s_aload_n d_H_plus_36 rfl, s_getr d_H_plus_37 ci_H rfl wd_253, s_aload_n d_H_plus_40 rfl, s_aload_n d_H_plus_44 rfl, s_getr d_H_plus_45 ci_H rfl wd_252, s_iconst d_H_plus_48 (by decide), s_iconst d_H_plus_49 (by decide), s_iconst d_H_plus_50 (by decide), s_aload_n d_H_plus_51 rfl, s_getr d_H_plus_52 ci_H rfl wd_245, s_iload_n d_H_plus_55 rfl, s_aaload d_H_plus_56, s_goto d_H_plus_60 (by decide), s_astore d_H_plus_63 (by decide), s_aload d_H_plus_65, s_getiN d_H_plus_67 ci_S rfl wd_400, s_aload_n d_H_plus_71 rfl, s_aload_n d_H_plus_72 rfl, s_getr d_H_plus_73 ci_H rfl wd_253, s_iload_n d_H_plus_76 rfl, trivial⟩
theorem k_H_plus_1 {g : jm_G} {d : Nat} {L : List (Option jm_V)} {r : List jm_V} {σ : jm_S} {K K' : jm_O → Prop} {x0 : Int32} (hr : Nat.ble (jm_cs r) 8 = true) (hcal : J g d 17 0 [some (aI x0)] [] σ K') (hk : ∀ u, K' u → jm_aft g (d + 1) 31 1 L r u K) : J g (d + 1) 31 1 L (aI x0 :: r) σ K :=
  J_call' (id' := 17) jm_sk (vs := [aI x0]) (inv_S (id' := 17) d_H_plus_1 wd_329 wd_330 wd_54 cw_H_isPlace (by decide) pn_H_isPlace) cw_H_isPlace (by decide) (by decide) (Nat.le_of_ble_eq_true rfl) rfl hr rfl hcal hk
theorem k_H_plus_8 {g : jm_G} {d : Nat} {L : List (Option jm_V)} {r : List jm_V} {σ : jm_S} {K K' : jm_O → Prop} {x0 : Int32} (hr : Nat.ble (jm_cs r) 8 = true) (hcal : J g d 17 0 [some (aI x0)] [] σ K') (hk : ∀ u, K' u → jm_aft g (d + 1) 31 8 L r u K) : J g (d + 1) 31 8 L (aI x0 :: r) σ K :=
  J_call' (id' := 17) jm_sk (vs := [aI x0]) (inv_S (id' := 17) d_H_plus_8 wd_329 wd_330 wd_54 cw_H_isPlace (by decide) pn_H_isPlace) cw_H_isPlace (by decide) (by decide) (Nat.le_of_ble_eq_true rfl) rfl hr rfl hcal hk
theorem k_H_plus_15 {g : jm_G} {d : Nat} {L : List (Option jm_V)} {r : List jm_V} {σ : jm_S} {K K' : jm_O → Prop} {x0 : Int32} (hr : Nat.ble (jm_cs r) 8 = true) (hcal : J g d 17 0 [some (aI x0)] [] σ K') (hk : ∀ u, K' u → jm_aft g (d + 1) 31 15 L r u K) : J g (d + 1) 31 15 L (aI x0 :: r) σ K :=
  J_call' (id' := 17) jm_sk (vs := [aI x0]) (inv_S (id' := 17) d_H_plus_15 wd_329 wd_330 wd_54 cw_H_isPlace (by decide) pn_H_isPlace) cw_H_isPlace (by decide) (by decide) (Nat.le_of_ble_eq_true rfl) rfl hr rfl hcal hk
theorem r_H_plus_22 {g : jm_G} {d : Nat} {L : List (Option jm_V)} {σ : jm_S} {K : jm_O → Prop} {v : Int32} (hK : K (σ, .inl (some (aI v)))) : J g d 31 22 L [aI v] σ K := J_iret d_H_plus_22 rfl hK
theorem k_H_plus_33 {g : jm_G} {d : Nat} {L : List (Option jm_V)} {r : List jm_V} {σ : jm_S} {K K' : jm_O → Prop} {q0 : Nat} {x0 : Nat} (hr : Nat.ble (jm_cs r) 8 = true) (hcal : J g d 19 0 [some (aR 5 q0), some (aR 5 x0)] [] σ K') (hk : ∀ u, K' u → jm_aft g (d + 1) 31 33 L r u K) : J g (d + 1) 31 33 L (aR 5 x0 :: aR 5 q0 :: r) σ K :=
  J_call' (id' := 19) jm_sk (vs := [aR 5 q0, aR 5 x0]) (inv_V (id' := 19) d_H_plus_33 ci_P wd_339 wd_340 wd_341 cw_P_become (by decide) pn_P_become) cw_P_become (by decide) (by decide) (Nat.le_of_ble_eq_true rfl) rfl hr rfl hcal hk
theorem k_H_plus_41 {g : jm_G} {d : Nat} {L : List (Option jm_V)} {r : List jm_V} {σ : jm_S} {K K' : jm_O → Prop} {q0 : Nat} (hr : Nat.ble (jm_cs r) 8 = true) (hcal : J g d 9 0 [some (aR 1 q0)] [] σ K') (hk : ∀ u, K' u → jm_aft g (d + 1) 31 41 L r u K) : J g (d + 1) 31 41 L (aR 1 q0 :: r) σ K :=
  J_call' (id' := 9) jm_sk (vs := [aR 1 q0]) (inv_V (id' := 9) d_H_plus_41 ci_H wd_296 wd_298 wd_0 cw_H_order2 (by decide) pn_H_order2) cw_H_order2 (by decide) (by decide) (Nat.le_of_ble_eq_true rfl) rfl hr rfl hcal hk
theorem k_H_plus_57 {g : jm_G} {d : Nat} {L : List (Option jm_V)} {r : List jm_V} {σ : jm_S} {K K' : jm_O → Prop} {q0 : Nat} {x0 : Nat} {x1 : Nat} {x2 : Int32} {x3 : Int32} {x4 : Int32} {x5 : Nat} (hr : Nat.ble (jm_cs r) 8 = true) (hcal : J g d 32 0 [some (aR 5 q0), some (aR 13 x0), some (aR 4 x1), some (aI x2), some (aI x3), some (aI x4), some (aR 5 x5), none, none] [] σ K') (hk : ∀ u, K' u → jm_aft g (d + 1) 31 57 L r u K) : J g (d + 1) 31 57 L (aR 5 x5 :: aI x4 :: aI x3 :: aI x2 :: aR 4 x1 :: aR 13 x0 :: aR 5 q0 :: r) σ K :=
  J_call' (id' := 32) jm_sk (vs := [aR 5 q0, aR 13 x0, aR 4 x1, aI x2, aI x3, aI x4, aR 5 x5]) (inv_V (id' := 32) d_H_plus_57 ci_P wd_455 wd_456 wd_457 cw_P_plus (by decide) pn_P_plus) cw_P_plus (by decide) (by decide) (Nat.le_of_ble_eq_true rfl) rfl hr rfl hcal hk
theorem r_H_plus_70 {g : jm_G} {d : Nat} {L : List (Option jm_V)} {σ : jm_S} {K : jm_O → Prop} {v : Int32} (hK : K (σ, .inl (some (aI v)))) : J g d 31 70 L [aI v] σ K := J_iret d_H_plus_70 rfl hK
theorem k_H_plus_77 {g : jm_G} {d : Nat} {L : List (Option jm_V)} {r : List jm_V} {σ : jm_S} {K K' : jm_O → Prop} {q0 : Nat} {x0 : Nat} {x1 : Int32} (hr : Nat.ble (jm_cs r) 8 = true) (hcal : J g d 27 0 [some (aR 1 q0), some (aR 5 x0), some (aI x1)] [] σ K') (hk : ∀ u, K' u → jm_aft g (d + 1) 31 77 L r u K) : J g (d + 1) 31 77 L (aI x1 :: aR 5 x0 :: aR 1 q0 :: r) σ K :=
  J_call' (id' := 27) jm_sk (vs := [aR 1 q0, aR 5 x0, aI x1]) (inv_V (id' := 27) d_H_plus_77 ci_H wd_434 wd_436 wd_5 cw_H_give (by decide) pn_H_give) cw_H_give (by decide) (by decide) (Nat.le_of_ble_eq_true rfl) rfl hr rfl hcal hk
theorem r_H_plus_80 {g : jm_G} {d : Nat} {L : List (Option jm_V)} {σ : jm_S} {K : jm_O → Prop} {v : Int32} (hK : K (σ, .inl (some (aI v)))) : J g d 31 80 L [aI v] σ K := J_iret d_H_plus_80 rfl hK
-- IdealProver times (III)I
theorem d_H_times_0 : decode prog_1_method_19_code 0 = .ok (.iload_n 1, 1) := by decide +kernel
theorem d_H_times_1 : decode prog_1_method_19_code 1 = .ok (.invokestatic 114, 3) := by decide +kernel
theorem d_H_times_4 : decode prog_1_method_19_code 4 = .ok (.ifCond .eq 17, 3) := by decide +kernel
theorem d_H_times_7 : decode prog_1_method_19_code 7 = .ok (.iload_n 2, 1) := by decide +kernel
theorem d_H_times_8 : decode prog_1_method_19_code 8 = .ok (.invokestatic 114, 3) := by decide +kernel
theorem d_H_times_11 : decode prog_1_method_19_code 11 = .ok (.ifCond .eq 10, 3) := by decide +kernel
theorem d_H_times_14 : decode prog_1_method_19_code 14 = .ok (.iload_n 3, 1) := by decide +kernel
theorem d_H_times_15 : decode prog_1_method_19_code 15 = .ok (.invokestatic 114, 3) := by decide +kernel
theorem d_H_times_18 : decode prog_1_method_19_code 18 = .ok (.ifCond .ne 5, 3) := by decide +kernel
theorem d_H_times_21 : decode prog_1_method_19_code 21 = .ok (.iconst (-1), 1) := by decide +kernel
theorem d_H_times_22 : decode prog_1_method_19_code 22 = .ok (.ireturn, 1) := by decide +kernel
theorem d_H_times_23 : decode prog_1_method_19_code 23 = .ok (.aload_n 0, 1) := by decide +kernel
theorem d_H_times_24 : decode prog_1_method_19_code 24 = .ok (.aload_n 0, 1) := by decide +kernel
theorem d_H_times_25 : decode prog_1_method_19_code 25 = .ok (.getfield 68, 3) := by decide +kernel
theorem d_H_times_28 : decode prog_1_method_19_code 28 = .ok (.aload_n 0, 1) := by decide +kernel
theorem d_H_times_29 : decode prog_1_method_19_code 29 = .ok (.getfield 42, 3) := by decide +kernel
theorem d_H_times_32 : decode prog_1_method_19_code 32 = .ok (.iload_n 1, 1) := by decide +kernel
theorem d_H_times_33 : decode prog_1_method_19_code 33 = .ok (.aaload, 1) := by decide +kernel
theorem d_H_times_34 : decode prog_1_method_19_code 34 = .ok (.aload_n 0, 1) := by decide +kernel
theorem d_H_times_35 : decode prog_1_method_19_code 35 = .ok (.getfield 42, 3) := by decide +kernel
theorem d_H_times_38 : decode prog_1_method_19_code 38 = .ok (.iload_n 2, 1) := by decide +kernel
theorem d_H_times_39 : decode prog_1_method_19_code 39 = .ok (.aaload, 1) := by decide +kernel
theorem d_H_times_40 : decode prog_1_method_19_code 40 = .ok (.invokevirtual 154, 3) := by decide +kernel
theorem d_H_times_43 : decode prog_1_method_19_code 43 = .ok (.goto 11, 3) := by decide +kernel
theorem d_H_times_46 : decode prog_1_method_19_code 46 = .ok (.astore 4, 2) := by decide +kernel
theorem d_H_times_48 : decode prog_1_method_19_code 48 = .ok (.aload 4, 2) := by decide +kernel
theorem d_H_times_50 : decode prog_1_method_19_code 50 = .ok (.getfield 136, 3) := by decide +kernel
theorem d_H_times_53 : decode prog_1_method_19_code 53 = .ok (.ireturn, 1) := by decide +kernel
theorem d_H_times_54 : decode prog_1_method_19_code 54 = .ok (.aload_n 0, 1) := by decide +kernel
theorem d_H_times_55 : decode prog_1_method_19_code 55 = .ok (.aload_n 0, 1) := by decide +kernel
theorem d_H_times_56 : decode prog_1_method_19_code 56 = .ok (.getfield 68, 3) := by decide +kernel
theorem d_H_times_59 : decode prog_1_method_19_code 59 = .ok (.iload_n 3, 1) := by decide +kernel
theorem d_H_times_60 : decode prog_1_method_19_code 60 = .ok (.invokevirtual 139, 3) := by decide +kernel
theorem d_H_times_63 : decode prog_1_method_19_code 63 = .ok (.ireturn, 1) := by decide +kernel
def tb_H_times : List (Nat × jm_Op) := [(0, oIl 1 1), (4, oIfEq 21 7), (7, oIl 2 8), (11, oIfEq 21 14), (14, oIl 3 15), (18, oIfNe 23 21), (21, oC (-1) 22), (23, oAl 0 24), (24, oAl 0 25), (25, oGr 1 11 5 28), (28, oAl 0 29), (29, oGr 1 3 10 32), (32, oIl 1 33), (33, oRa 34), (34, oAl 0 35), (35, oGr 1 3 10 38), (38, oIl 2 39), (39, oRa 40), (43, oGo 54), (46, oAs 4 48), (48, oAl 4 50), (50, oGi 7 0 53), (54, oAl 0 55), (55, oAl 0 56), (56, oGr 1 11 5 59), (59, oIl 3 60)]
theorem ok_H_times : jm_all 34 tb_H_times := ⟨s_iload_n d_H_times_0 rfl, s_if_eq d_H_times_4 (by decide), s_iload_n d_H_times_7 rfl, s_if_eq d_H_times_11 (by decide), s_iload_n d_H_times_14 rfl, s_if_ne d_H_times_18 (by decide), s_iconst d_H_times_21 (by decide), s_aload_n d_H_times_23 rfl, s_aload_n d_H_times_24 rfl, s_getr d_H_times_25 ci_H rfl wd_253, s_aload_n d_H_times_28 rfl, s_getr d_H_times_29 ci_H rfl wd_245, s_iload_n d_H_times_32 rfl, s_aaload d_H_times_33, s_aload_n d_H_times_34 rfl, s_getr d_H_times_35 ci_H rfl wd_245, s_iload_n d_H_times_38 rfl, s_aaload d_H_times_39, s_goto d_H_times_43 (by decide), s_astore d_H_times_46 (by decide), s_aload d_H_times_48, s_getiN d_H_times_50 ci_S rfl wd_400, s_aload_n d_H_times_54 rfl, s_aload_n d_H_times_55 rfl, s_getr d_H_times_56 ci_H rfl wd_253, s_iload_n d_H_times_59 rfl, trivial⟩
theorem k_H_times_1 {g : jm_G} {d : Nat} {L : List (Option jm_V)} {r : List jm_V} {σ : jm_S} {K K' : jm_O → Prop} {x0 : Int32} (hr : Nat.ble (jm_cs r) 8 = true) (hcal : J g d 17 0 [some (aI x0)] [] σ K') (hk : ∀ u, K' u → jm_aft g (d + 1) 34 1 L r u K) : J g (d + 1) 34 1 L (aI x0 :: r) σ K :=
  J_call' (id' := 17) jm_sk (vs := [aI x0]) (inv_S (id' := 17) d_H_times_1 wd_329 wd_330 wd_54 cw_H_isPlace (by decide) pn_H_isPlace) cw_H_isPlace (by decide) (by decide) (Nat.le_of_ble_eq_true rfl) rfl hr rfl hcal hk
theorem k_H_times_8 {g : jm_G} {d : Nat} {L : List (Option jm_V)} {r : List jm_V} {σ : jm_S} {K K' : jm_O → Prop} {x0 : Int32} (hr : Nat.ble (jm_cs r) 8 = true) (hcal : J g d 17 0 [some (aI x0)] [] σ K') (hk : ∀ u, K' u → jm_aft g (d + 1) 34 8 L r u K) : J g (d + 1) 34 8 L (aI x0 :: r) σ K :=
  J_call' (id' := 17) jm_sk (vs := [aI x0]) (inv_S (id' := 17) d_H_times_8 wd_329 wd_330 wd_54 cw_H_isPlace (by decide) pn_H_isPlace) cw_H_isPlace (by decide) (by decide) (Nat.le_of_ble_eq_true rfl) rfl hr rfl hcal hk
theorem k_H_times_15 {g : jm_G} {d : Nat} {L : List (Option jm_V)} {r : List jm_V} {σ : jm_S} {K K' : jm_O → Prop} {x0 : Int32} (hr : Nat.ble (jm_cs r) 8 = true) (hcal : J g d 17 0 [some (aI x0)] [] σ K') (hk : ∀ u, K' u → jm_aft g (d + 1) 34 15 L r u K) : J g (d + 1) 34 15 L (aI x0 :: r) σ K :=
  J_call' (id' := 17) jm_sk (vs := [aI x0]) (inv_S (id' := 17) d_H_times_15 wd_329 wd_330 wd_54 cw_H_isPlace (by decide) pn_H_isPlace) cw_H_isPlace (by decide) (by decide) (Nat.le_of_ble_eq_true rfl) rfl hr rfl hcal hk
theorem r_H_times_22 {g : jm_G} {d : Nat} {L : List (Option jm_V)} {σ : jm_S} {K : jm_O → Prop} {v : Int32} (hK : K (σ, .inl (some (aI v)))) : J g d 34 22 L [aI v] σ K := J_iret d_H_times_22 rfl hK
theorem k_H_times_40 {g : jm_G} {d : Nat} {L : List (Option jm_V)} {r : List jm_V} {σ : jm_S} {K K' : jm_O → Prop} {q0 : Nat} {x0 : Nat} {x1 : Nat} {x2 : Nat} (hr : Nat.ble (jm_cs r) 8 = true) (hcal : J g d 35 0 [some (aR 1 q0), some (aR 5 x0), some (aR 5 x1), some (aR 5 x2), none] [] σ K') (hk : ∀ u, K' u → jm_aft g (d + 1) 34 40 L r u K) : J g (d + 1) 34 40 L (aR 5 x2 :: aR 5 x1 :: aR 5 x0 :: aR 1 q0 :: r) σ K :=
  J_call' (id' := 35) jm_sk (vs := [aR 1 q0, aR 5 x0, aR 5 x1, aR 5 x2]) (inv_V (id' := 35) d_H_times_40 ci_H wd_469 wd_471 wd_6 cw_H_multiply (by decide) pn_H_multiply) cw_H_multiply (by decide) (by decide) (Nat.le_of_ble_eq_true rfl) rfl hr rfl hcal hk
theorem r_H_times_53 {g : jm_G} {d : Nat} {L : List (Option jm_V)} {σ : jm_S} {K : jm_O → Prop} {v : Int32} (hK : K (σ, .inl (some (aI v)))) : J g d 34 53 L [aI v] σ K := J_iret d_H_times_53 rfl hK
theorem k_H_times_60 {g : jm_G} {d : Nat} {L : List (Option jm_V)} {r : List jm_V} {σ : jm_S} {K K' : jm_O → Prop} {q0 : Nat} {x0 : Nat} {x1 : Int32} (hr : Nat.ble (jm_cs r) 8 = true) (hcal : J g d 27 0 [some (aR 1 q0), some (aR 5 x0), some (aI x1)] [] σ K') (hk : ∀ u, K' u → jm_aft g (d + 1) 34 60 L r u K) : J g (d + 1) 34 60 L (aI x1 :: aR 5 x0 :: aR 1 q0 :: r) σ K :=
  J_call' (id' := 27) jm_sk (vs := [aR 1 q0, aR 5 x0, aI x1]) (inv_V (id' := 27) d_H_times_60 ci_H wd_434 wd_436 wd_5 cw_H_give (by decide) pn_H_give) cw_H_give (by decide) (by decide) (Nat.le_of_ble_eq_true rfl) rfl hr rfl hcal hk
theorem r_H_times_63 {g : jm_G} {d : Nat} {L : List (Option jm_V)} {σ : jm_S} {K : jm_O → Prop} {v : Int32} (hK : K (σ, .inl (some (aI v)))) : J g d 34 63 L [aI v] σ K := J_iret d_H_times_63 rfl hK
-- IdealProver multiply (LIdealProver$Poly;LIdealProver$Poly;LIdealProver$Poly;)V
theorem d_H_multiply_0 : decode prog_1_method_18_code 0 = .ok (.aload_n 1, 1) := by decide +kernel
theorem d_H_multiply_1 : decode prog_1_method_18_code 1 = .ok (.iconst 0, 1) := by decide +kernel
theorem d_H_multiply_2 : decode prog_1_method_18_code 2 = .ok (.putfield 96, 3) := by decide +kernel
theorem d_H_multiply_5 : decode prog_1_method_18_code 5 = .ok (.iconst 0, 1) := by decide +kernel
theorem d_H_multiply_6 : decode prog_1_method_18_code 6 = .ok (.istore 4, 2) := by decide +kernel
theorem d_H_multiply_8 : decode prog_1_method_18_code 8 = .ok (.iload 4, 2) := by decide +kernel
theorem d_H_multiply_10 : decode prog_1_method_18_code 10 = .ok (.aload_n 2, 1) := by decide +kernel
theorem d_H_multiply_11 : decode prog_1_method_18_code 11 = .ok (.getfield 96, 3) := by decide +kernel
theorem d_H_multiply_14 : decode prog_1_method_18_code 14 = .ok (.if_icmp .ge 43, 3) := by decide +kernel
theorem d_H_multiply_17 : decode prog_1_method_18_code 17 = .ok (.aload_n 1, 1) := by decide +kernel
theorem d_H_multiply_18 : decode prog_1_method_18_code 18 = .ok (.aload_n 0, 1) := by decide +kernel
theorem d_H_multiply_19 : decode prog_1_method_18_code 19 = .ok (.invokevirtual 103, 3) := by decide +kernel
theorem d_H_multiply_22 : decode prog_1_method_18_code 22 = .ok (.aload_n 0, 1) := by decide +kernel
theorem d_H_multiply_23 : decode prog_1_method_18_code 23 = .ok (.getfield 64, 3) := by decide +kernel
theorem d_H_multiply_26 : decode prog_1_method_18_code 26 = .ok (.aload_n 2, 1) := by decide +kernel
theorem d_H_multiply_27 : decode prog_1_method_18_code 27 = .ok (.getfield 143, 3) := by decide +kernel
theorem d_H_multiply_30 : decode prog_1_method_18_code 30 = .ok (.iload 4, 2) := by decide +kernel
theorem d_H_multiply_32 : decode prog_1_method_18_code 32 = .ok (.iaload, 1) := by decide +kernel
theorem d_H_multiply_33 : decode prog_1_method_18_code 33 = .ok (.aload_n 2, 1) := by decide +kernel
theorem d_H_multiply_34 : decode prog_1_method_18_code 34 = .ok (.getfield 145, 3) := by decide +kernel
theorem d_H_multiply_37 : decode prog_1_method_18_code 37 = .ok (.iload 4, 2) := by decide +kernel
theorem d_H_multiply_39 : decode prog_1_method_18_code 39 = .ok (.iaload, 1) := by decide +kernel
theorem d_H_multiply_40 : decode prog_1_method_18_code 40 = .ok (.aload_n 2, 1) := by decide +kernel
theorem d_H_multiply_41 : decode prog_1_method_18_code 41 = .ok (.getfield 147, 3) := by decide +kernel
theorem d_H_multiply_44 : decode prog_1_method_18_code 44 = .ok (.iload 4, 2) := by decide +kernel
theorem d_H_multiply_46 : decode prog_1_method_18_code 46 = .ok (.iaload, 1) := by decide +kernel
theorem d_H_multiply_47 : decode prog_1_method_18_code 47 = .ok (.aload_n 3, 1) := by decide +kernel
theorem d_H_multiply_48 : decode prog_1_method_18_code 48 = .ok (.invokevirtual 150, 3) := by decide +kernel
theorem d_H_multiply_51 : decode prog_1_method_18_code 51 = .ok (.iinc 4 1, 3) := by decide +kernel
theorem d_H_multiply_54 : decode prog_1_method_18_code 54 = .ok (.goto (-46), 3) := by decide +kernel
theorem d_H_multiply_57 : decode prog_1_method_18_code 57 = .ok (.return_, 1) := by decide +kernel
def tb_H_multiply : List (Nat × jm_Op) := [(0, oAl 1 1), (1, oC 0 2), (2, oPi 5 0 5), (5, oC 0 6), (6, oIs 4 8), (8, oIl 4 10), (10, oAl 2 11), (11, oGi 5 0 14), (14, oIcGe 57 17), (17, oAl 1 18), (18, oAl 0 19), (22, oAl 0 23), (23, oGr 1 10 4 26), (26, oAl 2 27), (27, oGr 5 1 8 30), (30, oIl 4 32), (32, oIa 33), (33, oAl 2 34), (34, oGr 5 2 8 37), (37, oIl 4 39), (39, oIa 40), (40, oAl 2 41), (41, oGr 5 3 8 44), (44, oIl 4 46), (46, oIa 47), (47, oAl 3 48), (51, oInc 4 1 54), (54, oGo 8)]
theorem ok_H_multiply : jm_all 35 tb_H_multiply := ⟨s_aload_n d_H_multiply_0 rfl, s_iconst d_H_multiply_1 (by decide), s_putiN d_H_multiply_2 ci_P rfl rfl rfl wd_100, s_iconst d_H_multiply_5 (by decide), s_istore d_H_multiply_6 (by decide), s_iload d_H_multiply_8, s_aload_n d_H_multiply_10 rfl, s_getiN d_H_multiply_11 ci_P rfl wd_100, s_icmp_ge d_H_multiply_14 (by decide), s_aload_n d_H_multiply_17 rfl, s_aload_n d_H_multiply_18 rfl, s_aload_n d_H_multiply_22 rfl, s_getr d_H_multiply_23 ci_H rfl wd_252, s_aload_n d_H_multiply_26 rfl, s_getrN d_H_multiply_27 ci_P rfl wd_104, s_iload d_H_multiply_30, s_iaload d_H_multiply_32, s_aload_n d_H_multiply_33 rfl, s_getrN d_H_multiply_34 ci_P rfl wd_108, s_iload d_H_multiply_37, s_iaload d_H_multiply_39, s_aload_n d_H_multiply_40 rfl, s_getrN d_H_multiply_41 ci_P rfl wd_111, s_iload d_H_multiply_44, s_iaload d_H_multiply_46, s_aload_n d_H_multiply_47 rfl, s_iinc d_H_multiply_51 (by decide) (by decide), s_goto d_H_multiply_54 (by decide), trivial⟩
theorem k_H_multiply_19 {g : jm_G} {d : Nat} {L : List (Option jm_V)} {r : List jm_V} {σ : jm_S} {K K' : jm_O → Prop} {q0 : Nat} (hr : Nat.ble (jm_cs r) 8 = true) (hcal : J g d 9 0 [some (aR 1 q0)] [] σ K') (hk : ∀ u, K' u → jm_aft g (d + 1) 35 19 L r u K) : J g (d + 1) 35 19 L (aR 1 q0 :: r) σ K :=
  J_call' (id' := 9) jm_sk (vs := [aR 1 q0]) (inv_V (id' := 9) d_H_multiply_19 ci_H wd_296 wd_298 wd_0 cw_H_order2 (by decide) pn_H_order2) cw_H_order2 (by decide) (by decide) (Nat.le_of_ble_eq_true rfl) rfl hr rfl hcal hk
theorem k_H_multiply_48 {g : jm_G} {d : Nat} {L : List (Option jm_V)} {r : List jm_V} {σ : jm_S} {K K' : jm_O → Prop} {q0 : Nat} {x0 : Nat} {x1 : Nat} {x2 : Int32} {x3 : Int32} {x4 : Int32} {x5 : Nat} (hr : Nat.ble (jm_cs r) 8 = true) (hcal : J g d 32 0 [some (aR 5 q0), some (aR 13 x0), some (aR 4 x1), some (aI x2), some (aI x3), some (aI x4), some (aR 5 x5), none, none] [] σ K') (hk : ∀ u, K' u → jm_aft g (d + 1) 35 48 L r u K) : J g (d + 1) 35 48 L (aR 5 x5 :: aI x4 :: aI x3 :: aI x2 :: aR 4 x1 :: aR 13 x0 :: aR 5 q0 :: r) σ K :=
  J_call' (id' := 32) jm_sk (vs := [aR 5 q0, aR 13 x0, aR 4 x1, aI x2, aI x3, aI x4, aR 5 x5]) (inv_V (id' := 32) d_H_multiply_48 ci_P wd_455 wd_456 wd_457 cw_P_plus (by decide) pn_P_plus) cw_P_plus (by decide) (by decide) (Nat.le_of_ble_eq_true rfl) rfl hr rfl hcal hk
theorem r_H_multiply_57 {g : jm_G} {d : Nat} {L : List (Option jm_V)} {σ : jm_S} {K : jm_O → Prop} (hK : K (σ, .inl none)) : J g d 35 57 L [] σ K := J_vret d_H_multiply_57 rfl hK
-- IdealProver same (II)I
theorem d_H_same_0 : decode prog_1_method_20_code 0 = .ok (.iload_n 1, 1) := by decide +kernel
theorem d_H_same_1 : decode prog_1_method_20_code 1 = .ok (.invokestatic 114, 3) := by decide +kernel
theorem d_H_same_4 : decode prog_1_method_20_code 4 = .ok (.ifCond .eq 10, 3) := by decide +kernel
theorem d_H_same_7 : decode prog_1_method_20_code 7 = .ok (.iload_n 2, 1) := by decide +kernel
theorem d_H_same_8 : decode prog_1_method_20_code 8 = .ok (.invokestatic 114, 3) := by decide +kernel
theorem d_H_same_11 : decode prog_1_method_20_code 11 = .ok (.ifCond .ne 7, 3) := by decide +kernel
theorem d_H_same_14 : decode prog_1_method_20_code 14 = .ok (.iconst (-1), 1) := by decide +kernel
theorem d_H_same_15 : decode prog_1_method_20_code 15 = .ok (.goto 26, 3) := by decide +kernel
theorem d_H_same_18 : decode prog_1_method_20_code 18 = .ok (.aload_n 0, 1) := by decide +kernel
theorem d_H_same_19 : decode prog_1_method_20_code 19 = .ok (.getfield 42, 3) := by decide +kernel
theorem d_H_same_22 : decode prog_1_method_20_code 22 = .ok (.iload_n 1, 1) := by decide +kernel
theorem d_H_same_23 : decode prog_1_method_20_code 23 = .ok (.aaload, 1) := by decide +kernel
theorem d_H_same_24 : decode prog_1_method_20_code 24 = .ok (.aload_n 0, 1) := by decide +kernel
theorem d_H_same_25 : decode prog_1_method_20_code 25 = .ok (.getfield 42, 3) := by decide +kernel
theorem d_H_same_28 : decode prog_1_method_20_code 28 = .ok (.iload_n 2, 1) := by decide +kernel
theorem d_H_same_29 : decode prog_1_method_20_code 29 = .ok (.aaload, 1) := by decide +kernel
theorem d_H_same_30 : decode prog_1_method_20_code 30 = .ok (.invokevirtual 158, 3) := by decide +kernel
theorem d_H_same_33 : decode prog_1_method_20_code 33 = .ok (.ifCond .eq 7, 3) := by decide +kernel
theorem d_H_same_36 : decode prog_1_method_20_code 36 = .ok (.iconst 1, 1) := by decide +kernel
theorem d_H_same_37 : decode prog_1_method_20_code 37 = .ok (.goto 4, 3) := by decide +kernel
theorem d_H_same_40 : decode prog_1_method_20_code 40 = .ok (.iconst 0, 1) := by decide +kernel
theorem d_H_same_41 : decode prog_1_method_20_code 41 = .ok (.ireturn, 1) := by decide +kernel
def tb_H_same : List (Nat × jm_Op) := [(0, oIl 1 1), (4, oIfEq 14 7), (7, oIl 2 8), (11, oIfNe 18 14), (14, oC (-1) 15), (15, oGo 41), (18, oAl 0 19), (19, oGr 1 3 10 22), (22, oIl 1 23), (23, oRa 24), (24, oAl 0 25), (25, oGr 1 3 10 28), (28, oIl 2 29), (29, oRa 30), (33, oIfEq 40 36), (36, oC 1 37), (37, oGo 41), (40, oC 0 41)]
theorem ok_H_same : jm_all 36 tb_H_same := ⟨s_iload_n d_H_same_0 rfl, s_if_eq d_H_same_4 (by decide), s_iload_n d_H_same_7 rfl, s_if_ne d_H_same_11 (by decide), s_iconst d_H_same_14 (by decide), s_goto d_H_same_15 (by decide), s_aload_n d_H_same_18 rfl, s_getr d_H_same_19 ci_H rfl wd_245, s_iload_n d_H_same_22 rfl, s_aaload d_H_same_23, s_aload_n d_H_same_24 rfl, s_getr d_H_same_25 ci_H rfl wd_245, s_iload_n d_H_same_28 rfl, s_aaload d_H_same_29, s_if_eq d_H_same_33 (by decide), s_iconst d_H_same_36 (by decide), s_goto d_H_same_37 (by decide), s_iconst d_H_same_40 (by decide), trivial⟩
theorem k_H_same_1 {g : jm_G} {d : Nat} {L : List (Option jm_V)} {r : List jm_V} {σ : jm_S} {K K' : jm_O → Prop} {x0 : Int32} (hr : Nat.ble (jm_cs r) 8 = true) (hcal : J g d 17 0 [some (aI x0)] [] σ K') (hk : ∀ u, K' u → jm_aft g (d + 1) 36 1 L r u K) : J g (d + 1) 36 1 L (aI x0 :: r) σ K :=
  J_call' (id' := 17) jm_sk (vs := [aI x0]) (inv_S (id' := 17) d_H_same_1 wd_329 wd_330 wd_54 cw_H_isPlace (by decide) pn_H_isPlace) cw_H_isPlace (by decide) (by decide) (Nat.le_of_ble_eq_true rfl) rfl hr rfl hcal hk
theorem k_H_same_8 {g : jm_G} {d : Nat} {L : List (Option jm_V)} {r : List jm_V} {σ : jm_S} {K K' : jm_O → Prop} {x0 : Int32} (hr : Nat.ble (jm_cs r) 8 = true) (hcal : J g d 17 0 [some (aI x0)] [] σ K') (hk : ∀ u, K' u → jm_aft g (d + 1) 36 8 L r u K) : J g (d + 1) 36 8 L (aI x0 :: r) σ K :=
  J_call' (id' := 17) jm_sk (vs := [aI x0]) (inv_S (id' := 17) d_H_same_8 wd_329 wd_330 wd_54 cw_H_isPlace (by decide) pn_H_isPlace) cw_H_isPlace (by decide) (by decide) (Nat.le_of_ble_eq_true rfl) rfl hr rfl hcal hk
theorem k_H_same_30 {g : jm_G} {d : Nat} {L : List (Option jm_V)} {r : List jm_V} {σ : jm_S} {K K' : jm_O → Prop} {q0 : Nat} {x0 : Nat} (hr : Nat.ble (jm_cs r) 8 = true) (hcal : J g d 37 0 [some (aR 5 q0), some (aR 5 x0), none, none] [] σ K') (hk : ∀ u, K' u → jm_aft g (d + 1) 36 30 L r u K) : J g (d + 1) 36 30 L (aR 5 x0 :: aR 5 q0 :: r) σ K :=
  J_call' (id' := 37) jm_sk (vs := [aR 5 q0, aR 5 x0]) (inv_V (id' := 37) d_H_same_30 ci_P wd_477 wd_478 wd_479 cw_P_isSame (by decide) pn_P_isSame) cw_P_isSame (by decide) (by decide) (Nat.le_of_ble_eq_true rfl) rfl hr rfl hcal hk
theorem r_H_same_41 {g : jm_G} {d : Nat} {L : List (Option jm_V)} {σ : jm_S} {K : jm_O → Prop} {v : Int32} (hK : K (σ, .inl (some (aI v)))) : J g d 36 41 L [aI v] σ K := J_iret d_H_same_41 rfl hK
-- IdealProver vanishes (IIIII)I
theorem d_H_vanishes_0 : decode prog_1_method_22_code 0 = .ok (.iload_n 1, 1) := by decide +kernel
theorem d_H_vanishes_1 : decode prog_1_method_22_code 1 = .ok (.invokestatic 114, 3) := by decide +kernel
theorem d_H_vanishes_4 : decode prog_1_method_22_code 4 = .ok (.ifCond .ne 5, 3) := by decide +kernel
theorem d_H_vanishes_7 : decode prog_1_method_22_code 7 = .ok (.iconst (-1), 1) := by decide +kernel
theorem d_H_vanishes_8 : decode prog_1_method_22_code 8 = .ok (.ireturn, 1) := by decide +kernel
theorem d_H_vanishes_9 : decode prog_1_method_22_code 9 = .ok (.iconst 1, 1) := by decide +kernel
theorem d_H_vanishes_10 : decode prog_1_method_22_code 10 = .ok (.istore 6, 2) := by decide +kernel
theorem d_H_vanishes_12 : decode prog_1_method_22_code 12 = .ok (.iconst 0, 1) := by decide +kernel
theorem d_H_vanishes_13 : decode prog_1_method_22_code 13 = .ok (.istore 7, 2) := by decide +kernel
theorem d_H_vanishes_15 : decode prog_1_method_22_code 15 = .ok (.iload 7, 2) := by decide +kernel
theorem d_H_vanishes_17 : decode prog_1_method_22_code 17 = .ok (.aload_n 0, 1) := by decide +kernel
theorem d_H_vanishes_18 : decode prog_1_method_22_code 18 = .ok (.getfield 85, 3) := by decide +kernel
theorem d_H_vanishes_21 : decode prog_1_method_22_code 21 = .ok (.if_icmp .ge 62, 3) := by decide +kernel
theorem d_H_vanishes_24 : decode prog_1_method_22_code 24 = .ok (.iload 6, 2) := by decide +kernel
theorem d_H_vanishes_26 : decode prog_1_method_22_code 26 = .ok (.iload 7, 2) := by decide +kernel
theorem d_H_vanishes_28 : decode prog_1_method_22_code 28 = .ok (.ifCond .ne 7, 3) := by decide +kernel
theorem d_H_vanishes_31 : decode prog_1_method_22_code 31 = .ok (.iload_n 2, 1) := by decide +kernel
theorem d_H_vanishes_32 : decode prog_1_method_22_code 32 = .ok (.goto 26, 3) := by decide +kernel
theorem d_H_vanishes_35 : decode prog_1_method_22_code 35 = .ok (.iload 7, 2) := by decide +kernel
theorem d_H_vanishes_37 : decode prog_1_method_22_code 37 = .ok (.iconst 1, 1) := by decide +kernel
theorem d_H_vanishes_38 : decode prog_1_method_22_code 38 = .ok (.if_icmp .ne 7, 3) := by decide +kernel
theorem d_H_vanishes_41 : decode prog_1_method_22_code 41 = .ok (.iload_n 3, 1) := by decide +kernel
theorem d_H_vanishes_42 : decode prog_1_method_22_code 42 = .ok (.goto 16, 3) := by decide +kernel
theorem d_H_vanishes_45 : decode prog_1_method_22_code 45 = .ok (.iload 7, 2) := by decide +kernel
theorem d_H_vanishes_47 : decode prog_1_method_22_code 47 = .ok (.iconst 2, 1) := by decide +kernel
theorem d_H_vanishes_48 : decode prog_1_method_22_code 48 = .ok (.if_icmp .ne 8, 3) := by decide +kernel
theorem d_H_vanishes_51 : decode prog_1_method_22_code 51 = .ok (.iload 4, 2) := by decide +kernel
theorem d_H_vanishes_53 : decode prog_1_method_22_code 53 = .ok (.goto 5, 3) := by decide +kernel
theorem d_H_vanishes_56 : decode prog_1_method_22_code 56 = .ok (.iload 5, 2) := by decide +kernel
theorem d_H_vanishes_58 : decode prog_1_method_22_code 58 = .ok (.i2l, 1) := by decide +kernel
theorem d_H_vanishes_59 : decode prog_1_method_22_code 59 = .ok (.invokestatic 15, 3) := by decide +kernel
theorem d_H_vanishes_62 : decode prog_1_method_22_code 62 = .ok (.ldc2_w 168, 3) := by decide +kernel
theorem d_H_vanishes_65 : decode prog_1_method_22_code 65 = .ok (.lcmp, 1) := by decide +kernel
theorem d_H_vanishes_66 : decode prog_1_method_22_code 66 = .ok (.ifCond .gt 7, 3) := by decide +kernel
theorem d_H_vanishes_69 : decode prog_1_method_22_code 69 = .ok (.iconst 1, 1) := by decide +kernel
theorem d_H_vanishes_70 : decode prog_1_method_22_code 70 = .ok (.goto 4, 3) := by decide +kernel
theorem d_H_vanishes_73 : decode prog_1_method_22_code 73 = .ok (.iconst 0, 1) := by decide +kernel
theorem d_H_vanishes_74 : decode prog_1_method_22_code 74 = .ok (.iand, 1) := by decide +kernel
theorem d_H_vanishes_75 : decode prog_1_method_22_code 75 = .ok (.istore 6, 2) := by decide +kernel
theorem d_H_vanishes_77 : decode prog_1_method_22_code 77 = .ok (.iinc 7 1, 3) := by decide +kernel
theorem d_H_vanishes_80 : decode prog_1_method_22_code 80 = .ok (.goto (-65), 3) := by decide +kernel
theorem d_H_vanishes_83 : decode prog_1_method_22_code 83 = .ok (.iload 6, 2) := by decide +kernel
theorem d_H_vanishes_85 : decode prog_1_method_22_code 85 = .ok (.ifCond .ne 6, 3) := by decide +kernel
theorem d_H_vanishes_88 : decode prog_1_method_22_code 88 = .ok (.bipush (-2), 2) := by decide +kernel
theorem d_H_vanishes_90 : decode prog_1_method_22_code 90 = .ok (.ireturn, 1) := by decide +kernel
theorem d_H_vanishes_91 : decode prog_1_method_22_code 91 = .ok (.aload_n 0, 1) := by decide +kernel
theorem d_H_vanishes_92 : decode prog_1_method_22_code 92 = .ok (.aload_n 0, 1) := by decide +kernel
theorem d_H_vanishes_93 : decode prog_1_method_22_code 93 = .ok (.getfield 42, 3) := by decide +kernel
theorem d_H_vanishes_96 : decode prog_1_method_22_code 96 = .ok (.iload_n 1, 1) := by decide +kernel
theorem d_H_vanishes_97 : decode prog_1_method_22_code 97 = .ok (.aaload, 1) := by decide +kernel
theorem d_H_vanishes_98 : decode prog_1_method_22_code 98 = .ok (.iload_n 2, 1) := by decide +kernel
theorem d_H_vanishes_99 : decode prog_1_method_22_code 99 = .ok (.iload_n 3, 1) := by decide +kernel
theorem d_H_vanishes_100 : decode prog_1_method_22_code 100 = .ok (.iload 4, 2) := by decide +kernel
theorem d_H_vanishes_102 : decode prog_1_method_22_code 102 = .ok (.iload 5, 2) := by decide +kernel
theorem d_H_vanishes_104 : decode prog_1_method_22_code 104 = .ok (.invokevirtual 170, 3) := by decide +kernel
theorem d_H_vanishes_107 : decode prog_1_method_22_code 107 = .ok (.ireturn, 1) := by decide +kernel
theorem d_H_vanishes_108 : decode prog_1_method_22_code 108 = .ok (.astore 7, 2) := by decide +kernel
theorem d_H_vanishes_110 : decode prog_1_method_22_code 110 = .ok (.aload 7, 2) := by decide +kernel
theorem d_H_vanishes_112 : decode prog_1_method_22_code 112 = .ok (.getfield 136, 3) := by decide +kernel
theorem d_H_vanishes_115 : decode prog_1_method_22_code 115 = .ok (.ireturn, 1) := by decide +kernel
def tb_H_vanishes_0 : List (Nat × jm_Op) := [(0, oIl 1 1), (4, oIfNe 9 7), (7, oC (-1) 8), (9, oC 1 10), (10, oIs 6 12), (12, oC 0 13), (13, oIs 7 15), (15, oIl 7 17), (17, oAl 0 18), (18, oGi 1 0 21), (21, oIcGe 83 24), (24, oIl 6 26), (26, oIl 7 28), (28, oIfNe 35 31), (31, oIl 2 32), (32, oGo 58), (35, oIl 7 37), (37, oC 1 38), (38, oIcNe 45 41), (41, oIl 3 42), (42, oGo 58), (45, oIl 7 47), (47, oC 2 48), (48, oIcNe 56 51), (51, oIl 4 53), (53, oGo 58), (56, oIl 5 58), (58, oI2L 59), (59, oAbsL 62), (62, oCL 1000 65), (65, oLcmp 66), (66, oIfGt 73 69), (69, oC 1 70), (70, oGo 74), (73, oC 0 74), (74, oAnd 75), (75, oIs 6 77), (77, oInc 7 1 80), (80, oGo 15), (83, oIl 6 85), (85, oIfNe 91 88), (88, oC (-2) 90), (91, oAl 0 92), (92, oAl 0 93), (93, oGr 1 3 10 96), (96, oIl 1 97), (97, oRa 98), (98, oIl 2 99), (99, oIl 3 100), (100, oIl 4 102)]
theorem ok_H_vanishes_0 : jm_all 38 tb_H_vanishes_0 := ⟨s_iload_n d_H_vanishes_0 rfl, s_if_ne d_H_vanishes_4 (by decide), s_iconst d_H_vanishes_7 (by decide), s_iconst d_H_vanishes_9 (by decide), s_istore d_H_vanishes_10 (by decide), s_iconst d_H_vanishes_12 (by decide), s_istore d_H_vanishes_13 (by decide), s_iload d_H_vanishes_15, s_aload_n d_H_vanishes_17 rfl, s_geti d_H_vanishes_18 ci_H rfl wd_242, s_icmp_ge d_H_vanishes_21 (by decide), s_iload d_H_vanishes_24, s_iload d_H_vanishes_26, s_if_ne d_H_vanishes_28 (by decide), s_iload_n d_H_vanishes_31 rfl, s_goto d_H_vanishes_32 (by decide), s_iload d_H_vanishes_35, s_iconst d_H_vanishes_37 (by decide), s_icmp_ne d_H_vanishes_38 (by decide), s_iload_n d_H_vanishes_41 rfl, s_goto d_H_vanishes_42 (by decide), s_iload d_H_vanishes_45, s_iconst d_H_vanishes_47 (by decide), s_icmp_ne d_H_vanishes_48 (by decide), s_iload d_H_vanishes_51, s_goto d_H_vanishes_53 (by decide), s_iload d_H_vanishes_56, s_i2l d_H_vanishes_58, s_absL d_H_vanishes_59 wd_332 wd_333 wd_61 wd_334, s_ldc2 d_H_vanishes_62 wd_485, s_lcmp d_H_vanishes_65, s_if_gt d_H_vanishes_66 (by decide), s_iconst d_H_vanishes_69 (by decide), s_goto d_H_vanishes_70 (by decide), s_iconst d_H_vanishes_73 (by decide), s_iand d_H_vanishes_74, s_istore d_H_vanishes_75 (by decide), s_iinc d_H_vanishes_77 (by decide) (by decide), s_goto d_H_vanishes_80 (by decide), s_iload d_H_vanishes_83, s_if_ne d_H_vanishes_85 (by decide), s_bipush d_H_vanishes_88 (by decide), s_aload_n d_H_vanishes_91 rfl, s_aload_n d_H_vanishes_92 rfl, s_getr d_H_vanishes_93 ci_H rfl wd_245, s_iload_n d_H_vanishes_96 rfl, s_aaload d_H_vanishes_97, s_iload_n d_H_vanishes_98 rfl, s_iload_n d_H_vanishes_99 rfl, s_iload d_H_vanishes_100, trivial⟩
def tb_H_vanishes_1 : List (Nat × jm_Op) := [(102, oIl 5 104), (108, oAs 7 110), (110, oAl 7 112), (112, oGi 7 0 115)]
theorem ok_H_vanishes_1 : jm_all 38 tb_H_vanishes_1 := ⟨s_iload d_H_vanishes_102, s_astore d_H_vanishes_108 (by decide), s_aload d_H_vanishes_110, s_getiN d_H_vanishes_112 ci_S rfl wd_400, trivial⟩
def tb_H_vanishes : List (Nat × jm_Op) := tb_H_vanishes_0 ++ tb_H_vanishes_1
theorem ok_H_vanishes : jm_all 38 tb_H_vanishes := jm_all_app ok_H_vanishes_0 ok_H_vanishes_1
theorem k_H_vanishes_1 {g : jm_G} {d : Nat} {L : List (Option jm_V)} {r : List jm_V} {σ : jm_S} {K K' : jm_O → Prop} {x0 : Int32} (hr : Nat.ble (jm_cs r) 8 = true) (hcal : J g d 17 0 [some (aI x0)] [] σ K') (hk : ∀ u, K' u → jm_aft g (d + 1) 38 1 L r u K) : J g (d + 1) 38 1 L (aI x0 :: r) σ K :=
  J_call' (id' := 17) jm_sk (vs := [aI x0]) (inv_S (id' := 17) d_H_vanishes_1 wd_329 wd_330 wd_54 cw_H_isPlace (by decide) pn_H_isPlace) cw_H_isPlace (by decide) (by decide) (Nat.le_of_ble_eq_true rfl) rfl hr rfl hcal hk
theorem r_H_vanishes_8 {g : jm_G} {d : Nat} {L : List (Option jm_V)} {σ : jm_S} {K : jm_O → Prop} {v : Int32} (hK : K (σ, .inl (some (aI v)))) : J g d 38 8 L [aI v] σ K := J_iret d_H_vanishes_8 rfl hK
theorem r_H_vanishes_90 {g : jm_G} {d : Nat} {L : List (Option jm_V)} {σ : jm_S} {K : jm_O → Prop} {v : Int32} (hK : K (σ, .inl (some (aI v)))) : J g d 38 90 L [aI v] σ K := J_iret d_H_vanishes_90 rfl hK
theorem k_H_vanishes_104 {g : jm_G} {d : Nat} {L : List (Option jm_V)} {r : List jm_V} {σ : jm_S} {K K' : jm_O → Prop} {q0 : Nat} {x0 : Nat} {x1 : Int32} {x2 : Int32} {x3 : Int32} {x4 : Int32} (hr : Nat.ble (jm_cs r) 8 = true) (hcal : J g d 39 0 [some (aR 1 q0), some (aR 5 x0), some (aI x1), some (aI x2), some (aI x3), some (aI x4), none, none, none, none, none, none, none, none] [] σ K') (hk : ∀ u, K' u → jm_aft g (d + 1) 38 104 L r u K) : J g (d + 1) 38 104 L (aI x4 :: aI x3 :: aI x2 :: aI x1 :: aR 5 x0 :: aR 1 q0 :: r) σ K :=
  J_call' (id' := 39) jm_sk (vs := [aR 1 q0, aR 5 x0, aI x1, aI x2, aI x3, aI x4]) (inv_V (id' := 39) d_H_vanishes_104 ci_H wd_486 wd_488 wd_7 cw_H_valueIsZero (by decide) pn_H_valueIsZero) cw_H_valueIsZero (by decide) (by decide) (Nat.le_of_ble_eq_true rfl) rfl hr rfl hcal hk
theorem r_H_vanishes_107 {g : jm_G} {d : Nat} {L : List (Option jm_V)} {σ : jm_S} {K : jm_O → Prop} {v : Int32} (hK : K (σ, .inl (some (aI v)))) : J g d 38 107 L [aI v] σ K := J_iret d_H_vanishes_107 rfl hK
theorem r_H_vanishes_115 {g : jm_G} {d : Nat} {L : List (Option jm_V)} {σ : jm_S} {K : jm_O → Prop} {v : Int32} (hK : K (σ, .inl (some (aI v)))) : J g d 38 115 L [aI v] σ K := J_iret d_H_vanishes_115 rfl hK
-- IdealProver valueIsZero (LIdealProver$Poly;IIII)I
theorem d_H_valueIsZero_0 : decode prog_1_method_21_code 0 = .ok (.iconst 0, 1) := by decide +kernel
theorem d_H_valueIsZero_1 : decode prog_1_method_21_code 1 = .ok (.istore 6, 2) := by decide +kernel
theorem d_H_valueIsZero_3 : decode prog_1_method_21_code 3 = .ok (.iconst 1, 1) := by decide +kernel
theorem d_H_valueIsZero_4 : decode prog_1_method_21_code 4 = .ok (.istore 7, 2) := by decide +kernel
theorem d_H_valueIsZero_6 : decode prog_1_method_21_code 6 = .ok (.iconst 0, 1) := by decide +kernel
theorem d_H_valueIsZero_7 : decode prog_1_method_21_code 7 = .ok (.istore 8, 2) := by decide +kernel
theorem d_H_valueIsZero_9 : decode prog_1_method_21_code 9 = .ok (.iload 8, 2) := by decide +kernel
theorem d_H_valueIsZero_11 : decode prog_1_method_21_code 11 = .ok (.aload_n 1, 1) := by decide +kernel
theorem d_H_valueIsZero_12 : decode prog_1_method_21_code 12 = .ok (.getfield 96, 3) := by decide +kernel
theorem d_H_valueIsZero_15 : decode prog_1_method_21_code 15 = .ok (.if_icmp .ge 169, 3) := by decide +kernel
theorem d_H_valueIsZero_18 : decode prog_1_method_21_code 18 = .ok (.aload_n 1, 1) := by decide +kernel
theorem d_H_valueIsZero_19 : decode prog_1_method_21_code 19 = .ok (.getfield 143, 3) := by decide +kernel
theorem d_H_valueIsZero_22 : decode prog_1_method_21_code 22 = .ok (.iload 8, 2) := by decide +kernel
theorem d_H_valueIsZero_24 : decode prog_1_method_21_code 24 = .ok (.iaload, 1) := by decide +kernel
theorem d_H_valueIsZero_25 : decode prog_1_method_21_code 25 = .ok (.istore 9, 2) := by decide +kernel
theorem d_H_valueIsZero_27 : decode prog_1_method_21_code 27 = .ok (.aload_n 1, 1) := by decide +kernel
theorem d_H_valueIsZero_28 : decode prog_1_method_21_code 28 = .ok (.getfield 145, 3) := by decide +kernel
theorem d_H_valueIsZero_31 : decode prog_1_method_21_code 31 = .ok (.iload 8, 2) := by decide +kernel
theorem d_H_valueIsZero_33 : decode prog_1_method_21_code 33 = .ok (.iaload, 1) := by decide +kernel
theorem d_H_valueIsZero_34 : decode prog_1_method_21_code 34 = .ok (.istore 10, 2) := by decide +kernel
theorem d_H_valueIsZero_36 : decode prog_1_method_21_code 36 = .ok (.iconst 0, 1) := by decide +kernel
theorem d_H_valueIsZero_37 : decode prog_1_method_21_code 37 = .ok (.istore 11, 2) := by decide +kernel
theorem d_H_valueIsZero_39 : decode prog_1_method_21_code 39 = .ok (.iload 11, 2) := by decide +kernel
theorem d_H_valueIsZero_41 : decode prog_1_method_21_code 41 = .ok (.aload_n 0, 1) := by decide +kernel
theorem d_H_valueIsZero_42 : decode prog_1_method_21_code 42 = .ok (.getfield 85, 3) := by decide +kernel
theorem d_H_valueIsZero_45 : decode prog_1_method_21_code 45 = .ok (.if_icmp .ge 100, 3) := by decide +kernel
theorem d_H_valueIsZero_48 : decode prog_1_method_21_code 48 = .ok (.iload 11, 2) := by decide +kernel
theorem d_H_valueIsZero_50 : decode prog_1_method_21_code 50 = .ok (.ifCond .ne 7, 3) := by decide +kernel
theorem d_H_valueIsZero_53 : decode prog_1_method_21_code 53 = .ok (.iload_n 2, 1) := by decide +kernel
theorem d_H_valueIsZero_54 : decode prog_1_method_21_code 54 = .ok (.goto 26, 3) := by decide +kernel
theorem d_H_valueIsZero_57 : decode prog_1_method_21_code 57 = .ok (.iload 11, 2) := by decide +kernel
theorem d_H_valueIsZero_59 : decode prog_1_method_21_code 59 = .ok (.iconst 1, 1) := by decide +kernel
theorem d_H_valueIsZero_60 : decode prog_1_method_21_code 60 = .ok (.if_icmp .ne 7, 3) := by decide +kernel
theorem d_H_valueIsZero_63 : decode prog_1_method_21_code 63 = .ok (.iload_n 3, 1) := by decide +kernel
theorem d_H_valueIsZero_64 : decode prog_1_method_21_code 64 = .ok (.goto 16, 3) := by decide +kernel
theorem d_H_valueIsZero_67 : decode prog_1_method_21_code 67 = .ok (.iload 11, 2) := by decide +kernel
theorem d_H_valueIsZero_69 : decode prog_1_method_21_code 69 = .ok (.iconst 2, 1) := by decide +kernel
theorem d_H_valueIsZero_70 : decode prog_1_method_21_code 70 = .ok (.if_icmp .ne 8, 3) := by decide +kernel
theorem d_H_valueIsZero_73 : decode prog_1_method_21_code 73 = .ok (.iload 4, 2) := by decide +kernel
theorem d_H_valueIsZero_75 : decode prog_1_method_21_code 75 = .ok (.goto 5, 3) := by decide +kernel
theorem d_H_valueIsZero_78 : decode prog_1_method_21_code 78 = .ok (.iload 5, 2) := by decide +kernel
theorem d_H_valueIsZero_80 : decode prog_1_method_21_code 80 = .ok (.istore 12, 2) := by decide +kernel
theorem d_H_valueIsZero_82 : decode prog_1_method_21_code 82 = .ok (.aload_n 1, 1) := by decide +kernel
theorem d_H_valueIsZero_83 : decode prog_1_method_21_code 83 = .ok (.getfield 147, 3) := by decide +kernel
theorem d_H_valueIsZero_86 : decode prog_1_method_21_code 86 = .ok (.iload 8, 2) := by decide +kernel
theorem d_H_valueIsZero_88 : decode prog_1_method_21_code 88 = .ok (.iaload, 1) := by decide +kernel
theorem d_H_valueIsZero_89 : decode prog_1_method_21_code 89 = .ok (.iload 11, 2) := by decide +kernel
theorem d_H_valueIsZero_91 : decode prog_1_method_21_code 91 = .ok (.invokestatic 1, 3) := by decide +kernel
theorem d_H_valueIsZero_94 : decode prog_1_method_21_code 94 = .ok (.istore 13, 2) := by decide +kernel
theorem d_H_valueIsZero_96 : decode prog_1_method_21_code 96 = .ok (.iload 13, 2) := by decide +kernel
theorem d_H_valueIsZero_98 : decode prog_1_method_21_code 98 = .ok (.ifCond .le 41, 3) := by decide +kernel
theorem d_H_valueIsZero_101 : decode prog_1_method_21_code 101 = .ok (.aload_n 0, 1) := by decide +kernel
theorem d_H_valueIsZero_102 : decode prog_1_method_21_code 102 = .ok (.getfield 64, 3) := by decide +kernel
theorem d_H_valueIsZero_105 : decode prog_1_method_21_code 105 = .ok (.iload 9, 2) := by decide +kernel
theorem d_H_valueIsZero_107 : decode prog_1_method_21_code 107 = .ok (.iload 10, 2) := by decide +kernel
theorem d_H_valueIsZero_109 : decode prog_1_method_21_code 109 = .ok (.iload 12, 2) := by decide +kernel
theorem d_H_valueIsZero_111 : decode prog_1_method_21_code 111 = .ok (.iconst 1, 1) := by decide +kernel
theorem d_H_valueIsZero_112 : decode prog_1_method_21_code 112 = .ok (.invokevirtual 162, 3) := by decide +kernel
theorem d_H_valueIsZero_115 : decode prog_1_method_21_code 115 = .ok (.aload_n 0, 1) := by decide +kernel
theorem d_H_valueIsZero_116 : decode prog_1_method_21_code 116 = .ok (.getfield 64, 3) := by decide +kernel
theorem d_H_valueIsZero_119 : decode prog_1_method_21_code 119 = .ok (.getfield 124, 3) := by decide +kernel
theorem d_H_valueIsZero_122 : decode prog_1_method_21_code 122 = .ok (.istore 9, 2) := by decide +kernel
theorem d_H_valueIsZero_124 : decode prog_1_method_21_code 124 = .ok (.aload_n 0, 1) := by decide +kernel
theorem d_H_valueIsZero_125 : decode prog_1_method_21_code 125 = .ok (.getfield 64, 3) := by decide +kernel
theorem d_H_valueIsZero_128 : decode prog_1_method_21_code 128 = .ok (.getfield 127, 3) := by decide +kernel
theorem d_H_valueIsZero_131 : decode prog_1_method_21_code 131 = .ok (.istore 10, 2) := by decide +kernel
theorem d_H_valueIsZero_133 : decode prog_1_method_21_code 133 = .ok (.iinc 13 (-1), 3) := by decide +kernel
theorem d_H_valueIsZero_136 : decode prog_1_method_21_code 136 = .ok (.goto (-40), 3) := by decide +kernel
theorem d_H_valueIsZero_139 : decode prog_1_method_21_code 139 = .ok (.iinc 11 1, 3) := by decide +kernel
theorem d_H_valueIsZero_142 : decode prog_1_method_21_code 142 = .ok (.goto (-103), 3) := by decide +kernel
theorem d_H_valueIsZero_145 : decode prog_1_method_21_code 145 = .ok (.aload_n 0, 1) := by decide +kernel
theorem d_H_valueIsZero_146 : decode prog_1_method_21_code 146 = .ok (.getfield 64, 3) := by decide +kernel
theorem d_H_valueIsZero_149 : decode prog_1_method_21_code 149 = .ok (.iload 6, 2) := by decide +kernel
theorem d_H_valueIsZero_151 : decode prog_1_method_21_code 151 = .ok (.iload 7, 2) := by decide +kernel
theorem d_H_valueIsZero_153 : decode prog_1_method_21_code 153 = .ok (.iload 9, 2) := by decide +kernel
theorem d_H_valueIsZero_155 : decode prog_1_method_21_code 155 = .ok (.iload 10, 2) := by decide +kernel
theorem d_H_valueIsZero_157 : decode prog_1_method_21_code 157 = .ok (.invokevirtual 166, 3) := by decide +kernel
theorem d_H_valueIsZero_160 : decode prog_1_method_21_code 160 = .ok (.aload_n 0, 1) := by decide +kernel
theorem d_H_valueIsZero_161 : decode prog_1_method_21_code 161 = .ok (.getfield 64, 3) := by decide +kernel
theorem d_H_valueIsZero_164 : decode prog_1_method_21_code 164 = .ok (.getfield 124, 3) := by decide +kernel
theorem d_H_valueIsZero_167 : decode prog_1_method_21_code 167 = .ok (.istore 6, 2) := by decide +kernel
theorem d_H_valueIsZero_169 : decode prog_1_method_21_code 169 = .ok (.aload_n 0, 1) := by decide +kernel
theorem d_H_valueIsZero_170 : decode prog_1_method_21_code 170 = .ok (.getfield 64, 3) := by decide +kernel
theorem d_H_valueIsZero_173 : decode prog_1_method_21_code 173 = .ok (.getfield 127, 3) := by decide +kernel
theorem d_H_valueIsZero_176 : decode prog_1_method_21_code 176 = .ok (.istore 7, 2) := by decide +kernel
theorem d_H_valueIsZero_178 : decode prog_1_method_21_code 178 = .ok (.iinc 8 1, 3) := by decide +kernel
theorem d_H_valueIsZero_181 : decode prog_1_method_21_code 181 = .ok (.goto (-172), 3) := by decide +kernel
theorem d_H_valueIsZero_184 : decode prog_1_method_21_code 184 = .ok (.iload 6, 2) := by decide +kernel
theorem d_H_valueIsZero_186 : decode prog_1_method_21_code 186 = .ok (.ifCond .ne 7, 3) := by decide +kernel
theorem d_H_valueIsZero_189 : decode prog_1_method_21_code 189 = .ok (.iconst 1, 1) := by decide +kernel
theorem d_H_valueIsZero_190 : decode prog_1_method_21_code 190 = .ok (.goto 4, 3) := by decide +kernel
theorem d_H_valueIsZero_193 : decode prog_1_method_21_code 193 = .ok (.iconst 0, 1) := by decide +kernel
theorem d_H_valueIsZero_194 : decode prog_1_method_21_code 194 = .ok (.ireturn, 1) := by decide +kernel
def tb_H_valueIsZero_0 : List (Nat × jm_Op) := [(0, oC 0 1), (1, oIs 6 3), (3, oC 1 4), (4, oIs 7 6), (6, oC 0 7), (7, oIs 8 9), (9, oIl 8 11), (11, oAl 1 12), (12, oGi 5 0 15), (15, oIcGe 184 18), (18, oAl 1 19), (19, oGr 5 1 8 22), (22, oIl 8 24), (24, oIa 25), (25, oIs 9 27), (27, oAl 1 28), (28, oGr 5 2 8 31), (31, oIl 8 33), (33, oIa 34), (34, oIs 10 36), (36, oC 0 37), (37, oIs 11 39), (39, oIl 11 41), (41, oAl 0 42), (42, oGi 1 0 45), (45, oIcGe 145 48), (48, oIl 11 50), (50, oIfNe 57 53), (53, oIl 2 54), (54, oGo 80), (57, oIl 11 59), (59, oC 1 60), (60, oIcNe 67 63), (63, oIl 3 64), (64, oGo 80), (67, oIl 11 69), (69, oC 2 70), (70, oIcNe 78 73), (73, oIl 4 75), (75, oGo 80), (78, oIl 5 80), (80, oIs 12 82), (82, oAl 1 83), (83, oGr 5 3 8 86), (86, oIl 8 88), (88, oIa 89), (89, oIl 11 91), (94, oIs 13 96), (96, oIl 13 98), (98, oIfLe 139 101)]
theorem ok_H_valueIsZero_0 : jm_all 39 tb_H_valueIsZero_0 := ⟨s_iconst d_H_valueIsZero_0 (by decide), s_istore d_H_valueIsZero_1 (by decide), s_iconst d_H_valueIsZero_3 (by decide), s_istore d_H_valueIsZero_4 (by decide), s_iconst d_H_valueIsZero_6 (by decide), s_istore d_H_valueIsZero_7 (by decide), s_iload d_H_valueIsZero_9, s_aload_n d_H_valueIsZero_11 rfl, s_getiN d_H_valueIsZero_12 ci_P rfl wd_100, s_icmp_ge d_H_valueIsZero_15 (by decide), s_aload_n d_H_valueIsZero_18 rfl, s_getrN d_H_valueIsZero_19 ci_P rfl wd_104, s_iload d_H_valueIsZero_22, s_iaload d_H_valueIsZero_24, s_istore d_H_valueIsZero_25 (by decide), s_aload_n d_H_valueIsZero_27 rfl, s_getrN d_H_valueIsZero_28 ci_P rfl wd_108, s_iload d_H_valueIsZero_31, s_iaload d_H_valueIsZero_33, s_istore d_H_valueIsZero_34 (by decide), s_iconst d_H_valueIsZero_36 (by decide), s_istore d_H_valueIsZero_37 (by decide), s_iload d_H_valueIsZero_39, s_aload_n d_H_valueIsZero_41 rfl, s_geti d_H_valueIsZero_42 ci_H rfl wd_242, s_icmp_ge d_H_valueIsZero_45 (by decide), s_iload d_H_valueIsZero_48, s_if_ne d_H_valueIsZero_50 (by decide), s_iload_n d_H_valueIsZero_53 rfl, s_goto d_H_valueIsZero_54 (by decide), s_iload d_H_valueIsZero_57, s_iconst d_H_valueIsZero_59 (by decide), s_icmp_ne d_H_valueIsZero_60 (by decide), s_iload_n d_H_valueIsZero_63 rfl, s_goto d_H_valueIsZero_64 (by decide), s_iload d_H_valueIsZero_67, s_iconst d_H_valueIsZero_69 (by decide), s_icmp_ne d_H_valueIsZero_70 (by decide), s_iload d_H_valueIsZero_73, s_goto d_H_valueIsZero_75 (by decide), s_iload d_H_valueIsZero_78, s_istore d_H_valueIsZero_80 (by decide), s_aload_n d_H_valueIsZero_82 rfl, s_getrN d_H_valueIsZero_83 ci_P rfl wd_111, s_iload d_H_valueIsZero_86, s_iaload d_H_valueIsZero_88, s_iload d_H_valueIsZero_89, s_istore d_H_valueIsZero_94 (by decide), s_iload d_H_valueIsZero_96, s_if_le d_H_valueIsZero_98 (by decide), trivial⟩
def tb_H_valueIsZero_1 : List (Nat × jm_Op) := [(101, oAl 0 102), (102, oGr 1 10 4 105), (105, oIl 9 107), (107, oIl 10 109), (109, oIl 12 111), (111, oC 1 112), (115, oAl 0 116), (116, oGr 1 10 4 119), (119, oGi 4 0 122), (122, oIs 9 124), (124, oAl 0 125), (125, oGr 1 10 4 128), (128, oGi 4 1 131), (131, oIs 10 133), (133, oInc 13 (-1) 136), (136, oGo 96), (139, oInc 11 1 142), (142, oGo 39), (145, oAl 0 146), (146, oGr 1 10 4 149), (149, oIl 6 151), (151, oIl 7 153), (153, oIl 9 155), (155, oIl 10 157), (160, oAl 0 161), (161, oGr 1 10 4 164), (164, oGi 4 0 167), (167, oIs 6 169), (169, oAl 0 170), (170, oGr 1 10 4 173), (173, oGi 4 1 176), (176, oIs 7 178), (178, oInc 8 1 181), (181, oGo 9), (184, oIl 6 186), (186, oIfNe 193 189), (189, oC 1 190), (190, oGo 194), (193, oC 0 194)]
theorem ok_H_valueIsZero_1 : jm_all 39 tb_H_valueIsZero_1 := ⟨s_aload_n d_H_valueIsZero_101 rfl, s_getr d_H_valueIsZero_102 ci_H rfl wd_252, s_iload d_H_valueIsZero_105, s_iload d_H_valueIsZero_107, s_iload d_H_valueIsZero_109, s_iconst d_H_valueIsZero_111 (by decide), s_aload_n d_H_valueIsZero_115 rfl, s_getr d_H_valueIsZero_116 ci_H rfl wd_252, s_getiN d_H_valueIsZero_119 ci_F rfl wd_137, s_istore d_H_valueIsZero_122 (by decide), s_aload_n d_H_valueIsZero_124 rfl, s_getr d_H_valueIsZero_125 ci_H rfl wd_252, s_getiN d_H_valueIsZero_128 ci_F rfl wd_141, s_istore d_H_valueIsZero_131 (by decide), s_iinc d_H_valueIsZero_133 (by decide) (by decide), s_goto d_H_valueIsZero_136 (by decide), s_iinc d_H_valueIsZero_139 (by decide) (by decide), s_goto d_H_valueIsZero_142 (by decide), s_aload_n d_H_valueIsZero_145 rfl, s_getr d_H_valueIsZero_146 ci_H rfl wd_252, s_iload d_H_valueIsZero_149, s_iload d_H_valueIsZero_151, s_iload d_H_valueIsZero_153, s_iload d_H_valueIsZero_155, s_aload_n d_H_valueIsZero_160 rfl, s_getr d_H_valueIsZero_161 ci_H rfl wd_252, s_getiN d_H_valueIsZero_164 ci_F rfl wd_137, s_istore d_H_valueIsZero_167 (by decide), s_aload_n d_H_valueIsZero_169 rfl, s_getr d_H_valueIsZero_170 ci_H rfl wd_252, s_getiN d_H_valueIsZero_173 ci_F rfl wd_141, s_istore d_H_valueIsZero_176 (by decide), s_iinc d_H_valueIsZero_178 (by decide) (by decide), s_goto d_H_valueIsZero_181 (by decide), s_iload d_H_valueIsZero_184, s_if_ne d_H_valueIsZero_186 (by decide), s_iconst d_H_valueIsZero_189 (by decide), s_goto d_H_valueIsZero_190 (by decide), s_iconst d_H_valueIsZero_193 (by decide), trivial⟩
def tb_H_valueIsZero : List (Nat × jm_Op) := tb_H_valueIsZero_0 ++ tb_H_valueIsZero_1
theorem ok_H_valueIsZero : jm_all 39 tb_H_valueIsZero := jm_all_app ok_H_valueIsZero_0 ok_H_valueIsZero_1
theorem k_H_valueIsZero_91 {g : jm_G} {d : Nat} {L : List (Option jm_V)} {r : List jm_V} {σ : jm_S} {K K' : jm_O → Prop} {x0 : Int32} {x1 : Int32} (hr : Nat.ble (jm_cs r) 8 = true) (hcal : J g d 14 0 [some (aI x0), some (aI x1)] [] σ K') (hk : ∀ u, K' u → jm_aft g (d + 1) 39 91 L r u K) : J g (d + 1) 39 91 L (aI x1 :: aI x0 :: r) σ K :=
  J_call' (id' := 14) jm_sk (vs := [aI x0, aI x1]) (inv_S (id' := 14) d_H_valueIsZero_91 wd_450 wd_317 wd_54 cw_H_exponent (by decide) pn_H_exponent) cw_H_exponent (by decide) (by decide) (Nat.le_of_ble_eq_true rfl) rfl hr rfl hcal hk
theorem k_H_valueIsZero_112 {g : jm_G} {d : Nat} {L : List (Option jm_V)} {r : List jm_V} {σ : jm_S} {K K' : jm_O → Prop} {q0 : Nat} {x0 : Int32} {x1 : Int32} {x2 : Int32} {x3 : Int32} (hr : Nat.ble (jm_cs r) 8 = true) (hcal : J g d 33 0 [some (aR 4 q0), some (aI x0), some (aI x1), some (aI x2), some (aI x3)] [] σ K') (hk : ∀ u, K' u → jm_aft g (d + 1) 39 112 L r u K) : J g (d + 1) 39 112 L (aI x3 :: aI x2 :: aI x1 :: aI x0 :: aR 4 q0 :: r) σ K :=
  J_call' (id' := 33) jm_sk (vs := [aR 4 q0, aI x0, aI x1, aI x2, aI x3]) (inv_V (id' := 33) d_H_valueIsZero_112 ci_F wd_490 wd_461 wd_462 cw_F_times (by decide) pn_F_times) cw_F_times (by decide) (by decide) (Nat.le_of_ble_eq_true rfl) rfl hr rfl hcal hk
theorem k_H_valueIsZero_157 {g : jm_G} {d : Nat} {L : List (Option jm_V)} {r : List jm_V} {σ : jm_S} {K K' : jm_O → Prop} {q0 : Nat} {x0 : Int32} {x1 : Int32} {x2 : Int32} {x3 : Int32} (hr : Nat.ble (jm_cs r) 8 = true) (hcal : J g d 25 0 [some (aR 4 q0), some (aI x0), some (aI x1), some (aI x2), some (aI x3)] [] σ K') (hk : ∀ u, K' u → jm_aft g (d + 1) 39 157 L r u K) : J g (d + 1) 39 157 L (aI x3 :: aI x2 :: aI x1 :: aI x0 :: aR 4 q0 :: r) σ K :=
  J_call' (id' := 25) jm_sk (vs := [aR 4 q0, aI x0, aI x1, aI x2, aI x3]) (inv_V (id' := 25) d_H_valueIsZero_157 ci_F wd_491 wd_426 wd_427 cw_F_plus (by decide) pn_F_plus) cw_F_plus (by decide) (by decide) (Nat.le_of_ble_eq_true rfl) rfl hr rfl hcal hk
theorem r_H_valueIsZero_194 {g : jm_G} {d : Nat} {L : List (Option jm_V)} {σ : jm_S} {K : jm_O → Prop} {v : Int32} (hK : K (σ, .inl (some (aI v)))) : J g d 39 194 L [aI v] σ K := J_iret d_H_valueIsZero_194 rfl hK
-- IdealProver generator (I)I
theorem d_H_generator_0 : decode prog_1_method_23_code 0 = .ok (.iload_n 1, 1) := by decide +kernel
theorem d_H_generator_1 : decode prog_1_method_23_code 1 = .ok (.invokestatic 114, 3) := by decide +kernel
theorem d_H_generator_4 : decode prog_1_method_23_code 4 = .ok (.ifCond .ne 5, 3) := by decide +kernel
theorem d_H_generator_7 : decode prog_1_method_23_code 7 = .ok (.iconst (-1), 1) := by decide +kernel
theorem d_H_generator_8 : decode prog_1_method_23_code 8 = .ok (.ireturn, 1) := by decide +kernel
theorem d_H_generator_9 : decode prog_1_method_23_code 9 = .ok (.aload_n 0, 1) := by decide +kernel
theorem d_H_generator_10 : decode prog_1_method_23_code 10 = .ok (.getfield 111, 3) := by decide +kernel
theorem d_H_generator_13 : decode prog_1_method_23_code 13 = .ok (.bipush 8, 2) := by decide +kernel
theorem d_H_generator_15 : decode prog_1_method_23_code 15 = .ok (.if_icmp .ne 6, 3) := by decide +kernel
theorem d_H_generator_18 : decode prog_1_method_23_code 18 = .ok (.bipush (-4), 2) := by decide +kernel
theorem d_H_generator_20 : decode prog_1_method_23_code 20 = .ok (.ireturn, 1) := by decide +kernel
theorem d_H_generator_21 : decode prog_1_method_23_code 21 = .ok (.aload_n 0, 1) := by decide +kernel
theorem d_H_generator_22 : decode prog_1_method_23_code 22 = .ok (.getfield 46, 3) := by decide +kernel
theorem d_H_generator_25 : decode prog_1_method_23_code 25 = .ok (.aload_n 0, 1) := by decide +kernel
theorem d_H_generator_26 : decode prog_1_method_23_code 26 = .ok (.getfield 111, 3) := by decide +kernel
theorem d_H_generator_29 : decode prog_1_method_23_code 29 = .ok (.aaload, 1) := by decide +kernel
theorem d_H_generator_30 : decode prog_1_method_23_code 30 = .ok (.aload_n 0, 1) := by decide +kernel
theorem d_H_generator_31 : decode prog_1_method_23_code 31 = .ok (.getfield 42, 3) := by decide +kernel
theorem d_H_generator_34 : decode prog_1_method_23_code 34 = .ok (.iload_n 1, 1) := by decide +kernel
theorem d_H_generator_35 : decode prog_1_method_23_code 35 = .ok (.aaload, 1) := by decide +kernel
theorem d_H_generator_36 : decode prog_1_method_23_code 36 = .ok (.invokevirtual 92, 3) := by decide +kernel
theorem d_H_generator_39 : decode prog_1_method_23_code 39 = .ok (.aload_n 0, 1) := by decide +kernel
theorem d_H_generator_40 : decode prog_1_method_23_code 40 = .ok (.iconst 0, 1) := by decide +kernel
theorem d_H_generator_41 : decode prog_1_method_23_code 41 = .ok (.putfield 99, 3) := by decide +kernel
theorem d_H_generator_44 : decode prog_1_method_23_code 44 = .ok (.aload_n 0, 1) := by decide +kernel
theorem d_H_generator_45 : decode prog_1_method_23_code 45 = .ok (.dup, 1) := by decide +kernel
theorem d_H_generator_46 : decode prog_1_method_23_code 46 = .ok (.getfield 111, 3) := by decide +kernel
theorem d_H_generator_49 : decode prog_1_method_23_code 49 = .ok (.dup_x1, 1) := by decide +kernel
theorem d_H_generator_50 : decode prog_1_method_23_code 50 = .ok (.iconst 1, 1) := by decide +kernel
theorem d_H_generator_51 : decode prog_1_method_23_code 51 = .ok (.iadd, 1) := by decide +kernel
theorem d_H_generator_52 : decode prog_1_method_23_code 52 = .ok (.putfield 111, 3) := by decide +kernel
theorem d_H_generator_55 : decode prog_1_method_23_code 55 = .ok (.ireturn, 1) := by decide +kernel
def tb_H_generator : List (Nat × jm_Op) := [(0, oIl 1 1), (4, oIfNe 9 7), (7, oC (-1) 8), (9, oAl 0 10), (10, oGi 1 5 13), (13, oC 8 15), (15, oIcNe 21 18), (18, oC (-4) 20), (21, oAl 0 22), (22, oGr 1 4 10 25), (25, oAl 0 26), (26, oGi 1 5 29), (29, oRa 30), (30, oAl 0 31), (31, oGr 1 3 10 34), (34, oIl 1 35), (35, oRa 36), (39, oAl 0 40), (40, oC 0 41), (41, oPz 1 8 44), (44, oAl 0 45), (45, oDup 46), (46, oGi 1 5 49), (49, oDupX1 50), (50, oC 1 51), (51, oAdd 52), (52, oPi 1 5 55)]
theorem ok_H_generator : jm_all 40 tb_H_generator := ⟨s_iload_n d_H_generator_0 rfl, s_if_ne d_H_generator_4 (by decide), s_iconst d_H_generator_7 (by decide), s_aload_n d_H_generator_9 rfl, s_geti d_H_generator_10 ci_H rfl wd_247, s_bipush d_H_generator_13 (by decide), s_icmp_ne d_H_generator_15 (by decide), s_bipush d_H_generator_18 (by decide), s_aload_n d_H_generator_21 rfl, s_getr d_H_generator_22 ci_H rfl wd_246, s_aload_n d_H_generator_25 rfl, s_geti d_H_generator_26 ci_H rfl wd_247, s_aaload d_H_generator_29, s_aload_n d_H_generator_30 rfl, s_getr d_H_generator_31 ci_H rfl wd_245, s_iload_n d_H_generator_34 rfl, s_aaload d_H_generator_35, s_aload_n d_H_generator_39 rfl, s_iconst d_H_generator_40 (by decide), s_putz d_H_generator_41 ci_H rfl rfl rfl wd_250, s_aload_n d_H_generator_44 rfl, s_dup d_H_generator_45, s_geti d_H_generator_46 ci_H rfl wd_247, s_dup_x1 d_H_generator_49, s_iconst d_H_generator_50 (by decide), s_iadd d_H_generator_51, s_puti d_H_generator_52 ci_H rfl rfl rfl wd_247, trivial⟩
theorem k_H_generator_1 {g : jm_G} {d : Nat} {L : List (Option jm_V)} {r : List jm_V} {σ : jm_S} {K K' : jm_O → Prop} {x0 : Int32} (hr : Nat.ble (jm_cs r) 8 = true) (hcal : J g d 17 0 [some (aI x0)] [] σ K') (hk : ∀ u, K' u → jm_aft g (d + 1) 40 1 L r u K) : J g (d + 1) 40 1 L (aI x0 :: r) σ K :=
  J_call' (id' := 17) jm_sk (vs := [aI x0]) (inv_S (id' := 17) d_H_generator_1 wd_329 wd_330 wd_54 cw_H_isPlace (by decide) pn_H_isPlace) cw_H_isPlace (by decide) (by decide) (Nat.le_of_ble_eq_true rfl) rfl hr rfl hcal hk
theorem r_H_generator_8 {g : jm_G} {d : Nat} {L : List (Option jm_V)} {σ : jm_S} {K : jm_O → Prop} {v : Int32} (hK : K (σ, .inl (some (aI v)))) : J g d 40 8 L [aI v] σ K := J_iret d_H_generator_8 rfl hK
theorem r_H_generator_20 {g : jm_G} {d : Nat} {L : List (Option jm_V)} {σ : jm_S} {K : jm_O → Prop} {v : Int32} (hK : K (σ, .inl (some (aI v)))) : J g d 40 20 L [aI v] σ K := J_iret d_H_generator_20 rfl hK
theorem k_H_generator_36 {g : jm_G} {d : Nat} {L : List (Option jm_V)} {r : List jm_V} {σ : jm_S} {K K' : jm_O → Prop} {q0 : Nat} {x0 : Nat} (hr : Nat.ble (jm_cs r) 8 = true) (hcal : J g d 19 0 [some (aR 5 q0), some (aR 5 x0)] [] σ K') (hk : ∀ u, K' u → jm_aft g (d + 1) 40 36 L r u K) : J g (d + 1) 40 36 L (aR 5 x0 :: aR 5 q0 :: r) σ K :=
  J_call' (id' := 19) jm_sk (vs := [aR 5 q0, aR 5 x0]) (inv_V (id' := 19) d_H_generator_36 ci_P wd_339 wd_340 wd_341 cw_P_become (by decide) pn_P_become) cw_P_become (by decide) (by decide) (Nat.le_of_ble_eq_true rfl) rfl hr rfl hcal hk
theorem r_H_generator_55 {g : jm_G} {d : Nat} {L : List (Option jm_V)} {σ : jm_S} {K : jm_O → Prop} {v : Int32} (hK : K (σ, .inl (some (aI v)))) : J g d 40 55 L [aI v] σ K := J_iret d_H_generator_55 rfl hK
-- IdealProver clear ()I
theorem d_H_clear_0 : decode prog_1_method_24_code 0 = .ok (.aload_n 0, 1) := by decide +kernel
theorem d_H_clear_1 : decode prog_1_method_24_code 1 = .ok (.getfield 111, 3) := by decide +kernel
theorem d_H_clear_4 : decode prog_1_method_24_code 4 = .ok (.istore_n 1, 1) := by decide +kernel
theorem d_H_clear_5 : decode prog_1_method_24_code 5 = .ok (.aload_n 0, 1) := by decide +kernel
theorem d_H_clear_6 : decode prog_1_method_24_code 6 = .ok (.iconst 0, 1) := by decide +kernel
theorem d_H_clear_7 : decode prog_1_method_24_code 7 = .ok (.putfield 111, 3) := by decide +kernel
theorem d_H_clear_10 : decode prog_1_method_24_code 10 = .ok (.aload_n 0, 1) := by decide +kernel
theorem d_H_clear_11 : decode prog_1_method_24_code 11 = .ok (.iconst 0, 1) := by decide +kernel
theorem d_H_clear_12 : decode prog_1_method_24_code 12 = .ok (.putfield 99, 3) := by decide +kernel
theorem d_H_clear_15 : decode prog_1_method_24_code 15 = .ok (.iload_n 1, 1) := by decide +kernel
theorem d_H_clear_16 : decode prog_1_method_24_code 16 = .ok (.ireturn, 1) := by decide +kernel
def tb_H_clear : List (Nat × jm_Op) := [(0, oAl 0 1), (1, oGi 1 5 4), (4, oIs 1 5), (5, oAl 0 6), (6, oC 0 7), (7, oPi 1 5 10), (10, oAl 0 11), (11, oC 0 12), (12, oPz 1 8 15), (15, oIl 1 16)]
theorem ok_H_clear : jm_all 41 tb_H_clear := ⟨s_aload_n d_H_clear_0 rfl, s_geti d_H_clear_1 ci_H rfl wd_247, s_istore_n d_H_clear_4 rfl (by decide), s_aload_n d_H_clear_5 rfl, s_iconst d_H_clear_6 (by decide), s_puti d_H_clear_7 ci_H rfl rfl rfl wd_247, s_aload_n d_H_clear_10 rfl, s_iconst d_H_clear_11 (by decide), s_putz d_H_clear_12 ci_H rfl rfl rfl wd_250, s_iload_n d_H_clear_15 rfl, trivial⟩
theorem r_H_clear_16 {g : jm_G} {d : Nat} {L : List (Option jm_V)} {σ : jm_S} {K : jm_O → Prop} {v : Int32} (hK : K (σ, .inl (some (aI v)))) : J g d 41 16 L [aI v] σ K := J_iret d_H_clear_16 rfl hK
-- IdealProver basis (I)I
theorem d_H_basis_0 : decode prog_1_method_26_code 0 = .ok (.iload_n 1, 1) := by decide +kernel
theorem d_H_basis_1 : decode prog_1_method_26_code 1 = .ok (.invokestatic 174, 3) := by decide +kernel
theorem d_H_basis_4 : decode prog_1_method_26_code 4 = .ok (.ifCond .ne 6, 3) := by decide +kernel
theorem d_H_basis_7 : decode prog_1_method_26_code 7 = .ok (.bipush (-2), 2) := by decide +kernel
theorem d_H_basis_9 : decode prog_1_method_26_code 9 = .ok (.ireturn, 1) := by decide +kernel
theorem d_H_basis_10 : decode prog_1_method_26_code 10 = .ok (.aload_n 0, 1) := by decide +kernel
theorem d_H_basis_11 : decode prog_1_method_26_code 11 = .ok (.iconst 0, 1) := by decide +kernel
theorem d_H_basis_12 : decode prog_1_method_26_code 12 = .ok (.putfield 99, 3) := by decide +kernel
theorem d_H_basis_15 : decode prog_1_method_26_code 15 = .ok (.aload_n 0, 1) := by decide +kernel
theorem d_H_basis_16 : decode prog_1_method_26_code 16 = .ok (.iconst 0, 1) := by decide +kernel
theorem d_H_basis_17 : decode prog_1_method_26_code 17 = .ok (.putfield 177, 3) := by decide +kernel
theorem d_H_basis_20 : decode prog_1_method_26_code 20 = .ok (.aload_n 0, 1) := by decide +kernel
theorem d_H_basis_21 : decode prog_1_method_26_code 21 = .ok (.getfield 54, 3) := by decide +kernel
theorem d_H_basis_24 : decode prog_1_method_26_code 24 = .ok (.aload_n 0, 1) := by decide +kernel
theorem d_H_basis_25 : decode prog_1_method_26_code 25 = .ok (.invokevirtual 103, 3) := by decide +kernel
theorem d_H_basis_28 : decode prog_1_method_26_code 28 = .ok (.iload_n 1, 1) := by decide +kernel
theorem d_H_basis_29 : decode prog_1_method_26_code 29 = .ok (.invokevirtual 180, 3) := by decide +kernel
theorem d_H_basis_32 : decode prog_1_method_26_code 32 = .ok (.iconst 0, 1) := by decide +kernel
theorem d_H_basis_33 : decode prog_1_method_26_code 33 = .ok (.istore_n 2, 1) := by decide +kernel
theorem d_H_basis_34 : decode prog_1_method_26_code 34 = .ok (.iload_n 2, 1) := by decide +kernel
theorem d_H_basis_35 : decode prog_1_method_26_code 35 = .ok (.aload_n 0, 1) := by decide +kernel
theorem d_H_basis_36 : decode prog_1_method_26_code 36 = .ok (.getfield 111, 3) := by decide +kernel
theorem d_H_basis_39 : decode prog_1_method_26_code 39 = .ok (.if_icmp .ge 26, 3) := by decide +kernel
theorem d_H_basis_42 : decode prog_1_method_26_code 42 = .ok (.aload_n 0, 1) := by decide +kernel
theorem d_H_basis_43 : decode prog_1_method_26_code 43 = .ok (.getfield 54, 3) := by decide +kernel
theorem d_H_basis_46 : decode prog_1_method_26_code 46 = .ok (.aload_n 0, 1) := by decide +kernel
theorem d_H_basis_47 : decode prog_1_method_26_code 47 = .ok (.getfield 46, 3) := by decide +kernel
theorem d_H_basis_50 : decode prog_1_method_26_code 50 = .ok (.iload_n 2, 1) := by decide +kernel
theorem d_H_basis_51 : decode prog_1_method_26_code 51 = .ok (.aaload, 1) := by decide +kernel
theorem d_H_basis_52 : decode prog_1_method_26_code 52 = .ok (.aload_n 0, 1) := by decide +kernel
theorem d_H_basis_53 : decode prog_1_method_26_code 53 = .ok (.getfield 111, 3) := by decide +kernel
theorem d_H_basis_56 : decode prog_1_method_26_code 56 = .ok (.invokevirtual 184, 3) := by decide +kernel
theorem d_H_basis_59 : decode prog_1_method_26_code 59 = .ok (.iinc 2 1, 3) := by decide +kernel
theorem d_H_basis_62 : decode prog_1_method_26_code 62 = .ok (.goto (-28), 3) := by decide +kernel
theorem d_H_basis_65 : decode prog_1_method_26_code 65 = .ok (.aload_n 0, 1) := by decide +kernel
theorem d_H_basis_66 : decode prog_1_method_26_code 66 = .ok (.getfield 54, 3) := by decide +kernel
theorem d_H_basis_69 : decode prog_1_method_26_code 69 = .ok (.aload_n 0, 1) := by decide +kernel
theorem d_H_basis_70 : decode prog_1_method_26_code 70 = .ok (.getfield 111, 3) := by decide +kernel
theorem d_H_basis_73 : decode prog_1_method_26_code 73 = .ok (.invokevirtual 188, 3) := by decide +kernel
theorem d_H_basis_76 : decode prog_1_method_26_code 76 = .ok (.goto 9, 3) := by decide +kernel
theorem d_H_basis_79 : decode prog_1_method_26_code 79 = .ok (.astore_n 2, 1) := by decide +kernel
theorem d_H_basis_80 : decode prog_1_method_26_code 80 = .ok (.aload_n 2, 1) := by decide +kernel
theorem d_H_basis_81 : decode prog_1_method_26_code 81 = .ok (.getfield 136, 3) := by decide +kernel
theorem d_H_basis_84 : decode prog_1_method_26_code 84 = .ok (.ireturn, 1) := by decide +kernel
theorem d_H_basis_85 : decode prog_1_method_26_code 85 = .ok (.aload_n 0, 1) := by decide +kernel
theorem d_H_basis_86 : decode prog_1_method_26_code 86 = .ok (.iconst 1, 1) := by decide +kernel
theorem d_H_basis_87 : decode prog_1_method_26_code 87 = .ok (.putfield 99, 3) := by decide +kernel
theorem d_H_basis_90 : decode prog_1_method_26_code 90 = .ok (.aload_n 0, 1) := by decide +kernel
theorem d_H_basis_91 : decode prog_1_method_26_code 91 = .ok (.getfield 54, 3) := by decide +kernel
theorem d_H_basis_94 : decode prog_1_method_26_code 94 = .ok (.getfield 191, 3) := by decide +kernel
theorem d_H_basis_97 : decode prog_1_method_26_code 97 = .ok (.ireturn, 1) := by decide +kernel
def tb_H_basis : List (Nat × jm_Op) := [(0, oIl 1 1), (4, oIfNe 10 7), (7, oC (-2) 9), (10, oAl 0 11), (11, oC 0 12), (12, oPz 1 8 15), (15, oAl 0 16), (16, oC 0 17), (17, oPz 1 9 20), (20, oAl 0 21), (21, oGr 1 6 2 24), (24, oAl 0 25), (28, oIl 1 29), (32, oC 0 33), (33, oIs 2 34), (34, oIl 2 35), (35, oAl 0 36), (36, oGi 1 5 39), (39, oIcGe 65 42), (42, oAl 0 43), (43, oGr 1 6 2 46), (46, oAl 0 47), (47, oGr 1 4 10 50), (50, oIl 2 51), (51, oRa 52), (52, oAl 0 53), (53, oGi 1 5 56), (59, oInc 2 1 62), (62, oGo 34), (65, oAl 0 66), (66, oGr 1 6 2 69), (69, oAl 0 70), (70, oGi 1 5 73), (76, oGo 85), (79, oAs 2 80), (80, oAl 2 81), (81, oGi 7 0 84), (85, oAl 0 86), (86, oC 1 87), (87, oPz 1 8 90), (90, oAl 0 91), (91, oGr 1 6 2 94), (94, oGi 2 10 97)]
theorem ok_H_basis : jm_all 42 tb_H_basis := ⟨s_iload_n d_H_basis_0 rfl, s_if_ne d_H_basis_4 (by decide), s_bipush d_H_basis_7 (by decide), s_aload_n d_H_basis_10 rfl, s_iconst d_H_basis_11 (by decide), s_putz d_H_basis_12 ci_H rfl rfl rfl wd_250, s_aload_n d_H_basis_15 rfl, s_iconst d_H_basis_16 (by decide), s_putz d_H_basis_17 ci_H rfl rfl rfl wd_251, s_aload_n d_H_basis_20 rfl, s_getr d_H_basis_21 ci_H rfl wd_248, s_aload_n d_H_basis_24 rfl, s_iload_n d_H_basis_28 rfl, s_iconst d_H_basis_32 (by decide), s_istore_n d_H_basis_33 rfl (by decide), s_iload_n d_H_basis_34 rfl, s_aload_n d_H_basis_35 rfl, s_geti d_H_basis_36 ci_H rfl wd_247, s_icmp_ge d_H_basis_39 (by decide), s_aload_n d_H_basis_42 rfl, s_getr d_H_basis_43 ci_H rfl wd_248, s_aload_n d_H_basis_46 rfl, s_getr d_H_basis_47 ci_H rfl wd_246, s_iload_n d_H_basis_50 rfl, s_aaload d_H_basis_51, s_aload_n d_H_basis_52 rfl, s_geti d_H_basis_53 ci_H rfl wd_247, s_iinc d_H_basis_59 (by decide) (by decide), s_goto d_H_basis_62 (by decide), s_aload_n d_H_basis_65 rfl, s_getr d_H_basis_66 ci_H rfl wd_248, s_aload_n d_H_basis_69 rfl, s_geti d_H_basis_70 ci_H rfl wd_247, s_goto d_H_basis_76 (by decide), s_astore_n d_H_basis_79 rfl (by decide), s_aload_n d_H_basis_80 rfl, s_getiN d_H_basis_81 ci_S rfl wd_400, s_aload_n d_H_basis_85 rfl, s_iconst d_H_basis_86 (by decide), s_putz d_H_basis_87 ci_H rfl rfl rfl wd_250, s_aload_n d_H_basis_90 rfl, s_getr d_H_basis_91 ci_H rfl wd_248, s_getiN d_H_basis_94 ci_G rfl wd_187, trivial⟩
theorem k_H_basis_1 {g : jm_G} {d : Nat} {L : List (Option jm_V)} {r : List jm_V} {σ : jm_S} {K K' : jm_O → Prop} {x0 : Int32} (hr : Nat.ble (jm_cs r) 8 = true) (hcal : J g d 43 0 [some (aI x0)] [] σ K') (hk : ∀ u, K' u → jm_aft g (d + 1) 42 1 L r u K) : J g (d + 1) 42 1 L (aI x0 :: r) σ K :=
  J_call' (id' := 43) jm_sk (vs := [aI x0]) (inv_S (id' := 43) d_H_basis_1 wd_504 wd_505 wd_54 cw_H_isSteps (by decide) pn_H_isSteps) cw_H_isSteps (by decide) (by decide) (Nat.le_of_ble_eq_true rfl) rfl hr rfl hcal hk
theorem r_H_basis_9 {g : jm_G} {d : Nat} {L : List (Option jm_V)} {σ : jm_S} {K : jm_O → Prop} {v : Int32} (hK : K (σ, .inl (some (aI v)))) : J g d 42 9 L [aI v] σ K := J_iret d_H_basis_9 rfl hK
theorem k_H_basis_25 {g : jm_G} {d : Nat} {L : List (Option jm_V)} {r : List jm_V} {σ : jm_S} {K K' : jm_O → Prop} {q0 : Nat} (hr : Nat.ble (jm_cs r) 8 = true) (hcal : J g d 9 0 [some (aR 1 q0)] [] σ K') (hk : ∀ u, K' u → jm_aft g (d + 1) 42 25 L r u K) : J g (d + 1) 42 25 L (aR 1 q0 :: r) σ K :=
  J_call' (id' := 9) jm_sk (vs := [aR 1 q0]) (inv_V (id' := 9) d_H_basis_25 ci_H wd_296 wd_298 wd_0 cw_H_order2 (by decide) pn_H_order2) cw_H_order2 (by decide) (by decide) (Nat.le_of_ble_eq_true rfl) rfl hr rfl hcal hk
theorem k_H_basis_29 {g : jm_G} {d : Nat} {L : List (Option jm_V)} {r : List jm_V} {σ : jm_S} {K K' : jm_O → Prop} {q0 : Nat} {x0 : Nat} {x1 : Int32} (hr : Nat.ble (jm_cs r) 8 = true) (hcal : J g d 44 0 [some (aR 2 q0), some (aR 13 x0), some (aI x1)] [] σ K') (hk : ∀ u, K' u → jm_aft g (d + 1) 42 29 L r u K) : J g (d + 1) 42 29 L (aI x1 :: aR 13 x0 :: aR 2 q0 :: r) σ K :=
  J_call' (id' := 44) jm_sk (vs := [aR 2 q0, aR 13 x0, aI x1]) (inv_VN (id' := 44) d_H_basis_29 ci_G wd_507 wd_509 wd_8 cw_G_begin (by decide) pn_G_begin) cw_G_begin (by decide) (by decide) (Nat.le_of_ble_eq_true rfl) rfl hr rfl hcal hk
theorem k_H_basis_56 {g : jm_G} {d : Nat} {L : List (Option jm_V)} {r : List jm_V} {σ : jm_S} {K K' : jm_O → Prop} {q0 : Nat} {x0 : Nat} {x1 : Int32} (hr : Nat.ble (jm_cs r) 8 = true) (hcal : J g d 45 0 [some (aR 2 q0), some (aR 5 x0), some (aI x1), none, none, none] [] σ K') (hk : ∀ u, K' u → jm_aft g (d + 1) 42 56 L r u K) : J g (d + 1) 42 56 L (aI x1 :: aR 5 x0 :: aR 2 q0 :: r) σ K :=
  J_call' (id' := 45) jm_sk (vs := [aR 2 q0, aR 5 x0, aI x1]) (inv_V (id' := 45) d_H_basis_56 ci_G wd_511 wd_512 wd_513 cw_G_generator (by decide) pn_G_generator) cw_G_generator (by decide) (by decide) (Nat.le_of_ble_eq_true rfl) rfl hr rfl hcal hk
theorem k_H_basis_73 {g : jm_G} {d : Nat} {L : List (Option jm_V)} {r : List jm_V} {σ : jm_S} {K K' : jm_O → Prop} {q0 : Nat} {x0 : Int32} (hr : Nat.ble (jm_cs r) 8 = true) (hcal : J g d 49 0 [some (aR 2 q0), some (aI x0), none, none, none, none] [] σ K') (hk : ∀ u, K' u → jm_aft g (d + 1) 42 73 L r u K) : J g (d + 1) 42 73 L (aI x0 :: aR 2 q0 :: r) σ K :=
  J_call' (id' := 49) jm_sk (vs := [aR 2 q0, aI x0]) (inv_V (id' := 49) d_H_basis_73 ci_G wd_529 wd_530 wd_531 cw_G_complete (by decide) pn_G_complete) cw_G_complete (by decide) (by decide) (Nat.le_of_ble_eq_true rfl) rfl hr rfl hcal hk
theorem r_H_basis_84 {g : jm_G} {d : Nat} {L : List (Option jm_V)} {σ : jm_S} {K : jm_O → Prop} {v : Int32} (hK : K (σ, .inl (some (aI v)))) : J g d 42 84 L [aI v] σ K := J_iret d_H_basis_84 rfl hK
theorem r_H_basis_97 {g : jm_G} {d : Nat} {L : List (Option jm_V)} {σ : jm_S} {K : jm_O → Prop} {v : Int32} (hK : K (σ, .inl (some (aI v)))) : J g d 42 97 L [aI v] σ K := J_iret d_H_basis_97 rfl hK
-- IdealProver isSteps (I)Z
theorem d_H_isSteps_0 : decode prog_1_method_25_code 0 = .ok (.iload_n 0, 1) := by decide +kernel
theorem d_H_isSteps_1 : decode prog_1_method_25_code 1 = .ok (.ifCond .lt 14, 3) := by decide +kernel
theorem d_H_isSteps_4 : decode prog_1_method_25_code 4 = .ok (.iload_n 0, 1) := by decide +kernel
theorem d_H_isSteps_5 : decode prog_1_method_25_code 5 = .ok (.sipush 20000, 3) := by decide +kernel
theorem d_H_isSteps_8 : decode prog_1_method_25_code 8 = .ok (.if_icmp .gt 7, 3) := by decide +kernel
theorem d_H_isSteps_11 : decode prog_1_method_25_code 11 = .ok (.iconst 1, 1) := by decide +kernel
theorem d_H_isSteps_12 : decode prog_1_method_25_code 12 = .ok (.goto 4, 3) := by decide +kernel
theorem d_H_isSteps_15 : decode prog_1_method_25_code 15 = .ok (.iconst 0, 1) := by decide +kernel
theorem d_H_isSteps_16 : decode prog_1_method_25_code 16 = .ok (.ireturn, 1) := by decide +kernel
def tb_H_isSteps : List (Nat × jm_Op) := [(0, oIl 0 1), (1, oIfLt 15 4), (4, oIl 0 5), (5, oC 20000 8), (8, oIcGt 15 11), (11, oC 1 12), (12, oGo 16), (15, oC 0 16)]
theorem ok_H_isSteps : jm_all 43 tb_H_isSteps := ⟨s_iload_n d_H_isSteps_0 rfl, s_if_lt d_H_isSteps_1 (by decide), s_iload_n d_H_isSteps_4 rfl, s_sipush d_H_isSteps_5 (by decide), s_icmp_gt d_H_isSteps_8 (by decide), s_iconst d_H_isSteps_11 (by decide), s_goto d_H_isSteps_12 (by decide), s_iconst d_H_isSteps_15 (by decide), trivial⟩
theorem r_H_isSteps_16 {g : jm_G} {d : Nat} {L : List (Option jm_V)} {σ : jm_S} {K : jm_O → Prop} {v : Int32} (hv : v = 0 ∨ v = 1) (hK : K (σ, .inl (some (aI v)))) : J g d 43 16 L [aI v] σ K := J_zret d_H_isSteps_16 rfl hv hK
-- IdealProver common (II)I
theorem d_H_common_0 : decode prog_1_method_4_code 0 = .ok (.iconst 0, 1) := by decide +kernel
theorem d_H_common_1 : decode prog_1_method_4_code 1 = .ok (.istore_n 2, 1) := by decide +kernel
theorem d_H_common_2 : decode prog_1_method_4_code 2 = .ok (.iconst 0, 1) := by decide +kernel
theorem d_H_common_3 : decode prog_1_method_4_code 3 = .ok (.istore_n 3, 1) := by decide +kernel
theorem d_H_common_4 : decode prog_1_method_4_code 4 = .ok (.iload_n 3, 1) := by decide +kernel
theorem d_H_common_5 : decode prog_1_method_4_code 5 = .ok (.iconst 5, 1) := by decide +kernel
theorem d_H_common_6 : decode prog_1_method_4_code 6 = .ok (.if_icmp .ge 29, 3) := by decide +kernel
theorem d_H_common_9 : decode prog_1_method_4_code 9 = .ok (.iload_n 2, 1) := by decide +kernel
theorem d_H_common_10 : decode prog_1_method_4_code 10 = .ok (.iload_n 3, 1) := by decide +kernel
theorem d_H_common_11 : decode prog_1_method_4_code 11 = .ok (.iload_n 0, 1) := by decide +kernel
theorem d_H_common_12 : decode prog_1_method_4_code 12 = .ok (.iload_n 3, 1) := by decide +kernel
theorem d_H_common_13 : decode prog_1_method_4_code 13 = .ok (.invokestatic 1, 3) := by decide +kernel
theorem d_H_common_16 : decode prog_1_method_4_code 16 = .ok (.iload_n 1, 1) := by decide +kernel
theorem d_H_common_17 : decode prog_1_method_4_code 17 = .ok (.iload_n 3, 1) := by decide +kernel
theorem d_H_common_18 : decode prog_1_method_4_code 18 = .ok (.invokestatic 1, 3) := by decide +kernel
theorem d_H_common_21 : decode prog_1_method_4_code 21 = .ok (.invokestatic 7, 3) := by decide +kernel
theorem d_H_common_24 : decode prog_1_method_4_code 24 = .ok (.invokestatic 12, 3) := by decide +kernel
theorem d_H_common_27 : decode prog_1_method_4_code 27 = .ok (.ior, 1) := by decide +kernel
theorem d_H_common_28 : decode prog_1_method_4_code 28 = .ok (.istore_n 2, 1) := by decide +kernel
theorem d_H_common_29 : decode prog_1_method_4_code 29 = .ok (.iinc 3 1, 3) := by decide +kernel
theorem d_H_common_32 : decode prog_1_method_4_code 32 = .ok (.goto (-28), 3) := by decide +kernel
theorem d_H_common_35 : decode prog_1_method_4_code 35 = .ok (.iload_n 2, 1) := by decide +kernel
theorem d_H_common_36 : decode prog_1_method_4_code 36 = .ok (.ireturn, 1) := by decide +kernel
def tb_H_common : List (Nat × jm_Op) := [(0, oC 0 1), (1, oIs 2 2), (2, oC 0 3), (3, oIs 3 4), (4, oIl 3 5), (5, oC 5 6), (6, oIcGe 35 9), (9, oIl 2 10), (10, oIl 3 11), (11, oIl 0 12), (12, oIl 3 13), (16, oIl 1 17), (17, oIl 3 18), (21, oMax 24), (27, oOr 28), (28, oIs 2 29), (29, oInc 3 1 32), (32, oGo 4), (35, oIl 2 36)]
theorem ok_H_common : jm_all 52 tb_H_common := ⟨s_iconst d_H_common_0 (by decide), s_istore_n d_H_common_1 rfl (by decide), s_iconst d_H_common_2 (by decide), s_istore_n d_H_common_3 rfl (by decide), s_iload_n d_H_common_4 rfl, s_iconst d_H_common_5 (by decide), s_icmp_ge d_H_common_6 (by decide), s_iload_n d_H_common_9 rfl, s_iload_n d_H_common_10 rfl, s_iload_n d_H_common_11 rfl, s_iload_n d_H_common_12 rfl, s_iload_n d_H_common_16 rfl, s_iload_n d_H_common_17 rfl, s_max d_H_common_21 wd_239 wd_240 wd_61 wd_241, s_ior d_H_common_27, s_istore_n d_H_common_28 rfl (by decide), s_iinc d_H_common_29 (by decide) (by decide), s_goto d_H_common_32 (by decide), s_iload_n d_H_common_35 rfl, trivial⟩
theorem k_H_common_13 {g : jm_G} {d : Nat} {L : List (Option jm_V)} {r : List jm_V} {σ : jm_S} {K K' : jm_O → Prop} {x0 : Int32} {x1 : Int32} (hr : Nat.ble (jm_cs r) 8 = true) (hcal : J g d 14 0 [some (aI x0), some (aI x1)] [] σ K') (hk : ∀ u, K' u → jm_aft g (d + 1) 52 13 L r u K) : J g (d + 1) 52 13 L (aI x1 :: aI x0 :: r) σ K :=
  J_call' (id' := 14) jm_sk (vs := [aI x0, aI x1]) (inv_S (id' := 14) d_H_common_13 wd_450 wd_317 wd_54 cw_H_exponent (by decide) pn_H_exponent) cw_H_exponent (by decide) (by decide) (Nat.le_of_ble_eq_true rfl) rfl hr rfl hcal hk
theorem k_H_common_18 {g : jm_G} {d : Nat} {L : List (Option jm_V)} {r : List jm_V} {σ : jm_S} {K K' : jm_O → Prop} {x0 : Int32} {x1 : Int32} (hr : Nat.ble (jm_cs r) 8 = true) (hcal : J g d 14 0 [some (aI x0), some (aI x1)] [] σ K') (hk : ∀ u, K' u → jm_aft g (d + 1) 52 18 L r u K) : J g (d + 1) 52 18 L (aI x1 :: aI x0 :: r) σ K :=
  J_call' (id' := 14) jm_sk (vs := [aI x0, aI x1]) (inv_S (id' := 14) d_H_common_18 wd_450 wd_317 wd_54 cw_H_exponent (by decide) pn_H_exponent) cw_H_exponent (by decide) (by decide) (Nat.le_of_ble_eq_true rfl) rfl hr rfl hcal hk
theorem k_H_common_24 {g : jm_G} {d : Nat} {L : List (Option jm_V)} {r : List jm_V} {σ : jm_S} {K K' : jm_O → Prop} {x0 : Int32} {x1 : Int32} (hr : Nat.ble (jm_cs r) 8 = true) (hcal : J g d 18 0 [some (aI x0), some (aI x1)] [] σ K') (hk : ∀ u, K' u → jm_aft g (d + 1) 52 24 L r u K) : J g (d + 1) 52 24 L (aI x1 :: aI x0 :: r) σ K :=
  J_call' (id' := 18) jm_sk (vs := [aI x0, aI x1]) (inv_S (id' := 18) d_H_common_24 wd_336 wd_337 wd_54 cw_H_power (by decide) pn_H_power) cw_H_power (by decide) (by decide) (Nat.le_of_ble_eq_true rfl) rfl hr rfl hcal hk
theorem r_H_common_36 {g : jm_G} {d : Nat} {L : List (Option jm_V)} {σ : jm_S} {K : jm_O → Prop} {v : Int32} (hK : K (σ, .inl (some (aI v)))) : J g d 52 36 L [aI v] σ K := J_iret d_H_common_36 rfl hK
-- IdealProver divides (II)Z
theorem d_H_divides_0 : decode prog_1_method_3_code 0 = .ok (.iconst 1, 1) := by decide +kernel
theorem d_H_divides_1 : decode prog_1_method_3_code 1 = .ok (.istore_n 2, 1) := by decide +kernel
theorem d_H_divides_2 : decode prog_1_method_3_code 2 = .ok (.iconst 0, 1) := by decide +kernel
theorem d_H_divides_3 : decode prog_1_method_3_code 3 = .ok (.istore_n 3, 1) := by decide +kernel
theorem d_H_divides_4 : decode prog_1_method_3_code 4 = .ok (.iload_n 3, 1) := by decide +kernel
theorem d_H_divides_5 : decode prog_1_method_3_code 5 = .ok (.iconst 5, 1) := by decide +kernel
theorem d_H_divides_6 : decode prog_1_method_3_code 6 = .ok (.if_icmp .ge 30, 3) := by decide +kernel
theorem d_H_divides_9 : decode prog_1_method_3_code 9 = .ok (.iload_n 2, 1) := by decide +kernel
theorem d_H_divides_10 : decode prog_1_method_3_code 10 = .ok (.iload_n 0, 1) := by decide +kernel
theorem d_H_divides_11 : decode prog_1_method_3_code 11 = .ok (.iload_n 3, 1) := by decide +kernel
theorem d_H_divides_12 : decode prog_1_method_3_code 12 = .ok (.invokestatic 1, 3) := by decide +kernel
theorem d_H_divides_15 : decode prog_1_method_3_code 15 = .ok (.iload_n 1, 1) := by decide +kernel
theorem d_H_divides_16 : decode prog_1_method_3_code 16 = .ok (.iload_n 3, 1) := by decide +kernel
theorem d_H_divides_17 : decode prog_1_method_3_code 17 = .ok (.invokestatic 1, 3) := by decide +kernel
theorem d_H_divides_20 : decode prog_1_method_3_code 20 = .ok (.if_icmp .gt 7, 3) := by decide +kernel
theorem d_H_divides_23 : decode prog_1_method_3_code 23 = .ok (.iconst 1, 1) := by decide +kernel
theorem d_H_divides_24 : decode prog_1_method_3_code 24 = .ok (.goto 4, 3) := by decide +kernel
theorem d_H_divides_27 : decode prog_1_method_3_code 27 = .ok (.iconst 0, 1) := by decide +kernel
theorem d_H_divides_28 : decode prog_1_method_3_code 28 = .ok (.iand, 1) := by decide +kernel
theorem d_H_divides_29 : decode prog_1_method_3_code 29 = .ok (.istore_n 2, 1) := by decide +kernel
theorem d_H_divides_30 : decode prog_1_method_3_code 30 = .ok (.iinc 3 1, 3) := by decide +kernel
theorem d_H_divides_33 : decode prog_1_method_3_code 33 = .ok (.goto (-29), 3) := by decide +kernel
theorem d_H_divides_36 : decode prog_1_method_3_code 36 = .ok (.iload_n 2, 1) := by decide +kernel
theorem d_H_divides_37 : decode prog_1_method_3_code 37 = .ok (.ireturn, 1) := by decide +kernel
def tb_H_divides : List (Nat × jm_Op) := [(0, oC 1 1), (1, oIs 2 2), (2, oC 0 3), (3, oIs 3 4), (4, oIl 3 5), (5, oC 5 6), (6, oIcGe 36 9), (9, oIl 2 10), (10, oIl 0 11), (11, oIl 3 12), (15, oIl 1 16), (16, oIl 3 17), (20, oIcGt 27 23), (23, oC 1 24), (24, oGo 28), (27, oC 0 28), (28, oAnd 29), (29, oIs 2 30), (30, oInc 3 1 33), (33, oGo 4), (36, oIl 2 37)]
theorem ok_H_divides : jm_all 54 tb_H_divides := ⟨s_iconst d_H_divides_0 (by decide), s_istore_n d_H_divides_1 rfl (by decide), s_iconst d_H_divides_2 (by decide), s_istore_n d_H_divides_3 rfl (by decide), s_iload_n d_H_divides_4 rfl, s_iconst d_H_divides_5 (by decide), s_icmp_ge d_H_divides_6 (by decide), s_iload_n d_H_divides_9 rfl, s_iload_n d_H_divides_10 rfl, s_iload_n d_H_divides_11 rfl, s_iload_n d_H_divides_15 rfl, s_iload_n d_H_divides_16 rfl, s_icmp_gt d_H_divides_20 (by decide), s_iconst d_H_divides_23 (by decide), s_goto d_H_divides_24 (by decide), s_iconst d_H_divides_27 (by decide), s_iand d_H_divides_28, s_istore_n d_H_divides_29 rfl (by decide), s_iinc d_H_divides_30 (by decide) (by decide), s_goto d_H_divides_33 (by decide), s_iload_n d_H_divides_36 rfl, trivial⟩
theorem k_H_divides_12 {g : jm_G} {d : Nat} {L : List (Option jm_V)} {r : List jm_V} {σ : jm_S} {K K' : jm_O → Prop} {x0 : Int32} {x1 : Int32} (hr : Nat.ble (jm_cs r) 8 = true) (hcal : J g d 14 0 [some (aI x0), some (aI x1)] [] σ K') (hk : ∀ u, K' u → jm_aft g (d + 1) 54 12 L r u K) : J g (d + 1) 54 12 L (aI x1 :: aI x0 :: r) σ K :=
  J_call' (id' := 14) jm_sk (vs := [aI x0, aI x1]) (inv_S (id' := 14) d_H_divides_12 wd_450 wd_317 wd_54 cw_H_exponent (by decide) pn_H_exponent) cw_H_exponent (by decide) (by decide) (Nat.le_of_ble_eq_true rfl) rfl hr rfl hcal hk
theorem k_H_divides_17 {g : jm_G} {d : Nat} {L : List (Option jm_V)} {r : List jm_V} {σ : jm_S} {K K' : jm_O → Prop} {x0 : Int32} {x1 : Int32} (hr : Nat.ble (jm_cs r) 8 = true) (hcal : J g d 14 0 [some (aI x0), some (aI x1)] [] σ K') (hk : ∀ u, K' u → jm_aft g (d + 1) 54 17 L r u K) : J g (d + 1) 54 17 L (aI x1 :: aI x0 :: r) σ K :=
  J_call' (id' := 14) jm_sk (vs := [aI x0, aI x1]) (inv_S (id' := 14) d_H_divides_17 wd_450 wd_317 wd_54 cw_H_exponent (by decide) pn_H_exponent) cw_H_exponent (by decide) (by decide) (Nat.le_of_ble_eq_true rfl) rfl hr rfl hcal hk
theorem r_H_divides_37 {g : jm_G} {d : Nat} {L : List (Option jm_V)} {σ : jm_S} {K : jm_O → Prop} {v : Int32} (hv : v = 0 ∨ v = 1) (hK : K (σ, .inl (some (aI v)))) : J g d 54 37 L [aI v] σ K := J_zret d_H_divides_37 rfl hv hK
-- IdealProver done (I)I
theorem d_H_done_0 : decode prog_1_method_27_code 0 = .ok (.iload_n 1, 1) := by decide +kernel
theorem d_H_done_1 : decode prog_1_method_27_code 1 = .ok (.tableswitch 63 0 3 #[31, 39, 47, 55], 31) := by decide +kernel
theorem d_H_done_32 : decode prog_1_method_27_code 32 = .ok (.aload_n 0, 1) := by decide +kernel
theorem d_H_done_33 : decode prog_1_method_27_code 33 = .ok (.getfield 54, 3) := by decide +kernel
theorem d_H_done_36 : decode prog_1_method_27_code 36 = .ok (.getfield 194, 3) := by decide +kernel
theorem d_H_done_39 : decode prog_1_method_27_code 39 = .ok (.ireturn, 1) := by decide +kernel
theorem d_H_done_40 : decode prog_1_method_27_code 40 = .ok (.aload_n 0, 1) := by decide +kernel
theorem d_H_done_41 : decode prog_1_method_27_code 41 = .ok (.getfield 54, 3) := by decide +kernel
theorem d_H_done_44 : decode prog_1_method_27_code 44 = .ok (.getfield 197, 3) := by decide +kernel
theorem d_H_done_47 : decode prog_1_method_27_code 47 = .ok (.ireturn, 1) := by decide +kernel
theorem d_H_done_48 : decode prog_1_method_27_code 48 = .ok (.aload_n 0, 1) := by decide +kernel
theorem d_H_done_49 : decode prog_1_method_27_code 49 = .ok (.getfield 54, 3) := by decide +kernel
theorem d_H_done_52 : decode prog_1_method_27_code 52 = .ok (.getfield 200, 3) := by decide +kernel
theorem d_H_done_55 : decode prog_1_method_27_code 55 = .ok (.ireturn, 1) := by decide +kernel
theorem d_H_done_56 : decode prog_1_method_27_code 56 = .ok (.aload_n 0, 1) := by decide +kernel
theorem d_H_done_57 : decode prog_1_method_27_code 57 = .ok (.getfield 54, 3) := by decide +kernel
theorem d_H_done_60 : decode prog_1_method_27_code 60 = .ok (.getfield 203, 3) := by decide +kernel
theorem d_H_done_63 : decode prog_1_method_27_code 63 = .ok (.ireturn, 1) := by decide +kernel
theorem d_H_done_64 : decode prog_1_method_27_code 64 = .ok (.bipush (-2), 2) := by decide +kernel
theorem d_H_done_66 : decode prog_1_method_27_code 66 = .ok (.ireturn, 1) := by decide +kernel
def tb_H_done : List (Nat × jm_Op) := [(0, oIl 1 1), (1, oTsw [32, 40, 48, 56] 64), (32, oAl 0 33), (33, oGr 1 6 2 36), (36, oGi 2 11 39), (40, oAl 0 41), (41, oGr 1 6 2 44), (44, oGi 2 13 47), (48, oAl 0 49), (49, oGr 1 6 2 52), (52, oGi 2 14 55), (56, oAl 0 57), (57, oGr 1 6 2 60), (60, oGi 2 15 63), (64, oC (-2) 66)]
theorem ok_H_done : jm_all 63 tb_H_done := ⟨s_iload_n d_H_done_0 rfl, s_tsw d_H_done_1 (by decide) (by decide) (by decide) (by decide), s_aload_n d_H_done_32 rfl, s_getr d_H_done_33 ci_H rfl wd_248, s_getiN d_H_done_36 ci_G rfl wd_189, s_aload_n d_H_done_40 rfl, s_getr d_H_done_41 ci_H rfl wd_248, s_getiN d_H_done_44 ci_G rfl wd_193, s_aload_n d_H_done_48 rfl, s_getr d_H_done_49 ci_H rfl wd_248, s_getiN d_H_done_52 ci_G rfl wd_195, s_aload_n d_H_done_56 rfl, s_getr d_H_done_57 ci_H rfl wd_248, s_getiN d_H_done_60 ci_G rfl wd_197, s_bipush d_H_done_64 (by decide), trivial⟩
theorem r_H_done_39 {g : jm_G} {d : Nat} {L : List (Option jm_V)} {σ : jm_S} {K : jm_O → Prop} {v : Int32} (hK : K (σ, .inl (some (aI v)))) : J g d 63 39 L [aI v] σ K := J_iret d_H_done_39 rfl hK
theorem r_H_done_47 {g : jm_G} {d : Nat} {L : List (Option jm_V)} {σ : jm_S} {K : jm_O → Prop} {v : Int32} (hK : K (σ, .inl (some (aI v)))) : J g d 63 47 L [aI v] σ K := J_iret d_H_done_47 rfl hK
theorem r_H_done_55 {g : jm_G} {d : Nat} {L : List (Option jm_V)} {σ : jm_S} {K : jm_O → Prop} {v : Int32} (hK : K (σ, .inl (some (aI v)))) : J g d 63 55 L [aI v] σ K := J_iret d_H_done_55 rfl hK
theorem r_H_done_63 {g : jm_G} {d : Nat} {L : List (Option jm_V)} {σ : jm_S} {K : jm_O → Prop} {v : Int32} (hK : K (σ, .inl (some (aI v)))) : J g d 63 63 L [aI v] σ K := J_iret d_H_done_63 rfl hK
theorem r_H_done_66 {g : jm_G} {d : Nat} {L : List (Option jm_V)} {σ : jm_S} {K : jm_O → Prop} {v : Int32} (hK : K (σ, .inl (some (aI v)))) : J g d 63 66 L [aI v] σ K := J_iret d_H_done_66 rfl hK
-- IdealProver element (II)I
theorem d_H_element_0 : decode prog_1_method_29_code 0 = .ok (.aload_n 0, 1) := by decide +kernel
theorem d_H_element_1 : decode prog_1_method_29_code 1 = .ok (.getfield 99, 3) := by decide +kernel
theorem d_H_element_4 : decode prog_1_method_29_code 4 = .ok (.ifCond .ne 6, 3) := by decide +kernel
theorem d_H_element_7 : decode prog_1_method_29_code 7 = .ok (.bipush (-3), 2) := by decide +kernel
theorem d_H_element_9 : decode prog_1_method_29_code 9 = .ok (.ireturn, 1) := by decide +kernel
theorem d_H_element_10 : decode prog_1_method_29_code 10 = .ok (.aload_n 0, 1) := by decide +kernel
theorem d_H_element_11 : decode prog_1_method_29_code 11 = .ok (.iload_n 1, 1) := by decide +kernel
theorem d_H_element_12 : decode prog_1_method_29_code 12 = .ok (.invokevirtual 206, 3) := by decide +kernel
theorem d_H_element_15 : decode prog_1_method_29_code 15 = .ok (.ifCond .eq 30, 3) := by decide +kernel
theorem d_H_element_18 : decode prog_1_method_29_code 18 = .ok (.iload_n 2, 1) := by decide +kernel
theorem d_H_element_19 : decode prog_1_method_29_code 19 = .ok (.invokestatic 114, 3) := by decide +kernel
theorem d_H_element_22 : decode prog_1_method_29_code 22 = .ok (.ifCond .eq 23, 3) := by decide +kernel
theorem d_H_element_25 : decode prog_1_method_29_code 25 = .ok (.aload_n 0, 1) := by decide +kernel
theorem d_H_element_26 : decode prog_1_method_29_code 26 = .ok (.aload_n 0, 1) := by decide +kernel
theorem d_H_element_27 : decode prog_1_method_29_code 27 = .ok (.getfield 54, 3) := by decide +kernel
theorem d_H_element_30 : decode prog_1_method_29_code 30 = .ok (.getfield 209, 3) := by decide +kernel
theorem d_H_element_33 : decode prog_1_method_29_code 33 = .ok (.iload_n 1, 1) := by decide +kernel
theorem d_H_element_34 : decode prog_1_method_29_code 34 = .ok (.aaload, 1) := by decide +kernel
theorem d_H_element_35 : decode prog_1_method_29_code 35 = .ok (.getfield 213, 3) := by decide +kernel
theorem d_H_element_38 : decode prog_1_method_29_code 38 = .ok (.iload_n 2, 1) := by decide +kernel
theorem d_H_element_39 : decode prog_1_method_29_code 39 = .ok (.invokevirtual 139, 3) := by decide +kernel
theorem d_H_element_42 : decode prog_1_method_29_code 42 = .ok (.goto 4, 3) := by decide +kernel
theorem d_H_element_45 : decode prog_1_method_29_code 45 = .ok (.iconst (-1), 1) := by decide +kernel
theorem d_H_element_46 : decode prog_1_method_29_code 46 = .ok (.ireturn, 1) := by decide +kernel
def tb_H_element : List (Nat × jm_Op) := [(0, oAl 0 1), (1, oGi 1 8 4), (4, oIfNe 10 7), (7, oC (-3) 9), (10, oAl 0 11), (11, oIl 1 12), (15, oIfEq 45 18), (18, oIl 2 19), (22, oIfEq 45 25), (25, oAl 0 26), (26, oAl 0 27), (27, oGr 1 6 2 30), (30, oGr 2 1 11 33), (33, oIl 1 34), (34, oRa 35), (35, oGr 3 0 5 38), (38, oIl 2 39), (42, oGo 46), (45, oC (-1) 46)]
theorem ok_H_element : jm_all 64 tb_H_element := ⟨s_aload_n d_H_element_0 rfl, s_geti d_H_element_1 ci_H rfl wd_250, s_if_ne d_H_element_4 (by decide), s_bipush d_H_element_7 (by decide), s_aload_n d_H_element_10 rfl, s_iload_n d_H_element_11 rfl, s_if_eq d_H_element_15 (by decide), s_iload_n d_H_element_18 rfl, s_if_eq d_H_element_22 (by decide), s_aload_n d_H_element_25 rfl, s_aload_n d_H_element_26 rfl, s_getr d_H_element_27 ci_H rfl wd_248, s_getrN d_H_element_30 ci_G rfl wd_174, s_iload_n d_H_element_33 rfl, s_aaload d_H_element_34, s_getrN d_H_element_35 ci_E rfl wd_162, s_iload_n d_H_element_38 rfl, s_goto d_H_element_42 (by decide), s_iconst d_H_element_45 (by decide), trivial⟩
theorem r_H_element_9 {g : jm_G} {d : Nat} {L : List (Option jm_V)} {σ : jm_S} {K : jm_O → Prop} {v : Int32} (hK : K (σ, .inl (some (aI v)))) : J g d 64 9 L [aI v] σ K := J_iret d_H_element_9 rfl hK
theorem k_H_element_12 {g : jm_G} {d : Nat} {L : List (Option jm_V)} {r : List jm_V} {σ : jm_S} {K K' : jm_O → Prop} {q0 : Nat} {x0 : Int32} (hr : Nat.ble (jm_cs r) 8 = true) (hcal : J g d 65 0 [some (aR 1 q0), some (aI x0)] [] σ K') (hk : ∀ u, K' u → jm_aft g (d + 1) 64 12 L r u K) : J g (d + 1) 64 12 L (aI x0 :: aR 1 q0 :: r) σ K :=
  J_call' (id' := 65) jm_sk (vs := [aR 1 q0, aI x0]) (inv_V (id' := 65) d_H_element_12 ci_H wd_601 wd_603 wd_21 cw_H_isElement (by decide) pn_H_isElement) cw_H_isElement (by decide) (by decide) (Nat.le_of_ble_eq_true rfl) rfl hr rfl hcal hk
theorem k_H_element_19 {g : jm_G} {d : Nat} {L : List (Option jm_V)} {r : List jm_V} {σ : jm_S} {K K' : jm_O → Prop} {x0 : Int32} (hr : Nat.ble (jm_cs r) 8 = true) (hcal : J g d 17 0 [some (aI x0)] [] σ K') (hk : ∀ u, K' u → jm_aft g (d + 1) 64 19 L r u K) : J g (d + 1) 64 19 L (aI x0 :: r) σ K :=
  J_call' (id' := 17) jm_sk (vs := [aI x0]) (inv_S (id' := 17) d_H_element_19 wd_329 wd_330 wd_54 cw_H_isPlace (by decide) pn_H_isPlace) cw_H_isPlace (by decide) (by decide) (Nat.le_of_ble_eq_true rfl) rfl hr rfl hcal hk
theorem k_H_element_39 {g : jm_G} {d : Nat} {L : List (Option jm_V)} {r : List jm_V} {σ : jm_S} {K K' : jm_O → Prop} {q0 : Nat} {x0 : Nat} {x1 : Int32} (hr : Nat.ble (jm_cs r) 8 = true) (hcal : J g d 27 0 [some (aR 1 q0), some (aR 5 x0), some (aI x1)] [] σ K') (hk : ∀ u, K' u → jm_aft g (d + 1) 64 39 L r u K) : J g (d + 1) 64 39 L (aI x1 :: aR 5 x0 :: aR 1 q0 :: r) σ K :=
  J_call' (id' := 27) jm_sk (vs := [aR 1 q0, aR 5 x0, aI x1]) (inv_V (id' := 27) d_H_element_39 ci_H wd_434 wd_436 wd_5 cw_H_give (by decide) pn_H_give) cw_H_give (by decide) (by decide) (Nat.le_of_ble_eq_true rfl) rfl hr rfl hcal hk
theorem r_H_element_46 {g : jm_G} {d : Nat} {L : List (Option jm_V)} {σ : jm_S} {K : jm_O → Prop} {v : Int32} (hK : K (σ, .inl (some (aI v)))) : J g d 64 46 L [aI v] σ K := J_iret d_H_element_46 rfl hK
-- IdealProver isElement (I)Z
theorem d_H_isElement_0 : decode prog_1_method_28_code 0 = .ok (.iload_n 1, 1) := by decide +kernel
theorem d_H_isElement_1 : decode prog_1_method_28_code 1 = .ok (.ifCond .lt 18, 3) := by decide +kernel
theorem d_H_isElement_4 : decode prog_1_method_28_code 4 = .ok (.iload_n 1, 1) := by decide +kernel
theorem d_H_isElement_5 : decode prog_1_method_28_code 5 = .ok (.aload_n 0, 1) := by decide +kernel
theorem d_H_isElement_6 : decode prog_1_method_28_code 6 = .ok (.getfield 54, 3) := by decide +kernel
theorem d_H_isElement_9 : decode prog_1_method_28_code 9 = .ok (.getfield 191, 3) := by decide +kernel
theorem d_H_isElement_12 : decode prog_1_method_28_code 12 = .ok (.if_icmp .ge 7, 3) := by decide +kernel
theorem d_H_isElement_15 : decode prog_1_method_28_code 15 = .ok (.iconst 1, 1) := by decide +kernel
theorem d_H_isElement_16 : decode prog_1_method_28_code 16 = .ok (.goto 4, 3) := by decide +kernel
theorem d_H_isElement_19 : decode prog_1_method_28_code 19 = .ok (.iconst 0, 1) := by decide +kernel
theorem d_H_isElement_20 : decode prog_1_method_28_code 20 = .ok (.ireturn, 1) := by decide +kernel
def tb_H_isElement : List (Nat × jm_Op) := [(0, oIl 1 1), (1, oIfLt 19 4), (4, oIl 1 5), (5, oAl 0 6), (6, oGr 1 6 2 9), (9, oGi 2 10 12), (12, oIcGe 19 15), (15, oC 1 16), (16, oGo 20), (19, oC 0 20)]
theorem ok_H_isElement : jm_all 65 tb_H_isElement := ⟨s_iload_n d_H_isElement_0 rfl, s_if_lt d_H_isElement_1 (by decide), s_iload_n d_H_isElement_4 rfl, s_aload_n d_H_isElement_5 rfl, s_getr d_H_isElement_6 ci_H rfl wd_248, s_getiN d_H_isElement_9 ci_G rfl wd_187, s_icmp_ge d_H_isElement_12 (by decide), s_iconst d_H_isElement_15 (by decide), s_goto d_H_isElement_16 (by decide), s_iconst d_H_isElement_19 (by decide), trivial⟩
theorem r_H_isElement_20 {g : jm_G} {d : Nat} {L : List (Option jm_V)} {σ : jm_S} {K : jm_O → Prop} {v : Int32} (hv : v = 0 ∨ v = 1) (hK : K (σ, .inl (some (aI v)))) : J g d 65 20 L [aI v] σ K := J_zret d_H_isElement_20 rfl hv hK
-- IdealProver share (III)I
theorem d_H_share_0 : decode prog_1_method_30_code 0 = .ok (.aload_n 0, 1) := by decide +kernel
theorem d_H_share_1 : decode prog_1_method_30_code 1 = .ok (.getfield 99, 3) := by decide +kernel
theorem d_H_share_4 : decode prog_1_method_30_code 4 = .ok (.ifCond .ne 6, 3) := by decide +kernel
theorem d_H_share_7 : decode prog_1_method_30_code 7 = .ok (.bipush (-3), 2) := by decide +kernel
theorem d_H_share_9 : decode prog_1_method_30_code 9 = .ok (.ireturn, 1) := by decide +kernel
theorem d_H_share_10 : decode prog_1_method_30_code 10 = .ok (.aload_n 0, 1) := by decide +kernel
theorem d_H_share_11 : decode prog_1_method_30_code 11 = .ok (.iload_n 1, 1) := by decide +kernel
theorem d_H_share_12 : decode prog_1_method_30_code 12 = .ok (.invokevirtual 206, 3) := by decide +kernel
theorem d_H_share_15 : decode prog_1_method_30_code 15 = .ok (.ifCond .eq 44, 3) := by decide +kernel
theorem d_H_share_18 : decode prog_1_method_30_code 18 = .ok (.iload_n 2, 1) := by decide +kernel
theorem d_H_share_19 : decode prog_1_method_30_code 19 = .ok (.ifCond .lt 40, 3) := by decide +kernel
theorem d_H_share_22 : decode prog_1_method_30_code 22 = .ok (.iload_n 2, 1) := by decide +kernel
theorem d_H_share_23 : decode prog_1_method_30_code 23 = .ok (.aload_n 0, 1) := by decide +kernel
theorem d_H_share_24 : decode prog_1_method_30_code 24 = .ok (.getfield 111, 3) := by decide +kernel
theorem d_H_share_27 : decode prog_1_method_30_code 27 = .ok (.if_icmp .ge 32, 3) := by decide +kernel
theorem d_H_share_30 : decode prog_1_method_30_code 30 = .ok (.iload_n 3, 1) := by decide +kernel
theorem d_H_share_31 : decode prog_1_method_30_code 31 = .ok (.invokestatic 114, 3) := by decide +kernel
theorem d_H_share_34 : decode prog_1_method_30_code 34 = .ok (.ifCond .eq 25, 3) := by decide +kernel
theorem d_H_share_37 : decode prog_1_method_30_code 37 = .ok (.aload_n 0, 1) := by decide +kernel
theorem d_H_share_38 : decode prog_1_method_30_code 38 = .ok (.aload_n 0, 1) := by decide +kernel
theorem d_H_share_39 : decode prog_1_method_30_code 39 = .ok (.getfield 54, 3) := by decide +kernel
theorem d_H_share_42 : decode prog_1_method_30_code 42 = .ok (.getfield 209, 3) := by decide +kernel
theorem d_H_share_45 : decode prog_1_method_30_code 45 = .ok (.iload_n 1, 1) := by decide +kernel
theorem d_H_share_46 : decode prog_1_method_30_code 46 = .ok (.aaload, 1) := by decide +kernel
theorem d_H_share_47 : decode prog_1_method_30_code 47 = .ok (.getfield 218, 3) := by decide +kernel
theorem d_H_share_50 : decode prog_1_method_30_code 50 = .ok (.iload_n 2, 1) := by decide +kernel
theorem d_H_share_51 : decode prog_1_method_30_code 51 = .ok (.aaload, 1) := by decide +kernel
theorem d_H_share_52 : decode prog_1_method_30_code 52 = .ok (.iload_n 3, 1) := by decide +kernel
theorem d_H_share_53 : decode prog_1_method_30_code 53 = .ok (.invokevirtual 139, 3) := by decide +kernel
theorem d_H_share_56 : decode prog_1_method_30_code 56 = .ok (.goto 4, 3) := by decide +kernel
theorem d_H_share_59 : decode prog_1_method_30_code 59 = .ok (.iconst (-1), 1) := by decide +kernel
theorem d_H_share_60 : decode prog_1_method_30_code 60 = .ok (.ireturn, 1) := by decide +kernel
def tb_H_share : List (Nat × jm_Op) := [(0, oAl 0 1), (1, oGi 1 8 4), (4, oIfNe 10 7), (7, oC (-3) 9), (10, oAl 0 11), (11, oIl 1 12), (15, oIfEq 59 18), (18, oIl 2 19), (19, oIfLt 59 22), (22, oIl 2 23), (23, oAl 0 24), (24, oGi 1 5 27), (27, oIcGe 59 30), (30, oIl 3 31), (34, oIfEq 59 37), (37, oAl 0 38), (38, oAl 0 39), (39, oGr 1 6 2 42), (42, oGr 2 1 11 45), (45, oIl 1 46), (46, oRa 47), (47, oGr 3 1 10 50), (50, oIl 2 51), (51, oRa 52), (52, oIl 3 53), (56, oGo 60), (59, oC (-1) 60)]
theorem ok_H_share : jm_all 66 tb_H_share := ⟨s_aload_n d_H_share_0 rfl, s_geti d_H_share_1 ci_H rfl wd_250, s_if_ne d_H_share_4 (by decide), s_bipush d_H_share_7 (by decide), s_aload_n d_H_share_10 rfl, s_iload_n d_H_share_11 rfl, s_if_eq d_H_share_15 (by decide), s_iload_n d_H_share_18 rfl, s_if_lt d_H_share_19 (by decide), s_iload_n d_H_share_22 rfl, s_aload_n d_H_share_23 rfl, s_geti d_H_share_24 ci_H rfl wd_247, s_icmp_ge d_H_share_27 (by decide), s_iload_n d_H_share_30 rfl, s_if_eq d_H_share_34 (by decide), s_aload_n d_H_share_37 rfl, s_aload_n d_H_share_38 rfl, s_getr d_H_share_39 ci_H rfl wd_248, s_getrN d_H_share_42 ci_G rfl wd_174, s_iload_n d_H_share_45 rfl, s_aaload d_H_share_46, s_getrN d_H_share_47 ci_E rfl wd_165, s_iload_n d_H_share_50 rfl, s_aaload d_H_share_51, s_iload_n d_H_share_52 rfl, s_goto d_H_share_56 (by decide), s_iconst d_H_share_59 (by decide), trivial⟩
theorem r_H_share_9 {g : jm_G} {d : Nat} {L : List (Option jm_V)} {σ : jm_S} {K : jm_O → Prop} {v : Int32} (hK : K (σ, .inl (some (aI v)))) : J g d 66 9 L [aI v] σ K := J_iret d_H_share_9 rfl hK
theorem k_H_share_12 {g : jm_G} {d : Nat} {L : List (Option jm_V)} {r : List jm_V} {σ : jm_S} {K K' : jm_O → Prop} {q0 : Nat} {x0 : Int32} (hr : Nat.ble (jm_cs r) 8 = true) (hcal : J g d 65 0 [some (aR 1 q0), some (aI x0)] [] σ K') (hk : ∀ u, K' u → jm_aft g (d + 1) 66 12 L r u K) : J g (d + 1) 66 12 L (aI x0 :: aR 1 q0 :: r) σ K :=
  J_call' (id' := 65) jm_sk (vs := [aR 1 q0, aI x0]) (inv_V (id' := 65) d_H_share_12 ci_H wd_601 wd_603 wd_21 cw_H_isElement (by decide) pn_H_isElement) cw_H_isElement (by decide) (by decide) (Nat.le_of_ble_eq_true rfl) rfl hr rfl hcal hk
theorem k_H_share_31 {g : jm_G} {d : Nat} {L : List (Option jm_V)} {r : List jm_V} {σ : jm_S} {K K' : jm_O → Prop} {x0 : Int32} (hr : Nat.ble (jm_cs r) 8 = true) (hcal : J g d 17 0 [some (aI x0)] [] σ K') (hk : ∀ u, K' u → jm_aft g (d + 1) 66 31 L r u K) : J g (d + 1) 66 31 L (aI x0 :: r) σ K :=
  J_call' (id' := 17) jm_sk (vs := [aI x0]) (inv_S (id' := 17) d_H_share_31 wd_329 wd_330 wd_54 cw_H_isPlace (by decide) pn_H_isPlace) cw_H_isPlace (by decide) (by decide) (Nat.le_of_ble_eq_true rfl) rfl hr rfl hcal hk
theorem k_H_share_53 {g : jm_G} {d : Nat} {L : List (Option jm_V)} {r : List jm_V} {σ : jm_S} {K K' : jm_O → Prop} {q0 : Nat} {x0 : Nat} {x1 : Int32} (hr : Nat.ble (jm_cs r) 8 = true) (hcal : J g d 27 0 [some (aR 1 q0), some (aR 5 x0), some (aI x1)] [] σ K') (hk : ∀ u, K' u → jm_aft g (d + 1) 66 53 L r u K) : J g (d + 1) 66 53 L (aI x1 :: aR 5 x0 :: aR 1 q0 :: r) σ K :=
  J_call' (id' := 27) jm_sk (vs := [aR 1 q0, aR 5 x0, aI x1]) (inv_V (id' := 27) d_H_share_53 ci_H wd_434 wd_436 wd_5 cw_H_give (by decide) pn_H_give) cw_H_give (by decide) (by decide) (Nat.le_of_ble_eq_true rfl) rfl hr rfl hcal hk
theorem r_H_share_60 {g : jm_G} {d : Nat} {L : List (Option jm_V)} {σ : jm_S} {K : jm_O → Prop} {v : Int32} (hK : K (σ, .inl (some (aI v)))) : J g d 66 60 L [aI v] σ K := J_iret d_H_share_60 rfl hK
-- IdealProver divide (II)I
theorem d_H_divide_0 : decode prog_1_method_31_code 0 = .ok (.iload_n 1, 1) := by decide +kernel
theorem d_H_divide_1 : decode prog_1_method_31_code 1 = .ok (.invokestatic 114, 3) := by decide +kernel
theorem d_H_divide_4 : decode prog_1_method_31_code 4 = .ok (.ifCond .eq 10, 3) := by decide +kernel
theorem d_H_divide_7 : decode prog_1_method_31_code 7 = .ok (.iload_n 2, 1) := by decide +kernel
theorem d_H_divide_8 : decode prog_1_method_31_code 8 = .ok (.invokestatic 114, 3) := by decide +kernel
theorem d_H_divide_11 : decode prog_1_method_31_code 11 = .ok (.ifCond .ne 5, 3) := by decide +kernel
theorem d_H_divide_14 : decode prog_1_method_31_code 14 = .ok (.iconst (-1), 1) := by decide +kernel
theorem d_H_divide_15 : decode prog_1_method_31_code 15 = .ok (.ireturn, 1) := by decide +kernel
theorem d_H_divide_16 : decode prog_1_method_31_code 16 = .ok (.aload_n 0, 1) := by decide +kernel
theorem d_H_divide_17 : decode prog_1_method_31_code 17 = .ok (.getfield 99, 3) := by decide +kernel
theorem d_H_divide_20 : decode prog_1_method_31_code 20 = .ok (.ifCond .ne 6, 3) := by decide +kernel
theorem d_H_divide_23 : decode prog_1_method_31_code 23 = .ok (.bipush (-3), 2) := by decide +kernel
theorem d_H_divide_25 : decode prog_1_method_31_code 25 = .ok (.ireturn, 1) := by decide +kernel
theorem d_H_divide_26 : decode prog_1_method_31_code 26 = .ok (.aload_n 0, 1) := by decide +kernel
theorem d_H_divide_27 : decode prog_1_method_31_code 27 = .ok (.getfield 54, 3) := by decide +kernel
theorem d_H_divide_30 : decode prog_1_method_31_code 30 = .ok (.getfield 194, 3) := by decide +kernel
theorem d_H_divide_33 : decode prog_1_method_31_code 33 = .ok (.istore_n 3, 1) := by decide +kernel
theorem d_H_divide_34 : decode prog_1_method_31_code 34 = .ok (.aload_n 0, 1) := by decide +kernel
theorem d_H_divide_35 : decode prog_1_method_31_code 35 = .ok (.getfield 54, 3) := by decide +kernel
theorem d_H_divide_38 : decode prog_1_method_31_code 38 = .ok (.getfield 221, 3) := by decide +kernel
theorem d_H_divide_41 : decode prog_1_method_31_code 41 = .ok (.istore 4, 2) := by decide +kernel
theorem d_H_divide_43 : decode prog_1_method_31_code 43 = .ok (.aload_n 0, 1) := by decide +kernel
theorem d_H_divide_44 : decode prog_1_method_31_code 44 = .ok (.getfield 54, 3) := by decide +kernel
theorem d_H_divide_47 : decode prog_1_method_31_code 47 = .ok (.iconst 0, 1) := by decide +kernel
theorem d_H_divide_48 : decode prog_1_method_31_code 48 = .ok (.putfield 194, 3) := by decide +kernel
theorem d_H_divide_51 : decode prog_1_method_31_code 51 = .ok (.aload_n 0, 1) := by decide +kernel
theorem d_H_divide_52 : decode prog_1_method_31_code 52 = .ok (.getfield 54, 3) := by decide +kernel
theorem d_H_divide_55 : decode prog_1_method_31_code 55 = .ok (.sipush 5000, 3) := by decide +kernel
theorem d_H_divide_58 : decode prog_1_method_31_code 58 = .ok (.putfield 221, 3) := by decide +kernel
theorem d_H_divide_61 : decode prog_1_method_31_code 61 = .ok (.aload_n 0, 1) := by decide +kernel
theorem d_H_divide_62 : decode prog_1_method_31_code 62 = .ok (.getfield 54, 3) := by decide +kernel
theorem d_H_divide_65 : decode prog_1_method_31_code 65 = .ok (.getfield 224, 3) := by decide +kernel
theorem d_H_divide_68 : decode prog_1_method_31_code 68 = .ok (.aload_n 0, 1) := by decide +kernel
theorem d_H_divide_69 : decode prog_1_method_31_code 69 = .ok (.getfield 42, 3) := by decide +kernel
theorem d_H_divide_72 : decode prog_1_method_31_code 72 = .ok (.iload_n 1, 1) := by decide +kernel
theorem d_H_divide_73 : decode prog_1_method_31_code 73 = .ok (.aaload, 1) := by decide +kernel
theorem d_H_divide_74 : decode prog_1_method_31_code 74 = .ok (.invokevirtual 92, 3) := by decide +kernel
theorem d_H_divide_77 : decode prog_1_method_31_code 77 = .ok (.iconst 0, 1) := by decide +kernel
theorem d_H_divide_78 : decode prog_1_method_31_code 78 = .ok (.istore 5, 2) := by decide +kernel
theorem d_H_divide_80 : decode prog_1_method_31_code 80 = .ok (.aload_n 0, 1) := by decide +kernel
theorem d_H_divide_81 : decode prog_1_method_31_code 81 = .ok (.getfield 54, 3) := by decide +kernel
theorem d_H_divide_84 : decode prog_1_method_31_code 84 = .ok (.iconst (-1), 1) := by decide +kernel
theorem d_H_divide_85 : decode prog_1_method_31_code 85 = .ok (.invokevirtual 227, 3) := by decide +kernel
theorem d_H_divide_88 : decode prog_1_method_31_code 88 = .ok (.goto 12, 3) := by decide +kernel
theorem d_H_divide_91 : decode prog_1_method_31_code 91 = .ok (.astore 6, 2) := by decide +kernel
theorem d_H_divide_93 : decode prog_1_method_31_code 93 = .ok (.aload 6, 2) := by decide +kernel
theorem d_H_divide_95 : decode prog_1_method_31_code 95 = .ok (.getfield 136, 3) := by decide +kernel
theorem d_H_divide_98 : decode prog_1_method_31_code 98 = .ok (.istore 5, 2) := by decide +kernel
theorem d_H_divide_100 : decode prog_1_method_31_code 100 = .ok (.aload_n 0, 1) := by decide +kernel
theorem d_H_divide_101 : decode prog_1_method_31_code 101 = .ok (.getfield 54, 3) := by decide +kernel
theorem d_H_divide_104 : decode prog_1_method_31_code 104 = .ok (.iload_n 3, 1) := by decide +kernel
theorem d_H_divide_105 : decode prog_1_method_31_code 105 = .ok (.putfield 194, 3) := by decide +kernel
theorem d_H_divide_108 : decode prog_1_method_31_code 108 = .ok (.aload_n 0, 1) := by decide +kernel
theorem d_H_divide_109 : decode prog_1_method_31_code 109 = .ok (.getfield 54, 3) := by decide +kernel
theorem d_H_divide_112 : decode prog_1_method_31_code 112 = .ok (.iload 4, 2) := by decide +kernel
theorem d_H_divide_114 : decode prog_1_method_31_code 114 = .ok (.putfield 221, 3) := by decide +kernel
theorem d_H_divide_117 : decode prog_1_method_31_code 117 = .ok (.iload 5, 2) := by decide +kernel
theorem d_H_divide_119 : decode prog_1_method_31_code 119 = .ok (.ifCond .ge 6, 3) := by decide +kernel
theorem d_H_divide_122 : decode prog_1_method_31_code 122 = .ok (.iload 5, 2) := by decide +kernel
theorem d_H_divide_124 : decode prog_1_method_31_code 124 = .ok (.ireturn, 1) := by decide +kernel
theorem d_H_divide_125 : decode prog_1_method_31_code 125 = .ok (.aload_n 0, 1) := by decide +kernel
theorem d_H_divide_126 : decode prog_1_method_31_code 126 = .ok (.aload_n 0, 1) := by decide +kernel
theorem d_H_divide_127 : decode prog_1_method_31_code 127 = .ok (.getfield 54, 3) := by decide +kernel
theorem d_H_divide_130 : decode prog_1_method_31_code 130 = .ok (.getfield 230, 3) := by decide +kernel
theorem d_H_divide_133 : decode prog_1_method_31_code 133 = .ok (.getfield 96, 3) := by decide +kernel
theorem d_H_divide_136 : decode prog_1_method_31_code 136 = .ok (.ifCond .ne 7, 3) := by decide +kernel
theorem d_H_divide_139 : decode prog_1_method_31_code 139 = .ok (.iconst 1, 1) := by decide +kernel
theorem d_H_divide_140 : decode prog_1_method_31_code 140 = .ok (.goto 4, 3) := by decide +kernel
theorem d_H_divide_143 : decode prog_1_method_31_code 143 = .ok (.iconst 0, 1) := by decide +kernel
theorem d_H_divide_144 : decode prog_1_method_31_code 144 = .ok (.putfield 177, 3) := by decide +kernel
theorem d_H_divide_147 : decode prog_1_method_31_code 147 = .ok (.iconst 0, 1) := by decide +kernel
theorem d_H_divide_148 : decode prog_1_method_31_code 148 = .ok (.istore 6, 2) := by decide +kernel
theorem d_H_divide_150 : decode prog_1_method_31_code 150 = .ok (.iload 6, 2) := by decide +kernel
theorem d_H_divide_152 : decode prog_1_method_31_code 152 = .ok (.aload_n 0, 1) := by decide +kernel
theorem d_H_divide_153 : decode prog_1_method_31_code 153 = .ok (.getfield 54, 3) := by decide +kernel
theorem d_H_divide_156 : decode prog_1_method_31_code 156 = .ok (.getfield 191, 3) := by decide +kernel
theorem d_H_divide_159 : decode prog_1_method_31_code 159 = .ok (.if_icmp .ge 29, 3) := by decide +kernel
theorem d_H_divide_162 : decode prog_1_method_31_code 162 = .ok (.aload_n 0, 1) := by decide +kernel
theorem d_H_divide_163 : decode prog_1_method_31_code 163 = .ok (.getfield 75, 3) := by decide +kernel
theorem d_H_divide_166 : decode prog_1_method_31_code 166 = .ok (.iload 6, 2) := by decide +kernel
theorem d_H_divide_168 : decode prog_1_method_31_code 168 = .ok (.aaload, 1) := by decide +kernel
theorem d_H_divide_169 : decode prog_1_method_31_code 169 = .ok (.aload_n 0, 1) := by decide +kernel
theorem d_H_divide_170 : decode prog_1_method_31_code 170 = .ok (.getfield 54, 3) := by decide +kernel
theorem d_H_divide_173 : decode prog_1_method_31_code 173 = .ok (.getfield 233, 3) := by decide +kernel
theorem d_H_divide_176 : decode prog_1_method_31_code 176 = .ok (.iload 6, 2) := by decide +kernel
theorem d_H_divide_178 : decode prog_1_method_31_code 178 = .ok (.aaload, 1) := by decide +kernel
theorem d_H_divide_179 : decode prog_1_method_31_code 179 = .ok (.invokevirtual 92, 3) := by decide +kernel
theorem d_H_divide_182 : decode prog_1_method_31_code 182 = .ok (.iinc 6 1, 3) := by decide +kernel
theorem d_H_divide_185 : decode prog_1_method_31_code 185 = .ok (.goto (-35), 3) := by decide +kernel
theorem d_H_divide_188 : decode prog_1_method_31_code 188 = .ok (.aload_n 0, 1) := by decide +kernel
theorem d_H_divide_189 : decode prog_1_method_31_code 189 = .ok (.aload_n 0, 1) := by decide +kernel
theorem d_H_divide_190 : decode prog_1_method_31_code 190 = .ok (.getfield 54, 3) := by decide +kernel
theorem d_H_divide_193 : decode prog_1_method_31_code 193 = .ok (.getfield 230, 3) := by decide +kernel
theorem d_H_divide_196 : decode prog_1_method_31_code 196 = .ok (.iload_n 2, 1) := by decide +kernel
theorem d_H_divide_197 : decode prog_1_method_31_code 197 = .ok (.invokevirtual 139, 3) := by decide +kernel
theorem d_H_divide_200 : decode prog_1_method_31_code 200 = .ok (.pop, 1) := by decide +kernel
theorem d_H_divide_201 : decode prog_1_method_31_code 201 = .ok (.aload_n 0, 1) := by decide +kernel
theorem d_H_divide_202 : decode prog_1_method_31_code 202 = .ok (.getfield 177, 3) := by decide +kernel
theorem d_H_divide_205 : decode prog_1_method_31_code 205 = .ok (.ifCond .eq 7, 3) := by decide +kernel
theorem d_H_divide_208 : decode prog_1_method_31_code 208 = .ok (.iconst 1, 1) := by decide +kernel
theorem d_H_divide_209 : decode prog_1_method_31_code 209 = .ok (.goto 4, 3) := by decide +kernel
theorem d_H_divide_212 : decode prog_1_method_31_code 212 = .ok (.iconst 0, 1) := by decide +kernel
theorem d_H_divide_213 : decode prog_1_method_31_code 213 = .ok (.ireturn, 1) := by decide +kernel
def tb_H_divide_0 : List (Nat × jm_Op) := [(0, oIl 1 1), (4, oIfEq 14 7), (7, oIl 2 8), (11, oIfNe 16 14), (14, oC (-1) 15), (16, oAl 0 17), (17, oGi 1 8 20), (20, oIfNe 26 23), (23, oC (-3) 25), (26, oAl 0 27), (27, oGr 1 6 2 30), (30, oGi 2 11 33), (33, oIs 3 34), (34, oAl 0 35), (35, oGr 1 6 2 38), (38, oGi 2 12 41), (41, oIs 4 43), (43, oAl 0 44), (44, oGr 1 6 2 47), (47, oC 0 48), (48, oPi 2 11 51), (51, oAl 0 52), (52, oGr 1 6 2 55), (55, oC 5000 58), (58, oPi 2 12 61), (61, oAl 0 62), (62, oGr 1 6 2 65), (65, oGr 2 5 5 68), (68, oAl 0 69), (69, oGr 1 3 10 72), (72, oIl 1 73), (73, oRa 74), (77, oC 0 78), (78, oIs 5 80), (80, oAl 0 81), (81, oGr 1 6 2 84), (84, oC (-1) 85), (88, oGo 100), (91, oAs 6 93), (93, oAl 6 95), (95, oGi 7 0 98), (98, oIs 5 100), (100, oAl 0 101), (101, oGr 1 6 2 104), (104, oIl 3 105), (105, oPi 2 11 108), (108, oAl 0 109), (109, oGr 1 6 2 112), (112, oIl 4 114), (114, oPi 2 12 117)]
theorem ok_H_divide_0 : jm_all 67 tb_H_divide_0 := ⟨s_iload_n d_H_divide_0 rfl, s_if_eq d_H_divide_4 (by decide), s_iload_n d_H_divide_7 rfl, s_if_ne d_H_divide_11 (by decide), s_iconst d_H_divide_14 (by decide), s_aload_n d_H_divide_16 rfl, s_geti d_H_divide_17 ci_H rfl wd_250, s_if_ne d_H_divide_20 (by decide), s_bipush d_H_divide_23 (by decide), s_aload_n d_H_divide_26 rfl, s_getr d_H_divide_27 ci_H rfl wd_248, s_getiN d_H_divide_30 ci_G rfl wd_189, s_istore_n d_H_divide_33 rfl (by decide), s_aload_n d_H_divide_34 rfl, s_getr d_H_divide_35 ci_H rfl wd_248, s_getiN d_H_divide_38 ci_G rfl wd_191, s_istore d_H_divide_41 (by decide), s_aload_n d_H_divide_43 rfl, s_getr d_H_divide_44 ci_H rfl wd_248, s_iconst d_H_divide_47 (by decide), s_putiN d_H_divide_48 ci_G rfl rfl rfl wd_189, s_aload_n d_H_divide_51 rfl, s_getr d_H_divide_52 ci_H rfl wd_248, s_sipush d_H_divide_55 (by decide), s_putiN d_H_divide_58 ci_G rfl rfl rfl wd_191, s_aload_n d_H_divide_61 rfl, s_getr d_H_divide_62 ci_H rfl wd_248, s_getrN d_H_divide_65 ci_G rfl wd_181, s_aload_n d_H_divide_68 rfl, s_getr d_H_divide_69 ci_H rfl wd_245, s_iload_n d_H_divide_72 rfl, s_aaload d_H_divide_73, s_iconst d_H_divide_77 (by decide), s_istore d_H_divide_78 (by decide), s_aload_n d_H_divide_80 rfl, s_getr d_H_divide_81 ci_H rfl wd_248, s_iconst d_H_divide_84 (by decide), s_goto d_H_divide_88 (by decide), s_astore d_H_divide_91 (by decide), s_aload d_H_divide_93, s_getiN d_H_divide_95 ci_S rfl wd_400, s_istore d_H_divide_98 (by decide), s_aload_n d_H_divide_100 rfl, s_getr d_H_divide_101 ci_H rfl wd_248, s_iload_n d_H_divide_104 rfl, s_putiN d_H_divide_105 ci_G rfl rfl rfl wd_189, s_aload_n d_H_divide_108 rfl, s_getr d_H_divide_109 ci_H rfl wd_248, s_iload d_H_divide_112, s_putiN d_H_divide_114 ci_G rfl rfl rfl wd_191, trivial⟩
def tb_H_divide_1 : List (Nat × jm_Op) := [(117, oIl 5 119), (119, oIfGe 125 122), (122, oIl 5 124), (125, oAl 0 126), (126, oAl 0 127), (127, oGr 1 6 2 130), (130, oGr 2 4 5 133), (133, oGi 5 0 136), (136, oIfNe 143 139), (139, oC 1 140), (140, oGo 144), (143, oC 0 144), (144, oPz 1 9 147), (147, oC 0 148), (148, oIs 6 150), (150, oIl 6 152), (152, oAl 0 153), (153, oGr 1 6 2 156), (156, oGi 2 10 159), (159, oIcGe 188 162), (162, oAl 0 163), (163, oGr 1 13 10 166), (166, oIl 6 168), (168, oRa 169), (169, oAl 0 170), (170, oGr 1 6 2 173), (173, oGr 2 3 10 176), (176, oIl 6 178), (178, oRa 179), (182, oInc 6 1 185), (185, oGo 150), (188, oAl 0 189), (189, oAl 0 190), (190, oGr 1 6 2 193), (193, oGr 2 4 5 196), (196, oIl 2 197), (200, oPop 201), (201, oAl 0 202), (202, oGi 1 9 205), (205, oIfEq 212 208), (208, oC 1 209), (209, oGo 213), (212, oC 0 213)]
theorem ok_H_divide_1 : jm_all 67 tb_H_divide_1 := ⟨s_iload d_H_divide_117, s_if_ge d_H_divide_119 (by decide), s_iload d_H_divide_122, s_aload_n d_H_divide_125 rfl, s_aload_n d_H_divide_126 rfl, s_getr d_H_divide_127 ci_H rfl wd_248, s_getrN d_H_divide_130 ci_G rfl wd_179, s_getiN d_H_divide_133 ci_P rfl wd_100, s_if_ne d_H_divide_136 (by decide), s_iconst d_H_divide_139 (by decide), s_goto d_H_divide_140 (by decide), s_iconst d_H_divide_143 (by decide), s_putz d_H_divide_144 ci_H rfl rfl rfl wd_251, s_iconst d_H_divide_147 (by decide), s_istore d_H_divide_148 (by decide), s_iload d_H_divide_150, s_aload_n d_H_divide_152 rfl, s_getr d_H_divide_153 ci_H rfl wd_248, s_getiN d_H_divide_156 ci_G rfl wd_187, s_icmp_ge d_H_divide_159 (by decide), s_aload_n d_H_divide_162 rfl, s_getr d_H_divide_163 ci_H rfl wd_255, s_iload d_H_divide_166, s_aaload d_H_divide_168, s_aload_n d_H_divide_169 rfl, s_getr d_H_divide_170 ci_H rfl wd_248, s_getrN d_H_divide_173 ci_G rfl wd_177, s_iload d_H_divide_176, s_aaload d_H_divide_178, s_iinc d_H_divide_182 (by decide) (by decide), s_goto d_H_divide_185 (by decide), s_aload_n d_H_divide_188 rfl, s_aload_n d_H_divide_189 rfl, s_getr d_H_divide_190 ci_H rfl wd_248, s_getrN d_H_divide_193 ci_G rfl wd_179, s_iload_n d_H_divide_196 rfl, s_pop d_H_divide_200, s_aload_n d_H_divide_201 rfl, s_geti d_H_divide_202 ci_H rfl wd_251, s_if_eq d_H_divide_205 (by decide), s_iconst d_H_divide_208 (by decide), s_goto d_H_divide_209 (by decide), s_iconst d_H_divide_212 (by decide), trivial⟩
def tb_H_divide : List (Nat × jm_Op) := tb_H_divide_0 ++ tb_H_divide_1
theorem ok_H_divide : jm_all 67 tb_H_divide := jm_all_app ok_H_divide_0 ok_H_divide_1
theorem k_H_divide_1 {g : jm_G} {d : Nat} {L : List (Option jm_V)} {r : List jm_V} {σ : jm_S} {K K' : jm_O → Prop} {x0 : Int32} (hr : Nat.ble (jm_cs r) 8 = true) (hcal : J g d 17 0 [some (aI x0)] [] σ K') (hk : ∀ u, K' u → jm_aft g (d + 1) 67 1 L r u K) : J g (d + 1) 67 1 L (aI x0 :: r) σ K :=
  J_call' (id' := 17) jm_sk (vs := [aI x0]) (inv_S (id' := 17) d_H_divide_1 wd_329 wd_330 wd_54 cw_H_isPlace (by decide) pn_H_isPlace) cw_H_isPlace (by decide) (by decide) (Nat.le_of_ble_eq_true rfl) rfl hr rfl hcal hk
theorem k_H_divide_8 {g : jm_G} {d : Nat} {L : List (Option jm_V)} {r : List jm_V} {σ : jm_S} {K K' : jm_O → Prop} {x0 : Int32} (hr : Nat.ble (jm_cs r) 8 = true) (hcal : J g d 17 0 [some (aI x0)] [] σ K') (hk : ∀ u, K' u → jm_aft g (d + 1) 67 8 L r u K) : J g (d + 1) 67 8 L (aI x0 :: r) σ K :=
  J_call' (id' := 17) jm_sk (vs := [aI x0]) (inv_S (id' := 17) d_H_divide_8 wd_329 wd_330 wd_54 cw_H_isPlace (by decide) pn_H_isPlace) cw_H_isPlace (by decide) (by decide) (Nat.le_of_ble_eq_true rfl) rfl hr rfl hcal hk
theorem r_H_divide_15 {g : jm_G} {d : Nat} {L : List (Option jm_V)} {σ : jm_S} {K : jm_O → Prop} {v : Int32} (hK : K (σ, .inl (some (aI v)))) : J g d 67 15 L [aI v] σ K := J_iret d_H_divide_15 rfl hK
theorem r_H_divide_25 {g : jm_G} {d : Nat} {L : List (Option jm_V)} {σ : jm_S} {K : jm_O → Prop} {v : Int32} (hK : K (σ, .inl (some (aI v)))) : J g d 67 25 L [aI v] σ K := J_iret d_H_divide_25 rfl hK
theorem k_H_divide_74 {g : jm_G} {d : Nat} {L : List (Option jm_V)} {r : List jm_V} {σ : jm_S} {K K' : jm_O → Prop} {q0 : Nat} {x0 : Nat} (hr : Nat.ble (jm_cs r) 8 = true) (hcal : J g d 19 0 [some (aR 5 q0), some (aR 5 x0)] [] σ K') (hk : ∀ u, K' u → jm_aft g (d + 1) 67 74 L r u K) : J g (d + 1) 67 74 L (aR 5 x0 :: aR 5 q0 :: r) σ K :=
  J_call' (id' := 19) jm_sk (vs := [aR 5 q0, aR 5 x0]) (inv_V (id' := 19) d_H_divide_74 ci_P wd_339 wd_340 wd_341 cw_P_become (by decide) pn_P_become) cw_P_become (by decide) (by decide) (Nat.le_of_ble_eq_true rfl) rfl hr rfl hcal hk
theorem k_H_divide_85 {g : jm_G} {d : Nat} {L : List (Option jm_V)} {r : List jm_V} {σ : jm_S} {K K' : jm_O → Prop} {q0 : Nat} {x0 : Int32} (hr : Nat.ble (jm_cs r) 8 = true) (hcal : J g d 57 0 [some (aR 2 q0), some (aI x0), none, none, none, none, none, none, none] [] σ K') (hk : ∀ u, K' u → jm_aft g (d + 1) 67 85 L r u K) : J g (d + 1) 67 85 L (aI x0 :: aR 2 q0 :: r) σ K :=
  J_call' (id' := 57) jm_sk (vs := [aR 2 q0, aI x0]) (inv_VN (id' := 57) d_H_divide_85 ci_G wd_613 wd_563 wd_15 cw_G_divide (by decide) pn_G_divide) cw_G_divide (by decide) (by decide) (Nat.le_of_ble_eq_true rfl) rfl hr rfl hcal hk
theorem r_H_divide_124 {g : jm_G} {d : Nat} {L : List (Option jm_V)} {σ : jm_S} {K : jm_O → Prop} {v : Int32} (hK : K (σ, .inl (some (aI v)))) : J g d 67 124 L [aI v] σ K := J_iret d_H_divide_124 rfl hK
theorem k_H_divide_179 {g : jm_G} {d : Nat} {L : List (Option jm_V)} {r : List jm_V} {σ : jm_S} {K K' : jm_O → Prop} {q0 : Nat} {x0 : Nat} (hr : Nat.ble (jm_cs r) 8 = true) (hcal : J g d 19 0 [some (aR 5 q0), some (aR 5 x0)] [] σ K') (hk : ∀ u, K' u → jm_aft g (d + 1) 67 179 L r u K) : J g (d + 1) 67 179 L (aR 5 x0 :: aR 5 q0 :: r) σ K :=
  J_call' (id' := 19) jm_sk (vs := [aR 5 q0, aR 5 x0]) (inv_V (id' := 19) d_H_divide_179 ci_P wd_339 wd_340 wd_341 cw_P_become (by decide) pn_P_become) cw_P_become (by decide) (by decide) (Nat.le_of_ble_eq_true rfl) rfl hr rfl hcal hk
theorem k_H_divide_197 {g : jm_G} {d : Nat} {L : List (Option jm_V)} {r : List jm_V} {σ : jm_S} {K K' : jm_O → Prop} {q0 : Nat} {x0 : Nat} {x1 : Int32} (hr : Nat.ble (jm_cs r) 8 = true) (hcal : J g d 27 0 [some (aR 1 q0), some (aR 5 x0), some (aI x1)] [] σ K') (hk : ∀ u, K' u → jm_aft g (d + 1) 67 197 L r u K) : J g (d + 1) 67 197 L (aI x1 :: aR 5 x0 :: aR 1 q0 :: r) σ K :=
  J_call' (id' := 27) jm_sk (vs := [aR 1 q0, aR 5 x0, aI x1]) (inv_V (id' := 27) d_H_divide_197 ci_H wd_434 wd_436 wd_5 cw_H_give (by decide) pn_H_give) cw_H_give (by decide) (by decide) (Nat.le_of_ble_eq_true rfl) rfl hr rfl hcal hk
theorem r_H_divide_213 {g : jm_G} {d : Nat} {L : List (Option jm_V)} {σ : jm_S} {K : jm_O → Prop} {v : Int32} (hK : K (σ, .inl (some (aI v)))) : J g d 67 213 L [aI v] σ K := J_iret d_H_divide_213 rfl hK
-- IdealProver certificate (II)I
theorem d_H_certificate_0 : decode prog_1_method_32_code 0 = .ok (.aload_n 0, 1) := by decide +kernel
theorem d_H_certificate_1 : decode prog_1_method_32_code 1 = .ok (.getfield 99, 3) := by decide +kernel
theorem d_H_certificate_4 : decode prog_1_method_32_code 4 = .ok (.ifCond .eq 10, 3) := by decide +kernel
theorem d_H_certificate_7 : decode prog_1_method_32_code 7 = .ok (.aload_n 0, 1) := by decide +kernel
theorem d_H_certificate_8 : decode prog_1_method_32_code 8 = .ok (.getfield 177, 3) := by decide +kernel
theorem d_H_certificate_11 : decode prog_1_method_32_code 11 = .ok (.ifCond .ne 6, 3) := by decide +kernel
theorem d_H_certificate_14 : decode prog_1_method_32_code 14 = .ok (.bipush (-3), 2) := by decide +kernel
theorem d_H_certificate_16 : decode prog_1_method_32_code 16 = .ok (.ireturn, 1) := by decide +kernel
theorem d_H_certificate_17 : decode prog_1_method_32_code 17 = .ok (.iload_n 1, 1) := by decide +kernel
theorem d_H_certificate_18 : decode prog_1_method_32_code 18 = .ok (.ifCond .lt 18, 3) := by decide +kernel
theorem d_H_certificate_21 : decode prog_1_method_32_code 21 = .ok (.iload_n 1, 1) := by decide +kernel
theorem d_H_certificate_22 : decode prog_1_method_32_code 22 = .ok (.aload_n 0, 1) := by decide +kernel
theorem d_H_certificate_23 : decode prog_1_method_32_code 23 = .ok (.getfield 111, 3) := by decide +kernel
theorem d_H_certificate_26 : decode prog_1_method_32_code 26 = .ok (.if_icmp .ge 10, 3) := by decide +kernel
theorem d_H_certificate_29 : decode prog_1_method_32_code 29 = .ok (.iload_n 2, 1) := by decide +kernel
theorem d_H_certificate_30 : decode prog_1_method_32_code 30 = .ok (.invokestatic 114, 3) := by decide +kernel
theorem d_H_certificate_33 : decode prog_1_method_32_code 33 = .ok (.ifCond .ne 5, 3) := by decide +kernel
theorem d_H_certificate_36 : decode prog_1_method_32_code 36 = .ok (.iconst (-1), 1) := by decide +kernel
theorem d_H_certificate_37 : decode prog_1_method_32_code 37 = .ok (.ireturn, 1) := by decide +kernel
theorem d_H_certificate_38 : decode prog_1_method_32_code 38 = .ok (.aload_n 0, 1) := by decide +kernel
theorem d_H_certificate_39 : decode prog_1_method_32_code 39 = .ok (.getfield 68, 3) := by decide +kernel
theorem d_H_certificate_42 : decode prog_1_method_32_code 42 = .ok (.iconst 0, 1) := by decide +kernel
theorem d_H_certificate_43 : decode prog_1_method_32_code 43 = .ok (.putfield 96, 3) := by decide +kernel
theorem d_H_certificate_46 : decode prog_1_method_32_code 46 = .ok (.iconst 0, 1) := by decide +kernel
theorem d_H_certificate_47 : decode prog_1_method_32_code 47 = .ok (.istore_n 3, 1) := by decide +kernel
theorem d_H_certificate_48 : decode prog_1_method_32_code 48 = .ok (.iload_n 3, 1) := by decide +kernel
theorem d_H_certificate_49 : decode prog_1_method_32_code 49 = .ok (.aload_n 0, 1) := by decide +kernel
theorem d_H_certificate_50 : decode prog_1_method_32_code 50 = .ok (.getfield 54, 3) := by decide +kernel
theorem d_H_certificate_53 : decode prog_1_method_32_code 53 = .ok (.getfield 191, 3) := by decide +kernel
theorem d_H_certificate_56 : decode prog_1_method_32_code 56 = .ok (.if_icmp .ge 89, 3) := by decide +kernel
theorem d_H_certificate_59 : decode prog_1_method_32_code 59 = .ok (.aload_n 0, 1) := by decide +kernel
theorem d_H_certificate_60 : decode prog_1_method_32_code 60 = .ok (.getfield 75, 3) := by decide +kernel
theorem d_H_certificate_63 : decode prog_1_method_32_code 63 = .ok (.iload_n 3, 1) := by decide +kernel
theorem d_H_certificate_64 : decode prog_1_method_32_code 64 = .ok (.aaload, 1) := by decide +kernel
theorem d_H_certificate_65 : decode prog_1_method_32_code 65 = .ok (.astore 4, 2) := by decide +kernel
theorem d_H_certificate_67 : decode prog_1_method_32_code 67 = .ok (.iconst 0, 1) := by decide +kernel
theorem d_H_certificate_68 : decode prog_1_method_32_code 68 = .ok (.istore 5, 2) := by decide +kernel
theorem d_H_certificate_70 : decode prog_1_method_32_code 70 = .ok (.iload 5, 2) := by decide +kernel
theorem d_H_certificate_72 : decode prog_1_method_32_code 72 = .ok (.aload 4, 2) := by decide +kernel
theorem d_H_certificate_74 : decode prog_1_method_32_code 74 = .ok (.getfield 96, 3) := by decide +kernel
theorem d_H_certificate_77 : decode prog_1_method_32_code 77 = .ok (.if_icmp .ge 62, 3) := by decide +kernel
theorem d_H_certificate_80 : decode prog_1_method_32_code 80 = .ok (.aload_n 0, 1) := by decide +kernel
theorem d_H_certificate_81 : decode prog_1_method_32_code 81 = .ok (.getfield 68, 3) := by decide +kernel
theorem d_H_certificate_84 : decode prog_1_method_32_code 84 = .ok (.aload_n 0, 1) := by decide +kernel
theorem d_H_certificate_85 : decode prog_1_method_32_code 85 = .ok (.invokevirtual 103, 3) := by decide +kernel
theorem d_H_certificate_88 : decode prog_1_method_32_code 88 = .ok (.aload_n 0, 1) := by decide +kernel
theorem d_H_certificate_89 : decode prog_1_method_32_code 89 = .ok (.getfield 64, 3) := by decide +kernel
theorem d_H_certificate_92 : decode prog_1_method_32_code 92 = .ok (.aload 4, 2) := by decide +kernel
theorem d_H_certificate_94 : decode prog_1_method_32_code 94 = .ok (.getfield 143, 3) := by decide +kernel
theorem d_H_certificate_97 : decode prog_1_method_32_code 97 = .ok (.iload 5, 2) := by decide +kernel
theorem d_H_certificate_99 : decode prog_1_method_32_code 99 = .ok (.iaload, 1) := by decide +kernel
theorem d_H_certificate_100 : decode prog_1_method_32_code 100 = .ok (.aload 4, 2) := by decide +kernel
theorem d_H_certificate_102 : decode prog_1_method_32_code 102 = .ok (.getfield 145, 3) := by decide +kernel
theorem d_H_certificate_105 : decode prog_1_method_32_code 105 = .ok (.iload 5, 2) := by decide +kernel
theorem d_H_certificate_107 : decode prog_1_method_32_code 107 = .ok (.iaload, 1) := by decide +kernel
theorem d_H_certificate_108 : decode prog_1_method_32_code 108 = .ok (.aload 4, 2) := by decide +kernel
theorem d_H_certificate_110 : decode prog_1_method_32_code 110 = .ok (.getfield 147, 3) := by decide +kernel
theorem d_H_certificate_113 : decode prog_1_method_32_code 113 = .ok (.iload 5, 2) := by decide +kernel
theorem d_H_certificate_115 : decode prog_1_method_32_code 115 = .ok (.iaload, 1) := by decide +kernel
theorem d_H_certificate_116 : decode prog_1_method_32_code 116 = .ok (.aload_n 0, 1) := by decide +kernel
theorem d_H_certificate_117 : decode prog_1_method_32_code 117 = .ok (.getfield 54, 3) := by decide +kernel
theorem d_H_certificate_120 : decode prog_1_method_32_code 120 = .ok (.getfield 209, 3) := by decide +kernel
theorem d_H_certificate_123 : decode prog_1_method_32_code 123 = .ok (.iload_n 3, 1) := by decide +kernel
theorem d_H_certificate_124 : decode prog_1_method_32_code 124 = .ok (.aaload, 1) := by decide +kernel
theorem d_H_certificate_125 : decode prog_1_method_32_code 125 = .ok (.getfield 218, 3) := by decide +kernel
theorem d_H_certificate_128 : decode prog_1_method_32_code 128 = .ok (.iload_n 1, 1) := by decide +kernel
theorem d_H_certificate_129 : decode prog_1_method_32_code 129 = .ok (.aaload, 1) := by decide +kernel
theorem d_H_certificate_130 : decode prog_1_method_32_code 130 = .ok (.invokevirtual 150, 3) := by decide +kernel
theorem d_H_certificate_133 : decode prog_1_method_32_code 133 = .ok (.iinc 5 1, 3) := by decide +kernel
theorem d_H_certificate_136 : decode prog_1_method_32_code 136 = .ok (.goto (-66), 3) := by decide +kernel
theorem d_H_certificate_139 : decode prog_1_method_32_code 139 = .ok (.iinc 3 1, 3) := by decide +kernel
theorem d_H_certificate_142 : decode prog_1_method_32_code 142 = .ok (.goto (-94), 3) := by decide +kernel
theorem d_H_certificate_145 : decode prog_1_method_32_code 145 = .ok (.goto 9, 3) := by decide +kernel
theorem d_H_certificate_148 : decode prog_1_method_32_code 148 = .ok (.astore_n 3, 1) := by decide +kernel
theorem d_H_certificate_149 : decode prog_1_method_32_code 149 = .ok (.aload_n 3, 1) := by decide +kernel
theorem d_H_certificate_150 : decode prog_1_method_32_code 150 = .ok (.getfield 136, 3) := by decide +kernel
theorem d_H_certificate_153 : decode prog_1_method_32_code 153 = .ok (.ireturn, 1) := by decide +kernel
theorem d_H_certificate_154 : decode prog_1_method_32_code 154 = .ok (.aload_n 0, 1) := by decide +kernel
theorem d_H_certificate_155 : decode prog_1_method_32_code 155 = .ok (.aload_n 0, 1) := by decide +kernel
theorem d_H_certificate_156 : decode prog_1_method_32_code 156 = .ok (.getfield 68, 3) := by decide +kernel
theorem d_H_certificate_159 : decode prog_1_method_32_code 159 = .ok (.iload_n 2, 1) := by decide +kernel
theorem d_H_certificate_160 : decode prog_1_method_32_code 160 = .ok (.invokevirtual 139, 3) := by decide +kernel
theorem d_H_certificate_163 : decode prog_1_method_32_code 163 = .ok (.ireturn, 1) := by decide +kernel
def tb_H_certificate_0 : List (Nat × jm_Op) := [(0, oAl 0 1), (1, oGi 1 8 4), (4, oIfEq 14 7), (7, oAl 0 8), (8, oGi 1 9 11), (11, oIfNe 17 14), (14, oC (-3) 16), (17, oIl 1 18), (18, oIfLt 36 21), (21, oIl 1 22), (22, oAl 0 23), (23, oGi 1 5 26), (26, oIcGe 36 29), (29, oIl 2 30), (33, oIfNe 38 36), (36, oC (-1) 37), (38, oAl 0 39), (39, oGr 1 11 5 42), (42, oC 0 43), (43, oPi 5 0 46), (46, oC 0 47), (47, oIs 3 48), (48, oIl 3 49), (49, oAl 0 50), (50, oGr 1 6 2 53), (53, oGi 2 10 56), (56, oIcGe 145 59), (59, oAl 0 60), (60, oGr 1 13 10 63), (63, oIl 3 64), (64, oRa 65), (65, oAs 4 67), (67, oC 0 68), (68, oIs 5 70), (70, oIl 5 72), (72, oAl 4 74), (74, oGi 5 0 77), (77, oIcGe 139 80), (80, oAl 0 81), (81, oGr 1 11 5 84), (84, oAl 0 85), (88, oAl 0 89), (89, oGr 1 10 4 92), (92, oAl 4 94), (94, oGr 5 1 8 97), (97, oIl 5 99), (99, oIa 100), (100, oAl 4 102), (102, oGr 5 2 8 105), (105, oIl 5 107)]
theorem ok_H_certificate_0 : jm_all 68 tb_H_certificate_0 := ⟨s_aload_n d_H_certificate_0 rfl, s_geti d_H_certificate_1 ci_H rfl wd_250, s_if_eq d_H_certificate_4 (by decide), s_aload_n d_H_certificate_7 rfl, s_geti d_H_certificate_8 ci_H rfl wd_251, s_if_ne d_H_certificate_11 (by decide), s_bipush d_H_certificate_14 (by decide), s_iload_n d_H_certificate_17 rfl, s_if_lt d_H_certificate_18 (by decide), s_iload_n d_H_certificate_21 rfl, s_aload_n d_H_certificate_22 rfl, s_geti d_H_certificate_23 ci_H rfl wd_247, s_icmp_ge d_H_certificate_26 (by decide), s_iload_n d_H_certificate_29 rfl, s_if_ne d_H_certificate_33 (by decide), s_iconst d_H_certificate_36 (by decide), s_aload_n d_H_certificate_38 rfl, s_getr d_H_certificate_39 ci_H rfl wd_253, s_iconst d_H_certificate_42 (by decide), s_putiN d_H_certificate_43 ci_P rfl rfl rfl wd_100, s_iconst d_H_certificate_46 (by decide), s_istore_n d_H_certificate_47 rfl (by decide), s_iload_n d_H_certificate_48 rfl, s_aload_n d_H_certificate_49 rfl, s_getr d_H_certificate_50 ci_H rfl wd_248, s_getiN d_H_certificate_53 ci_G rfl wd_187, s_icmp_ge d_H_certificate_56 (by decide), s_aload_n d_H_certificate_59 rfl, s_getr d_H_certificate_60 ci_H rfl wd_255, s_iload_n d_H_certificate_63 rfl, s_aaload d_H_certificate_64, s_astore d_H_certificate_65 (by decide), s_iconst d_H_certificate_67 (by decide), s_istore d_H_certificate_68 (by decide), s_iload d_H_certificate_70, s_aload d_H_certificate_72, s_getiN d_H_certificate_74 ci_P rfl wd_100, s_icmp_ge d_H_certificate_77 (by decide), s_aload_n d_H_certificate_80 rfl, s_getr d_H_certificate_81 ci_H rfl wd_253, s_aload_n d_H_certificate_84 rfl, s_aload_n d_H_certificate_88 rfl, s_getr d_H_certificate_89 ci_H rfl wd_252, s_aload d_H_certificate_92, s_getrN d_H_certificate_94 ci_P rfl wd_104, s_iload d_H_certificate_97, s_iaload d_H_certificate_99, s_aload d_H_certificate_100, s_getrN d_H_certificate_102 ci_P rfl wd_108, s_iload d_H_certificate_105, trivial⟩
def tb_H_certificate_1 : List (Nat × jm_Op) := [(107, oIa 108), (108, oAl 4 110), (110, oGr 5 3 8 113), (113, oIl 5 115), (115, oIa 116), (116, oAl 0 117), (117, oGr 1 6 2 120), (120, oGr 2 1 11 123), (123, oIl 3 124), (124, oRa 125), (125, oGr 3 1 10 128), (128, oIl 1 129), (129, oRa 130), (133, oInc 5 1 136), (136, oGo 70), (139, oInc 3 1 142), (142, oGo 48), (145, oGo 154), (148, oAs 3 149), (149, oAl 3 150), (150, oGi 7 0 153), (154, oAl 0 155), (155, oAl 0 156), (156, oGr 1 11 5 159), (159, oIl 2 160)]
theorem ok_H_certificate_1 : jm_all 68 tb_H_certificate_1 := ⟨s_iaload d_H_certificate_107, s_aload d_H_certificate_108, s_getrN d_H_certificate_110 ci_P rfl wd_111, s_iload d_H_certificate_113, s_iaload d_H_certificate_115, s_aload_n d_H_certificate_116 rfl, s_getr d_H_certificate_117 ci_H rfl wd_248, s_getrN d_H_certificate_120 ci_G rfl wd_174, s_iload_n d_H_certificate_123 rfl, s_aaload d_H_certificate_124, s_getrN d_H_certificate_125 ci_E rfl wd_165, s_iload_n d_H_certificate_128 rfl, s_aaload d_H_certificate_129, s_iinc d_H_certificate_133 (by decide) (by decide), s_goto d_H_certificate_136 (by decide), s_iinc d_H_certificate_139 (by decide) (by decide), s_goto d_H_certificate_142 (by decide), s_goto d_H_certificate_145 (by decide), s_astore_n d_H_certificate_148 rfl (by decide), s_aload_n d_H_certificate_149 rfl, s_getiN d_H_certificate_150 ci_S rfl wd_400, s_aload_n d_H_certificate_154 rfl, s_aload_n d_H_certificate_155 rfl, s_getr d_H_certificate_156 ci_H rfl wd_253, s_iload_n d_H_certificate_159 rfl, trivial⟩
def tb_H_certificate : List (Nat × jm_Op) := tb_H_certificate_0 ++ tb_H_certificate_1
theorem ok_H_certificate : jm_all 68 tb_H_certificate := jm_all_app ok_H_certificate_0 ok_H_certificate_1
theorem r_H_certificate_16 {g : jm_G} {d : Nat} {L : List (Option jm_V)} {σ : jm_S} {K : jm_O → Prop} {v : Int32} (hK : K (σ, .inl (some (aI v)))) : J g d 68 16 L [aI v] σ K := J_iret d_H_certificate_16 rfl hK
theorem k_H_certificate_30 {g : jm_G} {d : Nat} {L : List (Option jm_V)} {r : List jm_V} {σ : jm_S} {K K' : jm_O → Prop} {x0 : Int32} (hr : Nat.ble (jm_cs r) 8 = true) (hcal : J g d 17 0 [some (aI x0)] [] σ K') (hk : ∀ u, K' u → jm_aft g (d + 1) 68 30 L r u K) : J g (d + 1) 68 30 L (aI x0 :: r) σ K :=
  J_call' (id' := 17) jm_sk (vs := [aI x0]) (inv_S (id' := 17) d_H_certificate_30 wd_329 wd_330 wd_54 cw_H_isPlace (by decide) pn_H_isPlace) cw_H_isPlace (by decide) (by decide) (Nat.le_of_ble_eq_true rfl) rfl hr rfl hcal hk
theorem r_H_certificate_37 {g : jm_G} {d : Nat} {L : List (Option jm_V)} {σ : jm_S} {K : jm_O → Prop} {v : Int32} (hK : K (σ, .inl (some (aI v)))) : J g d 68 37 L [aI v] σ K := J_iret d_H_certificate_37 rfl hK
theorem k_H_certificate_85 {g : jm_G} {d : Nat} {L : List (Option jm_V)} {r : List jm_V} {σ : jm_S} {K K' : jm_O → Prop} {q0 : Nat} (hr : Nat.ble (jm_cs r) 8 = true) (hcal : J g d 9 0 [some (aR 1 q0)] [] σ K') (hk : ∀ u, K' u → jm_aft g (d + 1) 68 85 L r u K) : J g (d + 1) 68 85 L (aR 1 q0 :: r) σ K :=
  J_call' (id' := 9) jm_sk (vs := [aR 1 q0]) (inv_V (id' := 9) d_H_certificate_85 ci_H wd_296 wd_298 wd_0 cw_H_order2 (by decide) pn_H_order2) cw_H_order2 (by decide) (by decide) (Nat.le_of_ble_eq_true rfl) rfl hr rfl hcal hk
theorem k_H_certificate_130 {g : jm_G} {d : Nat} {L : List (Option jm_V)} {r : List jm_V} {σ : jm_S} {K K' : jm_O → Prop} {q0 : Nat} {x0 : Nat} {x1 : Nat} {x2 : Int32} {x3 : Int32} {x4 : Int32} {x5 : Nat} (hr : Nat.ble (jm_cs r) 8 = true) (hcal : J g d 32 0 [some (aR 5 q0), some (aR 13 x0), some (aR 4 x1), some (aI x2), some (aI x3), some (aI x4), some (aR 5 x5), none, none] [] σ K') (hk : ∀ u, K' u → jm_aft g (d + 1) 68 130 L r u K) : J g (d + 1) 68 130 L (aR 5 x5 :: aI x4 :: aI x3 :: aI x2 :: aR 4 x1 :: aR 13 x0 :: aR 5 q0 :: r) σ K :=
  J_call' (id' := 32) jm_sk (vs := [aR 5 q0, aR 13 x0, aR 4 x1, aI x2, aI x3, aI x4, aR 5 x5]) (inv_V (id' := 32) d_H_certificate_130 ci_P wd_455 wd_456 wd_457 cw_P_plus (by decide) pn_P_plus) cw_P_plus (by decide) (by decide) (Nat.le_of_ble_eq_true rfl) rfl hr rfl hcal hk
theorem r_H_certificate_153 {g : jm_G} {d : Nat} {L : List (Option jm_V)} {σ : jm_S} {K : jm_O → Prop} {v : Int32} (hK : K (σ, .inl (some (aI v)))) : J g d 68 153 L [aI v] σ K := J_iret d_H_certificate_153 rfl hK
theorem k_H_certificate_160 {g : jm_G} {d : Nat} {L : List (Option jm_V)} {r : List jm_V} {σ : jm_S} {K K' : jm_O → Prop} {q0 : Nat} {x0 : Nat} {x1 : Int32} (hr : Nat.ble (jm_cs r) 8 = true) (hcal : J g d 27 0 [some (aR 1 q0), some (aR 5 x0), some (aI x1)] [] σ K') (hk : ∀ u, K' u → jm_aft g (d + 1) 68 160 L r u K) : J g (d + 1) 68 160 L (aI x1 :: aR 5 x0 :: aR 1 q0 :: r) σ K :=
  J_call' (id' := 27) jm_sk (vs := [aR 1 q0, aR 5 x0, aI x1]) (inv_V (id' := 27) d_H_certificate_160 ci_H wd_434 wd_436 wd_5 cw_H_give (by decide) pn_H_give) cw_H_give (by decide) (by decide) (Nat.le_of_ble_eq_true rfl) rfl hr rfl hcal hk
theorem r_H_certificate_163 {g : jm_G} {d : Nat} {L : List (Option jm_V)} {σ : jm_S} {K : jm_O → Prop} {v : Int32} (hK : K (σ, .inl (some (aI v)))) : J g d 68 163 L [aI v] σ K := J_iret d_H_certificate_163 rfl hK
-- IdealProver check ()I
theorem d_H_check_0 : decode prog_1_method_33_code 0 = .ok (.aload_n 0, 1) := by decide +kernel
theorem d_H_check_1 : decode prog_1_method_33_code 1 = .ok (.getfield 99, 3) := by decide +kernel
theorem d_H_check_4 : decode prog_1_method_33_code 4 = .ok (.ifCond .ne 6, 3) := by decide +kernel
theorem d_H_check_7 : decode prog_1_method_33_code 7 = .ok (.bipush (-3), 2) := by decide +kernel
theorem d_H_check_9 : decode prog_1_method_33_code 9 = .ok (.ireturn, 1) := by decide +kernel
theorem d_H_check_10 : decode prog_1_method_33_code 10 = .ok (.iconst 1, 1) := by decide +kernel
theorem d_H_check_11 : decode prog_1_method_33_code 11 = .ok (.istore_n 1, 1) := by decide +kernel
theorem d_H_check_12 : decode prog_1_method_33_code 12 = .ok (.iconst 0, 1) := by decide +kernel
theorem d_H_check_13 : decode prog_1_method_33_code 13 = .ok (.istore_n 2, 1) := by decide +kernel
theorem d_H_check_14 : decode prog_1_method_33_code 14 = .ok (.iload_n 2, 1) := by decide +kernel
theorem d_H_check_15 : decode prog_1_method_33_code 15 = .ok (.aload_n 0, 1) := by decide +kernel
theorem d_H_check_16 : decode prog_1_method_33_code 16 = .ok (.getfield 54, 3) := by decide +kernel
theorem d_H_check_19 : decode prog_1_method_33_code 19 = .ok (.getfield 191, 3) := by decide +kernel
theorem d_H_check_22 : decode prog_1_method_33_code 22 = .ok (.if_icmp .ge 105, 3) := by decide +kernel
theorem d_H_check_25 : decode prog_1_method_33_code 25 = .ok (.aload_n 0, 1) := by decide +kernel
theorem d_H_check_26 : decode prog_1_method_33_code 26 = .ok (.getfield 68, 3) := by decide +kernel
theorem d_H_check_29 : decode prog_1_method_33_code 29 = .ok (.iconst 0, 1) := by decide +kernel
theorem d_H_check_30 : decode prog_1_method_33_code 30 = .ok (.putfield 96, 3) := by decide +kernel
theorem d_H_check_33 : decode prog_1_method_33_code 33 = .ok (.iconst 0, 1) := by decide +kernel
theorem d_H_check_34 : decode prog_1_method_33_code 34 = .ok (.istore_n 3, 1) := by decide +kernel
theorem d_H_check_35 : decode prog_1_method_33_code 35 = .ok (.iload_n 3, 1) := by decide +kernel
theorem d_H_check_36 : decode prog_1_method_33_code 36 = .ok (.aload_n 0, 1) := by decide +kernel
theorem d_H_check_37 : decode prog_1_method_33_code 37 = .ok (.getfield 111, 3) := by decide +kernel
theorem d_H_check_40 : decode prog_1_method_33_code 40 = .ok (.if_icmp .ge 59, 3) := by decide +kernel
theorem d_H_check_43 : decode prog_1_method_33_code 43 = .ok (.aload_n 0, 1) := by decide +kernel
theorem d_H_check_44 : decode prog_1_method_33_code 44 = .ok (.aload_n 0, 1) := by decide +kernel
theorem d_H_check_45 : decode prog_1_method_33_code 45 = .ok (.getfield 72, 3) := by decide +kernel
theorem d_H_check_48 : decode prog_1_method_33_code 48 = .ok (.aload_n 0, 1) := by decide +kernel
theorem d_H_check_49 : decode prog_1_method_33_code 49 = .ok (.getfield 54, 3) := by decide +kernel
theorem d_H_check_52 : decode prog_1_method_33_code 52 = .ok (.getfield 209, 3) := by decide +kernel
theorem d_H_check_55 : decode prog_1_method_33_code 55 = .ok (.iload_n 2, 1) := by decide +kernel
theorem d_H_check_56 : decode prog_1_method_33_code 56 = .ok (.aaload, 1) := by decide +kernel
theorem d_H_check_57 : decode prog_1_method_33_code 57 = .ok (.getfield 218, 3) := by decide +kernel
theorem d_H_check_60 : decode prog_1_method_33_code 60 = .ok (.iload_n 3, 1) := by decide +kernel
theorem d_H_check_61 : decode prog_1_method_33_code 61 = .ok (.aaload, 1) := by decide +kernel
theorem d_H_check_62 : decode prog_1_method_33_code 62 = .ok (.aload_n 0, 1) := by decide +kernel
theorem d_H_check_63 : decode prog_1_method_33_code 63 = .ok (.getfield 46, 3) := by decide +kernel
theorem d_H_check_66 : decode prog_1_method_33_code 66 = .ok (.iload_n 3, 1) := by decide +kernel
theorem d_H_check_67 : decode prog_1_method_33_code 67 = .ok (.aaload, 1) := by decide +kernel
theorem d_H_check_68 : decode prog_1_method_33_code 68 = .ok (.invokevirtual 154, 3) := by decide +kernel
theorem d_H_check_71 : decode prog_1_method_33_code 71 = .ok (.aload_n 0, 1) := by decide +kernel
theorem d_H_check_72 : decode prog_1_method_33_code 72 = .ok (.getfield 68, 3) := by decide +kernel
theorem d_H_check_75 : decode prog_1_method_33_code 75 = .ok (.aload_n 0, 1) := by decide +kernel
theorem d_H_check_76 : decode prog_1_method_33_code 76 = .ok (.invokevirtual 103, 3) := by decide +kernel
theorem d_H_check_79 : decode prog_1_method_33_code 79 = .ok (.aload_n 0, 1) := by decide +kernel
theorem d_H_check_80 : decode prog_1_method_33_code 80 = .ok (.getfield 64, 3) := by decide +kernel
theorem d_H_check_83 : decode prog_1_method_33_code 83 = .ok (.iconst 1, 1) := by decide +kernel
theorem d_H_check_84 : decode prog_1_method_33_code 84 = .ok (.iconst 1, 1) := by decide +kernel
theorem d_H_check_85 : decode prog_1_method_33_code 85 = .ok (.iconst 0, 1) := by decide +kernel
theorem d_H_check_86 : decode prog_1_method_33_code 86 = .ok (.aload_n 0, 1) := by decide +kernel
theorem d_H_check_87 : decode prog_1_method_33_code 87 = .ok (.getfield 72, 3) := by decide +kernel
theorem d_H_check_90 : decode prog_1_method_33_code 90 = .ok (.invokevirtual 150, 3) := by decide +kernel
theorem d_H_check_93 : decode prog_1_method_33_code 93 = .ok (.iinc 3 1, 3) := by decide +kernel
theorem d_H_check_96 : decode prog_1_method_33_code 96 = .ok (.goto (-61), 3) := by decide +kernel
theorem d_H_check_99 : decode prog_1_method_33_code 99 = .ok (.iload_n 1, 1) := by decide +kernel
theorem d_H_check_100 : decode prog_1_method_33_code 100 = .ok (.aload_n 0, 1) := by decide +kernel
theorem d_H_check_101 : decode prog_1_method_33_code 101 = .ok (.getfield 68, 3) := by decide +kernel
theorem d_H_check_104 : decode prog_1_method_33_code 104 = .ok (.aload_n 0, 1) := by decide +kernel
theorem d_H_check_105 : decode prog_1_method_33_code 105 = .ok (.getfield 54, 3) := by decide +kernel
theorem d_H_check_108 : decode prog_1_method_33_code 108 = .ok (.getfield 209, 3) := by decide +kernel
theorem d_H_check_111 : decode prog_1_method_33_code 111 = .ok (.iload_n 2, 1) := by decide +kernel
theorem d_H_check_112 : decode prog_1_method_33_code 112 = .ok (.aaload, 1) := by decide +kernel
theorem d_H_check_113 : decode prog_1_method_33_code 113 = .ok (.getfield 213, 3) := by decide +kernel
theorem d_H_check_116 : decode prog_1_method_33_code 116 = .ok (.invokevirtual 158, 3) := by decide +kernel
theorem d_H_check_119 : decode prog_1_method_33_code 119 = .ok (.iand, 1) := by decide +kernel
theorem d_H_check_120 : decode prog_1_method_33_code 120 = .ok (.istore_n 1, 1) := by decide +kernel
theorem d_H_check_121 : decode prog_1_method_33_code 121 = .ok (.iinc 2 1, 3) := by decide +kernel
theorem d_H_check_124 : decode prog_1_method_33_code 124 = .ok (.goto (-110), 3) := by decide +kernel
theorem d_H_check_127 : decode prog_1_method_33_code 127 = .ok (.goto 9, 3) := by decide +kernel
theorem d_H_check_130 : decode prog_1_method_33_code 130 = .ok (.astore_n 2, 1) := by decide +kernel
theorem d_H_check_131 : decode prog_1_method_33_code 131 = .ok (.aload_n 2, 1) := by decide +kernel
theorem d_H_check_132 : decode prog_1_method_33_code 132 = .ok (.getfield 136, 3) := by decide +kernel
theorem d_H_check_135 : decode prog_1_method_33_code 135 = .ok (.ireturn, 1) := by decide +kernel
theorem d_H_check_136 : decode prog_1_method_33_code 136 = .ok (.iload_n 1, 1) := by decide +kernel
theorem d_H_check_137 : decode prog_1_method_33_code 137 = .ok (.ifCond .eq 7, 3) := by decide +kernel
theorem d_H_check_140 : decode prog_1_method_33_code 140 = .ok (.iconst 1, 1) := by decide +kernel
theorem d_H_check_141 : decode prog_1_method_33_code 141 = .ok (.goto 4, 3) := by decide +kernel
theorem d_H_check_144 : decode prog_1_method_33_code 144 = .ok (.iconst 0, 1) := by decide +kernel
theorem d_H_check_145 : decode prog_1_method_33_code 145 = .ok (.ireturn, 1) := by decide +kernel
def tb_H_check_0 : List (Nat × jm_Op) := [(0, oAl 0 1), (1, oGi 1 8 4), (4, oIfNe 10 7), (7, oC (-3) 9), (10, oC 1 11), (11, oIs 1 12), (12, oC 0 13), (13, oIs 2 14), (14, oIl 2 15), (15, oAl 0 16), (16, oGr 1 6 2 19), (19, oGi 2 10 22), (22, oIcGe 127 25), (25, oAl 0 26), (26, oGr 1 11 5 29), (29, oC 0 30), (30, oPi 5 0 33), (33, oC 0 34), (34, oIs 3 35), (35, oIl 3 36), (36, oAl 0 37), (37, oGi 1 5 40), (40, oIcGe 99 43), (43, oAl 0 44), (44, oAl 0 45), (45, oGr 1 12 5 48), (48, oAl 0 49), (49, oGr 1 6 2 52), (52, oGr 2 1 11 55), (55, oIl 2 56), (56, oRa 57), (57, oGr 3 1 10 60), (60, oIl 3 61), (61, oRa 62), (62, oAl 0 63), (63, oGr 1 4 10 66), (66, oIl 3 67), (67, oRa 68), (71, oAl 0 72), (72, oGr 1 11 5 75), (75, oAl 0 76), (79, oAl 0 80), (80, oGr 1 10 4 83), (83, oC 1 84), (84, oC 1 85), (85, oC 0 86), (86, oAl 0 87), (87, oGr 1 12 5 90), (93, oInc 3 1 96), (96, oGo 35)]
theorem ok_H_check_0 : jm_all 69 tb_H_check_0 := ⟨s_aload_n d_H_check_0 rfl, s_geti d_H_check_1 ci_H rfl wd_250, s_if_ne d_H_check_4 (by decide), s_bipush d_H_check_7 (by decide), s_iconst d_H_check_10 (by decide), s_istore_n d_H_check_11 rfl (by decide), s_iconst d_H_check_12 (by decide), s_istore_n d_H_check_13 rfl (by decide), s_iload_n d_H_check_14 rfl, s_aload_n d_H_check_15 rfl, s_getr d_H_check_16 ci_H rfl wd_248, s_getiN d_H_check_19 ci_G rfl wd_187, s_icmp_ge d_H_check_22 (by decide), s_aload_n d_H_check_25 rfl, s_getr d_H_check_26 ci_H rfl wd_253, s_iconst d_H_check_29 (by decide), s_putiN d_H_check_30 ci_P rfl rfl rfl wd_100, s_iconst d_H_check_33 (by decide), s_istore_n d_H_check_34 rfl (by decide), s_iload_n d_H_check_35 rfl, s_aload_n d_H_check_36 rfl, s_geti d_H_check_37 ci_H rfl wd_247, s_icmp_ge d_H_check_40 (by decide), s_aload_n d_H_check_43 rfl, s_aload_n d_H_check_44 rfl, s_getr d_H_check_45 ci_H rfl wd_254, s_aload_n d_H_check_48 rfl, s_getr d_H_check_49 ci_H rfl wd_248, s_getrN d_H_check_52 ci_G rfl wd_174, s_iload_n d_H_check_55 rfl, s_aaload d_H_check_56, s_getrN d_H_check_57 ci_E rfl wd_165, s_iload_n d_H_check_60 rfl, s_aaload d_H_check_61, s_aload_n d_H_check_62 rfl, s_getr d_H_check_63 ci_H rfl wd_246, s_iload_n d_H_check_66 rfl, s_aaload d_H_check_67, s_aload_n d_H_check_71 rfl, s_getr d_H_check_72 ci_H rfl wd_253, s_aload_n d_H_check_75 rfl, s_aload_n d_H_check_79 rfl, s_getr d_H_check_80 ci_H rfl wd_252, s_iconst d_H_check_83 (by decide), s_iconst d_H_check_84 (by decide), s_iconst d_H_check_85 (by decide), s_aload_n d_H_check_86 rfl, s_getr d_H_check_87 ci_H rfl wd_254, s_iinc d_H_check_93 (by decide) (by decide), s_goto d_H_check_96 (by decide), trivial⟩
def tb_H_check_1 : List (Nat × jm_Op) := [(99, oIl 1 100), (100, oAl 0 101), (101, oGr 1 11 5 104), (104, oAl 0 105), (105, oGr 1 6 2 108), (108, oGr 2 1 11 111), (111, oIl 2 112), (112, oRa 113), (113, oGr 3 0 5 116), (119, oAnd 120), (120, oIs 1 121), (121, oInc 2 1 124), (124, oGo 14), (127, oGo 136), (130, oAs 2 131), (131, oAl 2 132), (132, oGi 7 0 135), (136, oIl 1 137), (137, oIfEq 144 140), (140, oC 1 141), (141, oGo 145), (144, oC 0 145)]
theorem ok_H_check_1 : jm_all 69 tb_H_check_1 := ⟨s_iload_n d_H_check_99 rfl, s_aload_n d_H_check_100 rfl, s_getr d_H_check_101 ci_H rfl wd_253, s_aload_n d_H_check_104 rfl, s_getr d_H_check_105 ci_H rfl wd_248, s_getrN d_H_check_108 ci_G rfl wd_174, s_iload_n d_H_check_111 rfl, s_aaload d_H_check_112, s_getrN d_H_check_113 ci_E rfl wd_162, s_iand d_H_check_119, s_istore_n d_H_check_120 rfl (by decide), s_iinc d_H_check_121 (by decide) (by decide), s_goto d_H_check_124 (by decide), s_goto d_H_check_127 (by decide), s_astore_n d_H_check_130 rfl (by decide), s_aload_n d_H_check_131 rfl, s_getiN d_H_check_132 ci_S rfl wd_400, s_iload_n d_H_check_136 rfl, s_if_eq d_H_check_137 (by decide), s_iconst d_H_check_140 (by decide), s_goto d_H_check_141 (by decide), s_iconst d_H_check_144 (by decide), trivial⟩
def tb_H_check : List (Nat × jm_Op) := tb_H_check_0 ++ tb_H_check_1
theorem ok_H_check : jm_all 69 tb_H_check := jm_all_app ok_H_check_0 ok_H_check_1
theorem r_H_check_9 {g : jm_G} {d : Nat} {L : List (Option jm_V)} {σ : jm_S} {K : jm_O → Prop} {v : Int32} (hK : K (σ, .inl (some (aI v)))) : J g d 69 9 L [aI v] σ K := J_iret d_H_check_9 rfl hK
theorem k_H_check_68 {g : jm_G} {d : Nat} {L : List (Option jm_V)} {r : List jm_V} {σ : jm_S} {K K' : jm_O → Prop} {q0 : Nat} {x0 : Nat} {x1 : Nat} {x2 : Nat} (hr : Nat.ble (jm_cs r) 8 = true) (hcal : J g d 35 0 [some (aR 1 q0), some (aR 5 x0), some (aR 5 x1), some (aR 5 x2), none] [] σ K') (hk : ∀ u, K' u → jm_aft g (d + 1) 69 68 L r u K) : J g (d + 1) 69 68 L (aR 5 x2 :: aR 5 x1 :: aR 5 x0 :: aR 1 q0 :: r) σ K :=
  J_call' (id' := 35) jm_sk (vs := [aR 1 q0, aR 5 x0, aR 5 x1, aR 5 x2]) (inv_V (id' := 35) d_H_check_68 ci_H wd_469 wd_471 wd_6 cw_H_multiply (by decide) pn_H_multiply) cw_H_multiply (by decide) (by decide) (Nat.le_of_ble_eq_true rfl) rfl hr rfl hcal hk
theorem k_H_check_76 {g : jm_G} {d : Nat} {L : List (Option jm_V)} {r : List jm_V} {σ : jm_S} {K K' : jm_O → Prop} {q0 : Nat} (hr : Nat.ble (jm_cs r) 8 = true) (hcal : J g d 9 0 [some (aR 1 q0)] [] σ K') (hk : ∀ u, K' u → jm_aft g (d + 1) 69 76 L r u K) : J g (d + 1) 69 76 L (aR 1 q0 :: r) σ K :=
  J_call' (id' := 9) jm_sk (vs := [aR 1 q0]) (inv_V (id' := 9) d_H_check_76 ci_H wd_296 wd_298 wd_0 cw_H_order2 (by decide) pn_H_order2) cw_H_order2 (by decide) (by decide) (Nat.le_of_ble_eq_true rfl) rfl hr rfl hcal hk
theorem k_H_check_90 {g : jm_G} {d : Nat} {L : List (Option jm_V)} {r : List jm_V} {σ : jm_S} {K K' : jm_O → Prop} {q0 : Nat} {x0 : Nat} {x1 : Nat} {x2 : Int32} {x3 : Int32} {x4 : Int32} {x5 : Nat} (hr : Nat.ble (jm_cs r) 8 = true) (hcal : J g d 32 0 [some (aR 5 q0), some (aR 13 x0), some (aR 4 x1), some (aI x2), some (aI x3), some (aI x4), some (aR 5 x5), none, none] [] σ K') (hk : ∀ u, K' u → jm_aft g (d + 1) 69 90 L r u K) : J g (d + 1) 69 90 L (aR 5 x5 :: aI x4 :: aI x3 :: aI x2 :: aR 4 x1 :: aR 13 x0 :: aR 5 q0 :: r) σ K :=
  J_call' (id' := 32) jm_sk (vs := [aR 5 q0, aR 13 x0, aR 4 x1, aI x2, aI x3, aI x4, aR 5 x5]) (inv_V (id' := 32) d_H_check_90 ci_P wd_455 wd_456 wd_457 cw_P_plus (by decide) pn_P_plus) cw_P_plus (by decide) (by decide) (Nat.le_of_ble_eq_true rfl) rfl hr rfl hcal hk
theorem k_H_check_116 {g : jm_G} {d : Nat} {L : List (Option jm_V)} {r : List jm_V} {σ : jm_S} {K K' : jm_O → Prop} {q0 : Nat} {x0 : Nat} (hr : Nat.ble (jm_cs r) 8 = true) (hcal : J g d 37 0 [some (aR 5 q0), some (aR 5 x0), none, none] [] σ K') (hk : ∀ u, K' u → jm_aft g (d + 1) 69 116 L r u K) : J g (d + 1) 69 116 L (aR 5 x0 :: aR 5 q0 :: r) σ K :=
  J_call' (id' := 37) jm_sk (vs := [aR 5 q0, aR 5 x0]) (inv_V (id' := 37) d_H_check_116 ci_P wd_477 wd_478 wd_479 cw_P_isSame (by decide) pn_P_isSame) cw_P_isSame (by decide) (by decide) (Nat.le_of_ble_eq_true rfl) rfl hr rfl hcal hk
theorem r_H_check_135 {g : jm_G} {d : Nat} {L : List (Option jm_V)} {σ : jm_S} {K : jm_O → Prop} {v : Int32} (hK : K (σ, .inl (some (aI v)))) : J g d 69 135 L [aI v] σ K := J_iret d_H_check_135 rfl hK
theorem r_H_check_145 {g : jm_G} {d : Nat} {L : List (Option jm_V)} {σ : jm_S} {K : jm_O → Prop} {v : Int32} (hK : K (σ, .inl (some (aI v)))) : J g d 69 145 L [aI v] σ K := J_iret d_H_check_145 rfl hK
-- IdealProver radical (II)I
theorem d_H_radical_0 : decode prog_1_method_34_code 0 = .ok (.iload_n 1, 1) := by decide +kernel
theorem d_H_radical_1 : decode prog_1_method_34_code 1 = .ok (.invokestatic 114, 3) := by decide +kernel
theorem d_H_radical_4 : decode prog_1_method_34_code 4 = .ok (.ifCond .ne 5, 3) := by decide +kernel
theorem d_H_radical_7 : decode prog_1_method_34_code 7 = .ok (.iconst (-1), 1) := by decide +kernel
theorem d_H_radical_8 : decode prog_1_method_34_code 8 = .ok (.ireturn, 1) := by decide +kernel
theorem d_H_radical_9 : decode prog_1_method_34_code 9 = .ok (.iload_n 2, 1) := by decide +kernel
theorem d_H_radical_10 : decode prog_1_method_34_code 10 = .ok (.invokestatic 174, 3) := by decide +kernel
theorem d_H_radical_13 : decode prog_1_method_34_code 13 = .ok (.ifCond .ne 6, 3) := by decide +kernel
theorem d_H_radical_16 : decode prog_1_method_34_code 16 = .ok (.bipush (-2), 2) := by decide +kernel
theorem d_H_radical_18 : decode prog_1_method_34_code 18 = .ok (.ireturn, 1) := by decide +kernel
theorem d_H_radical_19 : decode prog_1_method_34_code 19 = .ok (.aload_n 0, 1) := by decide +kernel
theorem d_H_radical_20 : decode prog_1_method_34_code 20 = .ok (.getfield 85, 3) := by decide +kernel
theorem d_H_radical_23 : decode prog_1_method_34_code 23 = .ok (.iconst 4, 1) := by decide +kernel
theorem d_H_radical_24 : decode prog_1_method_34_code 24 = .ok (.if_icmp .ne 6, 3) := by decide +kernel
theorem d_H_radical_27 : decode prog_1_method_34_code 27 = .ok (.bipush (-3), 2) := by decide +kernel
theorem d_H_radical_29 : decode prog_1_method_34_code 29 = .ok (.ireturn, 1) := by decide +kernel
theorem d_H_radical_30 : decode prog_1_method_34_code 30 = .ok (.aload_n 0, 1) := by decide +kernel
theorem d_H_radical_31 : decode prog_1_method_34_code 31 = .ok (.getfield 58, 3) := by decide +kernel
theorem d_H_radical_34 : decode prog_1_method_34_code 34 = .ok (.aload_n 0, 1) := by decide +kernel
theorem d_H_radical_35 : decode prog_1_method_34_code 35 = .ok (.invokevirtual 103, 3) := by decide +kernel
theorem d_H_radical_38 : decode prog_1_method_34_code 38 = .ok (.iload_n 2, 1) := by decide +kernel
theorem d_H_radical_39 : decode prog_1_method_34_code 39 = .ok (.invokevirtual 180, 3) := by decide +kernel
theorem d_H_radical_42 : decode prog_1_method_34_code 42 = .ok (.aload_n 0, 1) := by decide +kernel
theorem d_H_radical_43 : decode prog_1_method_34_code 43 = .ok (.getfield 68, 3) := by decide +kernel
theorem d_H_radical_46 : decode prog_1_method_34_code 46 = .ok (.iconst 0, 1) := by decide +kernel
theorem d_H_radical_47 : decode prog_1_method_34_code 47 = .ok (.putfield 96, 3) := by decide +kernel
theorem d_H_radical_50 : decode prog_1_method_34_code 50 = .ok (.aload_n 0, 1) := by decide +kernel
theorem d_H_radical_51 : decode prog_1_method_34_code 51 = .ok (.getfield 68, 3) := by decide +kernel
theorem d_H_radical_54 : decode prog_1_method_34_code 54 = .ok (.iconst 0, 1) := by decide +kernel
theorem d_H_radical_55 : decode prog_1_method_34_code 55 = .ok (.iconst 1, 1) := by decide +kernel
theorem d_H_radical_56 : decode prog_1_method_34_code 56 = .ok (.iconst 1, 1) := by decide +kernel
theorem d_H_radical_57 : decode prog_1_method_34_code 57 = .ok (.iconst 0, 1) := by decide +kernel
theorem d_H_radical_58 : decode prog_1_method_34_code 58 = .ok (.invokevirtual 236, 3) := by decide +kernel
theorem d_H_radical_61 : decode prog_1_method_34_code 61 = .ok (.aload_n 0, 1) := by decide +kernel
theorem d_H_radical_62 : decode prog_1_method_34_code 62 = .ok (.getfield 68, 3) := by decide +kernel
theorem d_H_radical_65 : decode prog_1_method_34_code 65 = .ok (.aload_n 0, 1) := by decide +kernel
theorem d_H_radical_66 : decode prog_1_method_34_code 66 = .ok (.invokevirtual 103, 3) := by decide +kernel
theorem d_H_radical_69 : decode prog_1_method_34_code 69 = .ok (.aload_n 0, 1) := by decide +kernel
theorem d_H_radical_70 : decode prog_1_method_34_code 70 = .ok (.getfield 64, 3) := by decide +kernel
theorem d_H_radical_73 : decode prog_1_method_34_code 73 = .ok (.iconst (-1), 1) := by decide +kernel
theorem d_H_radical_74 : decode prog_1_method_34_code 74 = .ok (.iconst 1, 1) := by decide +kernel
theorem d_H_radical_75 : decode prog_1_method_34_code 75 = .ok (.aload_n 0, 1) := by decide +kernel
theorem d_H_radical_76 : decode prog_1_method_34_code 76 = .ok (.getfield 85, 3) := by decide +kernel
theorem d_H_radical_79 : decode prog_1_method_34_code 79 = .ok (.iconst 1, 1) := by decide +kernel
theorem d_H_radical_80 : decode prog_1_method_34_code 80 = .ok (.invokestatic 12, 3) := by decide +kernel
theorem d_H_radical_83 : decode prog_1_method_34_code 83 = .ok (.aload_n 0, 1) := by decide +kernel
theorem d_H_radical_84 : decode prog_1_method_34_code 84 = .ok (.getfield 42, 3) := by decide +kernel
theorem d_H_radical_87 : decode prog_1_method_34_code 87 = .ok (.iload_n 1, 1) := by decide +kernel
theorem d_H_radical_88 : decode prog_1_method_34_code 88 = .ok (.aaload, 1) := by decide +kernel
theorem d_H_radical_89 : decode prog_1_method_34_code 89 = .ok (.invokevirtual 150, 3) := by decide +kernel
theorem d_H_radical_92 : decode prog_1_method_34_code 92 = .ok (.iconst 0, 1) := by decide +kernel
theorem d_H_radical_93 : decode prog_1_method_34_code 93 = .ok (.istore_n 3, 1) := by decide +kernel
theorem d_H_radical_94 : decode prog_1_method_34_code 94 = .ok (.iload_n 3, 1) := by decide +kernel
theorem d_H_radical_95 : decode prog_1_method_34_code 95 = .ok (.aload_n 0, 1) := by decide +kernel
theorem d_H_radical_96 : decode prog_1_method_34_code 96 = .ok (.getfield 111, 3) := by decide +kernel
theorem d_H_radical_99 : decode prog_1_method_34_code 99 = .ok (.if_icmp .ge 23, 3) := by decide +kernel
theorem d_H_radical_102 : decode prog_1_method_34_code 102 = .ok (.aload_n 0, 1) := by decide +kernel
theorem d_H_radical_103 : decode prog_1_method_34_code 103 = .ok (.getfield 58, 3) := by decide +kernel
theorem d_H_radical_106 : decode prog_1_method_34_code 106 = .ok (.aload_n 0, 1) := by decide +kernel
theorem d_H_radical_107 : decode prog_1_method_34_code 107 = .ok (.getfield 46, 3) := by decide +kernel
theorem d_H_radical_110 : decode prog_1_method_34_code 110 = .ok (.iload_n 3, 1) := by decide +kernel
theorem d_H_radical_111 : decode prog_1_method_34_code 111 = .ok (.aaload, 1) := by decide +kernel
theorem d_H_radical_112 : decode prog_1_method_34_code 112 = .ok (.iconst 0, 1) := by decide +kernel
theorem d_H_radical_113 : decode prog_1_method_34_code 113 = .ok (.invokevirtual 184, 3) := by decide +kernel
theorem d_H_radical_116 : decode prog_1_method_34_code 116 = .ok (.iinc 3 1, 3) := by decide +kernel
theorem d_H_radical_119 : decode prog_1_method_34_code 119 = .ok (.goto (-25), 3) := by decide +kernel
theorem d_H_radical_122 : decode prog_1_method_34_code 122 = .ok (.aload_n 0, 1) := by decide +kernel
theorem d_H_radical_123 : decode prog_1_method_34_code 123 = .ok (.getfield 58, 3) := by decide +kernel
theorem d_H_radical_126 : decode prog_1_method_34_code 126 = .ok (.aload_n 0, 1) := by decide +kernel
theorem d_H_radical_127 : decode prog_1_method_34_code 127 = .ok (.getfield 68, 3) := by decide +kernel
theorem d_H_radical_130 : decode prog_1_method_34_code 130 = .ok (.iconst 0, 1) := by decide +kernel
theorem d_H_radical_131 : decode prog_1_method_34_code 131 = .ok (.invokevirtual 184, 3) := by decide +kernel
theorem d_H_radical_134 : decode prog_1_method_34_code 134 = .ok (.aload_n 0, 1) := by decide +kernel
theorem d_H_radical_135 : decode prog_1_method_34_code 135 = .ok (.getfield 58, 3) := by decide +kernel
theorem d_H_radical_138 : decode prog_1_method_34_code 138 = .ok (.iconst 0, 1) := by decide +kernel
theorem d_H_radical_139 : decode prog_1_method_34_code 139 = .ok (.invokevirtual 188, 3) := by decide +kernel
theorem d_H_radical_142 : decode prog_1_method_34_code 142 = .ok (.goto 9, 3) := by decide +kernel
theorem d_H_radical_145 : decode prog_1_method_34_code 145 = .ok (.astore_n 3, 1) := by decide +kernel
theorem d_H_radical_146 : decode prog_1_method_34_code 146 = .ok (.aload_n 3, 1) := by decide +kernel
theorem d_H_radical_147 : decode prog_1_method_34_code 147 = .ok (.getfield 136, 3) := by decide +kernel
theorem d_H_radical_150 : decode prog_1_method_34_code 150 = .ok (.ireturn, 1) := by decide +kernel
theorem d_H_radical_151 : decode prog_1_method_34_code 151 = .ok (.aload_n 0, 1) := by decide +kernel
theorem d_H_radical_152 : decode prog_1_method_34_code 152 = .ok (.getfield 58, 3) := by decide +kernel
theorem d_H_radical_155 : decode prog_1_method_34_code 155 = .ok (.getfield 191, 3) := by decide +kernel
theorem d_H_radical_158 : decode prog_1_method_34_code 158 = .ok (.iconst 1, 1) := by decide +kernel
theorem d_H_radical_159 : decode prog_1_method_34_code 159 = .ok (.if_icmp .ne 18, 3) := by decide +kernel
theorem d_H_radical_162 : decode prog_1_method_34_code 162 = .ok (.aload_n 0, 1) := by decide +kernel
theorem d_H_radical_163 : decode prog_1_method_34_code 163 = .ok (.getfield 58, 3) := by decide +kernel
theorem d_H_radical_166 : decode prog_1_method_34_code 166 = .ok (.iconst 0, 1) := by decide +kernel
theorem d_H_radical_167 : decode prog_1_method_34_code 167 = .ok (.invokevirtual 239, 3) := by decide +kernel
theorem d_H_radical_170 : decode prog_1_method_34_code 170 = .ok (.ifCond .ne 7, 3) := by decide +kernel
theorem d_H_radical_173 : decode prog_1_method_34_code 173 = .ok (.iconst 1, 1) := by decide +kernel
theorem d_H_radical_174 : decode prog_1_method_34_code 174 = .ok (.goto 4, 3) := by decide +kernel
theorem d_H_radical_177 : decode prog_1_method_34_code 177 = .ok (.iconst 0, 1) := by decide +kernel
theorem d_H_radical_178 : decode prog_1_method_34_code 178 = .ok (.ireturn, 1) := by decide +kernel
def tb_H_radical_0 : List (Nat × jm_Op) := [(0, oIl 1 1), (4, oIfNe 9 7), (7, oC (-1) 8), (9, oIl 2 10), (13, oIfNe 19 16), (16, oC (-2) 18), (19, oAl 0 20), (20, oGi 1 0 23), (23, oC 4 24), (24, oIcNe 30 27), (27, oC (-3) 29), (30, oAl 0 31), (31, oGr 1 7 2 34), (34, oAl 0 35), (38, oIl 2 39), (42, oAl 0 43), (43, oGr 1 11 5 46), (46, oC 0 47), (47, oPi 5 0 50), (50, oAl 0 51), (51, oGr 1 11 5 54), (54, oC 0 55), (55, oC 1 56), (56, oC 1 57), (57, oC 0 58), (61, oAl 0 62), (62, oGr 1 11 5 65), (65, oAl 0 66), (69, oAl 0 70), (70, oGr 1 10 4 73), (73, oC (-1) 74), (74, oC 1 75), (75, oAl 0 76), (76, oGi 1 0 79), (79, oC 1 80), (83, oAl 0 84), (84, oGr 1 3 10 87), (87, oIl 1 88), (88, oRa 89), (92, oC 0 93), (93, oIs 3 94), (94, oIl 3 95), (95, oAl 0 96), (96, oGi 1 5 99), (99, oIcGe 122 102), (102, oAl 0 103), (103, oGr 1 7 2 106), (106, oAl 0 107), (107, oGr 1 4 10 110), (110, oIl 3 111)]
theorem ok_H_radical_0 : jm_all 70 tb_H_radical_0 := ⟨s_iload_n d_H_radical_0 rfl, s_if_ne d_H_radical_4 (by decide), s_iconst d_H_radical_7 (by decide), s_iload_n d_H_radical_9 rfl, s_if_ne d_H_radical_13 (by decide), s_bipush d_H_radical_16 (by decide), s_aload_n d_H_radical_19 rfl, s_geti d_H_radical_20 ci_H rfl wd_242, s_iconst d_H_radical_23 (by decide), s_icmp_ne d_H_radical_24 (by decide), s_bipush d_H_radical_27 (by decide), s_aload_n d_H_radical_30 rfl, s_getr d_H_radical_31 ci_H rfl wd_249, s_aload_n d_H_radical_34 rfl, s_iload_n d_H_radical_38 rfl, s_aload_n d_H_radical_42 rfl, s_getr d_H_radical_43 ci_H rfl wd_253, s_iconst d_H_radical_46 (by decide), s_putiN d_H_radical_47 ci_P rfl rfl rfl wd_100, s_aload_n d_H_radical_50 rfl, s_getr d_H_radical_51 ci_H rfl wd_253, s_iconst d_H_radical_54 (by decide), s_iconst d_H_radical_55 (by decide), s_iconst d_H_radical_56 (by decide), s_iconst d_H_radical_57 (by decide), s_aload_n d_H_radical_61 rfl, s_getr d_H_radical_62 ci_H rfl wd_253, s_aload_n d_H_radical_65 rfl, s_aload_n d_H_radical_69 rfl, s_getr d_H_radical_70 ci_H rfl wd_252, s_iconst d_H_radical_73 (by decide), s_iconst d_H_radical_74 (by decide), s_aload_n d_H_radical_75 rfl, s_geti d_H_radical_76 ci_H rfl wd_242, s_iconst d_H_radical_79 (by decide), s_aload_n d_H_radical_83 rfl, s_getr d_H_radical_84 ci_H rfl wd_245, s_iload_n d_H_radical_87 rfl, s_aaload d_H_radical_88, s_iconst d_H_radical_92 (by decide), s_istore_n d_H_radical_93 rfl (by decide), s_iload_n d_H_radical_94 rfl, s_aload_n d_H_radical_95 rfl, s_geti d_H_radical_96 ci_H rfl wd_247, s_icmp_ge d_H_radical_99 (by decide), s_aload_n d_H_radical_102 rfl, s_getr d_H_radical_103 ci_H rfl wd_249, s_aload_n d_H_radical_106 rfl, s_getr d_H_radical_107 ci_H rfl wd_246, s_iload_n d_H_radical_110 rfl, trivial⟩
def tb_H_radical_1 : List (Nat × jm_Op) := [(111, oRa 112), (112, oC 0 113), (116, oInc 3 1 119), (119, oGo 94), (122, oAl 0 123), (123, oGr 1 7 2 126), (126, oAl 0 127), (127, oGr 1 11 5 130), (130, oC 0 131), (134, oAl 0 135), (135, oGr 1 7 2 138), (138, oC 0 139), (142, oGo 151), (145, oAs 3 146), (146, oAl 3 147), (147, oGi 7 0 150), (151, oAl 0 152), (152, oGr 1 7 2 155), (155, oGi 2 10 158), (158, oC 1 159), (159, oIcNe 177 162), (162, oAl 0 163), (163, oGr 1 7 2 166), (166, oC 0 167), (170, oIfNe 177 173), (173, oC 1 174), (174, oGo 178), (177, oC 0 178)]
theorem ok_H_radical_1 : jm_all 70 tb_H_radical_1 := ⟨s_aaload d_H_radical_111, s_iconst d_H_radical_112 (by decide), s_iinc d_H_radical_116 (by decide) (by decide), s_goto d_H_radical_119 (by decide), s_aload_n d_H_radical_122 rfl, s_getr d_H_radical_123 ci_H rfl wd_249, s_aload_n d_H_radical_126 rfl, s_getr d_H_radical_127 ci_H rfl wd_253, s_iconst d_H_radical_130 (by decide), s_aload_n d_H_radical_134 rfl, s_getr d_H_radical_135 ci_H rfl wd_249, s_iconst d_H_radical_138 (by decide), s_goto d_H_radical_142 (by decide), s_astore_n d_H_radical_145 rfl (by decide), s_aload_n d_H_radical_146 rfl, s_getiN d_H_radical_147 ci_S rfl wd_400, s_aload_n d_H_radical_151 rfl, s_getr d_H_radical_152 ci_H rfl wd_249, s_getiN d_H_radical_155 ci_G rfl wd_187, s_iconst d_H_radical_158 (by decide), s_icmp_ne d_H_radical_159 (by decide), s_aload_n d_H_radical_162 rfl, s_getr d_H_radical_163 ci_H rfl wd_249, s_iconst d_H_radical_166 (by decide), s_if_ne d_H_radical_170 (by decide), s_iconst d_H_radical_173 (by decide), s_goto d_H_radical_174 (by decide), s_iconst d_H_radical_177 (by decide), trivial⟩
def tb_H_radical : List (Nat × jm_Op) := tb_H_radical_0 ++ tb_H_radical_1
theorem ok_H_radical : jm_all 70 tb_H_radical := jm_all_app ok_H_radical_0 ok_H_radical_1
theorem k_H_radical_1 {g : jm_G} {d : Nat} {L : List (Option jm_V)} {r : List jm_V} {σ : jm_S} {K K' : jm_O → Prop} {x0 : Int32} (hr : Nat.ble (jm_cs r) 8 = true) (hcal : J g d 17 0 [some (aI x0)] [] σ K') (hk : ∀ u, K' u → jm_aft g (d + 1) 70 1 L r u K) : J g (d + 1) 70 1 L (aI x0 :: r) σ K :=
  J_call' (id' := 17) jm_sk (vs := [aI x0]) (inv_S (id' := 17) d_H_radical_1 wd_329 wd_330 wd_54 cw_H_isPlace (by decide) pn_H_isPlace) cw_H_isPlace (by decide) (by decide) (Nat.le_of_ble_eq_true rfl) rfl hr rfl hcal hk
theorem r_H_radical_8 {g : jm_G} {d : Nat} {L : List (Option jm_V)} {σ : jm_S} {K : jm_O → Prop} {v : Int32} (hK : K (σ, .inl (some (aI v)))) : J g d 70 8 L [aI v] σ K := J_iret d_H_radical_8 rfl hK
theorem k_H_radical_10 {g : jm_G} {d : Nat} {L : List (Option jm_V)} {r : List jm_V} {σ : jm_S} {K K' : jm_O → Prop} {x0 : Int32} (hr : Nat.ble (jm_cs r) 8 = true) (hcal : J g d 43 0 [some (aI x0)] [] σ K') (hk : ∀ u, K' u → jm_aft g (d + 1) 70 10 L r u K) : J g (d + 1) 70 10 L (aI x0 :: r) σ K :=
  J_call' (id' := 43) jm_sk (vs := [aI x0]) (inv_S (id' := 43) d_H_radical_10 wd_504 wd_505 wd_54 cw_H_isSteps (by decide) pn_H_isSteps) cw_H_isSteps (by decide) (by decide) (Nat.le_of_ble_eq_true rfl) rfl hr rfl hcal hk
theorem r_H_radical_18 {g : jm_G} {d : Nat} {L : List (Option jm_V)} {σ : jm_S} {K : jm_O → Prop} {v : Int32} (hK : K (σ, .inl (some (aI v)))) : J g d 70 18 L [aI v] σ K := J_iret d_H_radical_18 rfl hK
theorem r_H_radical_29 {g : jm_G} {d : Nat} {L : List (Option jm_V)} {σ : jm_S} {K : jm_O → Prop} {v : Int32} (hK : K (σ, .inl (some (aI v)))) : J g d 70 29 L [aI v] σ K := J_iret d_H_radical_29 rfl hK
theorem k_H_radical_35 {g : jm_G} {d : Nat} {L : List (Option jm_V)} {r : List jm_V} {σ : jm_S} {K K' : jm_O → Prop} {q0 : Nat} (hr : Nat.ble (jm_cs r) 8 = true) (hcal : J g d 9 0 [some (aR 1 q0)] [] σ K') (hk : ∀ u, K' u → jm_aft g (d + 1) 70 35 L r u K) : J g (d + 1) 70 35 L (aR 1 q0 :: r) σ K :=
  J_call' (id' := 9) jm_sk (vs := [aR 1 q0]) (inv_V (id' := 9) d_H_radical_35 ci_H wd_296 wd_298 wd_0 cw_H_order2 (by decide) pn_H_order2) cw_H_order2 (by decide) (by decide) (Nat.le_of_ble_eq_true rfl) rfl hr rfl hcal hk
theorem k_H_radical_39 {g : jm_G} {d : Nat} {L : List (Option jm_V)} {r : List jm_V} {σ : jm_S} {K K' : jm_O → Prop} {q0 : Nat} {x0 : Nat} {x1 : Int32} (hr : Nat.ble (jm_cs r) 8 = true) (hcal : J g d 44 0 [some (aR 2 q0), some (aR 13 x0), some (aI x1)] [] σ K') (hk : ∀ u, K' u → jm_aft g (d + 1) 70 39 L r u K) : J g (d + 1) 70 39 L (aI x1 :: aR 13 x0 :: aR 2 q0 :: r) σ K :=
  J_call' (id' := 44) jm_sk (vs := [aR 2 q0, aR 13 x0, aI x1]) (inv_VN (id' := 44) d_H_radical_39 ci_G wd_507 wd_509 wd_8 cw_G_begin (by decide) pn_G_begin) cw_G_begin (by decide) (by decide) (Nat.le_of_ble_eq_true rfl) rfl hr rfl hcal hk
theorem k_H_radical_58 {g : jm_G} {d : Nat} {L : List (Option jm_V)} {r : List jm_V} {σ : jm_S} {K K' : jm_O → Prop} {q0 : Nat} {x0 : Int32} {x1 : Int32} {x2 : Int32} {x3 : Int32} (hr : Nat.ble (jm_cs r) 8 = true) (hcal : J g d 24 0 [some (aR 5 q0), some (aI x0), some (aI x1), some (aI x2), some (aI x3), none] [] σ K') (hk : ∀ u, K' u → jm_aft g (d + 1) 70 58 L r u K) : J g (d + 1) 70 58 L (aI x3 :: aI x2 :: aI x1 :: aI x0 :: aR 5 q0 :: r) σ K :=
  J_call' (id' := 24) jm_sk (vs := [aR 5 q0, aI x0, aI x1, aI x2, aI x3]) (inv_VN (id' := 24) d_H_radical_58 ci_P wd_626 wd_421 wd_3 cw_P_insert (by decide) pn_P_insert) cw_P_insert (by decide) (by decide) (Nat.le_of_ble_eq_true rfl) rfl hr rfl hcal hk
theorem k_H_radical_66 {g : jm_G} {d : Nat} {L : List (Option jm_V)} {r : List jm_V} {σ : jm_S} {K K' : jm_O → Prop} {q0 : Nat} (hr : Nat.ble (jm_cs r) 8 = true) (hcal : J g d 9 0 [some (aR 1 q0)] [] σ K') (hk : ∀ u, K' u → jm_aft g (d + 1) 70 66 L r u K) : J g (d + 1) 70 66 L (aR 1 q0 :: r) σ K :=
  J_call' (id' := 9) jm_sk (vs := [aR 1 q0]) (inv_V (id' := 9) d_H_radical_66 ci_H wd_296 wd_298 wd_0 cw_H_order2 (by decide) pn_H_order2) cw_H_order2 (by decide) (by decide) (Nat.le_of_ble_eq_true rfl) rfl hr rfl hcal hk
theorem k_H_radical_80 {g : jm_G} {d : Nat} {L : List (Option jm_V)} {r : List jm_V} {σ : jm_S} {K K' : jm_O → Prop} {x0 : Int32} {x1 : Int32} (hr : Nat.ble (jm_cs r) 8 = true) (hcal : J g d 18 0 [some (aI x0), some (aI x1)] [] σ K') (hk : ∀ u, K' u → jm_aft g (d + 1) 70 80 L r u K) : J g (d + 1) 70 80 L (aI x1 :: aI x0 :: r) σ K :=
  J_call' (id' := 18) jm_sk (vs := [aI x0, aI x1]) (inv_S (id' := 18) d_H_radical_80 wd_336 wd_337 wd_54 cw_H_power (by decide) pn_H_power) cw_H_power (by decide) (by decide) (Nat.le_of_ble_eq_true rfl) rfl hr rfl hcal hk
theorem k_H_radical_89 {g : jm_G} {d : Nat} {L : List (Option jm_V)} {r : List jm_V} {σ : jm_S} {K K' : jm_O → Prop} {q0 : Nat} {x0 : Nat} {x1 : Nat} {x2 : Int32} {x3 : Int32} {x4 : Int32} {x5 : Nat} (hr : Nat.ble (jm_cs r) 8 = true) (hcal : J g d 32 0 [some (aR 5 q0), some (aR 13 x0), some (aR 4 x1), some (aI x2), some (aI x3), some (aI x4), some (aR 5 x5), none, none] [] σ K') (hk : ∀ u, K' u → jm_aft g (d + 1) 70 89 L r u K) : J g (d + 1) 70 89 L (aR 5 x5 :: aI x4 :: aI x3 :: aI x2 :: aR 4 x1 :: aR 13 x0 :: aR 5 q0 :: r) σ K :=
  J_call' (id' := 32) jm_sk (vs := [aR 5 q0, aR 13 x0, aR 4 x1, aI x2, aI x3, aI x4, aR 5 x5]) (inv_V (id' := 32) d_H_radical_89 ci_P wd_455 wd_456 wd_457 cw_P_plus (by decide) pn_P_plus) cw_P_plus (by decide) (by decide) (Nat.le_of_ble_eq_true rfl) rfl hr rfl hcal hk
theorem k_H_radical_113 {g : jm_G} {d : Nat} {L : List (Option jm_V)} {r : List jm_V} {σ : jm_S} {K K' : jm_O → Prop} {q0 : Nat} {x0 : Nat} {x1 : Int32} (hr : Nat.ble (jm_cs r) 8 = true) (hcal : J g d 45 0 [some (aR 2 q0), some (aR 5 x0), some (aI x1), none, none, none] [] σ K') (hk : ∀ u, K' u → jm_aft g (d + 1) 70 113 L r u K) : J g (d + 1) 70 113 L (aI x1 :: aR 5 x0 :: aR 2 q0 :: r) σ K :=
  J_call' (id' := 45) jm_sk (vs := [aR 2 q0, aR 5 x0, aI x1]) (inv_V (id' := 45) d_H_radical_113 ci_G wd_511 wd_512 wd_513 cw_G_generator (by decide) pn_G_generator) cw_G_generator (by decide) (by decide) (Nat.le_of_ble_eq_true rfl) rfl hr rfl hcal hk
theorem k_H_radical_131 {g : jm_G} {d : Nat} {L : List (Option jm_V)} {r : List jm_V} {σ : jm_S} {K K' : jm_O → Prop} {q0 : Nat} {x0 : Nat} {x1 : Int32} (hr : Nat.ble (jm_cs r) 8 = true) (hcal : J g d 45 0 [some (aR 2 q0), some (aR 5 x0), some (aI x1), none, none, none] [] σ K') (hk : ∀ u, K' u → jm_aft g (d + 1) 70 131 L r u K) : J g (d + 1) 70 131 L (aI x1 :: aR 5 x0 :: aR 2 q0 :: r) σ K :=
  J_call' (id' := 45) jm_sk (vs := [aR 2 q0, aR 5 x0, aI x1]) (inv_V (id' := 45) d_H_radical_131 ci_G wd_511 wd_512 wd_513 cw_G_generator (by decide) pn_G_generator) cw_G_generator (by decide) (by decide) (Nat.le_of_ble_eq_true rfl) rfl hr rfl hcal hk
theorem k_H_radical_139 {g : jm_G} {d : Nat} {L : List (Option jm_V)} {r : List jm_V} {σ : jm_S} {K K' : jm_O → Prop} {q0 : Nat} {x0 : Int32} (hr : Nat.ble (jm_cs r) 8 = true) (hcal : J g d 49 0 [some (aR 2 q0), some (aI x0), none, none, none, none] [] σ K') (hk : ∀ u, K' u → jm_aft g (d + 1) 70 139 L r u K) : J g (d + 1) 70 139 L (aI x0 :: aR 2 q0 :: r) σ K :=
  J_call' (id' := 49) jm_sk (vs := [aR 2 q0, aI x0]) (inv_V (id' := 49) d_H_radical_139 ci_G wd_529 wd_530 wd_531 cw_G_complete (by decide) pn_G_complete) cw_G_complete (by decide) (by decide) (Nat.le_of_ble_eq_true rfl) rfl hr rfl hcal hk
theorem r_H_radical_150 {g : jm_G} {d : Nat} {L : List (Option jm_V)} {σ : jm_S} {K : jm_O → Prop} {v : Int32} (hK : K (σ, .inl (some (aI v)))) : J g d 70 150 L [aI v] σ K := J_iret d_H_radical_150 rfl hK
theorem k_H_radical_167 {g : jm_G} {d : Nat} {L : List (Option jm_V)} {r : List jm_V} {σ : jm_S} {K K' : jm_O → Prop} {q0 : Nat} {x0 : Int32} (hr : Nat.ble (jm_cs r) 8 = true) (hcal : J g d 51 0 [some (aR 2 q0), some (aI x0)] [] σ K') (hk : ∀ u, K' u → jm_aft g (d + 1) 70 167 L r u K) : J g (d + 1) 70 167 L (aI x0 :: aR 2 q0 :: r) σ K :=
  J_call' (id' := 51) jm_sk (vs := [aR 2 q0, aI x0]) (inv_VN (id' := 51) d_H_radical_167 ci_G wd_627 wd_539 wd_11 cw_G_lead (by decide) pn_G_lead) cw_G_lead (by decide) (by decide) (Nat.le_of_ble_eq_true rfl) rfl hr rfl hcal hk
theorem r_H_radical_178 {g : jm_G} {d : Nat} {L : List (Option jm_V)} {σ : jm_S} {K : jm_O → Prop} {v : Int32} (hK : K (σ, .inl (some (aI v)))) : J g d 70 178 L [aI v] σ K := J_iret d_H_radical_178 rfl hK
-- IdealProver free (I)I
theorem d_H_free_0 : decode prog_1_method_35_code 0 = .ok (.iload_n 1, 1) := by decide +kernel
theorem d_H_free_1 : decode prog_1_method_35_code 1 = .ok (.ifCond .lt 11, 3) := by decide +kernel
theorem d_H_free_4 : decode prog_1_method_35_code 4 = .ok (.iload_n 1, 1) := by decide +kernel
theorem d_H_free_5 : decode prog_1_method_35_code 5 = .ok (.aload_n 0, 1) := by decide +kernel
theorem d_H_free_6 : decode prog_1_method_35_code 6 = .ok (.getfield 85, 3) := by decide +kernel
theorem d_H_free_9 : decode prog_1_method_35_code 9 = .ok (.if_icmp .le 6, 3) := by decide +kernel
theorem d_H_free_12 : decode prog_1_method_35_code 12 = .ok (.bipush (-2), 2) := by decide +kernel
theorem d_H_free_14 : decode prog_1_method_35_code 14 = .ok (.ireturn, 1) := by decide +kernel
theorem d_H_free_15 : decode prog_1_method_35_code 15 = .ok (.aload_n 0, 1) := by decide +kernel
theorem d_H_free_16 : decode prog_1_method_35_code 16 = .ok (.getfield 99, 3) := by decide +kernel
theorem d_H_free_19 : decode prog_1_method_35_code 19 = .ok (.ifCond .ne 6, 3) := by decide +kernel
theorem d_H_free_22 : decode prog_1_method_35_code 22 = .ok (.bipush (-3), 2) := by decide +kernel
theorem d_H_free_24 : decode prog_1_method_35_code 24 = .ok (.ireturn, 1) := by decide +kernel
theorem d_H_free_25 : decode prog_1_method_35_code 25 = .ok (.iconst 0, 1) := by decide +kernel
theorem d_H_free_26 : decode prog_1_method_35_code 26 = .ok (.istore_n 2, 1) := by decide +kernel
theorem d_H_free_27 : decode prog_1_method_35_code 27 = .ok (.iconst 0, 1) := by decide +kernel
theorem d_H_free_28 : decode prog_1_method_35_code 28 = .ok (.istore_n 3, 1) := by decide +kernel
theorem d_H_free_29 : decode prog_1_method_35_code 29 = .ok (.iload_n 3, 1) := by decide +kernel
theorem d_H_free_30 : decode prog_1_method_35_code 30 = .ok (.aload_n 0, 1) := by decide +kernel
theorem d_H_free_31 : decode prog_1_method_35_code 31 = .ok (.getfield 54, 3) := by decide +kernel
theorem d_H_free_34 : decode prog_1_method_35_code 34 = .ok (.getfield 191, 3) := by decide +kernel
theorem d_H_free_37 : decode prog_1_method_35_code 37 = .ok (.if_icmp .ge 99, 3) := by decide +kernel
theorem d_H_free_40 : decode prog_1_method_35_code 40 = .ok (.aload_n 0, 1) := by decide +kernel
theorem d_H_free_41 : decode prog_1_method_35_code 41 = .ok (.getfield 54, 3) := by decide +kernel
theorem d_H_free_44 : decode prog_1_method_35_code 44 = .ok (.getfield 209, 3) := by decide +kernel
theorem d_H_free_47 : decode prog_1_method_35_code 47 = .ok (.iload_n 3, 1) := by decide +kernel
theorem d_H_free_48 : decode prog_1_method_35_code 48 = .ok (.aaload, 1) := by decide +kernel
theorem d_H_free_49 : decode prog_1_method_35_code 49 = .ok (.getfield 213, 3) := by decide +kernel
theorem d_H_free_52 : decode prog_1_method_35_code 52 = .ok (.astore 4, 2) := by decide +kernel
theorem d_H_free_54 : decode prog_1_method_35_code 54 = .ok (.iconst 1, 1) := by decide +kernel
theorem d_H_free_55 : decode prog_1_method_35_code 55 = .ok (.istore 5, 2) := by decide +kernel
theorem d_H_free_57 : decode prog_1_method_35_code 57 = .ok (.iconst 0, 1) := by decide +kernel
theorem d_H_free_58 : decode prog_1_method_35_code 58 = .ok (.istore 6, 2) := by decide +kernel
theorem d_H_free_60 : decode prog_1_method_35_code 60 = .ok (.iload 6, 2) := by decide +kernel
theorem d_H_free_62 : decode prog_1_method_35_code 62 = .ok (.aload 4, 2) := by decide +kernel
theorem d_H_free_64 : decode prog_1_method_35_code 64 = .ok (.getfield 96, 3) := by decide +kernel
theorem d_H_free_67 : decode prog_1_method_35_code 67 = .ok (.if_icmp .ge 50, 3) := by decide +kernel
theorem d_H_free_70 : decode prog_1_method_35_code 70 = .ok (.iconst 0, 1) := by decide +kernel
theorem d_H_free_71 : decode prog_1_method_35_code 71 = .ok (.istore 7, 2) := by decide +kernel
theorem d_H_free_73 : decode prog_1_method_35_code 73 = .ok (.iload 7, 2) := by decide +kernel
theorem d_H_free_75 : decode prog_1_method_35_code 75 = .ok (.iload_n 1, 1) := by decide +kernel
theorem d_H_free_76 : decode prog_1_method_35_code 76 = .ok (.if_icmp .ge 35, 3) := by decide +kernel
theorem d_H_free_79 : decode prog_1_method_35_code 79 = .ok (.iload 5, 2) := by decide +kernel
theorem d_H_free_81 : decode prog_1_method_35_code 81 = .ok (.aload 4, 2) := by decide +kernel
theorem d_H_free_83 : decode prog_1_method_35_code 83 = .ok (.getfield 147, 3) := by decide +kernel
theorem d_H_free_86 : decode prog_1_method_35_code 86 = .ok (.iload 6, 2) := by decide +kernel
theorem d_H_free_88 : decode prog_1_method_35_code 88 = .ok (.iaload, 1) := by decide +kernel
theorem d_H_free_89 : decode prog_1_method_35_code 89 = .ok (.iload 7, 2) := by decide +kernel
theorem d_H_free_91 : decode prog_1_method_35_code 91 = .ok (.invokestatic 1, 3) := by decide +kernel
theorem d_H_free_94 : decode prog_1_method_35_code 94 = .ok (.ifCond .ne 7, 3) := by decide +kernel
theorem d_H_free_97 : decode prog_1_method_35_code 97 = .ok (.iconst 1, 1) := by decide +kernel
theorem d_H_free_98 : decode prog_1_method_35_code 98 = .ok (.goto 4, 3) := by decide +kernel
theorem d_H_free_101 : decode prog_1_method_35_code 101 = .ok (.iconst 0, 1) := by decide +kernel
theorem d_H_free_102 : decode prog_1_method_35_code 102 = .ok (.iand, 1) := by decide +kernel
theorem d_H_free_103 : decode prog_1_method_35_code 103 = .ok (.istore 5, 2) := by decide +kernel
theorem d_H_free_105 : decode prog_1_method_35_code 105 = .ok (.iinc 7 1, 3) := by decide +kernel
theorem d_H_free_108 : decode prog_1_method_35_code 108 = .ok (.goto (-35), 3) := by decide +kernel
theorem d_H_free_111 : decode prog_1_method_35_code 111 = .ok (.iinc 6 1, 3) := by decide +kernel
theorem d_H_free_114 : decode prog_1_method_35_code 114 = .ok (.goto (-54), 3) := by decide +kernel
theorem d_H_free_117 : decode prog_1_method_35_code 117 = .ok (.iload_n 2, 1) := by decide +kernel
theorem d_H_free_118 : decode prog_1_method_35_code 118 = .ok (.iload 5, 2) := by decide +kernel
theorem d_H_free_120 : decode prog_1_method_35_code 120 = .ok (.ifCond .eq 7, 3) := by decide +kernel
theorem d_H_free_123 : decode prog_1_method_35_code 123 = .ok (.iconst 1, 1) := by decide +kernel
theorem d_H_free_124 : decode prog_1_method_35_code 124 = .ok (.goto 4, 3) := by decide +kernel
theorem d_H_free_127 : decode prog_1_method_35_code 127 = .ok (.iconst 0, 1) := by decide +kernel
theorem d_H_free_128 : decode prog_1_method_35_code 128 = .ok (.iadd, 1) := by decide +kernel
theorem d_H_free_129 : decode prog_1_method_35_code 129 = .ok (.istore_n 2, 1) := by decide +kernel
theorem d_H_free_130 : decode prog_1_method_35_code 130 = .ok (.iinc 3 1, 3) := by decide +kernel
theorem d_H_free_133 : decode prog_1_method_35_code 133 = .ok (.goto (-104), 3) := by decide +kernel
theorem d_H_free_136 : decode prog_1_method_35_code 136 = .ok (.iload_n 2, 1) := by decide +kernel
theorem d_H_free_137 : decode prog_1_method_35_code 137 = .ok (.ireturn, 1) := by decide +kernel
def tb_H_free_0 : List (Nat × jm_Op) := [(0, oIl 1 1), (1, oIfLt 12 4), (4, oIl 1 5), (5, oAl 0 6), (6, oGi 1 0 9), (9, oIcLe 15 12), (12, oC (-2) 14), (15, oAl 0 16), (16, oGi 1 8 19), (19, oIfNe 25 22), (22, oC (-3) 24), (25, oC 0 26), (26, oIs 2 27), (27, oC 0 28), (28, oIs 3 29), (29, oIl 3 30), (30, oAl 0 31), (31, oGr 1 6 2 34), (34, oGi 2 10 37), (37, oIcGe 136 40), (40, oAl 0 41), (41, oGr 1 6 2 44), (44, oGr 2 1 11 47), (47, oIl 3 48), (48, oRa 49), (49, oGr 3 0 5 52), (52, oAs 4 54), (54, oC 1 55), (55, oIs 5 57), (57, oC 0 58), (58, oIs 6 60), (60, oIl 6 62), (62, oAl 4 64), (64, oGi 5 0 67), (67, oIcGe 117 70), (70, oC 0 71), (71, oIs 7 73), (73, oIl 7 75), (75, oIl 1 76), (76, oIcGe 111 79), (79, oIl 5 81), (81, oAl 4 83), (83, oGr 5 3 8 86), (86, oIl 6 88), (88, oIa 89), (89, oIl 7 91), (94, oIfNe 101 97), (97, oC 1 98), (98, oGo 102), (101, oC 0 102)]
theorem ok_H_free_0 : jm_all 71 tb_H_free_0 := ⟨s_iload_n d_H_free_0 rfl, s_if_lt d_H_free_1 (by decide), s_iload_n d_H_free_4 rfl, s_aload_n d_H_free_5 rfl, s_geti d_H_free_6 ci_H rfl wd_242, s_icmp_le d_H_free_9 (by decide), s_bipush d_H_free_12 (by decide), s_aload_n d_H_free_15 rfl, s_geti d_H_free_16 ci_H rfl wd_250, s_if_ne d_H_free_19 (by decide), s_bipush d_H_free_22 (by decide), s_iconst d_H_free_25 (by decide), s_istore_n d_H_free_26 rfl (by decide), s_iconst d_H_free_27 (by decide), s_istore_n d_H_free_28 rfl (by decide), s_iload_n d_H_free_29 rfl, s_aload_n d_H_free_30 rfl, s_getr d_H_free_31 ci_H rfl wd_248, s_getiN d_H_free_34 ci_G rfl wd_187, s_icmp_ge d_H_free_37 (by decide), s_aload_n d_H_free_40 rfl, s_getr d_H_free_41 ci_H rfl wd_248, s_getrN d_H_free_44 ci_G rfl wd_174, s_iload_n d_H_free_47 rfl, s_aaload d_H_free_48, s_getrN d_H_free_49 ci_E rfl wd_162, s_astore d_H_free_52 (by decide), s_iconst d_H_free_54 (by decide), s_istore d_H_free_55 (by decide), s_iconst d_H_free_57 (by decide), s_istore d_H_free_58 (by decide), s_iload d_H_free_60, s_aload d_H_free_62, s_getiN d_H_free_64 ci_P rfl wd_100, s_icmp_ge d_H_free_67 (by decide), s_iconst d_H_free_70 (by decide), s_istore d_H_free_71 (by decide), s_iload d_H_free_73, s_iload_n d_H_free_75 rfl, s_icmp_ge d_H_free_76 (by decide), s_iload d_H_free_79, s_aload d_H_free_81, s_getrN d_H_free_83 ci_P rfl wd_111, s_iload d_H_free_86, s_iaload d_H_free_88, s_iload d_H_free_89, s_if_ne d_H_free_94 (by decide), s_iconst d_H_free_97 (by decide), s_goto d_H_free_98 (by decide), s_iconst d_H_free_101 (by decide), trivial⟩
def tb_H_free_1 : List (Nat × jm_Op) := [(102, oAnd 103), (103, oIs 5 105), (105, oInc 7 1 108), (108, oGo 73), (111, oInc 6 1 114), (114, oGo 60), (117, oIl 2 118), (118, oIl 5 120), (120, oIfEq 127 123), (123, oC 1 124), (124, oGo 128), (127, oC 0 128), (128, oAdd 129), (129, oIs 2 130), (130, oInc 3 1 133), (133, oGo 29), (136, oIl 2 137)]
theorem ok_H_free_1 : jm_all 71 tb_H_free_1 := ⟨s_iand d_H_free_102, s_istore d_H_free_103 (by decide), s_iinc d_H_free_105 (by decide) (by decide), s_goto d_H_free_108 (by decide), s_iinc d_H_free_111 (by decide) (by decide), s_goto d_H_free_114 (by decide), s_iload_n d_H_free_117 rfl, s_iload d_H_free_118, s_if_eq d_H_free_120 (by decide), s_iconst d_H_free_123 (by decide), s_goto d_H_free_124 (by decide), s_iconst d_H_free_127 (by decide), s_iadd d_H_free_128, s_istore_n d_H_free_129 rfl (by decide), s_iinc d_H_free_130 (by decide) (by decide), s_goto d_H_free_133 (by decide), s_iload_n d_H_free_136 rfl, trivial⟩
def tb_H_free : List (Nat × jm_Op) := tb_H_free_0 ++ tb_H_free_1
theorem ok_H_free : jm_all 71 tb_H_free := jm_all_app ok_H_free_0 ok_H_free_1
theorem r_H_free_14 {g : jm_G} {d : Nat} {L : List (Option jm_V)} {σ : jm_S} {K : jm_O → Prop} {v : Int32} (hK : K (σ, .inl (some (aI v)))) : J g d 71 14 L [aI v] σ K := J_iret d_H_free_14 rfl hK
theorem r_H_free_24 {g : jm_G} {d : Nat} {L : List (Option jm_V)} {σ : jm_S} {K : jm_O → Prop} {v : Int32} (hK : K (σ, .inl (some (aI v)))) : J g d 71 24 L [aI v] σ K := J_iret d_H_free_24 rfl hK
theorem k_H_free_91 {g : jm_G} {d : Nat} {L : List (Option jm_V)} {r : List jm_V} {σ : jm_S} {K K' : jm_O → Prop} {x0 : Int32} {x1 : Int32} (hr : Nat.ble (jm_cs r) 8 = true) (hcal : J g d 14 0 [some (aI x0), some (aI x1)] [] σ K') (hk : ∀ u, K' u → jm_aft g (d + 1) 71 91 L r u K) : J g (d + 1) 71 91 L (aI x1 :: aI x0 :: r) σ K :=
  J_call' (id' := 14) jm_sk (vs := [aI x0, aI x1]) (inv_S (id' := 14) d_H_free_91 wd_450 wd_317 wd_54 cw_H_exponent (by decide) pn_H_exponent) cw_H_exponent (by decide) (by decide) (Nat.le_of_ble_eq_true rfl) rfl hr rfl hcal hk
theorem r_H_free_137 {g : jm_G} {d : Nat} {L : List (Option jm_V)} {σ : jm_S} {K : jm_O → Prop} {v : Int32} (hK : K (σ, .inl (some (aI v)))) : J g d 71 137 L [aI v] σ K := J_iret d_H_free_137 rfl hK
-- IdealProver stairs ()I
theorem d_H_stairs_0 : decode prog_1_method_37_code 0 = .ok (.aload_n 0, 1) := by decide +kernel
theorem d_H_stairs_1 : decode prog_1_method_37_code 1 = .ok (.getfield 99, 3) := by decide +kernel
theorem d_H_stairs_4 : decode prog_1_method_37_code 4 = .ok (.ifCond .ne 6, 3) := by decide +kernel
theorem d_H_stairs_7 : decode prog_1_method_37_code 7 = .ok (.bipush (-3), 2) := by decide +kernel
theorem d_H_stairs_9 : decode prog_1_method_37_code 9 = .ok (.ireturn, 1) := by decide +kernel
theorem d_H_stairs_10 : decode prog_1_method_37_code 10 = .ok (.iconst 0, 1) := by decide +kernel
theorem d_H_stairs_11 : decode prog_1_method_37_code 11 = .ok (.istore_n 1, 1) := by decide +kernel
theorem d_H_stairs_12 : decode prog_1_method_37_code 12 = .ok (.iload_n 1, 1) := by decide +kernel
theorem d_H_stairs_13 : decode prog_1_method_37_code 13 = .ok (.aload_n 0, 1) := by decide +kernel
theorem d_H_stairs_14 : decode prog_1_method_37_code 14 = .ok (.getfield 85, 3) := by decide +kernel
theorem d_H_stairs_17 : decode prog_1_method_37_code 17 = .ok (.if_icmp .ge 32, 3) := by decide +kernel
theorem d_H_stairs_20 : decode prog_1_method_37_code 20 = .ok (.aload_n 0, 1) := by decide +kernel
theorem d_H_stairs_21 : decode prog_1_method_37_code 21 = .ok (.getfield 78, 3) := by decide +kernel
theorem d_H_stairs_24 : decode prog_1_method_37_code 24 = .ok (.iload_n 1, 1) := by decide +kernel
theorem d_H_stairs_25 : decode prog_1_method_37_code 25 = .ok (.aload_n 0, 1) := by decide +kernel
theorem d_H_stairs_26 : decode prog_1_method_37_code 26 = .ok (.iload_n 1, 1) := by decide +kernel
theorem d_H_stairs_27 : decode prog_1_method_37_code 27 = .ok (.invokevirtual 243, 3) := by decide +kernel
theorem d_H_stairs_30 : decode prog_1_method_37_code 30 = .ok (.iastore, 1) := by decide +kernel
theorem d_H_stairs_31 : decode prog_1_method_37_code 31 = .ok (.aload_n 0, 1) := by decide +kernel
theorem d_H_stairs_32 : decode prog_1_method_37_code 32 = .ok (.getfield 78, 3) := by decide +kernel
theorem d_H_stairs_35 : decode prog_1_method_37_code 35 = .ok (.iload_n 1, 1) := by decide +kernel
theorem d_H_stairs_36 : decode prog_1_method_37_code 36 = .ok (.iaload, 1) := by decide +kernel
theorem d_H_stairs_37 : decode prog_1_method_37_code 37 = .ok (.ifCond .ge 6, 3) := by decide +kernel
theorem d_H_stairs_40 : decode prog_1_method_37_code 40 = .ok (.bipush (-8), 2) := by decide +kernel
theorem d_H_stairs_42 : decode prog_1_method_37_code 42 = .ok (.ireturn, 1) := by decide +kernel
theorem d_H_stairs_43 : decode prog_1_method_37_code 43 = .ok (.iinc 1 1, 3) := by decide +kernel
theorem d_H_stairs_46 : decode prog_1_method_37_code 46 = .ok (.goto (-34), 3) := by decide +kernel
theorem d_H_stairs_49 : decode prog_1_method_37_code 49 = .ok (.iconst 0, 1) := by decide +kernel
theorem d_H_stairs_50 : decode prog_1_method_37_code 50 = .ok (.istore_n 1, 1) := by decide +kernel
theorem d_H_stairs_51 : decode prog_1_method_37_code 51 = .ok (.iconst 0, 1) := by decide +kernel
theorem d_H_stairs_52 : decode prog_1_method_37_code 52 = .ok (.istore_n 2, 1) := by decide +kernel
theorem d_H_stairs_53 : decode prog_1_method_37_code 53 = .ok (.iconst 0, 1) := by decide +kernel
theorem d_H_stairs_54 : decode prog_1_method_37_code 54 = .ok (.istore_n 3, 1) := by decide +kernel
theorem d_H_stairs_55 : decode prog_1_method_37_code 55 = .ok (.iload_n 3, 1) := by decide +kernel
theorem d_H_stairs_56 : decode prog_1_method_37_code 56 = .ok (.aload_n 0, 1) := by decide +kernel
theorem d_H_stairs_57 : decode prog_1_method_37_code 57 = .ok (.getfield 85, 3) := by decide +kernel
theorem d_H_stairs_60 : decode prog_1_method_37_code 60 = .ok (.if_icmp .ge 122, 3) := by decide +kernel
theorem d_H_stairs_63 : decode prog_1_method_37_code 63 = .ok (.iconst 0, 1) := by decide +kernel
theorem d_H_stairs_64 : decode prog_1_method_37_code 64 = .ok (.istore 4, 2) := by decide +kernel
theorem d_H_stairs_66 : decode prog_1_method_37_code 66 = .ok (.iconst 0, 1) := by decide +kernel
theorem d_H_stairs_67 : decode prog_1_method_37_code 67 = .ok (.istore 5, 2) := by decide +kernel
theorem d_H_stairs_69 : decode prog_1_method_37_code 69 = .ok (.iload 5, 2) := by decide +kernel
theorem d_H_stairs_71 : decode prog_1_method_37_code 71 = .ok (.aload_n 0, 1) := by decide +kernel
theorem d_H_stairs_72 : decode prog_1_method_37_code 72 = .ok (.getfield 54, 3) := by decide +kernel
theorem d_H_stairs_75 : decode prog_1_method_37_code 75 = .ok (.getfield 191, 3) := by decide +kernel
theorem d_H_stairs_78 : decode prog_1_method_37_code 78 = .ok (.if_icmp .ge 29, 3) := by decide +kernel
theorem d_H_stairs_81 : decode prog_1_method_37_code 81 = .ok (.iload 4, 2) := by decide +kernel
theorem d_H_stairs_83 : decode prog_1_method_37_code 83 = .ok (.ifCond .ne 24, 3) := by decide +kernel
theorem d_H_stairs_86 : decode prog_1_method_37_code 86 = .ok (.aload_n 0, 1) := by decide +kernel
theorem d_H_stairs_87 : decode prog_1_method_37_code 87 = .ok (.getfield 54, 3) := by decide +kernel
theorem d_H_stairs_90 : decode prog_1_method_37_code 90 = .ok (.iload 5, 2) := by decide +kernel
theorem d_H_stairs_92 : decode prog_1_method_37_code 92 = .ok (.invokevirtual 239, 3) := by decide +kernel
theorem d_H_stairs_95 : decode prog_1_method_37_code 95 = .ok (.iload_n 2, 1) := by decide +kernel
theorem d_H_stairs_96 : decode prog_1_method_37_code 96 = .ok (.invokestatic 246, 3) := by decide +kernel
theorem d_H_stairs_99 : decode prog_1_method_37_code 99 = .ok (.istore 4, 2) := by decide +kernel
theorem d_H_stairs_101 : decode prog_1_method_37_code 101 = .ok (.iinc 5 1, 3) := by decide +kernel
theorem d_H_stairs_104 : decode prog_1_method_37_code 104 = .ok (.goto (-35), 3) := by decide +kernel
theorem d_H_stairs_107 : decode prog_1_method_37_code 107 = .ok (.iload_n 1, 1) := by decide +kernel
theorem d_H_stairs_108 : decode prog_1_method_37_code 108 = .ok (.iload 4, 2) := by decide +kernel
theorem d_H_stairs_110 : decode prog_1_method_37_code 110 = .ok (.ifCond .eq 7, 3) := by decide +kernel
theorem d_H_stairs_113 : decode prog_1_method_37_code 113 = .ok (.iconst 0, 1) := by decide +kernel
theorem d_H_stairs_114 : decode prog_1_method_37_code 114 = .ok (.goto 4, 3) := by decide +kernel
theorem d_H_stairs_117 : decode prog_1_method_37_code 117 = .ok (.iconst 1, 1) := by decide +kernel
theorem d_H_stairs_118 : decode prog_1_method_37_code 118 = .ok (.iadd, 1) := by decide +kernel
theorem d_H_stairs_119 : decode prog_1_method_37_code 119 = .ok (.istore_n 1, 1) := by decide +kernel
theorem d_H_stairs_120 : decode prog_1_method_37_code 120 = .ok (.iconst 0, 1) := by decide +kernel
theorem d_H_stairs_121 : decode prog_1_method_37_code 121 = .ok (.istore_n 3, 1) := by decide +kernel
theorem d_H_stairs_122 : decode prog_1_method_37_code 122 = .ok (.iload_n 3, 1) := by decide +kernel
theorem d_H_stairs_123 : decode prog_1_method_37_code 123 = .ok (.aload_n 0, 1) := by decide +kernel
theorem d_H_stairs_124 : decode prog_1_method_37_code 124 = .ok (.getfield 85, 3) := by decide +kernel
theorem d_H_stairs_127 : decode prog_1_method_37_code 127 = .ok (.if_icmp .ge 36, 3) := by decide +kernel
theorem d_H_stairs_130 : decode prog_1_method_37_code 130 = .ok (.iload_n 2, 1) := by decide +kernel
theorem d_H_stairs_131 : decode prog_1_method_37_code 131 = .ok (.iload_n 3, 1) := by decide +kernel
theorem d_H_stairs_132 : decode prog_1_method_37_code 132 = .ok (.invokestatic 1, 3) := by decide +kernel
theorem d_H_stairs_135 : decode prog_1_method_37_code 135 = .ok (.iconst 1, 1) := by decide +kernel
theorem d_H_stairs_136 : decode prog_1_method_37_code 136 = .ok (.iadd, 1) := by decide +kernel
theorem d_H_stairs_137 : decode prog_1_method_37_code 137 = .ok (.aload_n 0, 1) := by decide +kernel
theorem d_H_stairs_138 : decode prog_1_method_37_code 138 = .ok (.getfield 78, 3) := by decide +kernel
theorem d_H_stairs_141 : decode prog_1_method_37_code 141 = .ok (.iload_n 3, 1) := by decide +kernel
theorem d_H_stairs_142 : decode prog_1_method_37_code 142 = .ok (.iaload, 1) := by decide +kernel
theorem d_H_stairs_143 : decode prog_1_method_37_code 143 = .ok (.if_icmp .lt 20, 3) := by decide +kernel
theorem d_H_stairs_146 : decode prog_1_method_37_code 146 = .ok (.iload_n 2, 1) := by decide +kernel
theorem d_H_stairs_147 : decode prog_1_method_37_code 147 = .ok (.iload_n 3, 1) := by decide +kernel
theorem d_H_stairs_148 : decode prog_1_method_37_code 148 = .ok (.bipush 63, 2) := by decide +kernel
theorem d_H_stairs_150 : decode prog_1_method_37_code 150 = .ok (.invokestatic 12, 3) := by decide +kernel
theorem d_H_stairs_153 : decode prog_1_method_37_code 153 = .ok (.iconst (-1), 1) := by decide +kernel
theorem d_H_stairs_154 : decode prog_1_method_37_code 154 = .ok (.ixor, 1) := by decide +kernel
theorem d_H_stairs_155 : decode prog_1_method_37_code 155 = .ok (.iand, 1) := by decide +kernel
theorem d_H_stairs_156 : decode prog_1_method_37_code 156 = .ok (.istore_n 2, 1) := by decide +kernel
theorem d_H_stairs_157 : decode prog_1_method_37_code 157 = .ok (.iinc 3 1, 3) := by decide +kernel
theorem d_H_stairs_160 : decode prog_1_method_37_code 160 = .ok (.goto (-38), 3) := by decide +kernel
theorem d_H_stairs_163 : decode prog_1_method_37_code 163 = .ok (.iload_n 3, 1) := by decide +kernel
theorem d_H_stairs_164 : decode prog_1_method_37_code 164 = .ok (.aload_n 0, 1) := by decide +kernel
theorem d_H_stairs_165 : decode prog_1_method_37_code 165 = .ok (.getfield 85, 3) := by decide +kernel
theorem d_H_stairs_168 : decode prog_1_method_37_code 168 = .ok (.if_icmp .ge 11, 3) := by decide +kernel
theorem d_H_stairs_171 : decode prog_1_method_37_code 171 = .ok (.iload_n 2, 1) := by decide +kernel
theorem d_H_stairs_172 : decode prog_1_method_37_code 172 = .ok (.iload_n 3, 1) := by decide +kernel
theorem d_H_stairs_173 : decode prog_1_method_37_code 173 = .ok (.iconst 1, 1) := by decide +kernel
theorem d_H_stairs_174 : decode prog_1_method_37_code 174 = .ok (.invokestatic 12, 3) := by decide +kernel
theorem d_H_stairs_177 : decode prog_1_method_37_code 177 = .ok (.iadd, 1) := by decide +kernel
theorem d_H_stairs_178 : decode prog_1_method_37_code 178 = .ok (.istore_n 2, 1) := by decide +kernel
theorem d_H_stairs_179 : decode prog_1_method_37_code 179 = .ok (.goto (-124), 3) := by decide +kernel
theorem d_H_stairs_182 : decode prog_1_method_37_code 182 = .ok (.iload_n 1, 1) := by decide +kernel
theorem d_H_stairs_183 : decode prog_1_method_37_code 183 = .ok (.ireturn, 1) := by decide +kernel
def tb_H_stairs_0 : List (Nat × jm_Op) := [(0, oAl 0 1), (1, oGi 1 8 4), (4, oIfNe 10 7), (7, oC (-3) 9), (10, oC 0 11), (11, oIs 1 12), (12, oIl 1 13), (13, oAl 0 14), (14, oGi 1 0 17), (17, oIcGe 49 20), (20, oAl 0 21), (21, oGr 1 14 8 24), (24, oIl 1 25), (25, oAl 0 26), (26, oIl 1 27), (30, oIw 31), (31, oAl 0 32), (32, oGr 1 14 8 35), (35, oIl 1 36), (36, oIa 37), (37, oIfGe 43 40), (40, oC (-8) 42), (43, oInc 1 1 46), (46, oGo 12), (49, oC 0 50), (50, oIs 1 51), (51, oC 0 52), (52, oIs 2 53), (53, oC 0 54), (54, oIs 3 55), (55, oIl 3 56), (56, oAl 0 57), (57, oGi 1 0 60), (60, oIcGe 182 63), (63, oC 0 64), (64, oIs 4 66), (66, oC 0 67), (67, oIs 5 69), (69, oIl 5 71), (71, oAl 0 72), (72, oGr 1 6 2 75), (75, oGi 2 10 78), (78, oIcGe 107 81), (81, oIl 4 83), (83, oIfNe 107 86), (86, oAl 0 87), (87, oGr 1 6 2 90), (90, oIl 5 92), (95, oIl 2 96), (99, oIs 4 101)]
theorem ok_H_stairs_0 : jm_all 72 tb_H_stairs_0 := ⟨s_aload_n d_H_stairs_0 rfl, s_geti d_H_stairs_1 ci_H rfl wd_250, s_if_ne d_H_stairs_4 (by decide), s_bipush d_H_stairs_7 (by decide), s_iconst d_H_stairs_10 (by decide), s_istore_n d_H_stairs_11 rfl (by decide), s_iload_n d_H_stairs_12 rfl, s_aload_n d_H_stairs_13 rfl, s_geti d_H_stairs_14 ci_H rfl wd_242, s_icmp_ge d_H_stairs_17 (by decide), s_aload_n d_H_stairs_20 rfl, s_getr d_H_stairs_21 ci_H rfl wd_256, s_iload_n d_H_stairs_24 rfl, s_aload_n d_H_stairs_25 rfl, s_iload_n d_H_stairs_26 rfl, s_iastore d_H_stairs_30, s_aload_n d_H_stairs_31 rfl, s_getr d_H_stairs_32 ci_H rfl wd_256, s_iload_n d_H_stairs_35 rfl, s_iaload d_H_stairs_36, s_if_ge d_H_stairs_37 (by decide), s_bipush d_H_stairs_40 (by decide), s_iinc d_H_stairs_43 (by decide) (by decide), s_goto d_H_stairs_46 (by decide), s_iconst d_H_stairs_49 (by decide), s_istore_n d_H_stairs_50 rfl (by decide), s_iconst d_H_stairs_51 (by decide), s_istore_n d_H_stairs_52 rfl (by decide), s_iconst d_H_stairs_53 (by decide), s_istore_n d_H_stairs_54 rfl (by decide), s_iload_n d_H_stairs_55 rfl, s_aload_n d_H_stairs_56 rfl, s_geti d_H_stairs_57 ci_H rfl wd_242, s_icmp_ge d_H_stairs_60 (by decide), s_iconst d_H_stairs_63 (by decide), s_istore d_H_stairs_64 (by decide), s_iconst d_H_stairs_66 (by decide), s_istore d_H_stairs_67 (by decide), s_iload d_H_stairs_69, s_aload_n d_H_stairs_71 rfl, s_getr d_H_stairs_72 ci_H rfl wd_248, s_getiN d_H_stairs_75 ci_G rfl wd_187, s_icmp_ge d_H_stairs_78 (by decide), s_iload d_H_stairs_81, s_if_ne d_H_stairs_83 (by decide), s_aload_n d_H_stairs_86 rfl, s_getr d_H_stairs_87 ci_H rfl wd_248, s_iload d_H_stairs_90, s_iload_n d_H_stairs_95 rfl, s_istore d_H_stairs_99 (by decide), trivial⟩
def tb_H_stairs_1 : List (Nat × jm_Op) := [(101, oInc 5 1 104), (104, oGo 69), (107, oIl 1 108), (108, oIl 4 110), (110, oIfEq 117 113), (113, oC 0 114), (114, oGo 118), (117, oC 1 118), (118, oAdd 119), (119, oIs 1 120), (120, oC 0 121), (121, oIs 3 122), (122, oIl 3 123), (123, oAl 0 124), (124, oGi 1 0 127), (127, oIcGe 163 130), (130, oIl 2 131), (131, oIl 3 132), (135, oC 1 136), (136, oAdd 137), (137, oAl 0 138), (138, oGr 1 14 8 141), (141, oIl 3 142), (142, oIa 143), (143, oIcLt 163 146), (146, oIl 2 147), (147, oIl 3 148), (148, oC 63 150), (153, oC (-1) 154), (154, oXor 155), (155, oAnd 156), (156, oIs 2 157), (157, oInc 3 1 160), (160, oGo 122), (163, oIl 3 164), (164, oAl 0 165), (165, oGi 1 0 168), (168, oIcGe 179 171), (171, oIl 2 172), (172, oIl 3 173), (173, oC 1 174), (177, oAdd 178), (178, oIs 2 179), (179, oGo 55), (182, oIl 1 183)]
theorem ok_H_stairs_1 : jm_all 72 tb_H_stairs_1 := ⟨s_iinc d_H_stairs_101 (by decide) (by decide), s_goto d_H_stairs_104 (by decide), s_iload_n d_H_stairs_107 rfl, s_iload d_H_stairs_108, s_if_eq d_H_stairs_110 (by decide), s_iconst d_H_stairs_113 (by decide), s_goto d_H_stairs_114 (by decide), s_iconst d_H_stairs_117 (by decide), s_iadd d_H_stairs_118, s_istore_n d_H_stairs_119 rfl (by decide), s_iconst d_H_stairs_120 (by decide), s_istore_n d_H_stairs_121 rfl (by decide), s_iload_n d_H_stairs_122 rfl, s_aload_n d_H_stairs_123 rfl, s_geti d_H_stairs_124 ci_H rfl wd_242, s_icmp_ge d_H_stairs_127 (by decide), s_iload_n d_H_stairs_130 rfl, s_iload_n d_H_stairs_131 rfl, s_iconst d_H_stairs_135 (by decide), s_iadd d_H_stairs_136, s_aload_n d_H_stairs_137 rfl, s_getr d_H_stairs_138 ci_H rfl wd_256, s_iload_n d_H_stairs_141 rfl, s_iaload d_H_stairs_142, s_icmp_lt d_H_stairs_143 (by decide), s_iload_n d_H_stairs_146 rfl, s_iload_n d_H_stairs_147 rfl, s_bipush d_H_stairs_148 (by decide), s_iconst d_H_stairs_153 (by decide), s_ixor d_H_stairs_154, s_iand d_H_stairs_155, s_istore_n d_H_stairs_156 rfl (by decide), s_iinc d_H_stairs_157 (by decide) (by decide), s_goto d_H_stairs_160 (by decide), s_iload_n d_H_stairs_163 rfl, s_aload_n d_H_stairs_164 rfl, s_geti d_H_stairs_165 ci_H rfl wd_242, s_icmp_ge d_H_stairs_168 (by decide), s_iload_n d_H_stairs_171 rfl, s_iload_n d_H_stairs_172 rfl, s_iconst d_H_stairs_173 (by decide), s_iadd d_H_stairs_177, s_istore_n d_H_stairs_178 rfl (by decide), s_goto d_H_stairs_179 (by decide), s_iload_n d_H_stairs_182 rfl, trivial⟩
def tb_H_stairs : List (Nat × jm_Op) := tb_H_stairs_0 ++ tb_H_stairs_1
theorem ok_H_stairs : jm_all 72 tb_H_stairs := jm_all_app ok_H_stairs_0 ok_H_stairs_1
theorem r_H_stairs_9 {g : jm_G} {d : Nat} {L : List (Option jm_V)} {σ : jm_S} {K : jm_O → Prop} {v : Int32} (hK : K (σ, .inl (some (aI v)))) : J g d 72 9 L [aI v] σ K := J_iret d_H_stairs_9 rfl hK
theorem k_H_stairs_27 {g : jm_G} {d : Nat} {L : List (Option jm_V)} {r : List jm_V} {σ : jm_S} {K K' : jm_O → Prop} {q0 : Nat} {x0 : Int32} (hr : Nat.ble (jm_cs r) 8 = true) (hcal : J g d 73 0 [some (aR 1 q0), some (aI x0), none, none, none, none] [] σ K') (hk : ∀ u, K' u → jm_aft g (d + 1) 72 27 L r u K) : J g (d + 1) 72 27 L (aI x0 :: aR 1 q0 :: r) σ K :=
  J_call' (id' := 73) jm_sk (vs := [aR 1 q0, aI x0]) (inv_V (id' := 73) d_H_stairs_27 ci_H wd_636 wd_638 wd_22 cw_H_pure (by decide) pn_H_pure) cw_H_pure (by decide) (by decide) (Nat.le_of_ble_eq_true rfl) rfl hr rfl hcal hk
theorem r_H_stairs_42 {g : jm_G} {d : Nat} {L : List (Option jm_V)} {σ : jm_S} {K : jm_O → Prop} {v : Int32} (hK : K (σ, .inl (some (aI v)))) : J g d 72 42 L [aI v] σ K := J_iret d_H_stairs_42 rfl hK
theorem k_H_stairs_92 {g : jm_G} {d : Nat} {L : List (Option jm_V)} {r : List jm_V} {σ : jm_S} {K K' : jm_O → Prop} {q0 : Nat} {x0 : Int32} (hr : Nat.ble (jm_cs r) 8 = true) (hcal : J g d 51 0 [some (aR 2 q0), some (aI x0)] [] σ K') (hk : ∀ u, K' u → jm_aft g (d + 1) 72 92 L r u K) : J g (d + 1) 72 92 L (aI x0 :: aR 2 q0 :: r) σ K :=
  J_call' (id' := 51) jm_sk (vs := [aR 2 q0, aI x0]) (inv_VN (id' := 51) d_H_stairs_92 ci_G wd_627 wd_539 wd_11 cw_G_lead (by decide) pn_G_lead) cw_G_lead (by decide) (by decide) (Nat.le_of_ble_eq_true rfl) rfl hr rfl hcal hk
theorem k_H_stairs_96 {g : jm_G} {d : Nat} {L : List (Option jm_V)} {r : List jm_V} {σ : jm_S} {K K' : jm_O → Prop} {x0 : Int32} {x1 : Int32} (hr : Nat.ble (jm_cs r) 8 = true) (hcal : J g d 54 0 [some (aI x0), some (aI x1), none, none] [] σ K') (hk : ∀ u, K' u → jm_aft g (d + 1) 72 96 L r u K) : J g (d + 1) 72 96 L (aI x1 :: aI x0 :: r) σ K :=
  J_call' (id' := 54) jm_sk (vs := [aI x0, aI x1]) (inv_S (id' := 54) d_H_stairs_96 wd_640 wd_550 wd_54 cw_H_divides (by decide) pn_H_divides) cw_H_divides (by decide) (by decide) (Nat.le_of_ble_eq_true rfl) rfl hr rfl hcal hk
theorem k_H_stairs_132 {g : jm_G} {d : Nat} {L : List (Option jm_V)} {r : List jm_V} {σ : jm_S} {K K' : jm_O → Prop} {x0 : Int32} {x1 : Int32} (hr : Nat.ble (jm_cs r) 8 = true) (hcal : J g d 14 0 [some (aI x0), some (aI x1)] [] σ K') (hk : ∀ u, K' u → jm_aft g (d + 1) 72 132 L r u K) : J g (d + 1) 72 132 L (aI x1 :: aI x0 :: r) σ K :=
  J_call' (id' := 14) jm_sk (vs := [aI x0, aI x1]) (inv_S (id' := 14) d_H_stairs_132 wd_450 wd_317 wd_54 cw_H_exponent (by decide) pn_H_exponent) cw_H_exponent (by decide) (by decide) (Nat.le_of_ble_eq_true rfl) rfl hr rfl hcal hk
theorem k_H_stairs_150 {g : jm_G} {d : Nat} {L : List (Option jm_V)} {r : List jm_V} {σ : jm_S} {K K' : jm_O → Prop} {x0 : Int32} {x1 : Int32} (hr : Nat.ble (jm_cs r) 8 = true) (hcal : J g d 18 0 [some (aI x0), some (aI x1)] [] σ K') (hk : ∀ u, K' u → jm_aft g (d + 1) 72 150 L r u K) : J g (d + 1) 72 150 L (aI x1 :: aI x0 :: r) σ K :=
  J_call' (id' := 18) jm_sk (vs := [aI x0, aI x1]) (inv_S (id' := 18) d_H_stairs_150 wd_336 wd_337 wd_54 cw_H_power (by decide) pn_H_power) cw_H_power (by decide) (by decide) (Nat.le_of_ble_eq_true rfl) rfl hr rfl hcal hk
theorem k_H_stairs_174 {g : jm_G} {d : Nat} {L : List (Option jm_V)} {r : List jm_V} {σ : jm_S} {K K' : jm_O → Prop} {x0 : Int32} {x1 : Int32} (hr : Nat.ble (jm_cs r) 8 = true) (hcal : J g d 18 0 [some (aI x0), some (aI x1)] [] σ K') (hk : ∀ u, K' u → jm_aft g (d + 1) 72 174 L r u K) : J g (d + 1) 72 174 L (aI x1 :: aI x0 :: r) σ K :=
  J_call' (id' := 18) jm_sk (vs := [aI x0, aI x1]) (inv_S (id' := 18) d_H_stairs_174 wd_336 wd_337 wd_54 cw_H_power (by decide) pn_H_power) cw_H_power (by decide) (by decide) (Nat.le_of_ble_eq_true rfl) rfl hr rfl hcal hk
theorem r_H_stairs_183 {g : jm_G} {d : Nat} {L : List (Option jm_V)} {σ : jm_S} {K : jm_O → Prop} {v : Int32} (hK : K (σ, .inl (some (aI v)))) : J g d 72 183 L [aI v] σ K := J_iret d_H_stairs_183 rfl hK
-- IdealProver pure (I)I
theorem d_H_pure_0 : decode prog_1_method_36_code 0 = .ok (.iconst (-1), 1) := by decide +kernel
theorem d_H_pure_1 : decode prog_1_method_36_code 1 = .ok (.istore_n 2, 1) := by decide +kernel
theorem d_H_pure_2 : decode prog_1_method_36_code 2 = .ok (.iconst 0, 1) := by decide +kernel
theorem d_H_pure_3 : decode prog_1_method_36_code 3 = .ok (.istore_n 3, 1) := by decide +kernel
theorem d_H_pure_4 : decode prog_1_method_36_code 4 = .ok (.iload_n 3, 1) := by decide +kernel
theorem d_H_pure_5 : decode prog_1_method_36_code 5 = .ok (.aload_n 0, 1) := by decide +kernel
theorem d_H_pure_6 : decode prog_1_method_36_code 6 = .ok (.getfield 54, 3) := by decide +kernel
theorem d_H_pure_9 : decode prog_1_method_36_code 9 = .ok (.getfield 191, 3) := by decide +kernel
theorem d_H_pure_12 : decode prog_1_method_36_code 12 = .ok (.if_icmp .ge 51, 3) := by decide +kernel
theorem d_H_pure_15 : decode prog_1_method_36_code 15 = .ok (.aload_n 0, 1) := by decide +kernel
theorem d_H_pure_16 : decode prog_1_method_36_code 16 = .ok (.getfield 54, 3) := by decide +kernel
theorem d_H_pure_19 : decode prog_1_method_36_code 19 = .ok (.iload_n 3, 1) := by decide +kernel
theorem d_H_pure_20 : decode prog_1_method_36_code 20 = .ok (.invokevirtual 239, 3) := by decide +kernel
theorem d_H_pure_23 : decode prog_1_method_36_code 23 = .ok (.istore 4, 2) := by decide +kernel
theorem d_H_pure_25 : decode prog_1_method_36_code 25 = .ok (.iload 4, 2) := by decide +kernel
theorem d_H_pure_27 : decode prog_1_method_36_code 27 = .ok (.iload_n 1, 1) := by decide +kernel
theorem d_H_pure_28 : decode prog_1_method_36_code 28 = .ok (.invokestatic 1, 3) := by decide +kernel
theorem d_H_pure_31 : decode prog_1_method_36_code 31 = .ok (.istore 5, 2) := by decide +kernel
theorem d_H_pure_33 : decode prog_1_method_36_code 33 = .ok (.iload 4, 2) := by decide +kernel
theorem d_H_pure_35 : decode prog_1_method_36_code 35 = .ok (.iload_n 1, 1) := by decide +kernel
theorem d_H_pure_36 : decode prog_1_method_36_code 36 = .ok (.iload 5, 2) := by decide +kernel
theorem d_H_pure_38 : decode prog_1_method_36_code 38 = .ok (.invokestatic 12, 3) := by decide +kernel
theorem d_H_pure_41 : decode prog_1_method_36_code 41 = .ok (.if_icmp .ne 16, 3) := by decide +kernel
theorem d_H_pure_44 : decode prog_1_method_36_code 44 = .ok (.iload_n 2, 1) := by decide +kernel
theorem d_H_pure_45 : decode prog_1_method_36_code 45 = .ok (.ifCond .lt 9, 3) := by decide +kernel
theorem d_H_pure_48 : decode prog_1_method_36_code 48 = .ok (.iload 5, 2) := by decide +kernel
theorem d_H_pure_50 : decode prog_1_method_36_code 50 = .ok (.iload_n 2, 1) := by decide +kernel
theorem d_H_pure_51 : decode prog_1_method_36_code 51 = .ok (.if_icmp .ge 6, 3) := by decide +kernel
theorem d_H_pure_54 : decode prog_1_method_36_code 54 = .ok (.iload 5, 2) := by decide +kernel
theorem d_H_pure_56 : decode prog_1_method_36_code 56 = .ok (.istore_n 2, 1) := by decide +kernel
theorem d_H_pure_57 : decode prog_1_method_36_code 57 = .ok (.iinc 3 1, 3) := by decide +kernel
theorem d_H_pure_60 : decode prog_1_method_36_code 60 = .ok (.goto (-56), 3) := by decide +kernel
theorem d_H_pure_63 : decode prog_1_method_36_code 63 = .ok (.iload_n 2, 1) := by decide +kernel
theorem d_H_pure_64 : decode prog_1_method_36_code 64 = .ok (.ireturn, 1) := by decide +kernel
def tb_H_pure : List (Nat × jm_Op) := [(0, oC (-1) 1), (1, oIs 2 2), (2, oC 0 3), (3, oIs 3 4), (4, oIl 3 5), (5, oAl 0 6), (6, oGr 1 6 2 9), (9, oGi 2 10 12), (12, oIcGe 63 15), (15, oAl 0 16), (16, oGr 1 6 2 19), (19, oIl 3 20), (23, oIs 4 25), (25, oIl 4 27), (27, oIl 1 28), (31, oIs 5 33), (33, oIl 4 35), (35, oIl 1 36), (36, oIl 5 38), (41, oIcNe 57 44), (44, oIl 2 45), (45, oIfLt 54 48), (48, oIl 5 50), (50, oIl 2 51), (51, oIcGe 57 54), (54, oIl 5 56), (56, oIs 2 57), (57, oInc 3 1 60), (60, oGo 4), (63, oIl 2 64)]
theorem ok_H_pure : jm_all 73 tb_H_pure := ⟨s_iconst d_H_pure_0 (by decide), s_istore_n d_H_pure_1 rfl (by decide), s_iconst d_H_pure_2 (by decide), s_istore_n d_H_pure_3 rfl (by decide), s_iload_n d_H_pure_4 rfl, s_aload_n d_H_pure_5 rfl, s_getr d_H_pure_6 ci_H rfl wd_248, s_getiN d_H_pure_9 ci_G rfl wd_187, s_icmp_ge d_H_pure_12 (by decide), s_aload_n d_H_pure_15 rfl, s_getr d_H_pure_16 ci_H rfl wd_248, s_iload_n d_H_pure_19 rfl, s_istore d_H_pure_23 (by decide), s_iload d_H_pure_25, s_iload_n d_H_pure_27 rfl, s_istore d_H_pure_31 (by decide), s_iload d_H_pure_33, s_iload_n d_H_pure_35 rfl, s_iload d_H_pure_36, s_icmp_ne d_H_pure_41 (by decide), s_iload_n d_H_pure_44 rfl, s_if_lt d_H_pure_45 (by decide), s_iload d_H_pure_48, s_iload_n d_H_pure_50 rfl, s_icmp_ge d_H_pure_51 (by decide), s_iload d_H_pure_54, s_istore_n d_H_pure_56 rfl (by decide), s_iinc d_H_pure_57 (by decide) (by decide), s_goto d_H_pure_60 (by decide), s_iload_n d_H_pure_63 rfl, trivial⟩
theorem k_H_pure_20 {g : jm_G} {d : Nat} {L : List (Option jm_V)} {r : List jm_V} {σ : jm_S} {K K' : jm_O → Prop} {q0 : Nat} {x0 : Int32} (hr : Nat.ble (jm_cs r) 8 = true) (hcal : J g d 51 0 [some (aR 2 q0), some (aI x0)] [] σ K') (hk : ∀ u, K' u → jm_aft g (d + 1) 73 20 L r u K) : J g (d + 1) 73 20 L (aI x0 :: aR 2 q0 :: r) σ K :=
  J_call' (id' := 51) jm_sk (vs := [aR 2 q0, aI x0]) (inv_VN (id' := 51) d_H_pure_20 ci_G wd_627 wd_539 wd_11 cw_G_lead (by decide) pn_G_lead) cw_G_lead (by decide) (by decide) (Nat.le_of_ble_eq_true rfl) rfl hr rfl hcal hk
theorem k_H_pure_28 {g : jm_G} {d : Nat} {L : List (Option jm_V)} {r : List jm_V} {σ : jm_S} {K K' : jm_O → Prop} {x0 : Int32} {x1 : Int32} (hr : Nat.ble (jm_cs r) 8 = true) (hcal : J g d 14 0 [some (aI x0), some (aI x1)] [] σ K') (hk : ∀ u, K' u → jm_aft g (d + 1) 73 28 L r u K) : J g (d + 1) 73 28 L (aI x1 :: aI x0 :: r) σ K :=
  J_call' (id' := 14) jm_sk (vs := [aI x0, aI x1]) (inv_S (id' := 14) d_H_pure_28 wd_450 wd_317 wd_54 cw_H_exponent (by decide) pn_H_exponent) cw_H_exponent (by decide) (by decide) (Nat.le_of_ble_eq_true rfl) rfl hr rfl hcal hk
theorem k_H_pure_38 {g : jm_G} {d : Nat} {L : List (Option jm_V)} {r : List jm_V} {σ : jm_S} {K K' : jm_O → Prop} {x0 : Int32} {x1 : Int32} (hr : Nat.ble (jm_cs r) 8 = true) (hcal : J g d 18 0 [some (aI x0), some (aI x1)] [] σ K') (hk : ∀ u, K' u → jm_aft g (d + 1) 73 38 L r u K) : J g (d + 1) 73 38 L (aI x1 :: aI x0 :: r) σ K :=
  J_call' (id' := 18) jm_sk (vs := [aI x0, aI x1]) (inv_S (id' := 18) d_H_pure_38 wd_336 wd_337 wd_54 cw_H_power (by decide) pn_H_power) cw_H_power (by decide) (by decide) (Nat.le_of_ble_eq_true rfl) rfl hr rfl hcal hk
theorem r_H_pure_64 {g : jm_G} {d : Nat} {L : List (Option jm_V)} {σ : jm_S} {K : jm_O → Prop} {v : Int32} (hK : K (σ, .inl (some (aI v)))) : J g d 73 64 L [aI v] σ K := J_iret d_H_pure_64 rfl hK
