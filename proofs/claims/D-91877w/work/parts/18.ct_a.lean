set_option maxRecDepth 100000
/-! the walks: printed by wip/D-91877w/gen/gen2.py -/
set_option maxHeartbeats 4000000 in
theorem ct_X0_isIn {l : Launch} {G : xw_G} {μ : xw_Mu} (v1 : Int32) (v2 : Int32) (v3 : Int32) : xw_Ct l G (xw_hc G μ) xw_oi yX0_isIn cX0_isIn 3 (some (.boolean)) 1 [.int v1, .int v2, .int v3] (pg_X0_isIn v1 v2 v3) := by
  refine xw_metL [(0, .int v1), (1, .int v2), (2, .int v3)] (by decide) (Nat.le_trans (Nat.le_of_eq ((xw_l1 rfl).trans (congrArg (1 + ·) ((xw_l1 rfl).trans (congrArg (1 + ·) ((xw_l1 rfl).trans (congrArg (1 + ·) xw_l0))))))) (by decide)) ((xw_a1 rfl).trans (congrArg (List.cons _) ((xw_a1 rfl).trans (congrArg (List.cons _) ((xw_a1 rfl).trans (congrArg (List.cons _) xw_a0)))))) (fun E hE hl hG hm => ?_)
  subst hl; subst hG
  have hE : xw_ok E "CrossingWords" cX0_isIn 3 (some (.boolean)) 1 := hE
  unfold pg_X0_isIn
  refine x_iload_n 1 hE dX0_isIn_0 rfl 0 rfl ?_
  refine x_iload_n 2 hE dX0_isIn_1 rfl 1 rfl ?_
  refine x_icmp_lt 14 5 hE dX0_isIn_2 (by decide) rfl ?_ ?_
  · refine x_iconst 15 hE dX0_isIn_14 rfl xc_i_0 ?_
    exact x_zretw hE (by decide) dX0_isIn_15
  · refine x_iload_n 6 hE dX0_isIn_5 rfl 0 rfl ?_
    refine x_iload_n 7 hE dX0_isIn_6 rfl 2 rfl ?_
    refine x_icmp_gt 14 10 hE dX0_isIn_7 (by decide) rfl ?_ ?_
    · refine x_iconst 15 hE dX0_isIn_14 rfl xc_i_0 ?_
      exact x_zretw hE (by decide) dX0_isIn_15
    · refine x_iconst 11 hE dX0_isIn_10 rfl xc_i_1 ?_
      refine x_goto 15 hE dX0_isIn_11 (by decide) ?_
      exact x_zretw hE (by decide) dX0_isIn_15

set_option maxHeartbeats 4000000 in
theorem ct_X0_find {l : Launch} {G : xw_G} {μ : xw_Mu} (v1 : Option Nat) (v2 : Int64) : xw_Ct l G (xw_hc G μ) xw_oi yX0_find cX0_find 4 (some (.int)) 1 [va_rf v1, .long v2] (pg_X0_find v1 v2) := by
  refine xw_metL [(0, va_rf v1), (1, .long v2)] (by decide) (Nat.le_trans (Nat.le_of_eq ((xw_l1 (x_rfc _)).trans (congrArg (1 + ·) (xw_l2.trans (congrArg (2 + ·) xw_l0))))) (by decide)) ((xw_a1 (x_rfc _)).trans (congrArg (List.cons _) (xw_a2.trans (congrArg (List.cons _) xw_a0)))) (fun E hE hl hG hm => ?_)
  subst hl; subst hG
  have hE : xw_ok E "CrossingWords" cX0_find 4 (some (.int)) 1 := hE
  unfold pg_X0_find
  refine x_iconst 1 hE dX0_find_0 rfl xc_i_0 ?_
  refine x_istore_n 2 [(3, .int 0), (0, va_rf v1), (1, .long v2)] hE dX0_find_1 rfl rfl (Nat.le_of_ble_eq_true rfl) rfl ?_
  refine x_sub [(0, va_rf v1), (1, .long v2), (3, .int 0)] [1, 2, 0] rfl ?_
  refine x_loop (fun (v3 : Int32) => [(0, va_rf v1), (1, .long v2), (3, .int v3)]) (fun JL1 hc1 hx1 v3 => ?_) _ _
  refine x_iload_n 3 hE dX0_find_2 rfl 2 rfl ?_
  refine x_aload_n 4 hE dX0_find_3 rfl 0 rfl ?_
  refine x_len 5 hE dX0_find_4 rfl (fun v4 => ?_)
  refine x_icmp_ge 30 8 hE dX0_find_5 (by decide) rfl ?_ ?_
  · refine x_iconst 31 hE dX0_find_30 rfl xc_i_m1 ?_
    refine hx1 _ _ _ _ ?_
    exact x_iret hE dX0_find_31
  · refine x_aload_n 9 hE dX0_find_8 rfl 0 rfl ?_
    refine x_iload_n 10 hE dX0_find_9 rfl 2 rfl ?_
    refine x_ldJ 11 hE dX0_find_10 rfl (fun v5 => ?_)
    refine x_lload_n 12 hE dX0_find_11 rfl 1 rfl ?_
    refine x_lcmp 13 hE dX0_find_12 rfl ?_
    refine x_if_ne 24 16 hE dX0_find_13 (by decide) rfl ?_ ?_
    · refine x_lload_n 17 hE dX0_find_16 rfl 1 rfl ?_
      refine x_lconst 18 hE dX0_find_17 rfl xc_l_0 ?_
      refine x_lcmp 19 hE dX0_find_18 rfl ?_
      refine x_if_eq 24 22 hE dX0_find_19 (by decide) rfl ?_ ?_
      · refine x_iinc 27 [(3, .int (v3 + 1)), (0, va_rf v1), (1, .long v2)] hE dX0_find_24 rfl 2 rfl xc_i_1 (Nat.le_of_ble_eq_true rfl) rfl ?_
        refine x_goto 2 hE dX0_find_27 (by decide) ?_
        refine x_sub [(0, va_rf v1), (1, .long v2), (3, .int (v3 + 1))] [1, 2, 0] rfl ?_
        exact hc1 (v3 + 1)
      · refine x_iload_n 23 hE dX0_find_22 rfl 2 rfl ?_
        refine hx1 _ _ _ _ ?_
        exact x_iret hE dX0_find_23
    · refine x_iinc 27 [(3, .int (v3 + 1)), (0, va_rf v1), (1, .long v2)] hE dX0_find_24 rfl 2 rfl xc_i_1 (Nat.le_of_ble_eq_true rfl) rfl ?_
      refine x_goto 2 hE dX0_find_27 (by decide) ?_
      refine x_sub [(0, va_rf v1), (1, .long v2), (3, .int (v3 + 1))] [1, 2, 0] rfl ?_
      exact hc1 (v3 + 1)

set_option maxHeartbeats 4000000 in
theorem ct_X1_init {l : Launch} {G : xw_G} {μ : xw_Mu} (v1 : Nat) (v2 : Option Nat) : xw_Ct l G (xw_hc G μ) xw_ov yX1_init cX1_init 2 none 1 [va_rf (some v1), va_rf v2] (pg_X1_init v1 v2) := by
  refine xw_metL [(0, va_rf (some v1)), (1, va_rf v2)] (by decide) (Nat.le_trans (Nat.le_of_eq ((xw_l1 rfl).trans (congrArg (1 + ·) ((xw_l1 (x_rfc _)).trans (congrArg (1 + ·) xw_l0))))) (by decide)) ((xw_a1 rfl).trans (congrArg (List.cons _) ((xw_a1 (x_rfc _)).trans (congrArg (List.cons _) xw_a0)))) (fun E hE hl hG hm => ?_)
  subst hl; subst hG
  have hE : xw_ok E "CrossingWords$Run" cX1_init 2 none 1 := hE
  have hm : (xe_M E).name = "<init>" := hm
  unfold pg_X1_init
  refine x_aload_n 1 hE dX1_init_0 rfl 0 rfl ?_
  refine x_aload_n 2 hE dX1_init_1 rfl 1 rfl ?_
  refine x_pR 5 hE (xw_pkF hE hm xkf_CrossingWords_Run_3 rfl rfl) ⟨rfl, rfl⟩ dX1_init_2 rfl ?_
  refine x_aload_n 6 hE dX1_init_5 rfl 0 rfl ?_
  refine x_objInit 9 hE q140 q126 q127 (by decide) dX1_init_6 rfl rfl ?_
  refine x_aload_n 10 hE dX1_init_9 rfl 0 rfl ?_
  refine x_bipush 12 hE dX1_init_10 rfl xc_b_36 ?_
  refine x_nwa (t := 127) 14 hE xsA_127 rfl xsB_127 dX1_init_12 rfl (fun v3 => ?_)
  refine x_pR 17 hE (xw_pkF hE hm xkf_CrossingWords_Run_15 rfl rfl) ⟨rfl, rfl⟩ dX1_init_14 rfl ?_
  refine x_aload_n 18 hE dX1_init_17 rfl 0 rfl ?_
  refine x_bipush 20 hE dX1_init_18 rfl xc_b_12 ?_
  refine x_nwa (t := 128) 22 hE xsA_128 rfl xsB_128 dX1_init_20 rfl (fun v4 => ?_)
  refine x_pR 25 hE (xw_pkF hE hm xkf_CrossingWords_Run_19 rfl rfl) ⟨rfl, rfl⟩ dX1_init_22 rfl ?_
  refine x_aload_n 26 hE dX1_init_25 rfl 0 rfl ?_
  refine x_bipush 28 hE dX1_init_26 rfl xc_b_12 ?_
  refine x_nwa (t := 129) 30 hE xsA_129 rfl xsB_129 dX1_init_28 rfl (fun v5 => ?_)
  refine x_pR 33 hE (xw_pkF hE hm xkf_CrossingWords_Run_22 rfl rfl) ⟨rfl, rfl⟩ dX1_init_30 rfl ?_
  refine x_aload_n 34 hE dX1_init_33 rfl 0 rfl ?_
  refine x_bipush 36 hE dX1_init_34 rfl xc_b_12 ?_
  refine x_nwa (t := 130) 38 hE xsA_130 rfl xsB_130 dX1_init_36 rfl (fun v6 => ?_)
  refine x_pR 41 hE (xw_pkF hE hm xkf_CrossingWords_Run_25 rfl rfl) ⟨rfl, rfl⟩ dX1_init_38 rfl ?_
  refine x_aload_n 42 hE dX1_init_41 rfl 0 rfl ?_
  refine x_bipush 44 hE dX1_init_42 rfl xc_b_48 ?_
  refine x_nwa (t := 131) 46 hE xsA_131 rfl xsB_131 dX1_init_44 rfl (fun v7 => ?_)
  refine x_pR 49 hE (xw_pkF hE hm xkf_CrossingWords_Run_28 rfl rfl) ⟨rfl, rfl⟩ dX1_init_46 rfl ?_
  exact x_vret hE dX1_init_49

set_option maxHeartbeats 4000000 in
theorem ct_X0_init {l : Launch} {G : xw_G} {μ : xw_Mu} (v1 : Nat) : xw_Ct l G (xw_hc G μ) xw_ov yX0_init cX0_init 2 none 2 [va_rf (some v1)] (pg_X0_init v1) := by
  refine xw_metL [(0, va_rf (some v1))] (by decide) (Nat.le_trans (Nat.le_of_eq ((xw_l1 rfl).trans (congrArg (1 + ·) xw_l0))) (by decide)) ((xw_a1 rfl).trans (congrArg (List.cons _) xw_a0)) (fun E hE hl hG hm => ?_)
  subst hl; subst hG
  have hE : xw_ok E "CrossingWords" cX0_init 2 none 2 := hE
  have hm : (xe_M E).name = "<init>" := hm
  unfold pg_X0_init
  refine x_aload_n 1 hE dX0_init_0 rfl 0 rfl ?_
  refine x_objInit 4 hE q125 q126 q127 (by decide) dX0_init_1 rfl rfl ?_
  refine x_aload_n 5 hE dX0_init_4 rfl 0 rfl ?_
  refine x_bipush 7 hE dX0_init_5 rfl xc_b_16 ?_
  refine x_nwR (t := 64) 10 hE xsA_64 rfl q128 dX0_init_7 rfl (fun v2 => ?_)
  refine x_pR 13 hE (xw_pkF hE hm xkf_CrossingWords_21 rfl rfl) ⟨rfl, rfl⟩ dX0_init_10 rfl ?_
  refine x_aload_n 14 hE dX0_init_13 rfl 0 rfl ?_
  refine x_bipush 16 hE dX0_init_14 rfl xc_b_8 ?_
  refine x_nwR (t := 65) 19 hE xsA_65 rfl q130 dX0_init_16 rfl (fun v3 => ?_)
  refine x_pR 22 hE (xw_pkF hE hm xkf_CrossingWords_27 rfl rfl) ⟨rfl, rfl⟩ dX0_init_19 rfl ?_
  refine x_aload_n 23 hE dX0_init_22 rfl 0 rfl ?_
  refine x_bipush 25 hE dX0_init_23 rfl xc_b_6 ?_
  refine x_nwR (t := 66) 28 hE xsA_66 rfl q130 dX0_init_25 rfl (fun v4 => ?_)
  refine x_pR 31 hE (xw_pkF hE hm xkf_CrossingWords_31 rfl rfl) ⟨rfl, rfl⟩ dX0_init_28 rfl ?_
  refine x_aload_n 32 hE dX0_init_31 rfl 0 rfl ?_
  refine x_sipush 35 hE dX0_init_32 rfl xc_s_900 ?_
  refine x_nwa (t := 67) 37 hE xsA_67 rfl xsB_67 dX0_init_35 rfl (fun v5 => ?_)
  refine x_pR 40 hE (xw_pkF hE hm xkf_CrossingWords_34 rfl rfl) ⟨rfl, rfl⟩ dX0_init_37 rfl ?_
  refine x_aload_n 41 hE dX0_init_40 rfl 0 rfl ?_
  refine x_bipush 43 hE dX0_init_41 rfl xc_b_18 ?_
  refine x_nwR (t := 68) 46 hE xsA_68 rfl q132 dX0_init_43 rfl (fun v6 => ?_)
  refine x_pR 49 hE (xw_pkF hE hm xkf_CrossingWords_40 rfl rfl) ⟨rfl, rfl⟩ dX0_init_46 rfl ?_
  refine x_aload_n 50 hE dX0_init_49 rfl 0 rfl ?_
  refine x_iconst 51 hE dX0_init_50 rfl xc_i_m1 ?_
  refine x_pI 54 hE (xw_pkN (xw_lk0 hE xkf_CrossingWords_44) rfl) ⟨rfl, rfl⟩ dX0_init_51 rfl ?_
  refine x_aload_n 55 hE dX0_init_54 rfl 0 rfl ?_
  refine x_iconst 56 hE dX0_init_55 rfl xc_i_4 ?_
  refine x_nwR (t := 69) 59 hE xsA_69 rfl q134 dX0_init_56 rfl (fun v7 => ?_)
  refine x_pR 62 hE (xw_pkF hE hm xkf_CrossingWords_50 rfl rfl) ⟨rfl, rfl⟩ dX0_init_59 rfl ?_
  refine x_aload_n 63 hE dX0_init_62 rfl 0 rfl ?_
  refine x_sipush 66 hE dX0_init_63 rfl xc_s_1024 ?_
  refine x_nwa (t := 70) 68 hE xsA_70 rfl xsB_70 dX0_init_66 rfl (fun v8 => ?_)
  refine x_pR 71 hE (xw_pkF hE hm xkf_CrossingWords_54 rfl rfl) ⟨rfl, rfl⟩ dX0_init_68 rfl ?_
  refine x_aload_n 72 hE dX0_init_71 rfl 0 rfl ?_
  refine x_sipush 75 hE dX0_init_72 rfl xc_s_1024 ?_
  refine x_nwa (t := 71) 77 hE xsA_71 rfl xsB_71 dX0_init_75 rfl (fun v9 => ?_)
  refine x_pR 80 hE (xw_pkF hE hm xkf_CrossingWords_58 rfl rfl) ⟨rfl, rfl⟩ dX0_init_77 rfl ?_
  refine x_iconst 81 hE dX0_init_80 rfl xc_i_0 ?_
  refine x_istore_n 82 [(1, .int 0), (0, va_rf (some v1))] hE dX0_init_81 rfl rfl (Nat.le_of_ble_eq_true rfl) rfl ?_
  refine x_sub [(0, va_rf (some v1)), (1, .int 0)] [1, 0] rfl ?_
  refine x_sq 108 (fun (v11 : Unit) => []) (fun _ => []) (fun v11 => ?_) (fun J2 hJ2 => ?_)
  · exact x_vret hE dX0_init_108
  · refine x_loop (fun (v10 : Int32) => [(0, va_rf (some v1)), (1, .int v10)]) (fun JL1 hc1 hx1 v10 => ?_) _ _
    refine x_iload_n 83 hE dX0_init_82 rfl 1 rfl ?_
    refine x_bipush 85 hE dX0_init_83 rfl xc_b_18 ?_
    refine x_icmp_ge 108 88 hE dX0_init_85 (by decide) rfl ?_ ?_
    · refine x_sub [] [] rfl ?_
      refine hx1 _ _ _ _ ?_
      exact hJ2 ()
    · refine x_aload_n 89 hE dX0_init_88 rfl 0 rfl ?_
      refine x_gR 92 hE (xw_lk0 hE xkf_CrossingWords_40) rfl dX0_init_89 rfl (fun v12 => ?_)
      refine x_iload_n 93 hE dX0_init_92 rfl 1 rfl ?_
      refine x_new (c := 1) 96 hE (by decide) q132 q136 q96 dX0_init_93 rfl (fun v13 => ?_)
      refine x_dup 97 hE dX0_init_96 rfl rfl ?_
      refine x_aload_n 98 hE dX0_init_97 rfl 0 rfl ?_
      refine x_callv 101 (xw_goIN hE (b := v13) (ct_X1_init v13 (some v1)) xd_X1_init xkm_CrossingWords_62 q138 q96 q139 rfl rfl ⟨Nat.le_of_ble_eq_true rfl, Nat.le_of_ble_eq_true rfl⟩ rfl (Nat.le_trans (xw_sm1 rfl (xw_sm1 rfl (xw_sm1 (x_rfc _) xw_sm0))) (by decide)) dX0_init_98) rfl ?_
      refine x_stR 102 hE dX0_init_101 rfl ?_
      refine x_iinc 105 [(1, .int (v10 + 1)), (0, va_rf (some v1))] hE dX0_init_102 rfl 1 rfl xc_i_1 (Nat.le_of_ble_eq_true rfl) rfl ?_
      refine x_goto 82 hE dX0_init_105 (by decide) ?_
      refine x_sub [(0, va_rf (some v1)), (1, .int (v10 + 1))] [1, 0] rfl ?_
      exact hc1 (v10 + 1)

set_option maxHeartbeats 4000000 in
theorem ct_X5_combos {l : Launch} {G : xw_G} {μ : xw_Mu} (v1 : Nat) : xw_Ct l G (xw_hc G μ) xw_oi yX5_combos cX5_combos 1 (some (.int)) 1 [va_rf (some v1)] (pg_X5_combos v1) := by
  refine xw_metL [(0, va_rf (some v1))] (by decide) (Nat.le_trans (Nat.le_of_eq ((xw_l1 rfl).trans (congrArg (1 + ·) xw_l0))) (by decide)) ((xw_a1 rfl).trans (congrArg (List.cons _) xw_a0)) (fun E hE hl hG hm => ?_)
  subst hl; subst hG
  have hE : xw_ok E "CrossingWords$Case" cX5_combos 1 (some (.int)) 1 := hE
  unfold pg_X5_combos
  refine x_aload_n 1 hE dX5_combos_0 rfl 0 rfl ?_
  refine x_gJ 4 hE (xw_lk0 hE xkf_CrossingWords_Case_27) rfl dX5_combos_1 rfl (fun v2 => ?_)
  refine x_l2i 5 hE dX5_combos_4 rfl ?_
  exact x_iret hE dX5_combos_5

set_option maxHeartbeats 4000000 in
theorem ct_X5_isLooked {l : Launch} {G : xw_G} {μ : xw_Mu} (v1 : Nat) : xw_Ct l G (xw_hc G μ) xw_oi yX5_isLooked cX5_isLooked 1 (some (.boolean)) 1 [va_rf (some v1)] (pg_X5_isLooked v1) := by
  refine xw_metL [(0, va_rf (some v1))] (by decide) (Nat.le_trans (Nat.le_of_eq ((xw_l1 rfl).trans (congrArg (1 + ·) xw_l0))) (by decide)) ((xw_a1 rfl).trans (congrArg (List.cons _) xw_a0)) (fun E hE hl hG hm => ?_)
  subst hl; subst hG
  have hE : xw_ok E "CrossingWords$Case" cX5_isLooked 1 (some (.boolean)) 1 := hE
  unfold pg_X5_isLooked
  refine x_aload_n 1 hE dX5_isLooked_0 rfl 0 rfl ?_
  refine x_gJ 4 hE (xw_lk0 hE xkf_CrossingWords_Case_27) rfl dX5_isLooked_1 rfl (fun v2 => ?_)
  refine x_ldc2 7 hE q932 dX5_isLooked_4 rfl ?_
  refine x_lcmp 8 hE dX5_isLooked_7 rfl ?_
  refine x_if_gt 15 11 hE dX5_isLooked_8 (by decide) rfl ?_ ?_
  · refine x_iconst 16 hE dX5_isLooked_15 rfl xc_i_0 ?_
    exact x_zretw hE (by decide) dX5_isLooked_16
  · refine x_iconst 12 hE dX5_isLooked_11 rfl xc_i_1 ?_
    refine x_goto 16 hE dX5_isLooked_12 (by decide) ?_
    exact x_zretw hE (by decide) dX5_isLooked_16

set_option maxHeartbeats 4000000 in
theorem ct_X1_isBargain {l : Launch} {G : xw_G} {μ : xw_Mu} (v1 : Nat) : xw_Ct l G (xw_hc G μ) xw_oi yX1_isBargain cX1_isBargain 1 (some (.boolean)) 1 [va_rf (some v1)] (pg_X1_isBargain v1) := by
  refine xw_metL [(0, va_rf (some v1))] (by decide) (Nat.le_trans (Nat.le_of_eq ((xw_l1 rfl).trans (congrArg (1 + ·) xw_l0))) (by decide)) ((xw_a1 rfl).trans (congrArg (List.cons _) xw_a0)) (fun E hE hl hG hm => ?_)
  subst hl; subst hG
  have hE : xw_ok E "CrossingWords$Run" cX1_isBargain 1 (some (.boolean)) 1 := hE
  unfold pg_X1_isBargain
  refine x_aload_n 1 hE dX1_isBargain_0 rfl 0 rfl ?_
  refine x_gI 4 hE (xw_lk0 hE xkf_CrossingWords_Run_145) rfl dX1_isBargain_1 rfl (fun v2 => ?_)
  refine x_sipush 7 hE dX1_isBargain_4 rfl xc_s_9999 ?_
  refine x_icmp_ge 14 10 hE dX1_isBargain_7 (by decide) rfl ?_ ?_
  · refine x_iconst 15 hE dX1_isBargain_14 rfl xc_i_0 ?_
    exact x_zretw hE (by decide) dX1_isBargain_15
  · refine x_iconst 11 hE dX1_isBargain_10 rfl xc_i_1 ?_
    refine x_goto 15 hE dX1_isBargain_11 (by decide) ?_
    exact x_zretw hE (by decide) dX1_isBargain_15

set_option maxHeartbeats 4000000 in
theorem ct_X9_said {l : Launch} {G : xw_G} {μ : xw_Mu} (v1 : Nat) : xw_Ct l G (xw_hc G μ) xw_or yX9_said cX9_said 1 (some (.object "CrossingWords$Saying")) 1 [va_rf (some v1)] (pg_X9_said v1) := by
  refine xw_metL [(0, va_rf (some v1))] (by decide) (Nat.le_trans (Nat.le_of_eq ((xw_l1 rfl).trans (congrArg (1 + ·) xw_l0))) (by decide)) ((xw_a1 rfl).trans (congrArg (List.cons _) xw_a0)) (fun E hE hl hG hm => ?_)
  subst hl; subst hG
  have hE : xw_ok E "CrossingWords$Answer" cX9_said 1 (some (.object "CrossingWords$Saying")) 1 := hE
  unfold pg_X9_said
  refine x_aload_n 1 hE dX9_said_0 rfl 0 rfl ?_
  refine x_gR 4 hE (xw_lk0 hE xkf_CrossingWords_Answer_7) rfl dX9_said_1 rfl (fun v2 => ?_)
  exact x_aret hE rfl dX9_said_4

set_option maxHeartbeats 4000000 in
theorem ct_X20_isSmall {l : Launch} {G : xw_G} {μ : xw_Mu} (v1 : Nat) : xw_Ct l G (xw_hc G μ) xw_oi yX20_isSmall cX20_isSmall 1 (some (.boolean)) 1 [va_rf (some v1)] (pg_X20_isSmall v1) := by
  refine xw_metL [(0, va_rf (some v1))] (by decide) (Nat.le_trans (Nat.le_of_eq ((xw_l1 rfl).trans (congrArg (1 + ·) xw_l0))) (by decide)) ((xw_a1 rfl).trans (congrArg (List.cons _) xw_a0)) (fun E hE hl hG hm => ?_)
  subst hl; subst hG
  have hE : xw_ok E "CrossingWords$Rules" cX20_isSmall 1 (some (.boolean)) 1 := hE
  unfold pg_X20_isSmall
  refine x_aload_n 1 hE dX20_isSmall_0 rfl 0 rfl ?_
  refine x_gR 4 hE (xw_lk0 hE xkf_CrossingWords_Rules_9) rfl dX20_isSmall_1 rfl (fun v2 => ?_)
  refine x_bipush 6 hE dX20_isSmall_4 rfl xc_b_9 ?_
  refine x_ldI 7 hE dX20_isSmall_6 rfl (fun v3 => ?_)
  refine x_iconst 8 hE dX20_isSmall_7 rfl xc_i_1 ?_
  refine x_icmp_ne 15 11 hE dX20_isSmall_8 (by decide) rfl ?_ ?_
  · refine x_iconst 12 hE dX20_isSmall_11 rfl xc_i_1 ?_
    refine x_goto 16 hE dX20_isSmall_12 (by decide) ?_
    exact x_zretw hE (by decide) dX20_isSmall_16
  · refine x_iconst 16 hE dX20_isSmall_15 rfl xc_i_0 ?_
    exact x_zretw hE (by decide) dX20_isSmall_16

set_option maxHeartbeats 4000000 in
theorem ct_X11_isSmall {l : Launch} {G : xw_G} {μ : xw_Mu} (v1 : Nat) (v2 : Option Nat) : xw_Ct l G (xw_hc G μ) xw_oi yX11_isSmall cX11_isSmall 4 (some (.boolean)) 2 [va_rf (some v1), va_rf v2] (pg_X11_isSmall v1 v2) := by
  refine xw_metL [(0, va_rf (some v1)), (1, va_rf v2)] (by decide) (Nat.le_trans (Nat.le_of_eq ((xw_l1 rfl).trans (congrArg (1 + ·) ((xw_l1 (x_rfc _)).trans (congrArg (1 + ·) xw_l0))))) (by decide)) ((xw_a1 rfl).trans (congrArg (List.cons _) ((xw_a1 (x_rfc _)).trans (congrArg (List.cons _) xw_a0)))) (fun E hE hl hG hm => ?_)
  subst hl; subst hG
  have hE : xw_ok E "CrossingWords$But" cX11_isSmall 4 (some (.boolean)) 2 := hE
  unfold pg_X11_isSmall
  refine x_aload_n 1 hE dX11_isSmall_0 rfl 1 rfl ?_
  refine x_calli 4 (xw_goV hE (c := 17) (by decide) (fun v4 hq => xw_rV hE (ct_X20_isSmall v4) xd_X20_isSmall rfl q1020 q1021 q1022 q116 q1023 rfl ⟨Nat.le_of_ble_eq_true rfl, Nat.le_of_ble_eq_true rfl⟩ (congrArg va_rf hq) rfl (by decide) dX11_isSmall_1)) rfl (fun v3 => ?_)
  refine x_istore_n 5 [(2, .int v3), (0, va_rf (some v1)), (1, va_rf v2)] hE dX11_isSmall_4 rfl rfl (Nat.le_of_ble_eq_true rfl) (congrArg (List.cons _) (xw_f1 (by decide) rfl (xw_f1 (by decide) (x_rfc _) xw_f0))) ?_
  refine x_iconst 6 hE dX11_isSmall_5 rfl xc_i_0 ?_
  refine x_istore_n 7 [(3, .int 0), (2, .int v3), (0, va_rf (some v1)), (1, va_rf v2)] hE dX11_isSmall_6 rfl rfl (Nat.le_of_ble_eq_true rfl) rfl ?_
  refine x_sub [(0, va_rf (some v1)), (2, .int v3), (3, .int 0)] [2, 1, 0] rfl ?_
  refine x_sq 38 (fun (v6 : Int32) => [(2, .int v6)]) (fun _ => []) (fun v6 => ?_) (fun J2 hJ2 => ?_)
  · refine x_iload_n 39 hE dX11_isSmall_38 rfl 0 rfl ?_
    exact x_zretw hE rfl dX11_isSmall_39
  · refine x_loop (fun (v5 : Int32 × Int32) => [(0, va_rf (some v1)), (2, .int v5.1), (3, .int v5.2)]) (fun JL1 hc1 hx1 v5 => ?_) _ _
    refine x_iload_n 8 hE dX11_isSmall_7 rfl 2 rfl ?_
    refine x_iconst 9 hE dX11_isSmall_8 rfl xc_i_3 ?_
    refine x_icmp_ge 38 12 hE dX11_isSmall_9 (by decide) rfl ?_ ?_
    · refine x_sub [(2, .int v5.1)] [1] rfl ?_
      refine hx1 _ _ _ _ ?_
      exact hJ2 (v5.1)
    · refine x_iload_n 13 hE dX11_isSmall_12 rfl 1 rfl ?_
      refine x_if_eq 30 16 hE dX11_isSmall_13 (by decide) rfl ?_ ?_
      · refine x_iconst 31 hE dX11_isSmall_30 rfl xc_i_0 ?_
        refine x_istore_n 32 [(2, .int 0), (0, va_rf (some v1)), (3, .int v5.2)] hE dX11_isSmall_31 rfl rfl (Nat.le_of_ble_eq_true rfl) rfl ?_
        refine x_iinc 35 [(3, .int (v5.2 + 1)), (2, .int 0), (0, va_rf (some v1))] hE dX11_isSmall_32 rfl 2 rfl xc_i_1 (Nat.le_of_ble_eq_true rfl) rfl ?_
        refine x_goto 7 hE dX11_isSmall_35 (by decide) ?_
        refine x_sub [(0, va_rf (some v1)), (2, .int 0), (3, .int (v5.2 + 1))] [2, 1, 0] rfl ?_
        exact hc1 (0, v5.2 + 1)
      · refine x_aload_n 17 hE dX11_isSmall_16 rfl 0 rfl ?_
        refine x_gR 20 hE (xw_lk0 hE xkf_CrossingWords_But_9) rfl dX11_isSmall_17 rfl (fun v7 => ?_)
        refine x_iload_n 21 hE dX11_isSmall_20 rfl 2 rfl ?_
        refine x_ldI 22 hE dX11_isSmall_21 rfl (fun v8 => ?_)
        refine x_iconst 23 hE dX11_isSmall_22 rfl xc_i_m1 ?_
        refine x_icmp_ne 30 26 hE dX11_isSmall_23 (by decide) rfl ?_ ?_
        · refine x_iconst 27 hE dX11_isSmall_26 rfl xc_i_1 ?_
          refine x_goto 31 hE dX11_isSmall_27 (by decide) ?_
          refine x_istore_n 32 [(2, .int 1), (0, va_rf (some v1)), (3, .int v5.2)] hE dX11_isSmall_31 rfl rfl (Nat.le_of_ble_eq_true rfl) rfl ?_
          refine x_iinc 35 [(3, .int (v5.2 + 1)), (2, .int 1), (0, va_rf (some v1))] hE dX11_isSmall_32 rfl 2 rfl xc_i_1 (Nat.le_of_ble_eq_true rfl) rfl ?_
          refine x_goto 7 hE dX11_isSmall_35 (by decide) ?_
          refine x_sub [(0, va_rf (some v1)), (2, .int 1), (3, .int (v5.2 + 1))] [2, 1, 0] rfl ?_
          exact hc1 (1, v5.2 + 1)
        · refine x_iconst 31 hE dX11_isSmall_30 rfl xc_i_0 ?_
          refine x_istore_n 32 [(2, .int 0), (0, va_rf (some v1)), (3, .int v5.2)] hE dX11_isSmall_31 rfl rfl (Nat.le_of_ble_eq_true rfl) rfl ?_
          refine x_iinc 35 [(3, .int (v5.2 + 1)), (2, .int 0), (0, va_rf (some v1))] hE dX11_isSmall_32 rfl 2 rfl xc_i_1 (Nat.le_of_ble_eq_true rfl) rfl ?_
          refine x_goto 7 hE dX11_isSmall_35 (by decide) ?_
          refine x_sub [(0, va_rf (some v1)), (2, .int 0), (3, .int (v5.2 + 1))] [2, 1, 0] rfl ?_
          exact hc1 (0, v5.2 + 1)

set_option maxHeartbeats 4000000 in
theorem ct_X11_isOffer {l : Launch} {G : xw_G} {μ : xw_Mu} (v1 : Nat) (v2 : Option Nat) : xw_Ct l G (xw_hc G μ) xw_oi yX11_isOffer cX11_isOffer 2 (some (.boolean)) 3 [va_rf (some v1), va_rf v2] (pg_X11_isOffer v1 v2) := by
  refine xw_metL [(0, va_rf (some v1)), (1, va_rf v2)] (by decide) (Nat.le_trans (Nat.le_of_eq ((xw_l1 rfl).trans (congrArg (1 + ·) ((xw_l1 (x_rfc _)).trans (congrArg (1 + ·) xw_l0))))) (by decide)) ((xw_a1 rfl).trans (congrArg (List.cons _) ((xw_a1 (x_rfc _)).trans (congrArg (List.cons _) xw_a0)))) (fun E hE hl hG hm => ?_)
  subst hl; subst hG
  have hE : xw_ok E "CrossingWords$But" cX11_isOffer 2 (some (.boolean)) 3 := hE
  unfold pg_X11_isOffer
  refine x_aload_n 1 hE dX11_isOffer_0 rfl 0 rfl ?_
  refine x_aload_n 2 hE dX11_isOffer_1 rfl 1 rfl ?_
  refine x_calli 5 (xw_goV hE (c := 8) (by decide) (fun v4 hq => xw_rV hE (ct_X11_isSmall v4 v2) xd_X11_isSmall rfl q1016 q1018 qs18 q107 q1019 rfl ⟨Nat.le_of_ble_eq_true rfl, Nat.le_of_ble_eq_true rfl⟩ (congrArg va_rf hq) rfl (by decide) dX11_isOffer_2)) rfl (fun v3 => ?_)
  refine x_if_ne 12 8 hE dX11_isOffer_5 (by decide) rfl ?_ ?_
  · refine x_iconst 9 hE dX11_isOffer_8 rfl xc_i_1 ?_
    refine x_goto 13 hE dX11_isOffer_9 (by decide) ?_
    exact x_zretw hE (by decide) dX11_isOffer_13
  · refine x_iconst 13 hE dX11_isOffer_12 rfl xc_i_0 ?_
    exact x_zretw hE (by decide) dX11_isOffer_13

set_option maxHeartbeats 4000000 in
theorem ct_X11_isYes {l : Launch} {G : xw_G} {μ : xw_Mu} (v1 : Nat) (v2 : Option Nat) : xw_Ct l G (xw_hc G μ) xw_oi yX11_isYes cX11_isYes 2 (some (.boolean)) 3 [va_rf (some v1), va_rf v2] (pg_X11_isYes v1 v2) := by
  refine xw_metL [(0, va_rf (some v1)), (1, va_rf v2)] (by decide) (Nat.le_trans (Nat.le_of_eq ((xw_l1 rfl).trans (congrArg (1 + ·) ((xw_l1 (x_rfc _)).trans (congrArg (1 + ·) xw_l0))))) (by decide)) ((xw_a1 rfl).trans (congrArg (List.cons _) ((xw_a1 (x_rfc _)).trans (congrArg (List.cons _) xw_a0)))) (fun E hE hl hG hm => ?_)
  subst hl; subst hG
  have hE : xw_ok E "CrossingWords$But" cX11_isYes 2 (some (.boolean)) 3 := hE
  unfold pg_X11_isYes
  refine x_aload_n 1 hE dX11_isYes_0 rfl 0 rfl ?_
  refine x_aload_n 2 hE dX11_isYes_1 rfl 1 rfl ?_
  refine x_calli 5 (xw_goV hE (c := 8) (by decide) (fun v4 hq => xw_rV hE (ct_X11_isSmall v4 v2) xd_X11_isSmall rfl q1016 q1018 qs18 q107 q1019 rfl ⟨Nat.le_of_ble_eq_true rfl, Nat.le_of_ble_eq_true rfl⟩ (congrArg va_rf hq) rfl (by decide) dX11_isYes_2)) rfl (fun v3 => ?_)
  exact x_zretw hE rfl dX11_isYes_5

set_option maxHeartbeats 4000000 in
theorem ct_X20_isDeedYes {l : Launch} {G : xw_G} {μ : xw_Mu} (v1 : Nat) : xw_Ct l G (xw_hc G μ) xw_oi yX20_isDeedYes cX20_isDeedYes 1 (some (.boolean)) 1 [va_rf (some v1)] (pg_X20_isDeedYes v1) := by
  refine xw_metL [(0, va_rf (some v1))] (by decide) (Nat.le_trans (Nat.le_of_eq ((xw_l1 rfl).trans (congrArg (1 + ·) xw_l0))) (by decide)) ((xw_a1 rfl).trans (congrArg (List.cons _) xw_a0)) (fun E hE hl hG hm => ?_)
  subst hl; subst hG
  have hE : xw_ok E "CrossingWords$Rules" cX20_isDeedYes 1 (some (.boolean)) 1 := hE
  unfold pg_X20_isDeedYes
  refine x_aload_n 1 hE dX20_isDeedYes_0 rfl 0 rfl ?_
  refine x_gR 4 hE (xw_lk0 hE xkf_CrossingWords_Rules_9) rfl dX20_isDeedYes_1 rfl (fun v2 => ?_)
  refine x_bipush 6 hE dX20_isDeedYes_4 rfl xc_b_11 ?_
  refine x_ldI 7 hE dX20_isDeedYes_6 rfl (fun v3 => ?_)
  refine x_iconst 8 hE dX20_isDeedYes_7 rfl xc_i_1 ?_
  refine x_icmp_ne 15 11 hE dX20_isDeedYes_8 (by decide) rfl ?_ ?_
  · refine x_iconst 12 hE dX20_isDeedYes_11 rfl xc_i_1 ?_
    refine x_goto 16 hE dX20_isDeedYes_12 (by decide) ?_
    exact x_zretw hE (by decide) dX20_isDeedYes_16
  · refine x_iconst 16 hE dX20_isDeedYes_15 rfl xc_i_0 ?_
    exact x_zretw hE (by decide) dX20_isDeedYes_16

set_option maxHeartbeats 4000000 in
theorem ct_X14_isYes {l : Launch} {G : xw_G} {μ : xw_Mu} (v1 : Nat) (v2 : Option Nat) : xw_Ct l G (xw_hc G μ) xw_oi yX14_isYes cX14_isYes 2 (some (.boolean)) 2 [va_rf (some v1), va_rf v2] (pg_X14_isYes v1 v2) := by
  refine xw_metL [(0, va_rf (some v1)), (1, va_rf v2)] (by decide) (Nat.le_trans (Nat.le_of_eq ((xw_l1 rfl).trans (congrArg (1 + ·) ((xw_l1 (x_rfc _)).trans (congrArg (1 + ·) xw_l0))))) (by decide)) ((xw_a1 rfl).trans (congrArg (List.cons _) ((xw_a1 (x_rfc _)).trans (congrArg (List.cons _) xw_a0)))) (fun E hE hl hG hm => ?_)
  subst hl; subst hG
  have hE : xw_ok E "CrossingWords$Deed" cX14_isYes 2 (some (.boolean)) 2 := hE
  unfold pg_X14_isYes
  refine x_aload_n 1 hE dX14_isYes_0 rfl 1 rfl ?_
  refine x_calli 4 (xw_goV hE (c := 17) (by decide) (fun v4 hq => xw_rV hE (ct_X20_isDeedYes v4) xd_X20_isDeedYes rfl q1093 q1094 q1095 q116 q1096 rfl ⟨Nat.le_of_ble_eq_true rfl, Nat.le_of_ble_eq_true rfl⟩ (congrArg va_rf hq) rfl (by decide) dX14_isYes_1)) rfl (fun v3 => ?_)
  exact x_zretw hE rfl dX14_isYes_4

set_option maxHeartbeats 4000000 in
theorem ct_X8_isOffer {l : Launch} {G : xw_G} {μ : xw_Mu} (v1 : Nat) (v2 : Option Nat) : xw_Ct l G (xw_hc G μ) xw_oi yX8_isOffer cX8_isOffer 2 (some (.boolean)) 1 [va_rf (some v1), va_rf v2] (pg_X8_isOffer v1 v2) := by
  refine xw_metL [(0, va_rf (some v1)), (1, va_rf v2)] (by decide) (Nat.le_trans (Nat.le_of_eq ((xw_l1 rfl).trans (congrArg (1 + ·) ((xw_l1 (x_rfc _)).trans (congrArg (1 + ·) xw_l0))))) (by decide)) ((xw_a1 rfl).trans (congrArg (List.cons _) ((xw_a1 (x_rfc _)).trans (congrArg (List.cons _) xw_a0)))) (fun E hE hl hG hm => ?_)
  subst hl; subst hG
  have hE : xw_ok E "CrossingWords$Offer" cX8_isOffer 2 (some (.boolean)) 1 := hE
  unfold pg_X8_isOffer
  refine x_iconst 1 hE dX8_isOffer_0 rfl xc_i_1 ?_
  exact x_zretw hE (by decide) dX8_isOffer_1

set_option maxHeartbeats 4000000 in
theorem ct_X5_digit {l : Launch} {G : xw_G} {μ : xw_Mu} (v1 : Nat) (v2 : Int32) (v3 : Int32) : xw_Ct l G (xw_hc G μ) xw_oi yX5_digit cX5_digit 5 (some (.int)) 1 [va_rf (some v1), .int v2, .int v3] (pg_X5_digit v1 v2 v3) := by
  refine xw_metL [(0, va_rf (some v1)), (1, .int v2), (2, .int v3)] (by decide) (Nat.le_trans (Nat.le_of_eq ((xw_l1 rfl).trans (congrArg (1 + ·) ((xw_l1 rfl).trans (congrArg (1 + ·) ((xw_l1 rfl).trans (congrArg (1 + ·) xw_l0))))))) (by decide)) ((xw_a1 rfl).trans (congrArg (List.cons _) ((xw_a1 rfl).trans (congrArg (List.cons _) ((xw_a1 rfl).trans (congrArg (List.cons _) xw_a0)))))) (fun E hE hl hG hm => ?_)
  subst hl; subst hG
  have hE : xw_ok E "CrossingWords$Case" cX5_digit 5 (some (.int)) 1 := hE
  unfold pg_X5_digit
  refine x_iload_n 1 hE dX5_digit_0 rfl 1 rfl ?_
  refine x_istore_n 2 [(3, .int v2), (0, va_rf (some v1)), (1, .int v2), (2, .int v3)] hE dX5_digit_1 rfl rfl (Nat.le_of_ble_eq_true rfl) rfl ?_
  refine x_iconst 3 hE dX5_digit_2 rfl xc_i_0 ?_
  refine x_istore 5 [(4, .int 0), (3, .int v2), (0, va_rf (some v1)), (1, .int v2), (2, .int v3)] hE dX5_digit_3 rfl (Nat.le_of_ble_eq_true rfl) rfl ?_
  refine x_sub [(0, va_rf (some v1)), (2, .int v3), (3, .int v2), (4, .int 0)] [2, 4, 1, 0] rfl ?_
  refine x_sq 27 (fun (v5 : Int32) => [(0, va_rf (some v1)), (2, .int v3), (3, .int v5)]) (fun _ => []) (fun v5 => ?_) (fun J2 hJ2 => ?_)
  · refine x_iload_n 28 hE dX5_digit_27 rfl 2 rfl ?_
    refine x_aload_n 29 hE dX5_digit_28 rfl 0 rfl ?_
    refine x_gR 32 hE (xw_lk0 hE xkf_CrossingWords_Case_24) rfl dX5_digit_29 rfl (fun v6 => ?_)
    refine x_iload_n 33 hE dX5_digit_32 rfl 1 rfl ?_
    refine x_ldI 34 hE dX5_digit_33 rfl (fun v7 => ?_)
    refine x_rem 35 hE dX5_digit_34 rfl (fun v8 => ?_)
    exact x_iret hE dX5_digit_35
  · refine x_loop (fun (v4 : Int32 × Int32) => [(0, va_rf (some v1)), (2, .int v3), (3, .int v4.1), (4, .int v4.2)]) (fun JL1 hc1 hx1 v4 => ?_) _ _
    refine x_iload 7 hE dX5_digit_5 rfl 3 rfl ?_
    refine x_iload_n 8 hE dX5_digit_7 rfl 1 rfl ?_
    refine x_icmp_ge 27 11 hE dX5_digit_8 (by decide) rfl ?_ ?_
    · refine x_sub [(0, va_rf (some v1)), (2, .int v3), (3, .int v4.1)] [0, 1, 2] rfl ?_
      refine hx1 _ _ _ _ ?_
      exact hJ2 (v4.1)
    · refine x_iload_n 12 hE dX5_digit_11 rfl 2 rfl ?_
      refine x_aload_n 13 hE dX5_digit_12 rfl 0 rfl ?_
      refine x_gR 16 hE (xw_lk0 hE xkf_CrossingWords_Case_24) rfl dX5_digit_13 rfl (fun v9 => ?_)
      refine x_iload 18 hE dX5_digit_16 rfl 3 rfl ?_
      refine x_ldI 19 hE dX5_digit_18 rfl (fun v10 => ?_)
      refine x_div 20 hE dX5_digit_19 rfl (fun v11 => ?_)
      refine x_istore_n 21 [(3, .int v11), (0, va_rf (some v1)), (2, .int v3), (4, .int v4.2)] hE dX5_digit_20 rfl rfl (Nat.le_of_ble_eq_true rfl) rfl ?_
      refine x_iinc 24 [(4, .int (v4.2 + 1)), (3, .int v11), (0, va_rf (some v1)), (2, .int v3)] hE dX5_digit_21 rfl 3 rfl xc_i_1 (Nat.le_of_ble_eq_true rfl) rfl ?_
      refine x_goto 5 hE dX5_digit_24 (by decide) ?_
      refine x_sub [(0, va_rf (some v1)), (2, .int v3), (3, .int v11), (4, .int (v4.2 + 1))] [2, 3, 1, 0] rfl ?_
      exact hc1 (v11, v4.2 + 1)

set_option maxHeartbeats 4000000 in
theorem ct_X1_lays {l : Launch} {G : xw_G} {μ : xw_Mu} (v1 : Nat) (v2 : Option Nat) (v3 : Int32) : xw_Ct l G (xw_hc G μ) xw_ov yX1_lays cX1_lays 6 none 2 [va_rf (some v1), va_rf v2, .int v3] (pg_X1_lays v1 v2 v3) := by
  refine xw_metL [(0, va_rf (some v1)), (1, va_rf v2), (2, .int v3)] (by decide) (Nat.le_trans (Nat.le_of_eq ((xw_l1 rfl).trans (congrArg (1 + ·) ((xw_l1 (x_rfc _)).trans (congrArg (1 + ·) ((xw_l1 rfl).trans (congrArg (1 + ·) xw_l0))))))) (by decide)) ((xw_a1 rfl).trans (congrArg (List.cons _) ((xw_a1 (x_rfc _)).trans (congrArg (List.cons _) ((xw_a1 rfl).trans (congrArg (List.cons _) xw_a0)))))) (fun E hE hl hG hm => ?_)
  subst hl; subst hG
  have hE : xw_ok E "CrossingWords$Run" cX1_lays 6 none 2 := hE
  unfold pg_X1_lays
  refine x_aload_n 1 hE dX1_lays_0 rfl 0 rfl ?_
  refine x_aload_n 2 hE dX1_lays_1 rfl 1 rfl ?_
  refine x_pR 5 hE (xw_pkN (xw_lk0 hE xkf_CrossingWords_Run_31) rfl) ⟨rfl, rfl⟩ dX1_lays_2 rfl ?_
  refine x_iconst 6 hE dX1_lays_5 rfl xc_i_0 ?_
  refine x_istore_n 7 [(3, .int 0), (0, va_rf (some v1)), (1, va_rf v2), (2, .int v3)] hE dX1_lays_6 rfl rfl (Nat.le_of_ble_eq_true rfl) rfl ?_
  refine x_sub [(0, va_rf (some v1)), (1, va_rf v2), (2, .int v3), (3, .int 0)] [1, 2, 3, 0] rfl ?_
  refine x_sq 26 (fun (v5 : Unit) => [(0, va_rf (some v1)), (1, va_rf v2), (2, .int v3)]) (fun _ => []) (fun v5 => ?_) (fun J2 hJ2 => ?_)
  · refine x_iconst 27 hE dX1_lays_26 rfl xc_i_0 ?_
    refine x_istore_n 28 [(3, .int 0), (0, va_rf (some v1)), (1, va_rf v2), (2, .int v3)] hE dX1_lays_27 rfl rfl (Nat.le_of_ble_eq_true rfl) rfl ?_
    refine x_sub [(0, va_rf (some v1)), (1, va_rf v2), (2, .int v3), (3, .int 0)] [1, 2, 3, 0] rfl ?_
    refine x_sq 68 (fun (v7 : Unit) => [(0, va_rf (some v1)), (1, va_rf v2)]) (fun _ => []) (fun v7 => ?_) (fun J4 hJ4 => ?_)
    · refine x_iconst 69 hE dX1_lays_68 rfl xc_i_0 ?_
      refine x_istore_n 70 [(3, .int 0), (0, va_rf (some v1)), (1, va_rf v2)] hE dX1_lays_69 rfl rfl (Nat.le_of_ble_eq_true rfl) rfl ?_
      refine x_sub [(0, va_rf (some v1)), (1, va_rf v2), (3, .int 0)] [1, 2, 0] rfl ?_
      refine x_sq 249 (fun (v9 : Unit) => []) (fun _ => []) (fun v9 => ?_) (fun J6 hJ6 => ?_)
      · exact x_vret hE dX1_lays_249
      · refine x_loop (fun (v8 : Int32) => [(0, va_rf (some v1)), (1, va_rf v2), (3, .int v8)]) (fun JL5 hc5 hx5 v8 => ?_) _ _
        refine x_iload_n 71 hE dX1_lays_70 rfl 2 rfl ?_
        refine x_aload_n 72 hE dX1_lays_71 rfl 1 rfl ?_
        refine x_gI 75 hE (xw_lk0 hE xkf_CrossingWords_Run_51) rfl dX1_lays_72 rfl (fun v10 => ?_)
        refine x_icmp_ge 249 78 hE dX1_lays_75 (by decide) rfl ?_ ?_
        · refine x_sub [] [] rfl ?_
          refine hx5 _ _ _ _ ?_
          exact hJ6 ()
        · refine x_aload_n 79 hE dX1_lays_78 rfl 1 rfl ?_
          refine x_gR 82 hE (xw_lk0 hE xkf_CrossingWords_Run_54) rfl dX1_lays_79 rfl (fun v11 => ?_)
          refine x_iload_n 83 hE dX1_lays_82 rfl 2 rfl ?_
          refine x_ldR 84 hE dX1_lays_83 rfl (fun v12 => ?_)
          refine x_gR 87 hE (xw_lk0 hE xkf_CrossingWords_Run_58) rfl dX1_lays_84 rfl (fun v13 => ?_)
          refine x_astore 89 [(4, va_rf v13), (0, va_rf (some v1)), (1, va_rf v2), (3, .int v8)] hE dX1_lays_87 rfl (Nat.le_of_ble_eq_true rfl) rfl ?_
          refine x_aload 91 hE dX1_lays_89 rfl 0 rfl ?_
          refine x_gI 94 hE (xw_lk0 hE xkf_CrossingWords_Run_64) rfl dX1_lays_91 rfl (fun v14 => ?_)
          refine x_sq 116 (fun (v15 : Int32) => [(0, va_rf (some v1)), (1, va_rf v2), (3, .int v8), (4, va_rf v13)]) (fun (v15 : Int32) => [.int v15]) (fun v15 => ?_) (fun J7 hJ7 => ?_)
          · refine x_istore 118 [(5, .int v15), (0, va_rf (some v1)), (1, va_rf v2), (3, .int v8), (4, va_rf v13)] hE dX1_lays_116 rfl (Nat.le_of_ble_eq_true rfl) (congrArg (List.cons _) (xw_f1 (by decide) rfl (xw_f1 (by decide) (x_rfc _) (xw_f1 (by decide) rfl (xw_f1 (by decide) (x_rfc _) xw_f0))))) ?_
            refine x_aload_n 119 hE dX1_lays_118 rfl 1 rfl ?_
            refine x_gR 122 hE (xw_lk0 hE xkf_CrossingWords_Run_15) rfl dX1_lays_119 rfl (fun v16 => ?_)
            refine x_iconst 123 hE dX1_lays_122 rfl xc_i_3 ?_
            refine x_iload_n 124 hE dX1_lays_123 rfl 3 rfl ?_
            refine x_imul 125 hE dX1_lays_124 rfl ?_
            refine x_aload 127 hE dX1_lays_125 rfl 4 rfl ?_
            refine x_gR 130 hE (xw_lk0 hE xkf_CrossingWords_Run_70) rfl dX1_lays_127 rfl (fun v17 => ?_)
            refine x_gI 133 hE (xw_lk0 hE xkf_CrossingWords_Run_74) rfl dX1_lays_130 rfl (fun v18 => ?_)
            refine x_aload_n 134 hE dX1_lays_133 rfl 1 rfl ?_
            refine x_gR 137 hE (xw_lk0 hE xkf_CrossingWords_Run_28) rfl dX1_lays_134 rfl (fun v19 => ?_)
            refine x_iconst 138 hE dX1_lays_137 rfl xc_i_4 ?_
            refine x_iload_n 139 hE dX1_lays_138 rfl 3 rfl ?_
            refine x_imul 140 hE dX1_lays_139 rfl ?_
            refine x_ldI 141 hE dX1_lays_140 rfl (fun v20 => ?_)
            refine x_iadd 142 hE dX1_lays_141 rfl ?_
            refine x_stI 143 hE dX1_lays_142 rfl ?_
            refine x_aload_n 144 hE dX1_lays_143 rfl 1 rfl ?_
            refine x_gR 147 hE (xw_lk0 hE xkf_CrossingWords_Run_15) rfl dX1_lays_144 rfl (fun v21 => ?_)
            refine x_iconst 148 hE dX1_lays_147 rfl xc_i_3 ?_
            refine x_iload_n 149 hE dX1_lays_148 rfl 3 rfl ?_
            refine x_imul 150 hE dX1_lays_149 rfl ?_
            refine x_iconst 151 hE dX1_lays_150 rfl xc_i_1 ?_
            refine x_iadd 152 hE dX1_lays_151 rfl ?_
            refine x_iload 154 hE dX1_lays_152 rfl 0 rfl ?_
            refine x_sq 191 (fun (v22 : Int32) => [(0, va_rf (some v1)), (1, va_rf v2), (3, .int v8), (4, va_rf v13), (5, .int v15)]) (fun (v22 : Int32) => [.int v22, .int ((3 * v8) + 1), va_rf v21]) (fun v22 => ?_) (fun J8 hJ8 => ?_)
            · refine x_stI 192 hE dX1_lays_191 rfl ?_
              refine x_aload_n 193 hE dX1_lays_192 rfl 0 rfl ?_
              refine x_gR 196 hE (xw_lk0 hE xkf_CrossingWords_Run_15) rfl dX1_lays_193 rfl (fun v23 => ?_)
              refine x_iconst 197 hE dX1_lays_196 rfl xc_i_3 ?_
              refine x_iload_n 198 hE dX1_lays_197 rfl 2 rfl ?_
              refine x_imul 199 hE dX1_lays_198 rfl ?_
              refine x_iconst 200 hE dX1_lays_199 rfl xc_i_2 ?_
              refine x_iadd 201 hE dX1_lays_200 rfl ?_
              refine x_iload 203 hE dX1_lays_201 rfl 4 rfl ?_
              refine x_sq 242 (fun (v24 : Int32) => [(0, va_rf (some v1)), (1, va_rf v2), (3, .int v8)]) (fun (v24 : Int32) => [.int v24, .int ((3 * v8) + 2), va_rf v23]) (fun v24 => ?_) (fun J9 hJ9 => ?_)
              · refine x_stI 243 hE dX1_lays_242 rfl ?_
                refine x_iinc 246 [(3, .int (v8 + 1)), (0, va_rf (some v1)), (1, va_rf v2)] hE dX1_lays_243 rfl 2 rfl xc_i_1 (Nat.le_of_ble_eq_true rfl) rfl ?_
                refine x_goto 70 hE dX1_lays_246 (by decide) ?_
                refine x_sub [(0, va_rf (some v1)), (1, va_rf v2), (3, .int (v8 + 1))] [1, 2, 0] rfl ?_
                exact hc5 (v8 + 1)
              · refine x_if_eq 212 206 hE dX1_lays_203 (by decide) rfl ?_ ?_
                · refine x_aload_n 213 hE dX1_lays_212 rfl 0 rfl ?_
                  refine x_gR 216 hE (xw_lk0 hE xkf_CrossingWords_Run_15) rfl dX1_lays_213 rfl (fun v25 => ?_)
                  refine x_iconst 217 hE dX1_lays_216 rfl xc_i_3 ?_
                  refine x_iload_n 218 hE dX1_lays_217 rfl 2 rfl ?_
                  refine x_imul 219 hE dX1_lays_218 rfl ?_
                  refine x_iconst 220 hE dX1_lays_219 rfl xc_i_1 ?_
                  refine x_iadd 221 hE dX1_lays_220 rfl ?_
                  refine x_ldI 222 hE dX1_lays_221 rfl (fun v26 => ?_)
                  refine x_aload 224 hE dX1_lays_222 rfl 3 rfl ?_
                  refine x_gR 227 hE (xw_lk0 hE xkf_CrossingWords_Run_82) rfl dX1_lays_224 rfl (fun v27 => ?_)
                  refine x_gI 230 hE (xw_lk0 hE xkf_CrossingWords_Run_74) rfl dX1_lays_227 rfl (fun v28 => ?_)
                  refine x_iadd 231 hE dX1_lays_230 rfl ?_
                  refine x_aload_n 232 hE dX1_lays_231 rfl 0 rfl ?_
                  refine x_gR 235 hE (xw_lk0 hE xkf_CrossingWords_Run_28) rfl dX1_lays_232 rfl (fun v29 => ?_)
                  refine x_iconst 236 hE dX1_lays_235 rfl xc_i_4 ?_
                  refine x_iload_n 237 hE dX1_lays_236 rfl 2 rfl ?_
                  refine x_imul 238 hE dX1_lays_237 rfl ?_
                  refine x_iconst 239 hE dX1_lays_238 rfl xc_i_2 ?_
                  refine x_iadd 240 hE dX1_lays_239 rfl ?_
                  refine x_ldI 241 hE dX1_lays_240 rfl (fun v30 => ?_)
                  refine x_iadd 242 hE dX1_lays_241 rfl ?_
                  refine x_sub [(0, va_rf (some v1)), (1, va_rf v2), (3, .int v8)] [0, 1, 2] rfl ?_
                  exact hJ9 ((v26 + v28) + v30)
                · refine x_sipush 209 hE dX1_lays_206 rfl xc_s_9999 ?_
                  refine x_goto 242 hE dX1_lays_209 (by decide) ?_
                  refine x_sub [(0, va_rf (some v1)), (1, va_rf v2), (3, .int v8)] [0, 1, 2] rfl ?_
                  exact hJ9 9999
            · refine x_if_eq 163 157 hE dX1_lays_154 (by decide) rfl ?_ ?_
              · refine x_aload_n 164 hE dX1_lays_163 rfl 1 rfl ?_
                refine x_gR 167 hE (xw_lk0 hE xkf_CrossingWords_Run_15) rfl dX1_lays_164 rfl (fun v31 => ?_)
                refine x_iconst 168 hE dX1_lays_167 rfl xc_i_3 ?_
                refine x_iload_n 169 hE dX1_lays_168 rfl 3 rfl ?_
                refine x_imul 170 hE dX1_lays_169 rfl ?_
                refine x_ldI 171 hE dX1_lays_170 rfl (fun v32 => ?_)
                refine x_aload 173 hE dX1_lays_171 rfl 4 rfl ?_
                refine x_gR 176 hE (xw_lk0 hE xkf_CrossingWords_Run_79) rfl dX1_lays_173 rfl (fun v33 => ?_)
                refine x_gI 179 hE (xw_lk0 hE xkf_CrossingWords_Run_74) rfl dX1_lays_176 rfl (fun v34 => ?_)
                refine x_iadd 180 hE dX1_lays_179 rfl ?_
                refine x_aload_n 181 hE dX1_lays_180 rfl 1 rfl ?_
                refine x_gR 184 hE (xw_lk0 hE xkf_CrossingWords_Run_28) rfl dX1_lays_181 rfl (fun v35 => ?_)
                refine x_iconst 185 hE dX1_lays_184 rfl xc_i_4 ?_
                refine x_iload_n 186 hE dX1_lays_185 rfl 3 rfl ?_
                refine x_imul 187 hE dX1_lays_186 rfl ?_
                refine x_iconst 188 hE dX1_lays_187 rfl xc_i_1 ?_
                refine x_iadd 189 hE dX1_lays_188 rfl ?_
                refine x_ldI 190 hE dX1_lays_189 rfl (fun v36 => ?_)
                refine x_iadd 191 hE dX1_lays_190 rfl ?_
                refine x_sub [(0, va_rf (some v1)), (1, va_rf v2), (3, .int v8), (4, va_rf v13), (5, .int v15)] [1, 2, 3, 4, 0] rfl ?_
                exact hJ8 ((v32 + v34) + v36)
              · refine x_sipush 160 hE dX1_lays_157 rfl xc_s_9999 ?_
                refine x_goto 191 hE dX1_lays_160 (by decide) ?_
                refine x_sub [(0, va_rf (some v1)), (1, va_rf v2), (3, .int v8), (4, va_rf v13), (5, .int v15)] [1, 2, 3, 4, 0] rfl ?_
                exact hJ8 9999
          · refine x_if_ne 111 97 hE dX1_lays_94 (by decide) rfl ?_ ?_
            · refine x_aload_n 98 hE dX1_lays_97 rfl 1 rfl ?_
              refine x_gR 101 hE (xw_lk0 hE xkf_CrossingWords_Run_28) rfl dX1_lays_98 rfl (fun v37 => ?_)
              refine x_iconst 102 hE dX1_lays_101 rfl xc_i_4 ?_
              refine x_iload_n 103 hE dX1_lays_102 rfl 3 rfl ?_
              refine x_imul 104 hE dX1_lays_103 rfl ?_
              refine x_iconst 105 hE dX1_lays_104 rfl xc_i_3 ?_
              refine x_iadd 106 hE dX1_lays_105 rfl ?_
              refine x_ldI 107 hE dX1_lays_106 rfl (fun v38 => ?_)
              refine x_iconst 108 hE dX1_lays_107 rfl xc_i_1 ?_
              refine x_icmp_ne 115 111 hE dX1_lays_108 (by decide) rfl ?_ ?_
              · refine x_iconst 112 hE dX1_lays_111 rfl xc_i_1 ?_
                refine x_goto 116 hE dX1_lays_112 (by decide) ?_
                refine x_sub [(0, va_rf (some v1)), (1, va_rf v2), (3, .int v8), (4, va_rf v13)] [1, 2, 3, 0] rfl ?_
                exact hJ7 1
              · refine x_iconst 116 hE dX1_lays_115 rfl xc_i_0 ?_
                refine x_sub [(0, va_rf (some v1)), (1, va_rf v2), (3, .int v8), (4, va_rf v13)] [1, 2, 3, 0] rfl ?_
                exact hJ7 0
            · refine x_iconst 112 hE dX1_lays_111 rfl xc_i_1 ?_
              refine x_goto 116 hE dX1_lays_112 (by decide) ?_
              refine x_sub [(0, va_rf (some v1)), (1, va_rf v2), (3, .int v8), (4, va_rf v13)] [1, 2, 3, 0] rfl ?_
              exact hJ7 1
    · refine x_loop (fun (v6 : Int32) => [(0, va_rf (some v1)), (1, va_rf v2), (2, .int v3), (3, .int v6)]) (fun JL3 hc3 hx3 v6 => ?_) _ _
      refine x_iload_n 29 hE dX1_lays_28 rfl 3 rfl ?_
      refine x_aload_n 30 hE dX1_lays_29 rfl 1 rfl ?_
      refine x_gI 33 hE (xw_lk0 hE xkf_CrossingWords_Run_35) rfl dX1_lays_30 rfl (fun v39 => ?_)
      refine x_icmp_ge 68 36 hE dX1_lays_33 (by decide) rfl ?_ ?_
      · refine x_sub [(0, va_rf (some v1)), (1, va_rf v2)] [0, 1] rfl ?_
        refine hx3 _ _ _ _ ?_
        exact hJ4 ()
      · refine x_aload_n 37 hE dX1_lays_36 rfl 0 rfl ?_
        refine x_gR 40 hE (xw_lk0 hE xkf_CrossingWords_Run_28) rfl dX1_lays_37 rfl (fun v40 => ?_)
        refine x_iconst 41 hE dX1_lays_40 rfl xc_i_4 ?_
        refine x_aload_n 42 hE dX1_lays_41 rfl 1 rfl ?_
        refine x_gR 45 hE (xw_lkN hE xkn_CrossingWords_Run_41) rfl dX1_lays_42 rfl (fun v41 => ?_)
        refine x_iload_n 46 hE dX1_lays_45 rfl 3 rfl ?_
        refine x_ldI 47 hE dX1_lays_46 rfl (fun v42 => ?_)
        refine x_imul 48 hE dX1_lays_47 rfl ?_
        refine x_aload_n 49 hE dX1_lays_48 rfl 1 rfl ?_
        refine x_gR 52 hE (xw_lkN hE xkn_CrossingWords_Run_44) rfl dX1_lays_49 rfl (fun v43 => ?_)
        refine x_iload_n 53 hE dX1_lays_52 rfl 3 rfl ?_
        refine x_ldI 54 hE dX1_lays_53 rfl (fun v44 => ?_)
        refine x_iadd 55 hE dX1_lays_54 rfl ?_
        refine x_aload_n 56 hE dX1_lays_55 rfl 1 rfl ?_
        refine x_iload_n 57 hE dX1_lays_56 rfl 2 rfl ?_
        refine x_iload_n 58 hE dX1_lays_57 rfl 3 rfl ?_
        refine x_calli 61 (xw_goV hE (c := 4) (by decide) (fun v46 hq => xw_rV hE (ct_X5_digit v46 v3 v6) xd_X5_digit rfl q949 q950 q951 q100 q952 rfl ⟨Nat.le_of_ble_eq_true rfl, Nat.le_of_ble_eq_true rfl⟩ (congrArg va_rf hq) rfl (Nat.le_trans (xw_sm1 rfl (xw_sm1 (x_rfc _) xw_sm0)) (by decide)) dX1_lays_58)) rfl (fun v45 => ?_)
        refine x_stI 62 hE dX1_lays_61 rfl ?_
        refine x_iinc 65 [(3, .int (v6 + 1)), (0, va_rf (some v1)), (1, va_rf v2), (2, .int v3)] hE dX1_lays_62 rfl 3 rfl xc_i_1 (Nat.le_of_ble_eq_true rfl) rfl ?_
        refine x_goto 28 hE dX1_lays_65 (by decide) ?_
        refine x_sub [(0, va_rf (some v1)), (1, va_rf v2), (2, .int v3), (3, .int (v6 + 1))] [1, 2, 3, 0] rfl ?_
        exact hc3 (v6 + 1)
  · refine x_loop (fun (v4 : Int32) => [(0, va_rf (some v1)), (1, va_rf v2), (2, .int v3), (3, .int v4)]) (fun JL1 hc1 hx1 v4 => ?_) _ _
    refine x_iload_n 8 hE dX1_lays_7 rfl 3 rfl ?_
    refine x_bipush 10 hE dX1_lays_8 rfl xc_b_48 ?_
    refine x_icmp_ge 26 13 hE dX1_lays_10 (by decide) rfl ?_ ?_
    · refine x_sub [(0, va_rf (some v1)), (1, va_rf v2), (2, .int v3)] [0, 1, 2] rfl ?_
      refine hx1 _ _ _ _ ?_
      exact hJ2 ()
    · refine x_aload_n 14 hE dX1_lays_13 rfl 0 rfl ?_
      refine x_gR 17 hE (xw_lk0 hE xkf_CrossingWords_Run_28) rfl dX1_lays_14 rfl (fun v47 => ?_)
      refine x_iload_n 18 hE dX1_lays_17 rfl 3 rfl ?_
      refine x_iconst 19 hE dX1_lays_18 rfl xc_i_0 ?_
      refine x_stI 20 hE dX1_lays_19 rfl ?_
      refine x_iinc 23 [(3, .int (v4 + 1)), (0, va_rf (some v1)), (1, va_rf v2), (2, .int v3)] hE dX1_lays_20 rfl 3 rfl xc_i_1 (Nat.le_of_ble_eq_true rfl) rfl ?_
      refine x_goto 7 hE dX1_lays_23 (by decide) ?_
      refine x_sub [(0, va_rf (some v1)), (1, va_rf v2), (2, .int v3), (3, .int (v4 + 1))] [1, 2, 3, 0] rfl ?_
      exact hc1 (v4 + 1)

set_option maxHeartbeats 4000000 in
theorem ct_X7_kind {l : Launch} {G : xw_G} {μ : xw_Mu} (v1 : Nat) : xw_Ct l G (xw_hc G μ) xw_oi yX7_kind cX7_kind 1 (some (.int)) 1 [va_rf (some v1)] (pg_X7_kind v1) := by
  refine xw_metL [(0, va_rf (some v1))] (by decide) (Nat.le_trans (Nat.le_of_eq ((xw_l1 rfl).trans (congrArg (1 + ·) xw_l0))) (by decide)) ((xw_a1 rfl).trans (congrArg (List.cons _) xw_a0)) (fun E hE hl hG hm => ?_)
  subst hl; subst hG
  have hE : xw_ok E "CrossingWords$Ask" cX7_kind 1 (some (.int)) 1 := hE
  unfold pg_X7_kind
  refine x_iconst 1 hE dX7_kind_0 rfl xc_i_1 ?_
  exact x_iret hE dX7_kind_1

set_option maxHeartbeats 4000000 in
theorem ct_X13_kind {l : Launch} {G : xw_G} {μ : xw_Mu} (v1 : Nat) : xw_Ct l G (xw_hc G μ) xw_oi yX13_kind cX13_kind 1 (some (.int)) 1 [va_rf (some v1)] (pg_X13_kind v1) := by
  refine xw_metL [(0, va_rf (some v1))] (by decide) (Nat.le_trans (Nat.le_of_eq ((xw_l1 rfl).trans (congrArg (1 + ·) xw_l0))) (by decide)) ((xw_a1 rfl).trans (congrArg (List.cons _) xw_a0)) (fun E hE hl hG hm => ?_)
  subst hl; subst hG
  have hE : xw_ok E "CrossingWords$Back" cX13_kind 1 (some (.int)) 1 := hE
  unfold pg_X13_kind
  refine x_iconst 1 hE dX13_kind_0 rfl xc_i_5 ?_
  exact x_iret hE dX13_kind_1

set_option maxHeartbeats 4000000 in
theorem ct_X11_kind {l : Launch} {G : xw_G} {μ : xw_Mu} (v1 : Nat) : xw_Ct l G (xw_hc G μ) xw_oi yX11_kind cX11_kind 1 (some (.int)) 1 [va_rf (some v1)] (pg_X11_kind v1) := by
  refine xw_metL [(0, va_rf (some v1))] (by decide) (Nat.le_trans (Nat.le_of_eq ((xw_l1 rfl).trans (congrArg (1 + ·) xw_l0))) (by decide)) ((xw_a1 rfl).trans (congrArg (List.cons _) xw_a0)) (fun E hE hl hG hm => ?_)
  subst hl; subst hG
  have hE : xw_ok E "CrossingWords$But" cX11_kind 1 (some (.int)) 1 := hE
  unfold pg_X11_kind
  refine x_iconst 1 hE dX11_kind_0 rfl xc_i_3 ?_
  exact x_iret hE dX11_kind_1

set_option maxHeartbeats 4000000 in
theorem ct_X14_kind {l : Launch} {G : xw_G} {μ : xw_Mu} (v1 : Nat) : xw_Ct l G (xw_hc G μ) xw_oi yX14_kind cX14_kind 1 (some (.int)) 1 [va_rf (some v1)] (pg_X14_kind v1) := by
  refine xw_metL [(0, va_rf (some v1))] (by decide) (Nat.le_trans (Nat.le_of_eq ((xw_l1 rfl).trans (congrArg (1 + ·) xw_l0))) (by decide)) ((xw_a1 rfl).trans (congrArg (List.cons _) xw_a0)) (fun E hE hl hG hm => ?_)
  subst hl; subst hG
  have hE : xw_ok E "CrossingWords$Deed" cX14_kind 1 (some (.int)) 1 := hE
  unfold pg_X14_kind
  refine x_bipush 2 hE dX14_kind_0 rfl xc_b_6 ?_
  exact x_iret hE dX14_kind_2

set_option maxHeartbeats 4000000 in
theorem ct_X12_kind {l : Launch} {G : xw_G} {μ : xw_Mu} (v1 : Nat) : xw_Ct l G (xw_hc G μ) xw_oi yX12_kind cX12_kind 1 (some (.int)) 1 [va_rf (some v1)] (pg_X12_kind v1) := by
  refine xw_metL [(0, va_rf (some v1))] (by decide) (Nat.le_trans (Nat.le_of_eq ((xw_l1 rfl).trans (congrArg (1 + ·) xw_l0))) (by decide)) ((xw_a1 rfl).trans (congrArg (List.cons _) xw_a0)) (fun E hE hl hG hm => ?_)
  subst hl; subst hG
  have hE : xw_ok E "CrossingWords$No" cX12_kind 1 (some (.int)) 1 := hE
  unfold pg_X12_kind
  refine x_iconst 1 hE dX12_kind_0 rfl xc_i_4 ?_
  exact x_iret hE dX12_kind_1

set_option maxHeartbeats 4000000 in
theorem ct_X8_kind {l : Launch} {G : xw_G} {μ : xw_Mu} (v1 : Nat) : xw_Ct l G (xw_hc G μ) xw_oi yX8_kind cX8_kind 1 (some (.int)) 1 [va_rf (some v1)] (pg_X8_kind v1) := by
  refine xw_metL [(0, va_rf (some v1))] (by decide) (Nat.le_trans (Nat.le_of_eq ((xw_l1 rfl).trans (congrArg (1 + ·) xw_l0))) (by decide)) ((xw_a1 rfl).trans (congrArg (List.cons _) xw_a0)) (fun E hE hl hG hm => ?_)
  subst hl; subst hG
  have hE : xw_ok E "CrossingWords$Offer" cX8_kind 1 (some (.int)) 1 := hE
  unfold pg_X8_kind
  refine x_iconst 1 hE dX8_kind_0 rfl xc_i_0 ?_
  exact x_iret hE dX8_kind_1

set_option maxHeartbeats 4000000 in
theorem ct_X20_at {l : Launch} {G : xw_G} {μ : xw_Mu} (v1 : Nat) (v2 : Int32) : xw_Ct l G (xw_hc G μ) xw_oi yX20_at cX20_at 2 (some (.int)) 1 [va_rf (some v1), .int v2] (pg_X20_at v1 v2) := by
  refine xw_metL [(0, va_rf (some v1)), (1, .int v2)] (by decide) (Nat.le_trans (Nat.le_of_eq ((xw_l1 rfl).trans (congrArg (1 + ·) ((xw_l1 rfl).trans (congrArg (1 + ·) xw_l0))))) (by decide)) ((xw_a1 rfl).trans (congrArg (List.cons _) ((xw_a1 rfl).trans (congrArg (List.cons _) xw_a0)))) (fun E hE hl hG hm => ?_)
  subst hl; subst hG
  have hE : xw_ok E "CrossingWords$Rules" cX20_at 2 (some (.int)) 1 := hE
  unfold pg_X20_at
  refine x_aload_n 1 hE dX20_at_0 rfl 0 rfl ?_
  refine x_gR 4 hE (xw_lk0 hE xkf_CrossingWords_Rules_9) rfl dX20_at_1 rfl (fun v3 => ?_)
  refine x_iload_n 5 hE dX20_at_4 rfl 1 rfl ?_
  refine x_ldI 6 hE dX20_at_5 rfl (fun v4 => ?_)
  exact x_iret hE dX20_at_6

set_option maxHeartbeats 4000000 in
theorem ct_X15_kind {l : Launch} {G : xw_G} {μ : xw_Mu} (v1 : Nat) : xw_Ct l G (xw_hc G μ) xw_oi yX15_kind cX15_kind 1 (some (.int)) 1 [va_rf (some v1)] (pg_X15_kind v1) := by
  refine xw_metL [(0, va_rf (some v1))] (by decide) (Nat.le_trans (Nat.le_of_eq ((xw_l1 rfl).trans (congrArg (1 + ·) xw_l0))) (by decide)) ((xw_a1 rfl).trans (congrArg (List.cons _) xw_a0)) (fun E hE hl hG hm => ?_)
  subst hl; subst hG
  have hE : xw_ok E "CrossingWords$Send" cX15_kind 1 (some (.int)) 1 := hE
  unfold pg_X15_kind
  refine x_bipush 2 hE dX15_kind_0 rfl xc_b_7 ?_
  exact x_iret hE dX15_kind_2

set_option maxHeartbeats 4000000 in
theorem ct_X10_kind {l : Launch} {G : xw_G} {μ : xw_Mu} (v1 : Nat) : xw_Ct l G (xw_hc G μ) xw_oi yX10_kind cX10_kind 1 (some (.int)) 1 [va_rf (some v1)] (pg_X10_kind v1) := by
  refine xw_metL [(0, va_rf (some v1))] (by decide) (Nat.le_trans (Nat.le_of_eq ((xw_l1 rfl).trans (congrArg (1 + ·) xw_l0))) (by decide)) ((xw_a1 rfl).trans (congrArg (List.cons _) xw_a0)) (fun E hE hl hG hm => ?_)
  subst hl; subst hG
  have hE : xw_ok E "CrossingWords$Yes" cX10_kind 1 (some (.int)) 1 := hE
  unfold pg_X10_kind
  refine x_iconst 1 hE dX10_kind_0 rfl xc_i_2 ?_
  exact x_iret hE dX10_kind_1

set_option maxHeartbeats 4000000 in
theorem ct_X20_yesWhen {l : Launch} {G : xw_G} {μ : xw_Mu} (v1 : Nat) (v2 : Option Nat) : xw_Ct l G (xw_hc G μ) xw_oi yX20_yesWhen cX20_yesWhen 2 (some (.int)) 2 [va_rf (some v1), va_rf v2] (pg_X20_yesWhen v1 v2) := by
  refine xw_metL [(0, va_rf (some v1)), (1, va_rf v2)] (by decide) (Nat.le_trans (Nat.le_of_eq ((xw_l1 rfl).trans (congrArg (1 + ·) ((xw_l1 (x_rfc _)).trans (congrArg (1 + ·) xw_l0))))) (by decide)) ((xw_a1 rfl).trans (congrArg (List.cons _) ((xw_a1 (x_rfc _)).trans (congrArg (List.cons _) xw_a0)))) (fun E hE hl hG hm => ?_)
  subst hl; subst hG
  have hE : xw_ok E "CrossingWords$Rules" cX20_yesWhen 2 (some (.int)) 2 := hE
  unfold pg_X20_yesWhen
  refine x_aload_n 1 hE dX20_yesWhen_0 rfl 1 rfl ?_
  refine x_calli 4 (xw_goD hE (fun v4 hq => (List.forall_mem_cons.mpr ⟨⟨Nat.le_of_ble_eq_true rfl, xw_rU (owner := "CrossingWords$Saying") (x := ⟨"CrossingWords$Saying", "kind", "()I"⟩) hE (ct_X7_kind v4) xD_CrossingWords_Saying_kind___I (Or.inr xkd_CrossingWords_Sayingkind_) q1113 q535 q536 q537 q103 q538 rfl ⟨Nat.le_of_ble_eq_true rfl, Nat.le_of_ble_eq_true rfl⟩ (congrArg va_rf hq) rfl (by decide) dX20_yesWhen_1⟩, (List.forall_mem_cons.mpr ⟨⟨Nat.le_of_ble_eq_true rfl, xw_rU (owner := "CrossingWords$Saying") (x := ⟨"CrossingWords$Saying", "kind", "()I"⟩) hE (ct_X8_kind v4) xD_CrossingWords_Saying_kind___I (Or.inr xkd_CrossingWords_Sayingkind_) q1113 q535 q551 q552 q104 q553 rfl ⟨Nat.le_of_ble_eq_true rfl, Nat.le_of_ble_eq_true rfl⟩ (congrArg va_rf hq) rfl (by decide) dX20_yesWhen_1⟩, (List.forall_mem_cons.mpr ⟨⟨Nat.le_of_ble_eq_true rfl, xw_rU (owner := "CrossingWords$Saying") (x := ⟨"CrossingWords$Saying", "kind", "()I"⟩) hE (ct_X10_kind v4) xD_CrossingWords_Saying_kind___I (Or.inr xkd_CrossingWords_Sayingkind_) q1113 q535 q557 q558 q106 q559 rfl ⟨Nat.le_of_ble_eq_true rfl, Nat.le_of_ble_eq_true rfl⟩ (congrArg va_rf hq) rfl (by decide) dX20_yesWhen_1⟩, (List.forall_mem_cons.mpr ⟨⟨Nat.le_of_ble_eq_true rfl, xw_rU (owner := "CrossingWords$Saying") (x := ⟨"CrossingWords$Saying", "kind", "()I"⟩) hE (ct_X11_kind v4) xD_CrossingWords_Saying_kind___I (Or.inr xkd_CrossingWords_Sayingkind_) q1113 q535 q542 q543 q107 q544 rfl ⟨Nat.le_of_ble_eq_true rfl, Nat.le_of_ble_eq_true rfl⟩ (congrArg va_rf hq) rfl (by decide) dX20_yesWhen_1⟩, (List.forall_mem_cons.mpr ⟨⟨Nat.le_of_ble_eq_true rfl, xw_rU (owner := "CrossingWords$Saying") (x := ⟨"CrossingWords$Saying", "kind", "()I"⟩) hE (ct_X12_kind v4) xD_CrossingWords_Saying_kind___I (Or.inr xkd_CrossingWords_Sayingkind_) q1113 q535 q548 q549 q108 q550 rfl ⟨Nat.le_of_ble_eq_true rfl, Nat.le_of_ble_eq_true rfl⟩ (congrArg va_rf hq) rfl (by decide) dX20_yesWhen_1⟩, (List.forall_mem_cons.mpr ⟨⟨Nat.le_of_ble_eq_true rfl, xw_rU (owner := "CrossingWords$Saying") (x := ⟨"CrossingWords$Saying", "kind", "()I"⟩) hE (ct_X13_kind v4) xD_CrossingWords_Saying_kind___I (Or.inr xkd_CrossingWords_Sayingkind_) q1113 q535 q539 q540 q109 q541 rfl ⟨Nat.le_of_ble_eq_true rfl, Nat.le_of_ble_eq_true rfl⟩ (congrArg va_rf hq) rfl (by decide) dX20_yesWhen_1⟩, (List.forall_mem_cons.mpr ⟨⟨Nat.le_of_ble_eq_true rfl, xw_rU (owner := "CrossingWords$Saying") (x := ⟨"CrossingWords$Saying", "kind", "()I"⟩) hE (ct_X14_kind v4) xD_CrossingWords_Saying_kind___I (Or.inr xkd_CrossingWords_Sayingkind_) q1113 q535 q545 q546 q110 q547 rfl ⟨Nat.le_of_ble_eq_true rfl, Nat.le_of_ble_eq_true rfl⟩ (congrArg va_rf hq) rfl (by decide) dX20_yesWhen_1⟩, (List.forall_mem_cons.mpr ⟨⟨Nat.le_of_ble_eq_true rfl, xw_rU (owner := "CrossingWords$Saying") (x := ⟨"CrossingWords$Saying", "kind", "()I"⟩) hE (ct_X15_kind v4) xD_CrossingWords_Saying_kind___I (Or.inr xkd_CrossingWords_Sayingkind_) q1113 q535 q554 q555 q111 q556 rfl ⟨Nat.le_of_ble_eq_true rfl, Nat.le_of_ble_eq_true rfl⟩ (congrArg va_rf hq) rfl (by decide) dX20_yesWhen_1⟩, (fun _ h => absurd h List.not_mem_nil)⟩)⟩)⟩)⟩)⟩)⟩)⟩)⟩))) rfl (fun v3 => ?_)
  refine x_bipush 6 hE dX20_yesWhen_4 rfl xc_b_6 ?_
  refine x_icmp_ne 13 9 hE dX20_yesWhen_6 (by decide) rfl ?_ ?_
  · refine x_iconst 10 hE dX20_yesWhen_9 rfl xc_i_0 ?_
    refine x_goto 31 hE dX20_yesWhen_10 (by decide) ?_
    exact x_iret hE dX20_yesWhen_31
  · refine x_aload_n 14 hE dX20_yesWhen_13 rfl 0 rfl ?_
    refine x_gR 17 hE (xw_lk0 hE xkf_CrossingWords_Rules_9) rfl dX20_yesWhen_14 rfl (fun v5 => ?_)
    refine x_iconst 18 hE dX20_yesWhen_17 rfl xc_i_0 ?_
    refine x_iconst 19 hE dX20_yesWhen_18 rfl xc_i_2 ?_
    refine x_aload_n 20 hE dX20_yesWhen_19 rfl 1 rfl ?_
    refine x_gR 23 hE (xw_lk0 hE xkf_CrossingWords_Rules_36) rfl dX20_yesWhen_20 rfl (fun v6 => ?_)
    refine x_gI 26 hE (xw_lk0 hE xkf_CrossingWords_Rules_40) rfl dX20_yesWhen_23 rfl (fun v7 => ?_)
    refine x_mmin 29 hE q1114 q687 q101 xm_mmin (by decide) (Nat.le_trans (xw_sm1 rfl (xw_sm1 (x_rfc _) xw_sm0)) (by decide)) dX20_yesWhen_26 rfl ?_
    refine x_lti (fun v8 => ?_)
    refine x_iadd 30 hE dX20_yesWhen_29 rfl ?_
    refine x_ldI 31 hE dX20_yesWhen_30 rfl (fun v9 => ?_)
    exact x_iret hE dX20_yesWhen_31

set_option maxHeartbeats 4000000 in
theorem ct_X1_hour {l : Launch} {G : xw_G} {μ : xw_Mu} (v1 : Nat) (v2 : Option Nat) (v3 : Int32) : xw_Ct l G (xw_hc G μ) xw_oi yX1_hour cX1_hour 3 (some (.int)) 1 [va_rf (some v1), va_rf v2, .int v3] (pg_X1_hour v1 v2 v3) := by
  refine xw_metL [(0, va_rf (some v1)), (1, va_rf v2), (2, .int v3)] (by decide) (Nat.le_trans (Nat.le_of_eq ((xw_l1 rfl).trans (congrArg (1 + ·) ((xw_l1 (x_rfc _)).trans (congrArg (1 + ·) ((xw_l1 rfl).trans (congrArg (1 + ·) xw_l0))))))) (by decide)) ((xw_a1 rfl).trans (congrArg (List.cons _) ((xw_a1 (x_rfc _)).trans (congrArg (List.cons _) ((xw_a1 rfl).trans (congrArg (List.cons _) xw_a0)))))) (fun E hE hl hG hm => ?_)
  subst hl; subst hG
  have hE : xw_ok E "CrossingWords$Run" cX1_hour 3 (some (.int)) 1 := hE
  unfold pg_X1_hour
  refine x_aload_n 1 hE dX1_hour_0 rfl 0 rfl ?_
  refine x_gR 4 hE (xw_lk0 hE xkf_CrossingWords_Run_15) rfl dX1_hour_1 rfl (fun v4 => ?_)
  refine x_iconst 5 hE dX1_hour_4 rfl xc_i_3 ?_
  refine x_aload_n 6 hE dX1_hour_5 rfl 1 rfl ?_
  refine x_gI 9 hE (xw_lk0 hE xkf_CrossingWords_Run_85) rfl dX1_hour_6 rfl (fun v5 => ?_)
  refine x_imul 10 hE dX1_hour_9 rfl ?_
  refine x_iload_n 11 hE dX1_hour_10 rfl 2 rfl ?_
  refine x_iadd 12 hE dX1_hour_11 rfl ?_
  refine x_ldI 13 hE dX1_hour_12 rfl (fun v6 => ?_)
  exact x_iret hE dX1_hour_13

set_option maxHeartbeats 4000000 in
theorem ct_X1_isOpen {l : Launch} {G : xw_G} {μ : xw_Mu} (v1 : Nat) (v2 : Option Nat) (v3 : Int32) : xw_Ct l G (xw_hc G μ) xw_oi yX1_isOpen cX1_isOpen 3 (some (.boolean)) 1 [va_rf (some v1), va_rf v2, .int v3] (pg_X1_isOpen v1 v2 v3) := by
  refine xw_metL [(0, va_rf (some v1)), (1, va_rf v2), (2, .int v3)] (by decide) (Nat.le_trans (Nat.le_of_eq ((xw_l1 rfl).trans (congrArg (1 + ·) ((xw_l1 (x_rfc _)).trans (congrArg (1 + ·) ((xw_l1 rfl).trans (congrArg (1 + ·) xw_l0))))))) (by decide)) ((xw_a1 rfl).trans (congrArg (List.cons _) ((xw_a1 (x_rfc _)).trans (congrArg (List.cons _) ((xw_a1 rfl).trans (congrArg (List.cons _) xw_a0)))))) (fun E hE hl hG hm => ?_)
  subst hl; subst hG
  have hE : xw_ok E "CrossingWords$Run" cX1_isOpen 3 (some (.boolean)) 1 := hE
  unfold pg_X1_isOpen
  refine x_iload_n 1 hE dX1_isOpen_0 rfl 2 rfl ?_
  refine x_sipush 4 hE dX1_isOpen_1 rfl xc_s_9999 ?_
  refine x_icmp_eq 37 7 hE dX1_isOpen_4 (by decide) rfl ?_ ?_
  · refine x_iconst 38 hE dX1_isOpen_37 rfl xc_i_0 ?_
    exact x_zretw hE (by decide) dX1_isOpen_38
  · refine x_aload_n 8 hE dX1_isOpen_7 rfl 0 rfl ?_
    refine x_gR 11 hE (xw_lk0 hE xkf_CrossingWords_Run_19) rfl dX1_isOpen_8 rfl (fun v4 => ?_)
    refine x_aload_n 12 hE dX1_isOpen_11 rfl 1 rfl ?_
    refine x_gI 15 hE (xw_lk0 hE xkf_CrossingWords_Run_85) rfl dX1_isOpen_12 rfl (fun v5 => ?_)
    refine x_ldI 16 hE dX1_isOpen_15 rfl (fun v6 => ?_)
    refine x_iload_n 17 hE dX1_isOpen_16 rfl 2 rfl ?_
    refine x_icmp_gt 37 20 hE dX1_isOpen_17 (by decide) rfl ?_ ?_
    · refine x_iconst 38 hE dX1_isOpen_37 rfl xc_i_0 ?_
      exact x_zretw hE (by decide) dX1_isOpen_38
    · refine x_iload_n 21 hE dX1_isOpen_20 rfl 2 rfl ?_
      refine x_aload_n 22 hE dX1_isOpen_21 rfl 0 rfl ?_
      refine x_gR 25 hE (xw_lk0 hE xkf_CrossingWords_Run_22) rfl dX1_isOpen_22 rfl (fun v7 => ?_)
      refine x_aload_n 26 hE dX1_isOpen_25 rfl 1 rfl ?_
      refine x_gI 29 hE (xw_lk0 hE xkf_CrossingWords_Run_85) rfl dX1_isOpen_26 rfl (fun v8 => ?_)
      refine x_ldI 30 hE dX1_isOpen_29 rfl (fun v9 => ?_)
      refine x_icmp_ge 37 33 hE dX1_isOpen_30 (by decide) rfl ?_ ?_
      · refine x_iconst 38 hE dX1_isOpen_37 rfl xc_i_0 ?_
        exact x_zretw hE (by decide) dX1_isOpen_38
      · refine x_iconst 34 hE dX1_isOpen_33 rfl xc_i_1 ?_
        refine x_goto 38 hE dX1_isOpen_34 (by decide) ?_
        exact x_zretw hE (by decide) dX1_isOpen_38

set_option maxHeartbeats 4000000 in
theorem ct_X6_isOffer {l : Launch} {G : xw_G} {μ : xw_Mu} (v1 : Nat) (v2 : Option Nat) : xw_Ct l G (xw_hc G μ) xw_oi yX6_isOffer cX6_isOffer 2 (some (.boolean)) 1 [va_rf (some v1), va_rf v2] (pg_X6_isOffer v1 v2) := by
  refine xw_metL [(0, va_rf (some v1)), (1, va_rf v2)] (by decide) (Nat.le_trans (Nat.le_of_eq ((xw_l1 rfl).trans (congrArg (1 + ·) ((xw_l1 (x_rfc _)).trans (congrArg (1 + ·) xw_l0))))) (by decide)) ((xw_a1 rfl).trans (congrArg (List.cons _) ((xw_a1 (x_rfc _)).trans (congrArg (List.cons _) xw_a0)))) (fun E hE hl hG hm => ?_)
  subst hl; subst hG
  have hE : xw_ok E "CrossingWords$Saying" cX6_isOffer 2 (some (.boolean)) 1 := hE
  unfold pg_X6_isOffer
  refine x_iconst 1 hE dX6_isOffer_0 rfl xc_i_0 ?_
  exact x_zretw hE (by decide) dX6_isOffer_1

set_option maxHeartbeats 4000000 in
theorem ct_X6_said {l : Launch} {G : xw_G} {μ : xw_Mu} (v1 : Nat) : xw_Ct l G (xw_hc G μ) xw_or yX6_said cX6_said 1 (some (.object "CrossingWords$Saying")) 1 [va_rf (some v1)] (pg_X6_said v1) := by
  refine xw_metL [(0, va_rf (some v1))] (by decide) (Nat.le_trans (Nat.le_of_eq ((xw_l1 rfl).trans (congrArg (1 + ·) xw_l0))) (by decide)) ((xw_a1 rfl).trans (congrArg (List.cons _) xw_a0)) (fun E hE hl hG hm => ?_)
  subst hl; subst hG
  have hE : xw_ok E "CrossingWords$Saying" cX6_said 1 (some (.object "CrossingWords$Saying")) 1 := hE
  unfold pg_X6_said
  refine x_null 1 hE dX6_said_0 rfl ?_
  exact x_aret hE rfl dX6_said_1

set_option maxHeartbeats 4000000 in
theorem ct_X6_isSaid {l : Launch} {G : xw_G} {μ : xw_Mu} (v1 : Nat) (v2 : Option Nat) : xw_Ct l G (xw_hc G μ) xw_oi yX6_isSaid cX6_isSaid 2 (some (.boolean)) 2 [va_rf (some v1), va_rf v2] (pg_X6_isSaid v1 v2) := by
  refine xw_metL [(0, va_rf (some v1)), (1, va_rf v2)] (by decide) (Nat.le_trans (Nat.le_of_eq ((xw_l1 rfl).trans (congrArg (1 + ·) ((xw_l1 (x_rfc _)).trans (congrArg (1 + ·) xw_l0))))) (by decide)) ((xw_a1 rfl).trans (congrArg (List.cons _) ((xw_a1 (x_rfc _)).trans (congrArg (List.cons _) xw_a0)))) (fun E hE hl hG hm => ?_)
  subst hl; subst hG
  have hE : xw_ok E "CrossingWords$Saying" cX6_isSaid 2 (some (.boolean)) 2 := hE
  unfold pg_X6_isSaid
  refine x_aload_n 1 hE dX6_isSaid_0 rfl 0 rfl ?_
  refine x_callr 4 (xw_goD hE (fun v4 hq => (List.forall_mem_cons.mpr ⟨⟨Nat.le_of_ble_eq_true rfl, xw_rU (owner := "CrossingWords$Saying") (x := ⟨"CrossingWords$Saying", "said", "()LCrossingWords$Saying;"⟩) hE (ct_X6_said v4) xD_CrossingWords_Saying_said___LCrossingWords_Saying_ (Or.inl (Or.inl rfl)) q1060 q870 q871 q869 q102 q879 rfl ⟨Nat.le_of_ble_eq_true rfl, Nat.le_of_ble_eq_true rfl⟩ (congrArg va_rf hq) rfl (by decide) dX6_isSaid_1⟩, (List.forall_mem_cons.mpr ⟨⟨Nat.le_of_ble_eq_true rfl, xw_rU (owner := "CrossingWords$Saying") (x := ⟨"CrossingWords$Saying", "said", "()LCrossingWords$Saying;"⟩) hE (ct_X6_said v4) xD_CrossingWords_Saying_said___LCrossingWords_Saying_ (Or.inl (Or.inl rfl)) q1060 q870 q876 q869 q102 q879 rfl ⟨Nat.le_of_ble_eq_true rfl, Nat.le_of_ble_eq_true rfl⟩ (congrArg va_rf hq) rfl (by decide) dX6_isSaid_1⟩, (List.forall_mem_cons.mpr ⟨⟨Nat.le_of_ble_eq_true rfl, xw_rU (owner := "CrossingWords$Saying") (x := ⟨"CrossingWords$Saying", "said", "()LCrossingWords$Saying;"⟩) hE (ct_X9_said v4) xD_CrossingWords_Saying_said___LCrossingWords_Saying_ (Or.inl (Or.inr ⟨_, _, _, q869, q879⟩)) q1060 q870 q878 q574 q105 q575 rfl ⟨Nat.le_of_ble_eq_true rfl, Nat.le_of_ble_eq_true rfl⟩ (congrArg va_rf hq) rfl (by decide) dX6_isSaid_1⟩, (List.forall_mem_cons.mpr ⟨⟨Nat.le_of_ble_eq_true rfl, xw_rU (owner := "CrossingWords$Saying") (x := ⟨"CrossingWords$Saying", "said", "()LCrossingWords$Saying;"⟩) hE (ct_X9_said v4) xD_CrossingWords_Saying_said___LCrossingWords_Saying_ (Or.inl (Or.inr ⟨_, _, _, q869, q879⟩)) q1060 q870 q873 q574 q105 q575 rfl ⟨Nat.le_of_ble_eq_true rfl, Nat.le_of_ble_eq_true rfl⟩ (congrArg va_rf hq) rfl (by decide) dX6_isSaid_1⟩, (List.forall_mem_cons.mpr ⟨⟨Nat.le_of_ble_eq_true rfl, xw_rU (owner := "CrossingWords$Saying") (x := ⟨"CrossingWords$Saying", "said", "()LCrossingWords$Saying;"⟩) hE (ct_X9_said v4) xD_CrossingWords_Saying_said___LCrossingWords_Saying_ (Or.inl (Or.inr ⟨_, _, _, q869, q879⟩)) q1060 q870 q875 q574 q105 q575 rfl ⟨Nat.le_of_ble_eq_true rfl, Nat.le_of_ble_eq_true rfl⟩ (congrArg va_rf hq) rfl (by decide) dX6_isSaid_1⟩, (List.forall_mem_cons.mpr ⟨⟨Nat.le_of_ble_eq_true rfl, xw_rU (owner := "CrossingWords$Saying") (x := ⟨"CrossingWords$Saying", "said", "()LCrossingWords$Saying;"⟩) hE (ct_X9_said v4) xD_CrossingWords_Saying_said___LCrossingWords_Saying_ (Or.inl (Or.inr ⟨_, _, _, q869, q879⟩)) q1060 q870 q872 q574 q105 q575 rfl ⟨Nat.le_of_ble_eq_true rfl, Nat.le_of_ble_eq_true rfl⟩ (congrArg va_rf hq) rfl (by decide) dX6_isSaid_1⟩, (List.forall_mem_cons.mpr ⟨⟨Nat.le_of_ble_eq_true rfl, xw_rU (owner := "CrossingWords$Saying") (x := ⟨"CrossingWords$Saying", "said", "()LCrossingWords$Saying;"⟩) hE (ct_X9_said v4) xD_CrossingWords_Saying_said___LCrossingWords_Saying_ (Or.inl (Or.inr ⟨_, _, _, q869, q879⟩)) q1060 q870 q874 q574 q105 q575 rfl ⟨Nat.le_of_ble_eq_true rfl, Nat.le_of_ble_eq_true rfl⟩ (congrArg va_rf hq) rfl (by decide) dX6_isSaid_1⟩, (List.forall_mem_cons.mpr ⟨⟨Nat.le_of_ble_eq_true rfl, xw_rU (owner := "CrossingWords$Saying") (x := ⟨"CrossingWords$Saying", "said", "()LCrossingWords$Saying;"⟩) hE (ct_X9_said v4) xD_CrossingWords_Saying_said___LCrossingWords_Saying_ (Or.inl (Or.inr ⟨_, _, _, q869, q879⟩)) q1060 q870 q877 q574 q105 q575 rfl ⟨Nat.le_of_ble_eq_true rfl, Nat.le_of_ble_eq_true rfl⟩ (congrArg va_rf hq) rfl (by decide) dX6_isSaid_1⟩, (fun _ h => absurd h List.not_mem_nil)⟩)⟩)⟩)⟩)⟩)⟩)⟩)⟩))) rfl (fun v3 => ?_)
  refine x_aload_n 5 hE dX6_isSaid_4 rfl 1 rfl ?_
  refine x_acmp_ne 12 8 hE dX6_isSaid_5 (by decide) rfl ?_ ?_
  · refine x_iconst 9 hE dX6_isSaid_8 rfl xc_i_1 ?_
    refine x_goto 13 hE dX6_isSaid_9 (by decide) ?_
    exact x_zretw hE (by decide) dX6_isSaid_13
  · refine x_iconst 13 hE dX6_isSaid_12 rfl xc_i_0 ?_
    exact x_zretw hE (by decide) dX6_isSaid_13

set_option maxHeartbeats 4000000 in
theorem ct_X1_makes {l : Launch} {G : xw_G} {μ : xw_Mu} (v1 : Nat) (v2 : Option Nat) : xw_Ct l G (xw_hc G μ) xw_oi yX1_makes cX1_makes 6 (some (.int)) 4 [va_rf (some v1), va_rf v2] (pg_X1_makes v1 v2) := by
  refine xw_metL [(0, va_rf (some v1)), (1, va_rf v2)] (by decide) (Nat.le_trans (Nat.le_of_eq ((xw_l1 rfl).trans (congrArg (1 + ·) ((xw_l1 (x_rfc _)).trans (congrArg (1 + ·) xw_l0))))) (by decide)) ((xw_a1 rfl).trans (congrArg (List.cons _) ((xw_a1 (x_rfc _)).trans (congrArg (List.cons _) xw_a0)))) (fun E hE hl hG hm => ?_)
  subst hl; subst hG
  have hE : xw_ok E "CrossingWords$Run" cX1_makes 6 (some (.int)) 4 := hE
  unfold pg_X1_makes
  refine x_aload_n 1 hE dX1_makes_0 rfl 1 rfl ?_
  refine x_callr 4 (xw_goD hE (fun v4 hq => (List.forall_mem_cons.mpr ⟨⟨Nat.le_of_ble_eq_true rfl, xw_rU (owner := "CrossingWords$Saying") (x := ⟨"CrossingWords$Saying", "said", "()LCrossingWords$Saying;"⟩) hE (ct_X6_said v4) xD_CrossingWords_Saying_said___LCrossingWords_Saying_ (Or.inl (Or.inl rfl)) q1108 q870 q871 q869 q102 q879 rfl ⟨Nat.le_of_ble_eq_true rfl, Nat.le_of_ble_eq_true rfl⟩ (congrArg va_rf hq) rfl (by decide) dX1_makes_1⟩, (List.forall_mem_cons.mpr ⟨⟨Nat.le_of_ble_eq_true rfl, xw_rU (owner := "CrossingWords$Saying") (x := ⟨"CrossingWords$Saying", "said", "()LCrossingWords$Saying;"⟩) hE (ct_X6_said v4) xD_CrossingWords_Saying_said___LCrossingWords_Saying_ (Or.inl (Or.inl rfl)) q1108 q870 q876 q869 q102 q879 rfl ⟨Nat.le_of_ble_eq_true rfl, Nat.le_of_ble_eq_true rfl⟩ (congrArg va_rf hq) rfl (by decide) dX1_makes_1⟩, (List.forall_mem_cons.mpr ⟨⟨Nat.le_of_ble_eq_true rfl, xw_rU (owner := "CrossingWords$Saying") (x := ⟨"CrossingWords$Saying", "said", "()LCrossingWords$Saying;"⟩) hE (ct_X9_said v4) xD_CrossingWords_Saying_said___LCrossingWords_Saying_ (Or.inl (Or.inr ⟨_, _, _, q869, q879⟩)) q1108 q870 q878 q574 q105 q575 rfl ⟨Nat.le_of_ble_eq_true rfl, Nat.le_of_ble_eq_true rfl⟩ (congrArg va_rf hq) rfl (by decide) dX1_makes_1⟩, (List.forall_mem_cons.mpr ⟨⟨Nat.le_of_ble_eq_true rfl, xw_rU (owner := "CrossingWords$Saying") (x := ⟨"CrossingWords$Saying", "said", "()LCrossingWords$Saying;"⟩) hE (ct_X9_said v4) xD_CrossingWords_Saying_said___LCrossingWords_Saying_ (Or.inl (Or.inr ⟨_, _, _, q869, q879⟩)) q1108 q870 q873 q574 q105 q575 rfl ⟨Nat.le_of_ble_eq_true rfl, Nat.le_of_ble_eq_true rfl⟩ (congrArg va_rf hq) rfl (by decide) dX1_makes_1⟩, (List.forall_mem_cons.mpr ⟨⟨Nat.le_of_ble_eq_true rfl, xw_rU (owner := "CrossingWords$Saying") (x := ⟨"CrossingWords$Saying", "said", "()LCrossingWords$Saying;"⟩) hE (ct_X9_said v4) xD_CrossingWords_Saying_said___LCrossingWords_Saying_ (Or.inl (Or.inr ⟨_, _, _, q869, q879⟩)) q1108 q870 q875 q574 q105 q575 rfl ⟨Nat.le_of_ble_eq_true rfl, Nat.le_of_ble_eq_true rfl⟩ (congrArg va_rf hq) rfl (by decide) dX1_makes_1⟩, (List.forall_mem_cons.mpr ⟨⟨Nat.le_of_ble_eq_true rfl, xw_rU (owner := "CrossingWords$Saying") (x := ⟨"CrossingWords$Saying", "said", "()LCrossingWords$Saying;"⟩) hE (ct_X9_said v4) xD_CrossingWords_Saying_said___LCrossingWords_Saying_ (Or.inl (Or.inr ⟨_, _, _, q869, q879⟩)) q1108 q870 q872 q574 q105 q575 rfl ⟨Nat.le_of_ble_eq_true rfl, Nat.le_of_ble_eq_true rfl⟩ (congrArg va_rf hq) rfl (by decide) dX1_makes_1⟩, (List.forall_mem_cons.mpr ⟨⟨Nat.le_of_ble_eq_true rfl, xw_rU (owner := "CrossingWords$Saying") (x := ⟨"CrossingWords$Saying", "said", "()LCrossingWords$Saying;"⟩) hE (ct_X9_said v4) xD_CrossingWords_Saying_said___LCrossingWords_Saying_ (Or.inl (Or.inr ⟨_, _, _, q869, q879⟩)) q1108 q870 q874 q574 q105 q575 rfl ⟨Nat.le_of_ble_eq_true rfl, Nat.le_of_ble_eq_true rfl⟩ (congrArg va_rf hq) rfl (by decide) dX1_makes_1⟩, (List.forall_mem_cons.mpr ⟨⟨Nat.le_of_ble_eq_true rfl, xw_rU (owner := "CrossingWords$Saying") (x := ⟨"CrossingWords$Saying", "said", "()LCrossingWords$Saying;"⟩) hE (ct_X9_said v4) xD_CrossingWords_Saying_said___LCrossingWords_Saying_ (Or.inl (Or.inr ⟨_, _, _, q869, q879⟩)) q1108 q870 q877 q574 q105 q575 rfl ⟨Nat.le_of_ble_eq_true rfl, Nat.le_of_ble_eq_true rfl⟩ (congrArg va_rf hq) rfl (by decide) dX1_makes_1⟩, (fun _ h => absurd h List.not_mem_nil)⟩)⟩)⟩)⟩)⟩)⟩)⟩)⟩))) rfl (fun v3 => ?_)
  refine x_astore_n 5 [(2, va_rf v3), (0, va_rf (some v1)), (1, va_rf v2)] hE dX1_makes_4 rfl rfl (Nat.le_of_ble_eq_true rfl) (congrArg (List.cons _) (xw_f1 (by decide) rfl (xw_f1 (by decide) (x_rfc _) xw_f0))) ?_
  refine x_aload_n 6 hE dX1_makes_5 rfl 1 rfl ?_
  refine x_aload_n 7 hE dX1_makes_6 rfl 2 rfl ?_
  refine x_aload_n 8 hE dX1_makes_7 rfl 1 rfl ?_
  refine x_gR 11 hE (xw_lk0 hE xkf_CrossingWords_Run_92) rfl dX1_makes_8 rfl (fun v5 => ?_)
  refine x_aload_n 12 hE dX1_makes_11 rfl 2 rfl ?_
  refine x_calli 15 (xw_goV hE (c := 17) (by decide) (fun v7 hq => xw_rV hE (ct_X20_yesWhen v7 v2) xd_X20_yesWhen rfl q1109 q1110 q1111 q116 q1112 rfl ⟨Nat.le_of_ble_eq_true rfl, Nat.le_of_ble_eq_true rfl⟩ (congrArg va_rf hq) rfl (Nat.le_trans (xw_sm1 (x_rfc _) (xw_sm1 rfl xw_sm0)) (by decide)) dX1_makes_12)) rfl (fun v6 => ?_)
  refine x_calli 18 (xw_goV hE (c := 1) (by decide) (fun v9 hq => xw_rV hE (ct_X1_hour v9 v2 v6) xd_X1_hour rfl q1046 q954 q955 q96 q956 rfl ⟨Nat.le_of_ble_eq_true rfl, Nat.le_of_ble_eq_true rfl⟩ (congrArg va_rf hq) rfl (by decide) dX1_makes_15)) rfl (fun v8 => ?_)
  refine x_istore_n 19 [(3, .int v8), (2, va_rf v3), (0, va_rf (some v1)), (1, va_rf v2)] hE dX1_makes_18 rfl rfl (Nat.le_of_ble_eq_true rfl) (congrArg (List.cons _) (xw_f1 (by decide) (x_rfc _) (xw_f1 (by decide) rfl (xw_f1 (by decide) (x_rfc _) xw_f0)))) ?_
  refine x_aload_n 20 hE dX1_makes_19 rfl 1 rfl ?_
  refine x_aload_n 21 hE dX1_makes_20 rfl 2 rfl ?_
  refine x_gR 24 hE (xw_lk0 hE xkf_CrossingWords_Run_92) rfl dX1_makes_21 rfl (fun v10 => ?_)
  refine x_calli 27 (xw_goD hE (fun v12 hq => (List.forall_mem_cons.mpr ⟨⟨Nat.le_of_ble_eq_true rfl, xw_rU (owner := "CrossingWords$Saying") (x := ⟨"CrossingWords$Saying", "isOffer", "(LCrossingWords$Rules;)Z"⟩) hE (ct_X6_isOffer v12 v10) xD_CrossingWords_Saying_isOffer__LCrossingWords_Rules__Z (Or.inl (Or.inl rfl)) q1008 q1010 q1011 q1009 q102 q1031 rfl ⟨Nat.le_of_ble_eq_true rfl, Nat.le_of_ble_eq_true rfl⟩ (congrArg va_rf hq) rfl (by decide) dX1_makes_24⟩, (List.forall_mem_cons.mpr ⟨⟨Nat.le_of_ble_eq_true rfl, xw_rU (owner := "CrossingWords$Saying") (x := ⟨"CrossingWords$Saying", "isOffer", "(LCrossingWords$Rules;)Z"⟩) hE (ct_X8_isOffer v12 v10) xD_CrossingWords_Saying_isOffer__LCrossingWords_Rules__Z (Or.inl (Or.inr ⟨_, _, _, q1009, q1031⟩)) q1008 q1010 q1026 q1027 q104 q1028 rfl ⟨Nat.le_of_ble_eq_true rfl, Nat.le_of_ble_eq_true rfl⟩ (congrArg va_rf hq) rfl (by decide) dX1_makes_24⟩, (List.forall_mem_cons.mpr ⟨⟨Nat.le_of_ble_eq_true rfl, xw_rU (owner := "CrossingWords$Saying") (x := ⟨"CrossingWords$Saying", "isOffer", "(LCrossingWords$Rules;)Z"⟩) hE (ct_X6_isOffer v12 v10) xD_CrossingWords_Saying_isOffer__LCrossingWords_Rules__Z (Or.inl (Or.inl rfl)) q1008 q1010 q1030 q1009 q102 q1031 rfl ⟨Nat.le_of_ble_eq_true rfl, Nat.le_of_ble_eq_true rfl⟩ (congrArg va_rf hq) rfl (by decide) dX1_makes_24⟩, (List.forall_mem_cons.mpr ⟨⟨Nat.le_of_ble_eq_true rfl, xw_rU (owner := "CrossingWords$Saying") (x := ⟨"CrossingWords$Saying", "isOffer", "(LCrossingWords$Rules;)Z"⟩) hE (ct_X11_isOffer v12 v10) xD_CrossingWords_Saying_isOffer__LCrossingWords_Rules__Z (Or.inl (Or.inr ⟨_, _, _, q1009, q1031⟩)) q1008 q1010 q1013 q1014 q107 q1015 rfl ⟨Nat.le_of_ble_eq_true rfl, Nat.le_of_ble_eq_true rfl⟩ (congrArg va_rf hq) rfl (by decide) dX1_makes_24⟩, (List.forall_mem_cons.mpr ⟨⟨Nat.le_of_ble_eq_true rfl, xw_rU (owner := "CrossingWords$Saying") (x := ⟨"CrossingWords$Saying", "isOffer", "(LCrossingWords$Rules;)Z"⟩) hE (ct_X6_isOffer v12 v10) xD_CrossingWords_Saying_isOffer__LCrossingWords_Rules__Z (Or.inl (Or.inl rfl)) q1008 q1010 q1025 q1009 q102 q1031 rfl ⟨Nat.le_of_ble_eq_true rfl, Nat.le_of_ble_eq_true rfl⟩ (congrArg va_rf hq) rfl (by decide) dX1_makes_24⟩, (List.forall_mem_cons.mpr ⟨⟨Nat.le_of_ble_eq_true rfl, xw_rU (owner := "CrossingWords$Saying") (x := ⟨"CrossingWords$Saying", "isOffer", "(LCrossingWords$Rules;)Z"⟩) hE (ct_X6_isOffer v12 v10) xD_CrossingWords_Saying_isOffer__LCrossingWords_Rules__Z (Or.inl (Or.inl rfl)) q1008 q1010 q1012 q1009 q102 q1031 rfl ⟨Nat.le_of_ble_eq_true rfl, Nat.le_of_ble_eq_true rfl⟩ (congrArg va_rf hq) rfl (by decide) dX1_makes_24⟩, (List.forall_mem_cons.mpr ⟨⟨Nat.le_of_ble_eq_true rfl, xw_rU (owner := "CrossingWords$Saying") (x := ⟨"CrossingWords$Saying", "isOffer", "(LCrossingWords$Rules;)Z"⟩) hE (ct_X6_isOffer v12 v10) xD_CrossingWords_Saying_isOffer__LCrossingWords_Rules__Z (Or.inl (Or.inl rfl)) q1008 q1010 q1024 q1009 q102 q1031 rfl ⟨Nat.le_of_ble_eq_true rfl, Nat.le_of_ble_eq_true rfl⟩ (congrArg va_rf hq) rfl (by decide) dX1_makes_24⟩, (List.forall_mem_cons.mpr ⟨⟨Nat.le_of_ble_eq_true rfl, xw_rU (owner := "CrossingWords$Saying") (x := ⟨"CrossingWords$Saying", "isOffer", "(LCrossingWords$Rules;)Z"⟩) hE (ct_X6_isOffer v12 v10) xD_CrossingWords_Saying_isOffer__LCrossingWords_Rules__Z (Or.inl (Or.inl rfl)) q1008 q1010 q1029 q1009 q102 q1031 rfl ⟨Nat.le_of_ble_eq_true rfl, Nat.le_of_ble_eq_true rfl⟩ (congrArg va_rf hq) rfl (by decide) dX1_makes_24⟩, (fun _ h => absurd h List.not_mem_nil)⟩)⟩)⟩)⟩)⟩)⟩)⟩)⟩))) rfl (fun v11 => ?_)
  refine x_if_eq 54 30 hE dX1_makes_27 (by decide) rfl ?_ ?_
  · refine x_sipush 57 hE dX1_makes_54 rfl xc_s_9999 ?_
    exact x_iret hE dX1_makes_57
  · refine x_aload_n 31 hE dX1_makes_30 rfl 2 rfl ?_
    refine x_aload_n 32 hE dX1_makes_31 rfl 1 rfl ?_
    refine x_iconst 33 hE dX1_makes_32 rfl xc_i_1 ?_
    refine x_calli 36 (xw_goV hE (c := 1) (by decide) (fun v14 hq => xw_rV hE (ct_X1_hour v14 v3 1) xd_X1_hour rfl q1046 q954 q955 q96 q956 rfl ⟨Nat.le_of_ble_eq_true rfl, Nat.le_of_ble_eq_true rfl⟩ (congrArg va_rf hq) rfl (by decide) dX1_makes_33)) rfl (fun v13 => ?_)
    refine x_aload_n 37 hE dX1_makes_36 rfl 2 rfl ?_
    refine x_aload_n 38 hE dX1_makes_37 rfl 3 rfl ?_
    refine x_iconst 39 hE dX1_makes_38 rfl xc_i_0 ?_
    refine x_calli 42 (xw_goV hE (c := 1) (by decide) (fun v16 hq => xw_rV hE (ct_X1_hour v16 v2 0) xd_X1_hour rfl q1046 q954 q955 q96 q956 rfl ⟨Nat.le_of_ble_eq_true rfl, Nat.le_of_ble_eq_true rfl⟩ (congrArg va_rf hq) rfl (Nat.le_trans (xw_sm1 rfl xw_sm0) (by decide)) dX1_makes_39)) rfl (fun v15 => ?_)
    refine x_icmp_gt 54 45 hE dX1_makes_42 (by decide) rfl ?_ ?_
    · refine x_sipush 57 hE dX1_makes_54 rfl xc_s_9999 ?_
      exact x_iret hE dX1_makes_57
    · refine x_aload_n 46 hE dX1_makes_45 rfl 2 rfl ?_
      refine x_aload_n 47 hE dX1_makes_46 rfl 1 rfl ?_
      refine x_iload_n 48 hE dX1_makes_47 rfl 0 rfl ?_
      refine x_calli 51 (xw_goV hE (c := 1) (by decide) (fun v18 hq => xw_rV hE (ct_X1_isOpen v18 v3 v8) xd_X1_isOpen rfl q1115 q1117 qs23 q96 q1118 rfl ⟨Nat.le_of_ble_eq_true rfl, Nat.le_of_ble_eq_true rfl⟩ (congrArg va_rf hq) rfl (by decide) dX1_makes_48)) rfl (fun v17 => ?_)
      refine x_if_ne 58 54 hE dX1_makes_51 (by decide) rfl ?_ ?_
      · refine x_sipush 57 hE dX1_makes_54 rfl xc_s_9999 ?_
        exact x_iret hE dX1_makes_57
      · refine x_iconst 59 hE dX1_makes_58 rfl xc_i_0 ?_
        refine x_istore 61 [(4, .int 0), (3, .int v8), (2, va_rf v3), (0, va_rf (some v1)), (1, va_rf v2)] hE dX1_makes_59 rfl (Nat.le_of_ble_eq_true rfl) rfl ?_
        refine x_sub [(0, va_rf (some v1)), (1, va_rf v2), (3, .int v8), (4, .int 0)] [3, 4, 1, 0] rfl ?_
        refine x_loop (fun (v19 : Int32) => [(0, va_rf (some v1)), (1, va_rf v2), (3, .int v8), (4, .int v19)]) (fun JL1 hc1 hx1 v19 => ?_) _ _
        refine x_iload 63 hE dX1_makes_61 rfl 3 rfl ?_
        refine x_aload_n 64 hE dX1_makes_63 rfl 0 rfl ?_
        refine x_gR 67 hE (xw_lk0 hE xkf_CrossingWords_Run_31) rfl dX1_makes_64 rfl (fun v20 => ?_)
        refine x_gI 70 hE (xw_lk0 hE xkf_CrossingWords_Run_51) rfl dX1_makes_67 rfl (fun v21 => ?_)
        refine x_icmp_ge 131 73 hE dX1_makes_70 (by decide) rfl ?_ ?_
        · refine x_iload_n 132 hE dX1_makes_131 rfl 2 rfl ?_
          refine hx1 _ _ _ _ ?_
          exact x_iret hE dX1_makes_132
        · refine x_aload_n 74 hE dX1_makes_73 rfl 0 rfl ?_
          refine x_gR 77 hE (xw_lk0 hE xkf_CrossingWords_Run_31) rfl dX1_makes_74 rfl (fun v22 => ?_)
          refine x_gR 80 hE (xw_lk0 hE xkf_CrossingWords_Run_54) rfl dX1_makes_77 rfl (fun v23 => ?_)
          refine x_iload 82 hE dX1_makes_80 rfl 3 rfl ?_
          refine x_ldR 83 hE dX1_makes_82 rfl (fun v24 => ?_)
          refine x_astore 85 [(5, va_rf v24), (0, va_rf (some v1)), (1, va_rf v2), (3, .int v8), (4, .int v19)] hE dX1_makes_83 rfl (Nat.le_of_ble_eq_true rfl) rfl ?_
          refine x_aload 87 hE dX1_makes_85 rfl 0 rfl ?_
          refine x_calli 90 (xw_goD hE (fun v26 hq => (List.forall_mem_cons.mpr ⟨⟨Nat.le_of_ble_eq_true rfl, xw_rU (owner := "CrossingWords$Saying") (x := ⟨"CrossingWords$Saying", "kind", "()I"⟩) hE (ct_X7_kind v26) xD_CrossingWords_Saying_kind___I (Or.inr xkd_CrossingWords_Sayingkind_) q1047 q535 q536 q537 q103 q538 rfl ⟨Nat.le_of_ble_eq_true rfl, Nat.le_of_ble_eq_true rfl⟩ (congrArg va_rf hq) rfl (by decide) dX1_makes_87⟩, (List.forall_mem_cons.mpr ⟨⟨Nat.le_of_ble_eq_true rfl, xw_rU (owner := "CrossingWords$Saying") (x := ⟨"CrossingWords$Saying", "kind", "()I"⟩) hE (ct_X8_kind v26) xD_CrossingWords_Saying_kind___I (Or.inr xkd_CrossingWords_Sayingkind_) q1047 q535 q551 q552 q104 q553 rfl ⟨Nat.le_of_ble_eq_true rfl, Nat.le_of_ble_eq_true rfl⟩ (congrArg va_rf hq) rfl (by decide) dX1_makes_87⟩, (List.forall_mem_cons.mpr ⟨⟨Nat.le_of_ble_eq_true rfl, xw_rU (owner := "CrossingWords$Saying") (x := ⟨"CrossingWords$Saying", "kind", "()I"⟩) hE (ct_X10_kind v26) xD_CrossingWords_Saying_kind___I (Or.inr xkd_CrossingWords_Sayingkind_) q1047 q535 q557 q558 q106 q559 rfl ⟨Nat.le_of_ble_eq_true rfl, Nat.le_of_ble_eq_true rfl⟩ (congrArg va_rf hq) rfl (by decide) dX1_makes_87⟩, (List.forall_mem_cons.mpr ⟨⟨Nat.le_of_ble_eq_true rfl, xw_rU (owner := "CrossingWords$Saying") (x := ⟨"CrossingWords$Saying", "kind", "()I"⟩) hE (ct_X11_kind v26) xD_CrossingWords_Saying_kind___I (Or.inr xkd_CrossingWords_Sayingkind_) q1047 q535 q542 q543 q107 q544 rfl ⟨Nat.le_of_ble_eq_true rfl, Nat.le_of_ble_eq_true rfl⟩ (congrArg va_rf hq) rfl (by decide) dX1_makes_87⟩, (List.forall_mem_cons.mpr ⟨⟨Nat.le_of_ble_eq_true rfl, xw_rU (owner := "CrossingWords$Saying") (x := ⟨"CrossingWords$Saying", "kind", "()I"⟩) hE (ct_X12_kind v26) xD_CrossingWords_Saying_kind___I (Or.inr xkd_CrossingWords_Sayingkind_) q1047 q535 q548 q549 q108 q550 rfl ⟨Nat.le_of_ble_eq_true rfl, Nat.le_of_ble_eq_true rfl⟩ (congrArg va_rf hq) rfl (by decide) dX1_makes_87⟩, (List.forall_mem_cons.mpr ⟨⟨Nat.le_of_ble_eq_true rfl, xw_rU (owner := "CrossingWords$Saying") (x := ⟨"CrossingWords$Saying", "kind", "()I"⟩) hE (ct_X13_kind v26) xD_CrossingWords_Saying_kind___I (Or.inr xkd_CrossingWords_Sayingkind_) q1047 q535 q539 q540 q109 q541 rfl ⟨Nat.le_of_ble_eq_true rfl, Nat.le_of_ble_eq_true rfl⟩ (congrArg va_rf hq) rfl (by decide) dX1_makes_87⟩, (List.forall_mem_cons.mpr ⟨⟨Nat.le_of_ble_eq_true rfl, xw_rU (owner := "CrossingWords$Saying") (x := ⟨"CrossingWords$Saying", "kind", "()I"⟩) hE (ct_X14_kind v26) xD_CrossingWords_Saying_kind___I (Or.inr xkd_CrossingWords_Sayingkind_) q1047 q535 q545 q546 q110 q547 rfl ⟨Nat.le_of_ble_eq_true rfl, Nat.le_of_ble_eq_true rfl⟩ (congrArg va_rf hq) rfl (by decide) dX1_makes_87⟩, (List.forall_mem_cons.mpr ⟨⟨Nat.le_of_ble_eq_true rfl, xw_rU (owner := "CrossingWords$Saying") (x := ⟨"CrossingWords$Saying", "kind", "()I"⟩) hE (ct_X15_kind v26) xD_CrossingWords_Saying_kind___I (Or.inr xkd_CrossingWords_Sayingkind_) q1047 q535 q554 q555 q111 q556 rfl ⟨Nat.le_of_ble_eq_true rfl, Nat.le_of_ble_eq_true rfl⟩ (congrArg va_rf hq) rfl (by decide) dX1_makes_87⟩, (fun _ h => absurd h List.not_mem_nil)⟩)⟩)⟩)⟩)⟩)⟩)⟩)⟩))) rfl (fun v25 => ?_)
          refine x_iconst 91 hE dX1_makes_90 rfl xc_i_5 ?_
          refine x_icmp_ne 125 94 hE dX1_makes_91 (by decide) rfl ?_ ?_
          · refine x_aload 96 hE dX1_makes_94 rfl 0 rfl ?_
            refine x_aload_n 97 hE dX1_makes_96 rfl 2 rfl ?_
            refine x_calli 100 (xw_goD hE (fun v28 hq => (List.forall_mem_cons.mpr ⟨⟨Nat.le_of_ble_eq_true rfl, xw_rU (owner := "CrossingWords$Saying") (x := ⟨"CrossingWords$Saying", "isSaid", "(LCrossingWords$Saying;)Z"⟩) hE (ct_X6_isSaid v28 v2) xD_CrossingWords_Saying_isSaid__LCrossingWords_Saying__Z (Or.inl (Or.inl rfl)) q1048 q1050 q1051 q1049 q102 q1059 rfl ⟨Nat.le_of_ble_eq_true rfl, Nat.le_of_ble_eq_true rfl⟩ (congrArg va_rf hq) rfl (by decide) dX1_makes_97⟩, (List.forall_mem_cons.mpr ⟨⟨Nat.le_of_ble_eq_true rfl, xw_rU (owner := "CrossingWords$Saying") (x := ⟨"CrossingWords$Saying", "isSaid", "(LCrossingWords$Saying;)Z"⟩) hE (ct_X6_isSaid v28 v2) xD_CrossingWords_Saying_isSaid__LCrossingWords_Saying__Z (Or.inl (Or.inl rfl)) q1048 q1050 q1056 q1049 q102 q1059 rfl ⟨Nat.le_of_ble_eq_true rfl, Nat.le_of_ble_eq_true rfl⟩ (congrArg va_rf hq) rfl (by decide) dX1_makes_97⟩, (List.forall_mem_cons.mpr ⟨⟨Nat.le_of_ble_eq_true rfl, xw_rU (owner := "CrossingWords$Saying") (x := ⟨"CrossingWords$Saying", "isSaid", "(LCrossingWords$Saying;)Z"⟩) hE (ct_X6_isSaid v28 v2) xD_CrossingWords_Saying_isSaid__LCrossingWords_Saying__Z (Or.inl (Or.inl rfl)) q1048 q1050 q1058 q1049 q102 q1059 rfl ⟨Nat.le_of_ble_eq_true rfl, Nat.le_of_ble_eq_true rfl⟩ (congrArg va_rf hq) rfl (by decide) dX1_makes_97⟩, (List.forall_mem_cons.mpr ⟨⟨Nat.le_of_ble_eq_true rfl, xw_rU (owner := "CrossingWords$Saying") (x := ⟨"CrossingWords$Saying", "isSaid", "(LCrossingWords$Saying;)Z"⟩) hE (ct_X6_isSaid v28 v2) xD_CrossingWords_Saying_isSaid__LCrossingWords_Saying__Z (Or.inl (Or.inl rfl)) q1048 q1050 q1053 q1049 q102 q1059 rfl ⟨Nat.le_of_ble_eq_true rfl, Nat.le_of_ble_eq_true rfl⟩ (congrArg va_rf hq) rfl (by decide) dX1_makes_97⟩, (List.forall_mem_cons.mpr ⟨⟨Nat.le_of_ble_eq_true rfl, xw_rU (owner := "CrossingWords$Saying") (x := ⟨"CrossingWords$Saying", "isSaid", "(LCrossingWords$Saying;)Z"⟩) hE (ct_X6_isSaid v28 v2) xD_CrossingWords_Saying_isSaid__LCrossingWords_Saying__Z (Or.inl (Or.inl rfl)) q1048 q1050 q1055 q1049 q102 q1059 rfl ⟨Nat.le_of_ble_eq_true rfl, Nat.le_of_ble_eq_true rfl⟩ (congrArg va_rf hq) rfl (by decide) dX1_makes_97⟩, (List.forall_mem_cons.mpr ⟨⟨Nat.le_of_ble_eq_true rfl, xw_rU (owner := "CrossingWords$Saying") (x := ⟨"CrossingWords$Saying", "isSaid", "(LCrossingWords$Saying;)Z"⟩) hE (ct_X6_isSaid v28 v2) xD_CrossingWords_Saying_isSaid__LCrossingWords_Saying__Z (Or.inl (Or.inl rfl)) q1048 q1050 q1052 q1049 q102 q1059 rfl ⟨Nat.le_of_ble_eq_true rfl, Nat.le_of_ble_eq_true rfl⟩ (congrArg va_rf hq) rfl (by decide) dX1_makes_97⟩, (List.forall_mem_cons.mpr ⟨⟨Nat.le_of_ble_eq_true rfl, xw_rU (owner := "CrossingWords$Saying") (x := ⟨"CrossingWords$Saying", "isSaid", "(LCrossingWords$Saying;)Z"⟩) hE (ct_X6_isSaid v28 v2) xD_CrossingWords_Saying_isSaid__LCrossingWords_Saying__Z (Or.inl (Or.inl rfl)) q1048 q1050 q1054 q1049 q102 q1059 rfl ⟨Nat.le_of_ble_eq_true rfl, Nat.le_of_ble_eq_true rfl⟩ (congrArg va_rf hq) rfl (by decide) dX1_makes_97⟩, (List.forall_mem_cons.mpr ⟨⟨Nat.le_of_ble_eq_true rfl, xw_rU (owner := "CrossingWords$Saying") (x := ⟨"CrossingWords$Saying", "isSaid", "(LCrossingWords$Saying;)Z"⟩) hE (ct_X6_isSaid v28 v2) xD_CrossingWords_Saying_isSaid__LCrossingWords_Saying__Z (Or.inl (Or.inl rfl)) q1048 q1050 q1057 q1049 q102 q1059 rfl ⟨Nat.le_of_ble_eq_true rfl, Nat.le_of_ble_eq_true rfl⟩ (congrArg va_rf hq) rfl (by decide) dX1_makes_97⟩, (fun _ h => absurd h List.not_mem_nil)⟩)⟩)⟩)⟩)⟩)⟩)⟩)⟩))) rfl (fun v27 => ?_)
            refine x_if_eq 125 103 hE dX1_makes_100 (by decide) rfl ?_ ?_
            · refine x_iinc 128 [(4, .int (v19 + 1)), (5, va_rf v24), (0, va_rf (some v1)), (1, va_rf v2), (3, .int v8)] hE dX1_makes_125 rfl 4 rfl xc_i_1 (Nat.le_of_ble_eq_true rfl) rfl ?_
              refine x_goto 61 hE dX1_makes_128 (by decide) ?_
              refine x_sub [(0, va_rf (some v1)), (1, va_rf v2), (3, .int v8), (4, .int (v19 + 1))] [2, 3, 4, 0] rfl ?_
              exact hc1 (v19 + 1)
            · refine x_aload_n 104 hE dX1_makes_103 rfl 1 rfl ?_
              refine x_aload 106 hE dX1_makes_104 rfl 0 rfl ?_
              refine x_aload_n 107 hE dX1_makes_106 rfl 1 rfl ?_
              refine x_gR 110 hE (xw_lk0 hE xkf_CrossingWords_Run_92) rfl dX1_makes_107 rfl (fun v29 => ?_)
              refine x_iconst 111 hE dX1_makes_110 rfl xc_i_4 ?_
              refine x_calli 114 (xw_goV hE (c := 17) (by decide) (fun v31 hq => xw_rV hE (ct_X20_at v31 4) xd_X20_at rfl q1045 q988 q989 q116 q990 rfl ⟨Nat.le_of_ble_eq_true rfl, Nat.le_of_ble_eq_true rfl⟩ (congrArg va_rf hq) rfl (Nat.le_trans (xw_sm1 (x_rfc _) (xw_sm1 rfl xw_sm0)) (by decide)) dX1_makes_111)) rfl (fun v30 => ?_)
              refine x_calli 117 (xw_goV hE (c := 1) (by decide) (fun v33 hq => xw_rV hE (ct_X1_hour v33 v24 v30) xd_X1_hour rfl q1046 q954 q955 q96 q956 rfl ⟨Nat.le_of_ble_eq_true rfl, Nat.le_of_ble_eq_true rfl⟩ (congrArg va_rf hq) rfl (by decide) dX1_makes_114)) rfl (fun v32 => ?_)
              refine x_iload_n 118 hE dX1_makes_117 rfl 3 rfl ?_
              refine x_icmp_ge 125 121 hE dX1_makes_118 (by decide) rfl ?_ ?_
              · refine x_iinc 128 [(4, .int (v19 + 1)), (5, va_rf v24), (0, va_rf (some v1)), (1, va_rf v2), (3, .int v8)] hE dX1_makes_125 rfl 4 rfl xc_i_1 (Nat.le_of_ble_eq_true rfl) rfl ?_
                refine x_goto 61 hE dX1_makes_128 (by decide) ?_
                refine x_sub [(0, va_rf (some v1)), (1, va_rf v2), (3, .int v8), (4, .int (v19 + 1))] [2, 3, 4, 0] rfl ?_
                exact hc1 (v19 + 1)
              · refine x_sipush 124 hE dX1_makes_121 rfl xc_s_9999 ?_
                refine hx1 _ _ _ _ ?_
                exact x_iret hE dX1_makes_124
          · refine x_iinc 128 [(4, .int (v19 + 1)), (5, va_rf v24), (0, va_rf (some v1)), (1, va_rf v2), (3, .int v8)] hE dX1_makes_125 rfl 4 rfl xc_i_1 (Nat.le_of_ble_eq_true rfl) rfl ?_
            refine x_goto 61 hE dX1_makes_128 (by decide) ?_
            refine x_sub [(0, va_rf (some v1)), (1, va_rf v2), (3, .int v8), (4, .int (v19 + 1))] [2, 3, 4, 0] rfl ?_
            exact hc1 (v19 + 1)

set_option maxHeartbeats 4000000 in
theorem ct_X11_isNo {l : Launch} {G : xw_G} {μ : xw_Mu} (v1 : Nat) (v2 : Option Nat) : xw_Ct l G (xw_hc G μ) xw_oi yX11_isNo cX11_isNo 2 (some (.boolean)) 3 [va_rf (some v1), va_rf v2] (pg_X11_isNo v1 v2) := by
  refine xw_metL [(0, va_rf (some v1)), (1, va_rf v2)] (by decide) (Nat.le_trans (Nat.le_of_eq ((xw_l1 rfl).trans (congrArg (1 + ·) ((xw_l1 (x_rfc _)).trans (congrArg (1 + ·) xw_l0))))) (by decide)) ((xw_a1 rfl).trans (congrArg (List.cons _) ((xw_a1 (x_rfc _)).trans (congrArg (List.cons _) xw_a0)))) (fun E hE hl hG hm => ?_)
  subst hl; subst hG
  have hE : xw_ok E "CrossingWords$But" cX11_isNo 2 (some (.boolean)) 3 := hE
  unfold pg_X11_isNo
  refine x_aload_n 1 hE dX11_isNo_0 rfl 0 rfl ?_
  refine x_aload_n 2 hE dX11_isNo_1 rfl 1 rfl ?_
  refine x_calli 5 (xw_goV hE (c := 8) (by decide) (fun v4 hq => xw_rV hE (ct_X11_isSmall v4 v2) xd_X11_isSmall rfl q1016 q1018 qs18 q107 q1019 rfl ⟨Nat.le_of_ble_eq_true rfl, Nat.le_of_ble_eq_true rfl⟩ (congrArg va_rf hq) rfl (by decide) dX11_isNo_2)) rfl (fun v3 => ?_)
  refine x_if_ne 12 8 hE dX11_isNo_5 (by decide) rfl ?_ ?_
  · refine x_iconst 9 hE dX11_isNo_8 rfl xc_i_1 ?_
    refine x_goto 13 hE dX11_isNo_9 (by decide) ?_
    exact x_zretw hE (by decide) dX11_isNo_13
  · refine x_iconst 13 hE dX11_isNo_12 rfl xc_i_0 ?_
    exact x_zretw hE (by decide) dX11_isNo_13

set_option maxHeartbeats 4000000 in
theorem ct_X12_isNo {l : Launch} {G : xw_G} {μ : xw_Mu} (v1 : Nat) (v2 : Option Nat) : xw_Ct l G (xw_hc G μ) xw_oi yX12_isNo cX12_isNo 2 (some (.boolean)) 1 [va_rf (some v1), va_rf v2] (pg_X12_isNo v1 v2) := by
  refine xw_metL [(0, va_rf (some v1)), (1, va_rf v2)] (by decide) (Nat.le_trans (Nat.le_of_eq ((xw_l1 rfl).trans (congrArg (1 + ·) ((xw_l1 (x_rfc _)).trans (congrArg (1 + ·) xw_l0))))) (by decide)) ((xw_a1 rfl).trans (congrArg (List.cons _) ((xw_a1 (x_rfc _)).trans (congrArg (List.cons _) xw_a0)))) (fun E hE hl hG hm => ?_)
  subst hl; subst hG
  have hE : xw_ok E "CrossingWords$No" cX12_isNo 2 (some (.boolean)) 1 := hE
  unfold pg_X12_isNo
  refine x_iconst 1 hE dX12_isNo_0 rfl xc_i_1 ?_
  exact x_zretw hE (by decide) dX12_isNo_1

set_option maxHeartbeats 4000000 in
theorem ct_X8_given {l : Launch} {G : xw_G} {μ : xw_Mu} (v1 : Nat) : xw_Ct l G (xw_hc G μ) xw_oi yX8_given cX8_given 1 (some (.int)) 1 [va_rf (some v1)] (pg_X8_given v1) := by
  refine xw_metL [(0, va_rf (some v1))] (by decide) (Nat.le_trans (Nat.le_of_eq ((xw_l1 rfl).trans (congrArg (1 + ·) xw_l0))) (by decide)) ((xw_a1 rfl).trans (congrArg (List.cons _) xw_a0)) (fun E hE hl hG hm => ?_)
  subst hl; subst hG
  have hE : xw_ok E "CrossingWords$Offer" cX8_given 1 (some (.int)) 1 := hE
  unfold pg_X8_given
  refine x_aload_n 1 hE dX8_given_0 rfl 0 rfl ?_
  refine x_gI 4 hE (xw_lk0 hE xkf_CrossingWords_Offer_15) rfl dX8_given_1 rfl (fun v2 => ?_)
  exact x_iret hE dX8_given_4

set_option maxHeartbeats 4000000 in
theorem ct_X8_hold {l : Launch} {G : xw_G} {μ : xw_Mu} (v1 : Nat) : xw_Ct l G (xw_hc G μ) xw_oi yX8_hold cX8_hold 1 (some (.int)) 1 [va_rf (some v1)] (pg_X8_hold v1) := by
  refine xw_metL [(0, va_rf (some v1))] (by decide) (Nat.le_trans (Nat.le_of_eq ((xw_l1 rfl).trans (congrArg (1 + ·) xw_l0))) (by decide)) ((xw_a1 rfl).trans (congrArg (List.cons _) xw_a0)) (fun E hE hl hG hm => ?_)
  subst hl; subst hG
  have hE : xw_ok E "CrossingWords$Offer" cX8_hold 1 (some (.int)) 1 := hE
  unfold pg_X8_hold
  refine x_aload_n 1 hE dX8_hold_0 rfl 0 rfl ?_
  refine x_gI 4 hE (xw_lk0 hE xkf_CrossingWords_Offer_9) rfl dX8_hold_1 rfl (fun v2 => ?_)
  exact x_iret hE dX8_hold_4

set_option maxHeartbeats 4000000 in
theorem ct_X1_ends {l : Launch} {G : xw_G} {μ : xw_Mu} (v1 : Nat) (v2 : Int32) (v3 : Int32) (v4 : Int32) : xw_Ct l G (xw_hc G μ) xw_ov yX1_ends cX1_ends 4 none 1 [va_rf (some v1), .int v2, .int v3, .int v4] (pg_X1_ends v1 v2 v3 v4) := by
  refine xw_metL [(0, va_rf (some v1)), (1, .int v2), (2, .int v3), (3, .int v4)] (by decide) (Nat.le_trans (Nat.le_of_eq ((xw_l1 rfl).trans (congrArg (1 + ·) ((xw_l1 rfl).trans (congrArg (1 + ·) ((xw_l1 rfl).trans (congrArg (1 + ·) ((xw_l1 rfl).trans (congrArg (1 + ·) xw_l0))))))))) (by decide)) ((xw_a1 rfl).trans (congrArg (List.cons _) ((xw_a1 rfl).trans (congrArg (List.cons _) ((xw_a1 rfl).trans (congrArg (List.cons _) ((xw_a1 rfl).trans (congrArg (List.cons _) xw_a0)))))))) (fun E hE hl hG hm => ?_)
  subst hl; subst hG
  have hE : xw_ok E "CrossingWords$Run" cX1_ends 4 none 1 := hE
  unfold pg_X1_ends
  refine x_iload_n 1 hE dX1_ends_0 rfl 2 rfl ?_
  refine x_aload_n 2 hE dX1_ends_1 rfl 0 rfl ?_
  refine x_gR 5 hE (xw_lk0 hE xkf_CrossingWords_Run_22) rfl dX1_ends_2 rfl (fun v5 => ?_)
  refine x_iload_n 6 hE dX1_ends_5 rfl 1 rfl ?_
  refine x_ldI 7 hE dX1_ends_6 rfl (fun v6 => ?_)
  refine x_icmp_lt 11 10 hE dX1_ends_7 (by decide) rfl ?_ ?_
  · refine x_aload_n 12 hE dX1_ends_11 rfl 0 rfl ?_
    refine x_gR 15 hE (xw_lk0 hE xkf_CrossingWords_Run_22) rfl dX1_ends_12 rfl (fun v7 => ?_)
    refine x_iload_n 16 hE dX1_ends_15 rfl 1 rfl ?_
    refine x_iload_n 17 hE dX1_ends_16 rfl 2 rfl ?_
    refine x_stI 18 hE dX1_ends_17 rfl ?_
    refine x_aload_n 19 hE dX1_ends_18 rfl 0 rfl ?_
    refine x_gR 22 hE (xw_lk0 hE xkf_CrossingWords_Run_25) rfl dX1_ends_19 rfl (fun v8 => ?_)
    refine x_iload_n 23 hE dX1_ends_22 rfl 1 rfl ?_
    refine x_iload_n 24 hE dX1_ends_23 rfl 3 rfl ?_
    refine x_stI 25 hE dX1_ends_24 rfl ?_
    exact x_vret hE dX1_ends_25
  · exact x_vret hE dX1_ends_10

set_option maxHeartbeats 4000000 in
theorem ct_X6_given {l : Launch} {G : xw_G} {μ : xw_Mu} (v1 : Nat) : xw_Ct l G (xw_hc G μ) xw_oi yX6_given cX6_given 1 (some (.int)) 1 [va_rf (some v1)] (pg_X6_given v1) := by
  refine xw_metL [(0, va_rf (some v1))] (by decide) (Nat.le_trans (Nat.le_of_eq ((xw_l1 rfl).trans (congrArg (1 + ·) xw_l0))) (by decide)) ((xw_a1 rfl).trans (congrArg (List.cons _) xw_a0)) (fun E hE hl hG hm => ?_)
  subst hl; subst hG
  have hE : xw_ok E "CrossingWords$Saying" cX6_given 1 (some (.int)) 1 := hE
  unfold pg_X6_given
  refine x_iconst 1 hE dX6_given_0 rfl xc_i_m1 ?_
  exact x_iret hE dX6_given_1

set_option maxHeartbeats 4000000 in
theorem ct_X6_hold {l : Launch} {G : xw_G} {μ : xw_Mu} (v1 : Nat) : xw_Ct l G (xw_hc G μ) xw_oi yX6_hold cX6_hold 1 (some (.int)) 1 [va_rf (some v1)] (pg_X6_hold v1) := by
  refine xw_metL [(0, va_rf (some v1))] (by decide) (Nat.le_trans (Nat.le_of_eq ((xw_l1 rfl).trans (congrArg (1 + ·) xw_l0))) (by decide)) ((xw_a1 rfl).trans (congrArg (List.cons _) xw_a0)) (fun E hE hl hG hm => ?_)
  subst hl; subst hG
  have hE : xw_ok E "CrossingWords$Saying" cX6_hold 1 (some (.int)) 1 := hE
  unfold pg_X6_hold
  refine x_iconst 1 hE dX6_hold_0 rfl xc_i_m1 ?_
  exact x_iret hE dX6_hold_1

set_option maxHeartbeats 4000000 in
theorem ct_X6_isNo {l : Launch} {G : xw_G} {μ : xw_Mu} (v1 : Nat) (v2 : Option Nat) : xw_Ct l G (xw_hc G μ) xw_oi yX6_isNo cX6_isNo 2 (some (.boolean)) 1 [va_rf (some v1), va_rf v2] (pg_X6_isNo v1 v2) := by
  refine xw_metL [(0, va_rf (some v1)), (1, va_rf v2)] (by decide) (Nat.le_trans (Nat.le_of_eq ((xw_l1 rfl).trans (congrArg (1 + ·) ((xw_l1 (x_rfc _)).trans (congrArg (1 + ·) xw_l0))))) (by decide)) ((xw_a1 rfl).trans (congrArg (List.cons _) ((xw_a1 (x_rfc _)).trans (congrArg (List.cons _) xw_a0)))) (fun E hE hl hG hm => ?_)
  subst hl; subst hG
  have hE : xw_ok E "CrossingWords$Saying" cX6_isNo 2 (some (.boolean)) 1 := hE
  unfold pg_X6_isNo
  refine x_iconst 1 hE dX6_isNo_0 rfl xc_i_0 ?_
  exact x_zretw hE (by decide) dX6_isNo_1

set_option maxHeartbeats 4000000 in
theorem ct_X1_opens {l : Launch} {G : xw_G} {μ : xw_Mu} (HG : Nat → Int32 → Option Nat → xw_M xw_St Int32) (lamH : Nat) (hlamH : 40 ≤ lamH) (cHG : ∀ (a : Nat) (b : Int32) (c : Option Nat), xw_Ct l G (xw_hc G μ) xw_oi yX0_hasGiven cX0_hasGiven 7 (some .boolean) lamH [va_rf (some a), .int b, va_rf c] (HG a b c)) (v1 : Nat) (v2 : Option Nat) : xw_Ct l G (xw_hc G μ) xw_ov yX1_opens cX1_opens 6 none (lamH + 1) [va_rf (some v1), va_rf v2] (pg_X1_opens HG v1 v2) := by
  refine xw_metL [(0, va_rf (some v1)), (1, va_rf v2)] (by decide) (Nat.le_trans (Nat.le_of_eq ((xw_l1 rfl).trans (congrArg (1 + ·) ((xw_l1 (x_rfc _)).trans (congrArg (1 + ·) xw_l0))))) (by decide)) ((xw_a1 rfl).trans (congrArg (List.cons _) ((xw_a1 (x_rfc _)).trans (congrArg (List.cons _) xw_a0)))) (fun E hE hl hG hm => ?_)
  subst hl; subst hG
  have hE : xw_ok E "CrossingWords$Run" cX1_opens 6 none (lamH + 1) := hE
  unfold pg_X1_opens
  refine x_aload_n 1 hE dX1_opens_0 rfl 1 rfl ?_
  refine x_gI 4 hE (xw_lk0 hE xkf_CrossingWords_Run_85) rfl dX1_opens_1 rfl (fun v3 => ?_)
  refine x_istore_n 5 [(2, .int v3), (0, va_rf (some v1)), (1, va_rf v2)] hE dX1_opens_4 rfl rfl (Nat.le_of_ble_eq_true rfl) (congrArg (List.cons _) (xw_f1 (by decide) rfl (xw_f1 (by decide) (x_rfc _) xw_f0))) ?_
  refine x_aload_n 6 hE dX1_opens_5 rfl 1 rfl ?_
  refine x_gR 9 hE (xw_lk0 hE xkf_CrossingWords_Run_19) rfl dX1_opens_6 rfl (fun v4 => ?_)
  refine x_iload_n 10 hE dX1_opens_9 rfl 0 rfl ?_
  refine x_aload_n 11 hE dX1_opens_10 rfl 2 rfl ?_
  refine x_calli 14 (xw_goD hE (fun v6 hq => (List.forall_mem_cons.mpr ⟨⟨Nat.le_of_ble_eq_true rfl, xw_rU (owner := "CrossingWords$Saying") (x := ⟨"CrossingWords$Saying", "given", "()I"⟩) hE (ct_X6_given v6) xD_CrossingWords_Saying_given___I (Or.inl (Or.inl rfl)) q1036 q896 q897 q895 q102 q907 rfl ⟨by omega, Nat.le_of_ble_eq_true rfl⟩ (congrArg va_rf hq) rfl (Nat.le_trans (xw_sm1 rfl (xw_sm1 (x_rfc _) xw_sm0)) (by decide)) dX1_opens_11⟩, (List.forall_mem_cons.mpr ⟨⟨Nat.le_of_ble_eq_true rfl, xw_rU (owner := "CrossingWords$Saying") (x := ⟨"CrossingWords$Saying", "given", "()I"⟩) hE (ct_X8_given v6) xD_CrossingWords_Saying_given___I (Or.inl (Or.inr ⟨_, _, _, q895, q907⟩)) q1036 q896 q902 q903 q104 q904 rfl ⟨by omega, Nat.le_of_ble_eq_true rfl⟩ (congrArg va_rf hq) rfl (Nat.le_trans (xw_sm1 rfl (xw_sm1 (x_rfc _) xw_sm0)) (by decide)) dX1_opens_11⟩, (List.forall_mem_cons.mpr ⟨⟨Nat.le_of_ble_eq_true rfl, xw_rU (owner := "CrossingWords$Saying") (x := ⟨"CrossingWords$Saying", "given", "()I"⟩) hE (ct_X6_given v6) xD_CrossingWords_Saying_given___I (Or.inl (Or.inl rfl)) q1036 q896 q906 q895 q102 q907 rfl ⟨by omega, Nat.le_of_ble_eq_true rfl⟩ (congrArg va_rf hq) rfl (Nat.le_trans (xw_sm1 rfl (xw_sm1 (x_rfc _) xw_sm0)) (by decide)) dX1_opens_11⟩, (List.forall_mem_cons.mpr ⟨⟨Nat.le_of_ble_eq_true rfl, xw_rU (owner := "CrossingWords$Saying") (x := ⟨"CrossingWords$Saying", "given", "()I"⟩) hE (ct_X6_given v6) xD_CrossingWords_Saying_given___I (Or.inl (Or.inl rfl)) q1036 q896 q899 q895 q102 q907 rfl ⟨by omega, Nat.le_of_ble_eq_true rfl⟩ (congrArg va_rf hq) rfl (Nat.le_trans (xw_sm1 rfl (xw_sm1 (x_rfc _) xw_sm0)) (by decide)) dX1_opens_11⟩, (List.forall_mem_cons.mpr ⟨⟨Nat.le_of_ble_eq_true rfl, xw_rU (owner := "CrossingWords$Saying") (x := ⟨"CrossingWords$Saying", "given", "()I"⟩) hE (ct_X6_given v6) xD_CrossingWords_Saying_given___I (Or.inl (Or.inl rfl)) q1036 q896 q901 q895 q102 q907 rfl ⟨by omega, Nat.le_of_ble_eq_true rfl⟩ (congrArg va_rf hq) rfl (Nat.le_trans (xw_sm1 rfl (xw_sm1 (x_rfc _) xw_sm0)) (by decide)) dX1_opens_11⟩, (List.forall_mem_cons.mpr ⟨⟨Nat.le_of_ble_eq_true rfl, xw_rU (owner := "CrossingWords$Saying") (x := ⟨"CrossingWords$Saying", "given", "()I"⟩) hE (ct_X6_given v6) xD_CrossingWords_Saying_given___I (Or.inl (Or.inl rfl)) q1036 q896 q898 q895 q102 q907 rfl ⟨by omega, Nat.le_of_ble_eq_true rfl⟩ (congrArg va_rf hq) rfl (Nat.le_trans (xw_sm1 rfl (xw_sm1 (x_rfc _) xw_sm0)) (by decide)) dX1_opens_11⟩, (List.forall_mem_cons.mpr ⟨⟨Nat.le_of_ble_eq_true rfl, xw_rU (owner := "CrossingWords$Saying") (x := ⟨"CrossingWords$Saying", "given", "()I"⟩) hE (ct_X6_given v6) xD_CrossingWords_Saying_given___I (Or.inl (Or.inl rfl)) q1036 q896 q900 q895 q102 q907 rfl ⟨by omega, Nat.le_of_ble_eq_true rfl⟩ (congrArg va_rf hq) rfl (Nat.le_trans (xw_sm1 rfl (xw_sm1 (x_rfc _) xw_sm0)) (by decide)) dX1_opens_11⟩, (List.forall_mem_cons.mpr ⟨⟨Nat.le_of_ble_eq_true rfl, xw_rU (owner := "CrossingWords$Saying") (x := ⟨"CrossingWords$Saying", "given", "()I"⟩) hE (ct_X6_given v6) xD_CrossingWords_Saying_given___I (Or.inl (Or.inl rfl)) q1036 q896 q905 q895 q102 q907 rfl ⟨by omega, Nat.le_of_ble_eq_true rfl⟩ (congrArg va_rf hq) rfl (Nat.le_trans (xw_sm1 rfl (xw_sm1 (x_rfc _) xw_sm0)) (by decide)) dX1_opens_11⟩, (fun _ h => absurd h List.not_mem_nil)⟩)⟩)⟩)⟩)⟩)⟩)⟩)⟩))) rfl (fun v5 => ?_)
  refine x_iconst 15 hE dX1_opens_14 rfl xc_i_m1 ?_
  refine x_sq 55 (fun (v7 : Int32) => [(0, va_rf (some v1)), (1, va_rf v2), (2, .int v3)]) (fun (v7 : Int32) => [.int v7, .int v3, va_rf v4]) (fun v7 => ?_) (fun J1 hJ1 => ?_)
  · refine x_stI 56 hE dX1_opens_55 rfl ?_
    refine x_aload_n 57 hE dX1_opens_56 rfl 0 rfl ?_
    refine x_gR 60 hE (xw_lk0 hE xkf_CrossingWords_Run_22) rfl dX1_opens_57 rfl (fun v8 => ?_)
    refine x_iload_n 61 hE dX1_opens_60 rfl 2 rfl ?_
    refine x_sipush 64 hE dX1_opens_61 rfl xc_s_9999 ?_
    refine x_stI 65 hE dX1_opens_64 rfl ?_
    refine x_aload_n 66 hE dX1_opens_65 rfl 0 rfl ?_
    refine x_gR 69 hE (xw_lk0 hE xkf_CrossingWords_Run_25) rfl dX1_opens_66 rfl (fun v9 => ?_)
    refine x_iload_n 70 hE dX1_opens_69 rfl 2 rfl ?_
    refine x_iconst 71 hE dX1_opens_70 rfl xc_i_0 ?_
    refine x_stI 72 hE dX1_opens_71 rfl ?_
    refine x_iconst 73 hE dX1_opens_72 rfl xc_i_0 ?_
    refine x_istore_n 74 [(3, .int 0), (0, va_rf (some v1)), (1, va_rf v2), (2, .int v3)] hE dX1_opens_73 rfl rfl (Nat.le_of_ble_eq_true rfl) rfl ?_
    refine x_sub [(0, va_rf (some v1)), (1, va_rf v2), (2, .int v3), (3, .int 0)] [1, 2, 3, 0] rfl ?_
    refine x_sq 176 (fun (v11 : Unit) => [(0, va_rf (some v1)), (1, va_rf v2), (2, .int v3)]) (fun _ => []) (fun v11 => ?_) (fun J3 hJ3 => ?_)
    · refine x_iconst 177 hE dX1_opens_176 rfl xc_i_0 ?_
      refine x_istore_n 178 [(3, .int 0), (0, va_rf (some v1)), (1, va_rf v2), (2, .int v3)] hE dX1_opens_177 rfl rfl (Nat.le_of_ble_eq_true rfl) rfl ?_
      refine x_sub [(0, va_rf (some v1)), (1, va_rf v2), (2, .int v3), (3, .int 0)] [1, 2, 3, 0] rfl ?_
      refine x_sq 257 (fun (v13 : Unit) => [(0, va_rf (some v1)), (1, va_rf v2), (2, .int v3)]) (fun _ => []) (fun v13 => ?_) (fun J5 hJ5 => ?_)
      · refine x_aload_n 258 hE dX1_opens_257 rfl 1 rfl ?_
        refine x_calli 261 (xw_goD hE (fun v15 hq => (List.forall_mem_cons.mpr ⟨⟨Nat.le_of_ble_eq_true rfl, xw_rU (owner := "CrossingWords$Saying") (x := ⟨"CrossingWords$Saying", "hold", "()I"⟩) hE (ct_X6_hold v15) xD_CrossingWords_Saying_hold___I (Or.inl (Or.inl rfl)) q1061 q882 q883 q881 q102 q893 rfl ⟨by omega, Nat.le_of_ble_eq_true rfl⟩ (congrArg va_rf hq) rfl (by decide) dX1_opens_258⟩, (List.forall_mem_cons.mpr ⟨⟨Nat.le_of_ble_eq_true rfl, xw_rU (owner := "CrossingWords$Saying") (x := ⟨"CrossingWords$Saying", "hold", "()I"⟩) hE (ct_X8_hold v15) xD_CrossingWords_Saying_hold___I (Or.inl (Or.inr ⟨_, _, _, q881, q893⟩)) q1061 q882 q888 q889 q104 q890 rfl ⟨by omega, Nat.le_of_ble_eq_true rfl⟩ (congrArg va_rf hq) rfl (by decide) dX1_opens_258⟩, (List.forall_mem_cons.mpr ⟨⟨Nat.le_of_ble_eq_true rfl, xw_rU (owner := "CrossingWords$Saying") (x := ⟨"CrossingWords$Saying", "hold", "()I"⟩) hE (ct_X6_hold v15) xD_CrossingWords_Saying_hold___I (Or.inl (Or.inl rfl)) q1061 q882 q892 q881 q102 q893 rfl ⟨by omega, Nat.le_of_ble_eq_true rfl⟩ (congrArg va_rf hq) rfl (by decide) dX1_opens_258⟩, (List.forall_mem_cons.mpr ⟨⟨Nat.le_of_ble_eq_true rfl, xw_rU (owner := "CrossingWords$Saying") (x := ⟨"CrossingWords$Saying", "hold", "()I"⟩) hE (ct_X6_hold v15) xD_CrossingWords_Saying_hold___I (Or.inl (Or.inl rfl)) q1061 q882 q885 q881 q102 q893 rfl ⟨by omega, Nat.le_of_ble_eq_true rfl⟩ (congrArg va_rf hq) rfl (by decide) dX1_opens_258⟩, (List.forall_mem_cons.mpr ⟨⟨Nat.le_of_ble_eq_true rfl, xw_rU (owner := "CrossingWords$Saying") (x := ⟨"CrossingWords$Saying", "hold", "()I"⟩) hE (ct_X6_hold v15) xD_CrossingWords_Saying_hold___I (Or.inl (Or.inl rfl)) q1061 q882 q887 q881 q102 q893 rfl ⟨by omega, Nat.le_of_ble_eq_true rfl⟩ (congrArg va_rf hq) rfl (by decide) dX1_opens_258⟩, (List.forall_mem_cons.mpr ⟨⟨Nat.le_of_ble_eq_true rfl, xw_rU (owner := "CrossingWords$Saying") (x := ⟨"CrossingWords$Saying", "hold", "()I"⟩) hE (ct_X6_hold v15) xD_CrossingWords_Saying_hold___I (Or.inl (Or.inl rfl)) q1061 q882 q884 q881 q102 q893 rfl ⟨by omega, Nat.le_of_ble_eq_true rfl⟩ (congrArg va_rf hq) rfl (by decide) dX1_opens_258⟩, (List.forall_mem_cons.mpr ⟨⟨Nat.le_of_ble_eq_true rfl, xw_rU (owner := "CrossingWords$Saying") (x := ⟨"CrossingWords$Saying", "hold", "()I"⟩) hE (ct_X6_hold v15) xD_CrossingWords_Saying_hold___I (Or.inl (Or.inl rfl)) q1061 q882 q886 q881 q102 q893 rfl ⟨by omega, Nat.le_of_ble_eq_true rfl⟩ (congrArg va_rf hq) rfl (by decide) dX1_opens_258⟩, (List.forall_mem_cons.mpr ⟨⟨Nat.le_of_ble_eq_true rfl, xw_rU (owner := "CrossingWords$Saying") (x := ⟨"CrossingWords$Saying", "hold", "()I"⟩) hE (ct_X6_hold v15) xD_CrossingWords_Saying_hold___I (Or.inl (Or.inl rfl)) q1061 q882 q891 q881 q102 q893 rfl ⟨by omega, Nat.le_of_ble_eq_true rfl⟩ (congrArg va_rf hq) rfl (by decide) dX1_opens_258⟩, (fun _ h => absurd h List.not_mem_nil)⟩)⟩)⟩)⟩)⟩)⟩)⟩)⟩))) rfl (fun v14 => ?_)
        refine x_iconst 262 hE dX1_opens_261 rfl xc_i_m1 ?_
        refine x_icmp_eq 280 265 hE dX1_opens_262 (by decide) rfl ?_ ?_
        · refine x_aload_n 281 hE dX1_opens_280 rfl 0 rfl ?_
          refine x_gR 284 hE (xw_lk0 hE xkf_CrossingWords_Run_92) rfl dX1_opens_281 rfl (fun v16 => ?_)
          refine x_bipush 286 hE dX1_opens_284 rfl xc_b_7 ?_
          refine x_calli 289 (xw_goV hE (c := 17) (by decide) (fun v18 hq => xw_rV hE (ct_X20_at v18 7) xd_X20_at rfl q1045 q988 q989 q116 q990 rfl ⟨by omega, Nat.le_of_ble_eq_true rfl⟩ (congrArg va_rf hq) rfl (by decide) dX1_opens_286)) rfl (fun v17 => ?_)
          refine x_iconst 290 hE dX1_opens_289 rfl xc_i_m1 ?_
          refine x_icmp_eq 329 293 hE dX1_opens_290 (by decide) rfl ?_ ?_
          · exact x_vret hE dX1_opens_329
          · refine x_aload_n 294 hE dX1_opens_293 rfl 0 rfl ?_
            refine x_aload_n 295 hE dX1_opens_294 rfl 1 rfl ?_
            refine x_iconst 296 hE dX1_opens_295 rfl xc_i_1 ?_
            refine x_calli 299 (xw_goV hE (c := 1) (by decide) (fun v20 hq => xw_rV hE (ct_X1_hour v20 v2 1) xd_X1_hour rfl q1046 q954 q955 q96 q956 rfl ⟨by omega, Nat.le_of_ble_eq_true rfl⟩ (congrArg va_rf hq) rfl (by decide) dX1_opens_296)) rfl (fun v19 => ?_)
            refine x_sipush 302 hE dX1_opens_299 rfl xc_s_9999 ?_
            refine x_icmp_eq 329 305 hE dX1_opens_302 (by decide) rfl ?_ ?_
            · exact x_vret hE dX1_opens_329
            · refine x_aload_n 306 hE dX1_opens_305 rfl 0 rfl ?_
              refine x_iload_n 307 hE dX1_opens_306 rfl 2 rfl ?_
              refine x_aload_n 308 hE dX1_opens_307 rfl 0 rfl ?_
              refine x_aload_n 309 hE dX1_opens_308 rfl 1 rfl ?_
              refine x_iconst 310 hE dX1_opens_309 rfl xc_i_1 ?_
              refine x_calli 313 (xw_goV hE (c := 1) (by decide) (fun v22 hq => xw_rV hE (ct_X1_hour v22 v2 1) xd_X1_hour rfl q1046 q954 q955 q96 q956 rfl ⟨by omega, Nat.le_of_ble_eq_true rfl⟩ (congrArg va_rf hq) rfl (Nat.le_trans (xw_sm1 rfl (xw_sm1 rfl xw_sm0)) (by decide)) dX1_opens_310)) rfl (fun v21 => ?_)
              refine x_aload_n 314 hE dX1_opens_313 rfl 0 rfl ?_
              refine x_gR 317 hE (xw_lk0 hE xkf_CrossingWords_Run_92) rfl dX1_opens_314 rfl (fun v23 => ?_)
              refine x_bipush 319 hE dX1_opens_317 rfl xc_b_7 ?_
              refine x_calli 322 (xw_goV hE (c := 17) (by decide) (fun v25 hq => xw_rV hE (ct_X20_at v25 7) xd_X20_at rfl q1045 q988 q989 q116 q990 rfl ⟨by omega, Nat.le_of_ble_eq_true rfl⟩ (congrArg va_rf hq) rfl (Nat.le_trans (xw_sm1 rfl (xw_sm1 rfl (xw_sm1 rfl xw_sm0))) (by decide)) dX1_opens_319)) rfl (fun v24 => ?_)
              refine x_iadd 323 hE dX1_opens_322 rfl ?_
              refine x_iconst 324 hE dX1_opens_323 rfl xc_i_1 ?_
              refine x_iadd 325 hE dX1_opens_324 rfl ?_
              refine x_iconst 326 hE dX1_opens_325 rfl xc_i_4 ?_
              refine x_callv 329 (xw_goV hE (c := 1) (by decide) (fun v26 hq => xw_rV hE (ct_X1_ends v26 v3 ((v21 + v24) + 1) 4) xd_X1_ends rfl q1062 q1064 qs21 q96 q1065 rfl ⟨by omega, Nat.le_of_ble_eq_true rfl⟩ (congrArg va_rf hq) rfl (by decide) dX1_opens_326)) rfl ?_
              exact x_vret hE dX1_opens_329
        · refine x_aload_n 266 hE dX1_opens_265 rfl 0 rfl ?_
          refine x_iload_n 267 hE dX1_opens_266 rfl 2 rfl ?_
          refine x_aload_n 268 hE dX1_opens_267 rfl 1 rfl ?_
          refine x_calli 271 (xw_goD hE (fun v28 hq => (List.forall_mem_cons.mpr ⟨⟨Nat.le_of_ble_eq_true rfl, xw_rU (owner := "CrossingWords$Saying") (x := ⟨"CrossingWords$Saying", "hold", "()I"⟩) hE (ct_X6_hold v28) xD_CrossingWords_Saying_hold___I (Or.inl (Or.inl rfl)) q1061 q882 q883 q881 q102 q893 rfl ⟨by omega, Nat.le_of_ble_eq_true rfl⟩ (congrArg va_rf hq) rfl (Nat.le_trans (xw_sm1 rfl (xw_sm1 rfl xw_sm0)) (by decide)) dX1_opens_268⟩, (List.forall_mem_cons.mpr ⟨⟨Nat.le_of_ble_eq_true rfl, xw_rU (owner := "CrossingWords$Saying") (x := ⟨"CrossingWords$Saying", "hold", "()I"⟩) hE (ct_X8_hold v28) xD_CrossingWords_Saying_hold___I (Or.inl (Or.inr ⟨_, _, _, q881, q893⟩)) q1061 q882 q888 q889 q104 q890 rfl ⟨by omega, Nat.le_of_ble_eq_true rfl⟩ (congrArg va_rf hq) rfl (Nat.le_trans (xw_sm1 rfl (xw_sm1 rfl xw_sm0)) (by decide)) dX1_opens_268⟩, (List.forall_mem_cons.mpr ⟨⟨Nat.le_of_ble_eq_true rfl, xw_rU (owner := "CrossingWords$Saying") (x := ⟨"CrossingWords$Saying", "hold", "()I"⟩) hE (ct_X6_hold v28) xD_CrossingWords_Saying_hold___I (Or.inl (Or.inl rfl)) q1061 q882 q892 q881 q102 q893 rfl ⟨by omega, Nat.le_of_ble_eq_true rfl⟩ (congrArg va_rf hq) rfl (Nat.le_trans (xw_sm1 rfl (xw_sm1 rfl xw_sm0)) (by decide)) dX1_opens_268⟩, (List.forall_mem_cons.mpr ⟨⟨Nat.le_of_ble_eq_true rfl, xw_rU (owner := "CrossingWords$Saying") (x := ⟨"CrossingWords$Saying", "hold", "()I"⟩) hE (ct_X6_hold v28) xD_CrossingWords_Saying_hold___I (Or.inl (Or.inl rfl)) q1061 q882 q885 q881 q102 q893 rfl ⟨by omega, Nat.le_of_ble_eq_true rfl⟩ (congrArg va_rf hq) rfl (Nat.le_trans (xw_sm1 rfl (xw_sm1 rfl xw_sm0)) (by decide)) dX1_opens_268⟩, (List.forall_mem_cons.mpr ⟨⟨Nat.le_of_ble_eq_true rfl, xw_rU (owner := "CrossingWords$Saying") (x := ⟨"CrossingWords$Saying", "hold", "()I"⟩) hE (ct_X6_hold v28) xD_CrossingWords_Saying_hold___I (Or.inl (Or.inl rfl)) q1061 q882 q887 q881 q102 q893 rfl ⟨by omega, Nat.le_of_ble_eq_true rfl⟩ (congrArg va_rf hq) rfl (Nat.le_trans (xw_sm1 rfl (xw_sm1 rfl xw_sm0)) (by decide)) dX1_opens_268⟩, (List.forall_mem_cons.mpr ⟨⟨Nat.le_of_ble_eq_true rfl, xw_rU (owner := "CrossingWords$Saying") (x := ⟨"CrossingWords$Saying", "hold", "()I"⟩) hE (ct_X6_hold v28) xD_CrossingWords_Saying_hold___I (Or.inl (Or.inl rfl)) q1061 q882 q884 q881 q102 q893 rfl ⟨by omega, Nat.le_of_ble_eq_true rfl⟩ (congrArg va_rf hq) rfl (Nat.le_trans (xw_sm1 rfl (xw_sm1 rfl xw_sm0)) (by decide)) dX1_opens_268⟩, (List.forall_mem_cons.mpr ⟨⟨Nat.le_of_ble_eq_true rfl, xw_rU (owner := "CrossingWords$Saying") (x := ⟨"CrossingWords$Saying", "hold", "()I"⟩) hE (ct_X6_hold v28) xD_CrossingWords_Saying_hold___I (Or.inl (Or.inl rfl)) q1061 q882 q886 q881 q102 q893 rfl ⟨by omega, Nat.le_of_ble_eq_true rfl⟩ (congrArg va_rf hq) rfl (Nat.le_trans (xw_sm1 rfl (xw_sm1 rfl xw_sm0)) (by decide)) dX1_opens_268⟩, (List.forall_mem_cons.mpr ⟨⟨Nat.le_of_ble_eq_true rfl, xw_rU (owner := "CrossingWords$Saying") (x := ⟨"CrossingWords$Saying", "hold", "()I"⟩) hE (ct_X6_hold v28) xD_CrossingWords_Saying_hold___I (Or.inl (Or.inl rfl)) q1061 q882 q891 q881 q102 q893 rfl ⟨by omega, Nat.le_of_ble_eq_true rfl⟩ (congrArg va_rf hq) rfl (Nat.le_trans (xw_sm1 rfl (xw_sm1 rfl xw_sm0)) (by decide)) dX1_opens_268⟩, (fun _ h => absurd h List.not_mem_nil)⟩)⟩)⟩)⟩)⟩)⟩)⟩)⟩))) rfl (fun v27 => ?_)
          refine x_iconst 272 hE dX1_opens_271 rfl xc_i_1 ?_
          refine x_iadd 273 hE dX1_opens_272 rfl ?_
          refine x_iconst 274 hE dX1_opens_273 rfl xc_i_3 ?_
          refine x_callv 277 (xw_goV hE (c := 1) (by decide) (fun v29 hq => xw_rV hE (ct_X1_ends v29 v3 (v27 + 1) 3) xd_X1_ends rfl q1062 q1064 qs21 q96 q1065 rfl ⟨by omega, Nat.le_of_ble_eq_true rfl⟩ (congrArg va_rf hq) rfl (by decide) dX1_opens_274)) rfl ?_
          refine x_goto 329 hE dX1_opens_277 (by decide) ?_
          exact x_vret hE dX1_opens_329
      · refine x_loop (fun (v12 : Int32) => [(0, va_rf (some v1)), (1, va_rf v2), (2, .int v3), (3, .int v12)]) (fun JL4 hc4 hx4 v12 => ?_) _ _
        refine x_iload_n 179 hE dX1_opens_178 rfl 3 rfl ?_
        refine x_aload_n 180 hE dX1_opens_179 rfl 0 rfl ?_
        refine x_gR 183 hE (xw_lk0 hE xkf_CrossingWords_Run_31) rfl dX1_opens_180 rfl (fun v30 => ?_)
        refine x_gI 186 hE (xw_lk0 hE xkf_CrossingWords_Run_51) rfl dX1_opens_183 rfl (fun v31 => ?_)
        refine x_icmp_ge 257 189 hE dX1_opens_186 (by decide) rfl ?_ ?_
        · refine x_sub [(0, va_rf (some v1)), (1, va_rf v2), (2, .int v3)] [0, 1, 2] rfl ?_
          refine hx4 _ _ _ _ ?_
          exact hJ5 ()
        · refine x_aload_n 190 hE dX1_opens_189 rfl 0 rfl ?_
          refine x_gR 193 hE (xw_lk0 hE xkf_CrossingWords_Run_31) rfl dX1_opens_190 rfl (fun v32 => ?_)
          refine x_gR 196 hE (xw_lk0 hE xkf_CrossingWords_Run_54) rfl dX1_opens_193 rfl (fun v33 => ?_)
          refine x_iload_n 197 hE dX1_opens_196 rfl 3 rfl ?_
          refine x_ldR 198 hE dX1_opens_197 rfl (fun v34 => ?_)
          refine x_aload_n 199 hE dX1_opens_198 rfl 0 rfl ?_
          refine x_gR 202 hE (xw_lk0 hE xkf_CrossingWords_Run_92) rfl dX1_opens_199 rfl (fun v35 => ?_)
          refine x_calli 205 (xw_goD hE (fun v37 hq => (List.forall_mem_cons.mpr ⟨⟨Nat.le_of_ble_eq_true rfl, xw_rU (owner := "CrossingWords$Saying") (x := ⟨"CrossingWords$Saying", "isNo", "(LCrossingWords$Rules;)Z"⟩) hE (ct_X6_isNo v37 v35) xD_CrossingWords_Saying_isNo__LCrossingWords_Rules__Z (Or.inl (Or.inl rfl)) q1066 q1068 q1069 q1067 q102 q1081 rfl ⟨by omega, Nat.le_of_ble_eq_true rfl⟩ (congrArg va_rf hq) rfl (by decide) dX1_opens_202⟩, (List.forall_mem_cons.mpr ⟨⟨Nat.le_of_ble_eq_true rfl, xw_rU (owner := "CrossingWords$Saying") (x := ⟨"CrossingWords$Saying", "isNo", "(LCrossingWords$Rules;)Z"⟩) hE (ct_X6_isNo v37 v35) xD_CrossingWords_Saying_isNo__LCrossingWords_Rules__Z (Or.inl (Or.inl rfl)) q1066 q1068 q1078 q1067 q102 q1081 rfl ⟨by omega, Nat.le_of_ble_eq_true rfl⟩ (congrArg va_rf hq) rfl (by decide) dX1_opens_202⟩, (List.forall_mem_cons.mpr ⟨⟨Nat.le_of_ble_eq_true rfl, xw_rU (owner := "CrossingWords$Saying") (x := ⟨"CrossingWords$Saying", "isNo", "(LCrossingWords$Rules;)Z"⟩) hE (ct_X6_isNo v37 v35) xD_CrossingWords_Saying_isNo__LCrossingWords_Rules__Z (Or.inl (Or.inl rfl)) q1066 q1068 q1080 q1067 q102 q1081 rfl ⟨by omega, Nat.le_of_ble_eq_true rfl⟩ (congrArg va_rf hq) rfl (by decide) dX1_opens_202⟩, (List.forall_mem_cons.mpr ⟨⟨Nat.le_of_ble_eq_true rfl, xw_rU (owner := "CrossingWords$Saying") (x := ⟨"CrossingWords$Saying", "isNo", "(LCrossingWords$Rules;)Z"⟩) hE (ct_X11_isNo v37 v35) xD_CrossingWords_Saying_isNo__LCrossingWords_Rules__Z (Or.inl (Or.inr ⟨_, _, _, q1067, q1081⟩)) q1066 q1068 q1071 q1072 q107 q1073 rfl ⟨by omega, Nat.le_of_ble_eq_true rfl⟩ (congrArg va_rf hq) rfl (by decide) dX1_opens_202⟩, (List.forall_mem_cons.mpr ⟨⟨Nat.le_of_ble_eq_true rfl, xw_rU (owner := "CrossingWords$Saying") (x := ⟨"CrossingWords$Saying", "isNo", "(LCrossingWords$Rules;)Z"⟩) hE (ct_X12_isNo v37 v35) xD_CrossingWords_Saying_isNo__LCrossingWords_Rules__Z (Or.inl (Or.inr ⟨_, _, _, q1067, q1081⟩)) q1066 q1068 q1075 q1076 q108 q1077 rfl ⟨by omega, Nat.le_of_ble_eq_true rfl⟩ (congrArg va_rf hq) rfl (by decide) dX1_opens_202⟩, (List.forall_mem_cons.mpr ⟨⟨Nat.le_of_ble_eq_true rfl, xw_rU (owner := "CrossingWords$Saying") (x := ⟨"CrossingWords$Saying", "isNo", "(LCrossingWords$Rules;)Z"⟩) hE (ct_X6_isNo v37 v35) xD_CrossingWords_Saying_isNo__LCrossingWords_Rules__Z (Or.inl (Or.inl rfl)) q1066 q1068 q1070 q1067 q102 q1081 rfl ⟨by omega, Nat.le_of_ble_eq_true rfl⟩ (congrArg va_rf hq) rfl (by decide) dX1_opens_202⟩, (List.forall_mem_cons.mpr ⟨⟨Nat.le_of_ble_eq_true rfl, xw_rU (owner := "CrossingWords$Saying") (x := ⟨"CrossingWords$Saying", "isNo", "(LCrossingWords$Rules;)Z"⟩) hE (ct_X6_isNo v37 v35) xD_CrossingWords_Saying_isNo__LCrossingWords_Rules__Z (Or.inl (Or.inl rfl)) q1066 q1068 q1074 q1067 q102 q1081 rfl ⟨by omega, Nat.le_of_ble_eq_true rfl⟩ (congrArg va_rf hq) rfl (by decide) dX1_opens_202⟩, (List.forall_mem_cons.mpr ⟨⟨Nat.le_of_ble_eq_true rfl, xw_rU (owner := "CrossingWords$Saying") (x := ⟨"CrossingWords$Saying", "isNo", "(LCrossingWords$Rules;)Z"⟩) hE (ct_X6_isNo v37 v35) xD_CrossingWords_Saying_isNo__LCrossingWords_Rules__Z (Or.inl (Or.inl rfl)) q1066 q1068 q1079 q1067 q102 q1081 rfl ⟨by omega, Nat.le_of_ble_eq_true rfl⟩ (congrArg va_rf hq) rfl (by decide) dX1_opens_202⟩, (fun _ h => absurd h List.not_mem_nil)⟩)⟩)⟩)⟩)⟩)⟩)⟩)⟩))) rfl (fun v36 => ?_)
          refine x_if_eq 251 208 hE dX1_opens_205 (by decide) rfl ?_ ?_
          · refine x_iinc 254 [(3, .int (v12 + 1)), (0, va_rf (some v1)), (1, va_rf v2), (2, .int v3)] hE dX1_opens_251 rfl 3 rfl xc_i_1 (Nat.le_of_ble_eq_true rfl) rfl ?_
            refine x_goto 178 hE dX1_opens_254 (by decide) ?_
            refine x_sub [(0, va_rf (some v1)), (1, va_rf v2), (2, .int v3), (3, .int (v12 + 1))] [1, 2, 3, 0] rfl ?_
            exact hc4 (v12 + 1)
          · refine x_aload_n 209 hE dX1_opens_208 rfl 0 rfl ?_
            refine x_gR 212 hE (xw_lk0 hE xkf_CrossingWords_Run_31) rfl dX1_opens_209 rfl (fun v38 => ?_)
            refine x_gR 215 hE (xw_lk0 hE xkf_CrossingWords_Run_54) rfl dX1_opens_212 rfl (fun v39 => ?_)
            refine x_iload_n 216 hE dX1_opens_215 rfl 3 rfl ?_
            refine x_ldR 217 hE dX1_opens_216 rfl (fun v40 => ?_)
            refine x_aload_n 218 hE dX1_opens_217 rfl 1 rfl ?_
            refine x_calli 221 (xw_goD hE (fun v42 hq => (List.forall_mem_cons.mpr ⟨⟨Nat.le_of_ble_eq_true rfl, xw_rU (owner := "CrossingWords$Saying") (x := ⟨"CrossingWords$Saying", "isSaid", "(LCrossingWords$Saying;)Z"⟩) hE (ct_X6_isSaid v42 v2) xD_CrossingWords_Saying_isSaid__LCrossingWords_Saying__Z (Or.inl (Or.inl rfl)) q1048 q1050 q1051 q1049 q102 q1059 rfl ⟨by omega, Nat.le_of_ble_eq_true rfl⟩ (congrArg va_rf hq) rfl (by decide) dX1_opens_218⟩, (List.forall_mem_cons.mpr ⟨⟨Nat.le_of_ble_eq_true rfl, xw_rU (owner := "CrossingWords$Saying") (x := ⟨"CrossingWords$Saying", "isSaid", "(LCrossingWords$Saying;)Z"⟩) hE (ct_X6_isSaid v42 v2) xD_CrossingWords_Saying_isSaid__LCrossingWords_Saying__Z (Or.inl (Or.inl rfl)) q1048 q1050 q1056 q1049 q102 q1059 rfl ⟨by omega, Nat.le_of_ble_eq_true rfl⟩ (congrArg va_rf hq) rfl (by decide) dX1_opens_218⟩, (List.forall_mem_cons.mpr ⟨⟨Nat.le_of_ble_eq_true rfl, xw_rU (owner := "CrossingWords$Saying") (x := ⟨"CrossingWords$Saying", "isSaid", "(LCrossingWords$Saying;)Z"⟩) hE (ct_X6_isSaid v42 v2) xD_CrossingWords_Saying_isSaid__LCrossingWords_Saying__Z (Or.inl (Or.inl rfl)) q1048 q1050 q1058 q1049 q102 q1059 rfl ⟨by omega, Nat.le_of_ble_eq_true rfl⟩ (congrArg va_rf hq) rfl (by decide) dX1_opens_218⟩, (List.forall_mem_cons.mpr ⟨⟨Nat.le_of_ble_eq_true rfl, xw_rU (owner := "CrossingWords$Saying") (x := ⟨"CrossingWords$Saying", "isSaid", "(LCrossingWords$Saying;)Z"⟩) hE (ct_X6_isSaid v42 v2) xD_CrossingWords_Saying_isSaid__LCrossingWords_Saying__Z (Or.inl (Or.inl rfl)) q1048 q1050 q1053 q1049 q102 q1059 rfl ⟨by omega, Nat.le_of_ble_eq_true rfl⟩ (congrArg va_rf hq) rfl (by decide) dX1_opens_218⟩, (List.forall_mem_cons.mpr ⟨⟨Nat.le_of_ble_eq_true rfl, xw_rU (owner := "CrossingWords$Saying") (x := ⟨"CrossingWords$Saying", "isSaid", "(LCrossingWords$Saying;)Z"⟩) hE (ct_X6_isSaid v42 v2) xD_CrossingWords_Saying_isSaid__LCrossingWords_Saying__Z (Or.inl (Or.inl rfl)) q1048 q1050 q1055 q1049 q102 q1059 rfl ⟨by omega, Nat.le_of_ble_eq_true rfl⟩ (congrArg va_rf hq) rfl (by decide) dX1_opens_218⟩, (List.forall_mem_cons.mpr ⟨⟨Nat.le_of_ble_eq_true rfl, xw_rU (owner := "CrossingWords$Saying") (x := ⟨"CrossingWords$Saying", "isSaid", "(LCrossingWords$Saying;)Z"⟩) hE (ct_X6_isSaid v42 v2) xD_CrossingWords_Saying_isSaid__LCrossingWords_Saying__Z (Or.inl (Or.inl rfl)) q1048 q1050 q1052 q1049 q102 q1059 rfl ⟨by omega, Nat.le_of_ble_eq_true rfl⟩ (congrArg va_rf hq) rfl (by decide) dX1_opens_218⟩, (List.forall_mem_cons.mpr ⟨⟨Nat.le_of_ble_eq_true rfl, xw_rU (owner := "CrossingWords$Saying") (x := ⟨"CrossingWords$Saying", "isSaid", "(LCrossingWords$Saying;)Z"⟩) hE (ct_X6_isSaid v42 v2) xD_CrossingWords_Saying_isSaid__LCrossingWords_Saying__Z (Or.inl (Or.inl rfl)) q1048 q1050 q1054 q1049 q102 q1059 rfl ⟨by omega, Nat.le_of_ble_eq_true rfl⟩ (congrArg va_rf hq) rfl (by decide) dX1_opens_218⟩, (List.forall_mem_cons.mpr ⟨⟨Nat.le_of_ble_eq_true rfl, xw_rU (owner := "CrossingWords$Saying") (x := ⟨"CrossingWords$Saying", "isSaid", "(LCrossingWords$Saying;)Z"⟩) hE (ct_X6_isSaid v42 v2) xD_CrossingWords_Saying_isSaid__LCrossingWords_Saying__Z (Or.inl (Or.inl rfl)) q1048 q1050 q1057 q1049 q102 q1059 rfl ⟨by omega, Nat.le_of_ble_eq_true rfl⟩ (congrArg va_rf hq) rfl (by decide) dX1_opens_218⟩, (fun _ h => absurd h List.not_mem_nil)⟩)⟩)⟩)⟩)⟩)⟩)⟩)⟩))) rfl (fun v41 => ?_)
            refine x_if_eq 251 224 hE dX1_opens_221 (by decide) rfl ?_ ?_
            · refine x_iinc 254 [(3, .int (v12 + 1)), (0, va_rf (some v1)), (1, va_rf v2), (2, .int v3)] hE dX1_opens_251 rfl 3 rfl xc_i_1 (Nat.le_of_ble_eq_true rfl) rfl ?_
              refine x_goto 178 hE dX1_opens_254 (by decide) ?_
              refine x_sub [(0, va_rf (some v1)), (1, va_rf v2), (2, .int v3), (3, .int (v12 + 1))] [1, 2, 3, 0] rfl ?_
              exact hc4 (v12 + 1)
            · refine x_aload_n 225 hE dX1_opens_224 rfl 0 rfl ?_
              refine x_iload_n 226 hE dX1_opens_225 rfl 2 rfl ?_
              refine x_aload_n 227 hE dX1_opens_226 rfl 0 rfl ?_
              refine x_aload_n 228 hE dX1_opens_227 rfl 0 rfl ?_
              refine x_gR 231 hE (xw_lk0 hE xkf_CrossingWords_Run_31) rfl dX1_opens_228 rfl (fun v43 => ?_)
              refine x_gR 234 hE (xw_lk0 hE xkf_CrossingWords_Run_54) rfl dX1_opens_231 rfl (fun v44 => ?_)
              refine x_iload_n 235 hE dX1_opens_234 rfl 3 rfl ?_
              refine x_ldR 236 hE dX1_opens_235 rfl (fun v45 => ?_)
              refine x_aload_n 237 hE dX1_opens_236 rfl 0 rfl ?_
              refine x_gR 240 hE (xw_lk0 hE xkf_CrossingWords_Run_92) rfl dX1_opens_237 rfl (fun v46 => ?_)
              refine x_iconst 241 hE dX1_opens_240 rfl xc_i_5 ?_
              refine x_calli 244 (xw_goV hE (c := 17) (by decide) (fun v48 hq => xw_rV hE (ct_X20_at v48 5) xd_X20_at rfl q1045 q988 q989 q116 q990 rfl ⟨by omega, Nat.le_of_ble_eq_true rfl⟩ (congrArg va_rf hq) rfl (Nat.le_trans (xw_sm1 (x_rfc _) (xw_sm1 rfl (xw_sm1 rfl (xw_sm1 rfl xw_sm0)))) (by decide)) dX1_opens_241)) rfl (fun v47 => ?_)
              refine x_calli 247 (xw_goV hE (c := 1) (by decide) (fun v50 hq => xw_rV hE (ct_X1_hour v50 v45 v47) xd_X1_hour rfl q1046 q954 q955 q96 q956 rfl ⟨by omega, Nat.le_of_ble_eq_true rfl⟩ (congrArg va_rf hq) rfl (Nat.le_trans (xw_sm1 rfl (xw_sm1 rfl xw_sm0)) (by decide)) dX1_opens_244)) rfl (fun v49 => ?_)
              refine x_iconst 248 hE dX1_opens_247 rfl xc_i_2 ?_
              refine x_callv 251 (xw_goV hE (c := 1) (by decide) (fun v51 hq => xw_rV hE (ct_X1_ends v51 v3 v49 2) xd_X1_ends rfl q1062 q1064 qs21 q96 q1065 rfl ⟨by omega, Nat.le_of_ble_eq_true rfl⟩ (congrArg va_rf hq) rfl (by decide) dX1_opens_248)) rfl ?_
              refine x_iinc 254 [(3, .int (v12 + 1)), (0, va_rf (some v1)), (1, va_rf v2), (2, .int v3)] hE dX1_opens_251 rfl 3 rfl xc_i_1 (Nat.le_of_ble_eq_true rfl) rfl ?_
              refine x_goto 178 hE dX1_opens_254 (by decide) ?_
              refine x_sub [(0, va_rf (some v1)), (1, va_rf v2), (2, .int v3), (3, .int (v12 + 1))] [1, 2, 3, 0] rfl ?_
              exact hc4 (v12 + 1)
    · refine x_loop (fun (v10 : Int32) => [(0, va_rf (some v1)), (1, va_rf v2), (2, .int v3), (3, .int v10)]) (fun JL2 hc2 hx2 v10 => ?_) _ _
      refine x_iload_n 75 hE dX1_opens_74 rfl 3 rfl ?_
      refine x_aload_n 76 hE dX1_opens_75 rfl 0 rfl ?_
      refine x_gR 79 hE (xw_lk0 hE xkf_CrossingWords_Run_31) rfl dX1_opens_76 rfl (fun v52 => ?_)
      refine x_gI 82 hE (xw_lk0 hE xkf_CrossingWords_Run_51) rfl dX1_opens_79 rfl (fun v53 => ?_)
      refine x_icmp_ge 176 85 hE dX1_opens_82 (by decide) rfl ?_ ?_
      · refine x_sub [(0, va_rf (some v1)), (1, va_rf v2), (2, .int v3)] [0, 1, 2] rfl ?_
        refine hx2 _ _ _ _ ?_
        exact hJ3 ()
      · refine x_aload_n 86 hE dX1_opens_85 rfl 0 rfl ?_
        refine x_gR 89 hE (xw_lk0 hE xkf_CrossingWords_Run_31) rfl dX1_opens_86 rfl (fun v54 => ?_)
        refine x_gR 92 hE (xw_lk0 hE xkf_CrossingWords_Run_54) rfl dX1_opens_89 rfl (fun v55 => ?_)
        refine x_iload_n 93 hE dX1_opens_92 rfl 3 rfl ?_
        refine x_ldR 94 hE dX1_opens_93 rfl (fun v56 => ?_)
        refine x_astore 96 [(4, va_rf v56), (0, va_rf (some v1)), (1, va_rf v2), (2, .int v3), (3, .int v10)] hE dX1_opens_94 rfl (Nat.le_of_ble_eq_true rfl) rfl ?_
        refine x_aload 98 hE dX1_opens_96 rfl 0 rfl ?_
        refine x_calli 101 (xw_goD hE (fun v58 hq => (List.forall_mem_cons.mpr ⟨⟨Nat.le_of_ble_eq_true rfl, xw_rU (owner := "CrossingWords$Saying") (x := ⟨"CrossingWords$Saying", "kind", "()I"⟩) hE (ct_X7_kind v58) xD_CrossingWords_Saying_kind___I (Or.inr xkd_CrossingWords_Sayingkind_) q1047 q535 q536 q537 q103 q538 rfl ⟨by omega, Nat.le_of_ble_eq_true rfl⟩ (congrArg va_rf hq) rfl (by decide) dX1_opens_98⟩, (List.forall_mem_cons.mpr ⟨⟨Nat.le_of_ble_eq_true rfl, xw_rU (owner := "CrossingWords$Saying") (x := ⟨"CrossingWords$Saying", "kind", "()I"⟩) hE (ct_X8_kind v58) xD_CrossingWords_Saying_kind___I (Or.inr xkd_CrossingWords_Sayingkind_) q1047 q535 q551 q552 q104 q553 rfl ⟨by omega, Nat.le_of_ble_eq_true rfl⟩ (congrArg va_rf hq) rfl (by decide) dX1_opens_98⟩, (List.forall_mem_cons.mpr ⟨⟨Nat.le_of_ble_eq_true rfl, xw_rU (owner := "CrossingWords$Saying") (x := ⟨"CrossingWords$Saying", "kind", "()I"⟩) hE (ct_X10_kind v58) xD_CrossingWords_Saying_kind___I (Or.inr xkd_CrossingWords_Sayingkind_) q1047 q535 q557 q558 q106 q559 rfl ⟨by omega, Nat.le_of_ble_eq_true rfl⟩ (congrArg va_rf hq) rfl (by decide) dX1_opens_98⟩, (List.forall_mem_cons.mpr ⟨⟨Nat.le_of_ble_eq_true rfl, xw_rU (owner := "CrossingWords$Saying") (x := ⟨"CrossingWords$Saying", "kind", "()I"⟩) hE (ct_X11_kind v58) xD_CrossingWords_Saying_kind___I (Or.inr xkd_CrossingWords_Sayingkind_) q1047 q535 q542 q543 q107 q544 rfl ⟨by omega, Nat.le_of_ble_eq_true rfl⟩ (congrArg va_rf hq) rfl (by decide) dX1_opens_98⟩, (List.forall_mem_cons.mpr ⟨⟨Nat.le_of_ble_eq_true rfl, xw_rU (owner := "CrossingWords$Saying") (x := ⟨"CrossingWords$Saying", "kind", "()I"⟩) hE (ct_X12_kind v58) xD_CrossingWords_Saying_kind___I (Or.inr xkd_CrossingWords_Sayingkind_) q1047 q535 q548 q549 q108 q550 rfl ⟨by omega, Nat.le_of_ble_eq_true rfl⟩ (congrArg va_rf hq) rfl (by decide) dX1_opens_98⟩, (List.forall_mem_cons.mpr ⟨⟨Nat.le_of_ble_eq_true rfl, xw_rU (owner := "CrossingWords$Saying") (x := ⟨"CrossingWords$Saying", "kind", "()I"⟩) hE (ct_X13_kind v58) xD_CrossingWords_Saying_kind___I (Or.inr xkd_CrossingWords_Sayingkind_) q1047 q535 q539 q540 q109 q541 rfl ⟨by omega, Nat.le_of_ble_eq_true rfl⟩ (congrArg va_rf hq) rfl (by decide) dX1_opens_98⟩, (List.forall_mem_cons.mpr ⟨⟨Nat.le_of_ble_eq_true rfl, xw_rU (owner := "CrossingWords$Saying") (x := ⟨"CrossingWords$Saying", "kind", "()I"⟩) hE (ct_X14_kind v58) xD_CrossingWords_Saying_kind___I (Or.inr xkd_CrossingWords_Sayingkind_) q1047 q535 q545 q546 q110 q547 rfl ⟨by omega, Nat.le_of_ble_eq_true rfl⟩ (congrArg va_rf hq) rfl (by decide) dX1_opens_98⟩, (List.forall_mem_cons.mpr ⟨⟨Nat.le_of_ble_eq_true rfl, xw_rU (owner := "CrossingWords$Saying") (x := ⟨"CrossingWords$Saying", "kind", "()I"⟩) hE (ct_X15_kind v58) xD_CrossingWords_Saying_kind___I (Or.inr xkd_CrossingWords_Sayingkind_) q1047 q535 q554 q555 q111 q556 rfl ⟨by omega, Nat.le_of_ble_eq_true rfl⟩ (congrArg va_rf hq) rfl (by decide) dX1_opens_98⟩, (fun _ h => absurd h List.not_mem_nil)⟩)⟩)⟩)⟩)⟩)⟩)⟩)⟩))) rfl (fun v57 => ?_)
        refine x_iconst 102 hE dX1_opens_101 rfl xc_i_5 ?_
        refine x_icmp_ne 170 105 hE dX1_opens_102 (by decide) rfl ?_ ?_
        · refine x_aload 107 hE dX1_opens_105 rfl 0 rfl ?_
          refine x_aload_n 108 hE dX1_opens_107 rfl 2 rfl ?_
          refine x_calli 111 (xw_goD hE (fun v60 hq => (List.forall_mem_cons.mpr ⟨⟨Nat.le_of_ble_eq_true rfl, xw_rU (owner := "CrossingWords$Saying") (x := ⟨"CrossingWords$Saying", "isSaid", "(LCrossingWords$Saying;)Z"⟩) hE (ct_X6_isSaid v60 v2) xD_CrossingWords_Saying_isSaid__LCrossingWords_Saying__Z (Or.inl (Or.inl rfl)) q1048 q1050 q1051 q1049 q102 q1059 rfl ⟨by omega, Nat.le_of_ble_eq_true rfl⟩ (congrArg va_rf hq) rfl (by decide) dX1_opens_108⟩, (List.forall_mem_cons.mpr ⟨⟨Nat.le_of_ble_eq_true rfl, xw_rU (owner := "CrossingWords$Saying") (x := ⟨"CrossingWords$Saying", "isSaid", "(LCrossingWords$Saying;)Z"⟩) hE (ct_X6_isSaid v60 v2) xD_CrossingWords_Saying_isSaid__LCrossingWords_Saying__Z (Or.inl (Or.inl rfl)) q1048 q1050 q1056 q1049 q102 q1059 rfl ⟨by omega, Nat.le_of_ble_eq_true rfl⟩ (congrArg va_rf hq) rfl (by decide) dX1_opens_108⟩, (List.forall_mem_cons.mpr ⟨⟨Nat.le_of_ble_eq_true rfl, xw_rU (owner := "CrossingWords$Saying") (x := ⟨"CrossingWords$Saying", "isSaid", "(LCrossingWords$Saying;)Z"⟩) hE (ct_X6_isSaid v60 v2) xD_CrossingWords_Saying_isSaid__LCrossingWords_Saying__Z (Or.inl (Or.inl rfl)) q1048 q1050 q1058 q1049 q102 q1059 rfl ⟨by omega, Nat.le_of_ble_eq_true rfl⟩ (congrArg va_rf hq) rfl (by decide) dX1_opens_108⟩, (List.forall_mem_cons.mpr ⟨⟨Nat.le_of_ble_eq_true rfl, xw_rU (owner := "CrossingWords$Saying") (x := ⟨"CrossingWords$Saying", "isSaid", "(LCrossingWords$Saying;)Z"⟩) hE (ct_X6_isSaid v60 v2) xD_CrossingWords_Saying_isSaid__LCrossingWords_Saying__Z (Or.inl (Or.inl rfl)) q1048 q1050 q1053 q1049 q102 q1059 rfl ⟨by omega, Nat.le_of_ble_eq_true rfl⟩ (congrArg va_rf hq) rfl (by decide) dX1_opens_108⟩, (List.forall_mem_cons.mpr ⟨⟨Nat.le_of_ble_eq_true rfl, xw_rU (owner := "CrossingWords$Saying") (x := ⟨"CrossingWords$Saying", "isSaid", "(LCrossingWords$Saying;)Z"⟩) hE (ct_X6_isSaid v60 v2) xD_CrossingWords_Saying_isSaid__LCrossingWords_Saying__Z (Or.inl (Or.inl rfl)) q1048 q1050 q1055 q1049 q102 q1059 rfl ⟨by omega, Nat.le_of_ble_eq_true rfl⟩ (congrArg va_rf hq) rfl (by decide) dX1_opens_108⟩, (List.forall_mem_cons.mpr ⟨⟨Nat.le_of_ble_eq_true rfl, xw_rU (owner := "CrossingWords$Saying") (x := ⟨"CrossingWords$Saying", "isSaid", "(LCrossingWords$Saying;)Z"⟩) hE (ct_X6_isSaid v60 v2) xD_CrossingWords_Saying_isSaid__LCrossingWords_Saying__Z (Or.inl (Or.inl rfl)) q1048 q1050 q1052 q1049 q102 q1059 rfl ⟨by omega, Nat.le_of_ble_eq_true rfl⟩ (congrArg va_rf hq) rfl (by decide) dX1_opens_108⟩, (List.forall_mem_cons.mpr ⟨⟨Nat.le_of_ble_eq_true rfl, xw_rU (owner := "CrossingWords$Saying") (x := ⟨"CrossingWords$Saying", "isSaid", "(LCrossingWords$Saying;)Z"⟩) hE (ct_X6_isSaid v60 v2) xD_CrossingWords_Saying_isSaid__LCrossingWords_Saying__Z (Or.inl (Or.inl rfl)) q1048 q1050 q1054 q1049 q102 q1059 rfl ⟨by omega, Nat.le_of_ble_eq_true rfl⟩ (congrArg va_rf hq) rfl (by decide) dX1_opens_108⟩, (List.forall_mem_cons.mpr ⟨⟨Nat.le_of_ble_eq_true rfl, xw_rU (owner := "CrossingWords$Saying") (x := ⟨"CrossingWords$Saying", "isSaid", "(LCrossingWords$Saying;)Z"⟩) hE (ct_X6_isSaid v60 v2) xD_CrossingWords_Saying_isSaid__LCrossingWords_Saying__Z (Or.inl (Or.inl rfl)) q1048 q1050 q1057 q1049 q102 q1059 rfl ⟨by omega, Nat.le_of_ble_eq_true rfl⟩ (congrArg va_rf hq) rfl (by decide) dX1_opens_108⟩, (fun _ h => absurd h List.not_mem_nil)⟩)⟩)⟩)⟩)⟩)⟩)⟩)⟩))) rfl (fun v59 => ?_)
          refine x_if_ne 117 114 hE dX1_opens_111 (by decide) rfl ?_ ?_
          · refine x_goto 170 hE dX1_opens_114 (by decide) ?_
            refine x_iinc 173 [(3, .int (v10 + 1)), (4, va_rf v56), (0, va_rf (some v1)), (1, va_rf v2), (2, .int v3)] hE dX1_opens_170 rfl 4 rfl xc_i_1 (Nat.le_of_ble_eq_true rfl) rfl ?_
            refine x_goto 74 hE dX1_opens_173 (by decide) ?_
            refine x_sub [(0, va_rf (some v1)), (1, va_rf v2), (2, .int v3), (3, .int (v10 + 1))] [2, 3, 4, 0] rfl ?_
            exact hc2 (v10 + 1)
          · refine x_aload_n 118 hE dX1_opens_117 rfl 1 rfl ?_
            refine x_aload 120 hE dX1_opens_118 rfl 0 rfl ?_
            refine x_aload_n 121 hE dX1_opens_120 rfl 1 rfl ?_
            refine x_gR 124 hE (xw_lk0 hE xkf_CrossingWords_Run_92) rfl dX1_opens_121 rfl (fun v61 => ?_)
            refine x_iconst 125 hE dX1_opens_124 rfl xc_i_4 ?_
            refine x_calli 128 (xw_goV hE (c := 17) (by decide) (fun v63 hq => xw_rV hE (ct_X20_at v63 4) xd_X20_at rfl q1045 q988 q989 q116 q990 rfl ⟨by omega, Nat.le_of_ble_eq_true rfl⟩ (congrArg va_rf hq) rfl (Nat.le_trans (xw_sm1 (x_rfc _) (xw_sm1 rfl xw_sm0)) (by decide)) dX1_opens_125)) rfl (fun v62 => ?_)
            refine x_calli 131 (xw_goV hE (c := 1) (by decide) (fun v65 hq => xw_rV hE (ct_X1_hour v65 v56 v62) xd_X1_hour rfl q1046 q954 q955 q96 q956 rfl ⟨by omega, Nat.le_of_ble_eq_true rfl⟩ (congrArg va_rf hq) rfl (by decide) dX1_opens_128)) rfl (fun v64 => ?_)
            refine x_istore 133 [(5, .int v64), (4, va_rf v56), (0, va_rf (some v1)), (1, va_rf v2), (2, .int v3), (3, .int v10)] hE dX1_opens_131 rfl (Nat.le_of_ble_eq_true rfl) (congrArg (List.cons _) (xw_f1 (by decide) (x_rfc _) (xw_f1 (by decide) rfl (xw_f1 (by decide) (x_rfc _) (xw_f1 (by decide) rfl (xw_f1 (by decide) rfl xw_f0)))))) ?_
            refine x_aload_n 134 hE dX1_opens_133 rfl 3 rfl ?_
            refine x_calli 137 (xw_goD hE (fun v67 hq => (List.forall_mem_cons.mpr ⟨⟨Nat.le_of_ble_eq_true rfl, xw_rU (owner := "CrossingWords$Saying") (x := ⟨"CrossingWords$Saying", "hold", "()I"⟩) hE (ct_X6_hold v67) xD_CrossingWords_Saying_hold___I (Or.inl (Or.inl rfl)) q1061 q882 q883 q881 q102 q893 rfl ⟨by omega, Nat.le_of_ble_eq_true rfl⟩ (congrArg va_rf hq) rfl (by decide) dX1_opens_134⟩, (List.forall_mem_cons.mpr ⟨⟨Nat.le_of_ble_eq_true rfl, xw_rU (owner := "CrossingWords$Saying") (x := ⟨"CrossingWords$Saying", "hold", "()I"⟩) hE (ct_X8_hold v67) xD_CrossingWords_Saying_hold___I (Or.inl (Or.inr ⟨_, _, _, q881, q893⟩)) q1061 q882 q888 q889 q104 q890 rfl ⟨by omega, Nat.le_of_ble_eq_true rfl⟩ (congrArg va_rf hq) rfl (by decide) dX1_opens_134⟩, (List.forall_mem_cons.mpr ⟨⟨Nat.le_of_ble_eq_true rfl, xw_rU (owner := "CrossingWords$Saying") (x := ⟨"CrossingWords$Saying", "hold", "()I"⟩) hE (ct_X6_hold v67) xD_CrossingWords_Saying_hold___I (Or.inl (Or.inl rfl)) q1061 q882 q892 q881 q102 q893 rfl ⟨by omega, Nat.le_of_ble_eq_true rfl⟩ (congrArg va_rf hq) rfl (by decide) dX1_opens_134⟩, (List.forall_mem_cons.mpr ⟨⟨Nat.le_of_ble_eq_true rfl, xw_rU (owner := "CrossingWords$Saying") (x := ⟨"CrossingWords$Saying", "hold", "()I"⟩) hE (ct_X6_hold v67) xD_CrossingWords_Saying_hold___I (Or.inl (Or.inl rfl)) q1061 q882 q885 q881 q102 q893 rfl ⟨by omega, Nat.le_of_ble_eq_true rfl⟩ (congrArg va_rf hq) rfl (by decide) dX1_opens_134⟩, (List.forall_mem_cons.mpr ⟨⟨Nat.le_of_ble_eq_true rfl, xw_rU (owner := "CrossingWords$Saying") (x := ⟨"CrossingWords$Saying", "hold", "()I"⟩) hE (ct_X6_hold v67) xD_CrossingWords_Saying_hold___I (Or.inl (Or.inl rfl)) q1061 q882 q887 q881 q102 q893 rfl ⟨by omega, Nat.le_of_ble_eq_true rfl⟩ (congrArg va_rf hq) rfl (by decide) dX1_opens_134⟩, (List.forall_mem_cons.mpr ⟨⟨Nat.le_of_ble_eq_true rfl, xw_rU (owner := "CrossingWords$Saying") (x := ⟨"CrossingWords$Saying", "hold", "()I"⟩) hE (ct_X6_hold v67) xD_CrossingWords_Saying_hold___I (Or.inl (Or.inl rfl)) q1061 q882 q884 q881 q102 q893 rfl ⟨by omega, Nat.le_of_ble_eq_true rfl⟩ (congrArg va_rf hq) rfl (by decide) dX1_opens_134⟩, (List.forall_mem_cons.mpr ⟨⟨Nat.le_of_ble_eq_true rfl, xw_rU (owner := "CrossingWords$Saying") (x := ⟨"CrossingWords$Saying", "hold", "()I"⟩) hE (ct_X6_hold v67) xD_CrossingWords_Saying_hold___I (Or.inl (Or.inl rfl)) q1061 q882 q886 q881 q102 q893 rfl ⟨by omega, Nat.le_of_ble_eq_true rfl⟩ (congrArg va_rf hq) rfl (by decide) dX1_opens_134⟩, (List.forall_mem_cons.mpr ⟨⟨Nat.le_of_ble_eq_true rfl, xw_rU (owner := "CrossingWords$Saying") (x := ⟨"CrossingWords$Saying", "hold", "()I"⟩) hE (ct_X6_hold v67) xD_CrossingWords_Saying_hold___I (Or.inl (Or.inl rfl)) q1061 q882 q891 q881 q102 q893 rfl ⟨by omega, Nat.le_of_ble_eq_true rfl⟩ (congrArg va_rf hq) rfl (by decide) dX1_opens_134⟩, (fun _ h => absurd h List.not_mem_nil)⟩)⟩)⟩)⟩)⟩)⟩)⟩)⟩))) rfl (fun v66 => ?_)
            refine x_iconst 138 hE dX1_opens_137 rfl xc_i_m1 ?_
            refine x_icmp_eq 162 141 hE dX1_opens_138 (by decide) rfl ?_ ?_
            · refine x_aload_n 163 hE dX1_opens_162 rfl 2 rfl ?_
              refine x_iload_n 164 hE dX1_opens_163 rfl 4 rfl ?_
              refine x_iload 166 hE dX1_opens_164 rfl 0 rfl ?_
              refine x_iconst 167 hE dX1_opens_166 rfl xc_i_1 ?_
              refine x_callv 170 (xw_goV hE (c := 1) (by decide) (fun v68 hq => xw_rV hE (ct_X1_ends v68 v3 v64 1) xd_X1_ends rfl q1062 q1064 qs21 q96 q1065 rfl ⟨by omega, Nat.le_of_ble_eq_true rfl⟩ (congrArg va_rf hq) rfl (by decide) dX1_opens_167)) rfl ?_
              refine x_iinc 173 [(3, .int (v10 + 1)), (5, .int v64), (4, va_rf v56), (0, va_rf (some v1)), (1, va_rf v2), (2, .int v3)] hE dX1_opens_170 rfl 5 rfl xc_i_1 (Nat.le_of_ble_eq_true rfl) rfl ?_
              refine x_goto 74 hE dX1_opens_173 (by decide) ?_
              refine x_sub [(0, va_rf (some v1)), (1, va_rf v2), (2, .int v3), (3, .int (v10 + 1))] [3, 4, 5, 0] rfl ?_
              exact hc2 (v10 + 1)
            · refine x_aload_n 142 hE dX1_opens_141 rfl 2 rfl ?_
              refine x_gR 145 hE (xw_lk0 hE xkf_CrossingWords_Run_92) rfl dX1_opens_142 rfl (fun v69 => ?_)
              refine x_bipush 147 hE dX1_opens_145 rfl xc_b_6 ?_
              refine x_calli 150 (xw_goV hE (c := 17) (by decide) (fun v71 hq => xw_rV hE (ct_X20_at v71 6) xd_X20_at rfl q1045 q988 q989 q116 q990 rfl ⟨by omega, Nat.le_of_ble_eq_true rfl⟩ (congrArg va_rf hq) rfl (by decide) dX1_opens_147)) rfl (fun v70 => ?_)
              refine x_if_eq 162 153 hE dX1_opens_150 (by decide) rfl ?_ ?_
              · refine x_aload_n 163 hE dX1_opens_162 rfl 2 rfl ?_
                refine x_iload_n 164 hE dX1_opens_163 rfl 4 rfl ?_
                refine x_iload 166 hE dX1_opens_164 rfl 0 rfl ?_
                refine x_iconst 167 hE dX1_opens_166 rfl xc_i_1 ?_
                refine x_callv 170 (xw_goV hE (c := 1) (by decide) (fun v72 hq => xw_rV hE (ct_X1_ends v72 v3 v64 1) xd_X1_ends rfl q1062 q1064 qs21 q96 q1065 rfl ⟨by omega, Nat.le_of_ble_eq_true rfl⟩ (congrArg va_rf hq) rfl (by decide) dX1_opens_167)) rfl ?_
                refine x_iinc 173 [(3, .int (v10 + 1)), (5, .int v64), (4, va_rf v56), (0, va_rf (some v1)), (1, va_rf v2), (2, .int v3)] hE dX1_opens_170 rfl 5 rfl xc_i_1 (Nat.le_of_ble_eq_true rfl) rfl ?_
                refine x_goto 74 hE dX1_opens_173 (by decide) ?_
                refine x_sub [(0, va_rf (some v1)), (1, va_rf v2), (2, .int v3), (3, .int (v10 + 1))] [3, 4, 5, 0] rfl ?_
                exact hc2 (v10 + 1)
              · refine x_iload 155 hE dX1_opens_153 rfl 0 rfl ?_
                refine x_aload_n 156 hE dX1_opens_155 rfl 3 rfl ?_
                refine x_calli 159 (xw_goD hE (fun v74 hq => (List.forall_mem_cons.mpr ⟨⟨Nat.le_of_ble_eq_true rfl, xw_rU (owner := "CrossingWords$Saying") (x := ⟨"CrossingWords$Saying", "hold", "()I"⟩) hE (ct_X6_hold v74) xD_CrossingWords_Saying_hold___I (Or.inl (Or.inl rfl)) q1061 q882 q883 q881 q102 q893 rfl ⟨by omega, Nat.le_of_ble_eq_true rfl⟩ (congrArg va_rf hq) rfl (Nat.le_trans (xw_sm1 rfl xw_sm0) (by decide)) dX1_opens_156⟩, (List.forall_mem_cons.mpr ⟨⟨Nat.le_of_ble_eq_true rfl, xw_rU (owner := "CrossingWords$Saying") (x := ⟨"CrossingWords$Saying", "hold", "()I"⟩) hE (ct_X8_hold v74) xD_CrossingWords_Saying_hold___I (Or.inl (Or.inr ⟨_, _, _, q881, q893⟩)) q1061 q882 q888 q889 q104 q890 rfl ⟨by omega, Nat.le_of_ble_eq_true rfl⟩ (congrArg va_rf hq) rfl (Nat.le_trans (xw_sm1 rfl xw_sm0) (by decide)) dX1_opens_156⟩, (List.forall_mem_cons.mpr ⟨⟨Nat.le_of_ble_eq_true rfl, xw_rU (owner := "CrossingWords$Saying") (x := ⟨"CrossingWords$Saying", "hold", "()I"⟩) hE (ct_X6_hold v74) xD_CrossingWords_Saying_hold___I (Or.inl (Or.inl rfl)) q1061 q882 q892 q881 q102 q893 rfl ⟨by omega, Nat.le_of_ble_eq_true rfl⟩ (congrArg va_rf hq) rfl (Nat.le_trans (xw_sm1 rfl xw_sm0) (by decide)) dX1_opens_156⟩, (List.forall_mem_cons.mpr ⟨⟨Nat.le_of_ble_eq_true rfl, xw_rU (owner := "CrossingWords$Saying") (x := ⟨"CrossingWords$Saying", "hold", "()I"⟩) hE (ct_X6_hold v74) xD_CrossingWords_Saying_hold___I (Or.inl (Or.inl rfl)) q1061 q882 q885 q881 q102 q893 rfl ⟨by omega, Nat.le_of_ble_eq_true rfl⟩ (congrArg va_rf hq) rfl (Nat.le_trans (xw_sm1 rfl xw_sm0) (by decide)) dX1_opens_156⟩, (List.forall_mem_cons.mpr ⟨⟨Nat.le_of_ble_eq_true rfl, xw_rU (owner := "CrossingWords$Saying") (x := ⟨"CrossingWords$Saying", "hold", "()I"⟩) hE (ct_X6_hold v74) xD_CrossingWords_Saying_hold___I (Or.inl (Or.inl rfl)) q1061 q882 q887 q881 q102 q893 rfl ⟨by omega, Nat.le_of_ble_eq_true rfl⟩ (congrArg va_rf hq) rfl (Nat.le_trans (xw_sm1 rfl xw_sm0) (by decide)) dX1_opens_156⟩, (List.forall_mem_cons.mpr ⟨⟨Nat.le_of_ble_eq_true rfl, xw_rU (owner := "CrossingWords$Saying") (x := ⟨"CrossingWords$Saying", "hold", "()I"⟩) hE (ct_X6_hold v74) xD_CrossingWords_Saying_hold___I (Or.inl (Or.inl rfl)) q1061 q882 q884 q881 q102 q893 rfl ⟨by omega, Nat.le_of_ble_eq_true rfl⟩ (congrArg va_rf hq) rfl (Nat.le_trans (xw_sm1 rfl xw_sm0) (by decide)) dX1_opens_156⟩, (List.forall_mem_cons.mpr ⟨⟨Nat.le_of_ble_eq_true rfl, xw_rU (owner := "CrossingWords$Saying") (x := ⟨"CrossingWords$Saying", "hold", "()I"⟩) hE (ct_X6_hold v74) xD_CrossingWords_Saying_hold___I (Or.inl (Or.inl rfl)) q1061 q882 q886 q881 q102 q893 rfl ⟨by omega, Nat.le_of_ble_eq_true rfl⟩ (congrArg va_rf hq) rfl (Nat.le_trans (xw_sm1 rfl xw_sm0) (by decide)) dX1_opens_156⟩, (List.forall_mem_cons.mpr ⟨⟨Nat.le_of_ble_eq_true rfl, xw_rU (owner := "CrossingWords$Saying") (x := ⟨"CrossingWords$Saying", "hold", "()I"⟩) hE (ct_X6_hold v74) xD_CrossingWords_Saying_hold___I (Or.inl (Or.inl rfl)) q1061 q882 q891 q881 q102 q893 rfl ⟨by omega, Nat.le_of_ble_eq_true rfl⟩ (congrArg va_rf hq) rfl (Nat.le_trans (xw_sm1 rfl xw_sm0) (by decide)) dX1_opens_156⟩, (fun _ h => absurd h List.not_mem_nil)⟩)⟩)⟩)⟩)⟩)⟩)⟩)⟩))) rfl (fun v73 => ?_)
                refine x_icmp_le 170 162 hE dX1_opens_159 (by decide) rfl ?_ ?_
                · refine x_iinc 173 [(3, .int (v10 + 1)), (5, .int v64), (4, va_rf v56), (0, va_rf (some v1)), (1, va_rf v2), (2, .int v3)] hE dX1_opens_170 rfl 5 rfl xc_i_1 (Nat.le_of_ble_eq_true rfl) rfl ?_
                  refine x_goto 74 hE dX1_opens_173 (by decide) ?_
                  refine x_sub [(0, va_rf (some v1)), (1, va_rf v2), (2, .int v3), (3, .int (v10 + 1))] [3, 4, 5, 0] rfl ?_
                  exact hc2 (v10 + 1)
                · refine x_aload_n 163 hE dX1_opens_162 rfl 2 rfl ?_
                  refine x_iload_n 164 hE dX1_opens_163 rfl 4 rfl ?_
                  refine x_iload 166 hE dX1_opens_164 rfl 0 rfl ?_
                  refine x_iconst 167 hE dX1_opens_166 rfl xc_i_1 ?_
                  refine x_callv 170 (xw_goV hE (c := 1) (by decide) (fun v75 hq => xw_rV hE (ct_X1_ends v75 v3 v64 1) xd_X1_ends rfl q1062 q1064 qs21 q96 q1065 rfl ⟨by omega, Nat.le_of_ble_eq_true rfl⟩ (congrArg va_rf hq) rfl (by decide) dX1_opens_167)) rfl ?_
                  refine x_iinc 173 [(3, .int (v10 + 1)), (5, .int v64), (4, va_rf v56), (0, va_rf (some v1)), (1, va_rf v2), (2, .int v3)] hE dX1_opens_170 rfl 5 rfl xc_i_1 (Nat.le_of_ble_eq_true rfl) rfl ?_
                  refine x_goto 74 hE dX1_opens_173 (by decide) ?_
                  refine x_sub [(0, va_rf (some v1)), (1, va_rf v2), (2, .int v3), (3, .int (v10 + 1))] [3, 4, 5, 0] rfl ?_
                  exact hc2 (v10 + 1)
        · refine x_iinc 173 [(3, .int (v10 + 1)), (4, va_rf v56), (0, va_rf (some v1)), (1, va_rf v2), (2, .int v3)] hE dX1_opens_170 rfl 4 rfl xc_i_1 (Nat.le_of_ble_eq_true rfl) rfl ?_
          refine x_goto 74 hE dX1_opens_173 (by decide) ?_
          refine x_sub [(0, va_rf (some v1)), (1, va_rf v2), (2, .int v3), (3, .int (v10 + 1))] [2, 3, 4, 0] rfl ?_
          exact hc2 (v10 + 1)
  · refine x_jn 36 (fun (v76 : Unit) => [(0, va_rf (some v1)), (1, va_rf v2), (2, .int v3)]) (fun (v76 : Unit) => [.int v3, va_rf v4]) (fun v76 => ?_) (fun J6 hJ6 => ?_)
    · refine x_aload_n 37 hE dX1_opens_36 rfl 0 rfl ?_
      refine x_aload_n 38 hE dX1_opens_37 rfl 1 rfl ?_
      refine x_aload_n 39 hE dX1_opens_38 rfl 0 rfl ?_
      refine x_gR 42 hE (xw_lk0 hE xkf_CrossingWords_Run_92) rfl dX1_opens_39 rfl (fun v77 => ?_)
      refine x_iconst 43 hE dX1_opens_42 rfl xc_i_3 ?_
      refine x_calli 46 (xw_goV hE (c := 17) (by decide) (fun v79 hq => xw_rV hE (ct_X20_at v79 3) xd_X20_at rfl q1045 q988 q989 q116 q990 rfl ⟨by omega, Nat.le_of_ble_eq_true rfl⟩ (congrArg va_rf hq) rfl (Nat.le_trans (xw_sm1 (x_rfc _) (xw_sm1 rfl (xw_sm1 rfl (xw_sm1 (x_rfc _) xw_sm0)))) (by decide)) dX1_opens_43)) rfl (fun v78 => ?_)
      refine x_calli 49 (xw_goV hE (c := 1) (by decide) (fun v81 hq => xw_rV hE (ct_X1_hour v81 v2 v78) xd_X1_hour rfl q1046 q954 q955 q96 q956 rfl ⟨by omega, Nat.le_of_ble_eq_true rfl⟩ (congrArg va_rf hq) rfl (Nat.le_trans (xw_sm1 rfl (xw_sm1 (x_rfc _) xw_sm0)) (by decide)) dX1_opens_46)) rfl (fun v80 => ?_)
      refine x_goto 55 hE dX1_opens_49 (by decide) ?_
      refine x_sub [(0, va_rf (some v1)), (1, va_rf v2), (2, .int v3)] [0, 1, 2] rfl ?_
      exact hJ1 v80
    · refine x_icmp_eq 36 18 hE dX1_opens_15 (by decide) rfl ?_ ?_
      · refine x_sub [(0, va_rf (some v1)), (1, va_rf v2), (2, .int v3)] [1, 2, 0] rfl ?_
        exact hJ6 ()
      · refine x_aload_n 19 hE dX1_opens_18 rfl 1 rfl ?_
        refine x_gR 22 hE (xw_lk0 hE xkf_CrossingWords_Run_3) rfl dX1_opens_19 rfl (fun v82 => ?_)
        refine x_aload_n 23 hE dX1_opens_22 rfl 2 rfl ?_
        refine x_calli 26 (xw_goD hE (fun v84 hq => (List.forall_mem_cons.mpr ⟨⟨Nat.le_of_ble_eq_true rfl, xw_rU (owner := "CrossingWords$Saying") (x := ⟨"CrossingWords$Saying", "given", "()I"⟩) hE (ct_X6_given v84) xD_CrossingWords_Saying_given___I (Or.inl (Or.inl rfl)) q1036 q896 q897 q895 q102 q907 rfl ⟨by omega, Nat.le_of_ble_eq_true rfl⟩ (congrArg va_rf hq) rfl (Nat.le_trans (xw_sm1 (x_rfc _) (xw_sm1 rfl (xw_sm1 (x_rfc _) xw_sm0))) (by decide)) dX1_opens_23⟩, (List.forall_mem_cons.mpr ⟨⟨Nat.le_of_ble_eq_true rfl, xw_rU (owner := "CrossingWords$Saying") (x := ⟨"CrossingWords$Saying", "given", "()I"⟩) hE (ct_X8_given v84) xD_CrossingWords_Saying_given___I (Or.inl (Or.inr ⟨_, _, _, q895, q907⟩)) q1036 q896 q902 q903 q104 q904 rfl ⟨by omega, Nat.le_of_ble_eq_true rfl⟩ (congrArg va_rf hq) rfl (Nat.le_trans (xw_sm1 (x_rfc _) (xw_sm1 rfl (xw_sm1 (x_rfc _) xw_sm0))) (by decide)) dX1_opens_23⟩, (List.forall_mem_cons.mpr ⟨⟨Nat.le_of_ble_eq_true rfl, xw_rU (owner := "CrossingWords$Saying") (x := ⟨"CrossingWords$Saying", "given", "()I"⟩) hE (ct_X6_given v84) xD_CrossingWords_Saying_given___I (Or.inl (Or.inl rfl)) q1036 q896 q906 q895 q102 q907 rfl ⟨by omega, Nat.le_of_ble_eq_true rfl⟩ (congrArg va_rf hq) rfl (Nat.le_trans (xw_sm1 (x_rfc _) (xw_sm1 rfl (xw_sm1 (x_rfc _) xw_sm0))) (by decide)) dX1_opens_23⟩, (List.forall_mem_cons.mpr ⟨⟨Nat.le_of_ble_eq_true rfl, xw_rU (owner := "CrossingWords$Saying") (x := ⟨"CrossingWords$Saying", "given", "()I"⟩) hE (ct_X6_given v84) xD_CrossingWords_Saying_given___I (Or.inl (Or.inl rfl)) q1036 q896 q899 q895 q102 q907 rfl ⟨by omega, Nat.le_of_ble_eq_true rfl⟩ (congrArg va_rf hq) rfl (Nat.le_trans (xw_sm1 (x_rfc _) (xw_sm1 rfl (xw_sm1 (x_rfc _) xw_sm0))) (by decide)) dX1_opens_23⟩, (List.forall_mem_cons.mpr ⟨⟨Nat.le_of_ble_eq_true rfl, xw_rU (owner := "CrossingWords$Saying") (x := ⟨"CrossingWords$Saying", "given", "()I"⟩) hE (ct_X6_given v84) xD_CrossingWords_Saying_given___I (Or.inl (Or.inl rfl)) q1036 q896 q901 q895 q102 q907 rfl ⟨by omega, Nat.le_of_ble_eq_true rfl⟩ (congrArg va_rf hq) rfl (Nat.le_trans (xw_sm1 (x_rfc _) (xw_sm1 rfl (xw_sm1 (x_rfc _) xw_sm0))) (by decide)) dX1_opens_23⟩, (List.forall_mem_cons.mpr ⟨⟨Nat.le_of_ble_eq_true rfl, xw_rU (owner := "CrossingWords$Saying") (x := ⟨"CrossingWords$Saying", "given", "()I"⟩) hE (ct_X6_given v84) xD_CrossingWords_Saying_given___I (Or.inl (Or.inl rfl)) q1036 q896 q898 q895 q102 q907 rfl ⟨by omega, Nat.le_of_ble_eq_true rfl⟩ (congrArg va_rf hq) rfl (Nat.le_trans (xw_sm1 (x_rfc _) (xw_sm1 rfl (xw_sm1 (x_rfc _) xw_sm0))) (by decide)) dX1_opens_23⟩, (List.forall_mem_cons.mpr ⟨⟨Nat.le_of_ble_eq_true rfl, xw_rU (owner := "CrossingWords$Saying") (x := ⟨"CrossingWords$Saying", "given", "()I"⟩) hE (ct_X6_given v84) xD_CrossingWords_Saying_given___I (Or.inl (Or.inl rfl)) q1036 q896 q900 q895 q102 q907 rfl ⟨by omega, Nat.le_of_ble_eq_true rfl⟩ (congrArg va_rf hq) rfl (Nat.le_trans (xw_sm1 (x_rfc _) (xw_sm1 rfl (xw_sm1 (x_rfc _) xw_sm0))) (by decide)) dX1_opens_23⟩, (List.forall_mem_cons.mpr ⟨⟨Nat.le_of_ble_eq_true rfl, xw_rU (owner := "CrossingWords$Saying") (x := ⟨"CrossingWords$Saying", "given", "()I"⟩) hE (ct_X6_given v84) xD_CrossingWords_Saying_given___I (Or.inl (Or.inl rfl)) q1036 q896 q905 q895 q102 q907 rfl ⟨by omega, Nat.le_of_ble_eq_true rfl⟩ (congrArg va_rf hq) rfl (Nat.le_trans (xw_sm1 (x_rfc _) (xw_sm1 rfl (xw_sm1 (x_rfc _) xw_sm0))) (by decide)) dX1_opens_23⟩, (fun _ h => absurd h List.not_mem_nil)⟩)⟩)⟩)⟩)⟩)⟩)⟩)⟩))) rfl (fun v83 => ?_)
        refine x_aload_n 27 hE dX1_opens_26 rfl 1 rfl ?_
        refine x_gR 30 hE (xw_lk0 hE xkf_CrossingWords_Run_92) rfl dX1_opens_27 rfl (fun v85 => ?_)
        refine x_calli 33 (xw_goV hE (c := 0) (by decide) (fun v87 hq => xw_rN hE (cHG v87 v83 v85) xd_X0_hasGiven xkm_CrossingWords_Run_96 q1039 qs20 q95 q1040 rfl ⟨by omega, Nat.le_of_ble_eq_true rfl⟩ (congrArg va_rf hq) rfl (Nat.le_trans (xw_sm1 rfl (xw_sm1 (x_rfc _) xw_sm0)) (by decide)) dX1_opens_30)) rfl (fun v86 => ?_)
        refine x_if_eq 52 36 hE dX1_opens_33 (by decide) rfl ?_ ?_
        · refine x_sipush 55 hE dX1_opens_52 rfl xc_s_9999 ?_
          refine x_sub [(0, va_rf (some v1)), (1, va_rf v2), (2, .int v3)] [1, 2, 0] rfl ?_
          exact hJ1 9999
        · refine x_sub [(0, va_rf (some v1)), (1, va_rf v2), (2, .int v3)] [1, 2, 0] rfl ?_
          exact hJ6 ()

set_option maxHeartbeats 4000000 in
theorem ct_X12_answers {l : Launch} {G : xw_G} {μ : xw_Mu} (v1 : Nat) : xw_Ct l G (xw_hc G μ) xw_oi yX12_answers cX12_answers 1 (some (.boolean)) 1 [va_rf (some v1)] (pg_X12_answers v1) := by
  refine xw_metL [(0, va_rf (some v1))] (by decide) (Nat.le_trans (Nat.le_of_eq ((xw_l1 rfl).trans (congrArg (1 + ·) xw_l0))) (by decide)) ((xw_a1 rfl).trans (congrArg (List.cons _) xw_a0)) (fun E hE hl hG hm => ?_)
  subst hl; subst hG
  have hE : xw_ok E "CrossingWords$No" cX12_answers 1 (some (.boolean)) 1 := hE
  unfold pg_X12_answers
  refine x_iconst 1 hE dX12_answers_0 rfl xc_i_1 ?_
  exact x_zretw hE (by decide) dX12_answers_1

set_option maxHeartbeats 4000000 in
theorem ct_X6_answers {l : Launch} {G : xw_G} {μ : xw_Mu} (v1 : Nat) : xw_Ct l G (xw_hc G μ) xw_oi yX6_answers cX6_answers 1 (some (.boolean)) 1 [va_rf (some v1)] (pg_X6_answers v1) := by
  refine xw_metL [(0, va_rf (some v1))] (by decide) (Nat.le_trans (Nat.le_of_eq ((xw_l1 rfl).trans (congrArg (1 + ·) xw_l0))) (by decide)) ((xw_a1 rfl).trans (congrArg (List.cons _) xw_a0)) (fun E hE hl hG hm => ?_)
  subst hl; subst hG
  have hE : xw_ok E "CrossingWords$Saying" cX6_answers 1 (some (.boolean)) 1 := hE
  unfold pg_X6_answers
  refine x_iconst 1 hE dX6_answers_0 rfl xc_i_0 ?_
  exact x_zretw hE (by decide) dX6_answers_1

set_option maxHeartbeats 4000000 in
theorem ct_X10_answers {l : Launch} {G : xw_G} {μ : xw_Mu} (v1 : Nat) : xw_Ct l G (xw_hc G μ) xw_oi yX10_answers cX10_answers 1 (some (.boolean)) 1 [va_rf (some v1)] (pg_X10_answers v1) := by
  refine xw_metL [(0, va_rf (some v1))] (by decide) (Nat.le_trans (Nat.le_of_eq ((xw_l1 rfl).trans (congrArg (1 + ·) xw_l0))) (by decide)) ((xw_a1 rfl).trans (congrArg (List.cons _) xw_a0)) (fun E hE hl hG hm => ?_)
  subst hl; subst hG
  have hE : xw_ok E "CrossingWords$Yes" cX10_answers 1 (some (.boolean)) 1 := hE
  unfold pg_X10_answers
  refine x_iconst 1 hE dX10_answers_0 rfl xc_i_1 ?_
  exact x_zretw hE (by decide) dX10_answers_1

set_option maxHeartbeats 4000000 in
theorem ct_X1_silence {l : Launch} {G : xw_G} {μ : xw_Mu} (v1 : Nat) (v2 : Option Nat) : xw_Ct l G (xw_hc G μ) xw_oi yX1_silence cX1_silence 4 (some (.int)) 3 [va_rf (some v1), va_rf v2] (pg_X1_silence v1 v2) := by
  refine xw_metL [(0, va_rf (some v1)), (1, va_rf v2)] (by decide) (Nat.le_trans (Nat.le_of_eq ((xw_l1 rfl).trans (congrArg (1 + ·) ((xw_l1 (x_rfc _)).trans (congrArg (1 + ·) xw_l0))))) (by decide)) ((xw_a1 rfl).trans (congrArg (List.cons _) ((xw_a1 (x_rfc _)).trans (congrArg (List.cons _) xw_a0)))) (fun E hE hl hG hm => ?_)
  subst hl; subst hG
  have hE : xw_ok E "CrossingWords$Run" cX1_silence 4 (some (.int)) 3 := hE
  unfold pg_X1_silence
  refine x_aload_n 1 hE dX1_silence_0 rfl 0 rfl ?_
  refine x_gR 4 hE (xw_lk0 hE xkf_CrossingWords_Run_92) rfl dX1_silence_1 rfl (fun v3 => ?_)
  refine x_bipush 6 hE dX1_silence_4 rfl xc_b_8 ?_
  refine x_calli 9 (xw_goV hE (c := 17) (by decide) (fun v5 hq => xw_rV hE (ct_X20_at v5 8) xd_X20_at rfl q1045 q988 q989 q116 q990 rfl ⟨Nat.le_of_ble_eq_true rfl, Nat.le_of_ble_eq_true rfl⟩ (congrArg va_rf hq) rfl (by decide) dX1_silence_6)) rfl (fun v4 => ?_)
  refine x_iconst 10 hE dX1_silence_9 rfl xc_i_m1 ?_
  refine x_icmp_eq 25 13 hE dX1_silence_10 (by decide) rfl ?_ ?_
  · refine x_sipush 28 hE dX1_silence_25 rfl xc_s_9999 ?_
    exact x_iret hE dX1_silence_28
  · refine x_aload_n 14 hE dX1_silence_13 rfl 0 rfl ?_
    refine x_aload_n 15 hE dX1_silence_14 rfl 1 rfl ?_
    refine x_iconst 16 hE dX1_silence_15 rfl xc_i_2 ?_
    refine x_calli 19 (xw_goV hE (c := 1) (by decide) (fun v7 hq => xw_rV hE (ct_X1_hour v7 v2 2) xd_X1_hour rfl q1046 q954 q955 q96 q956 rfl ⟨Nat.le_of_ble_eq_true rfl, Nat.le_of_ble_eq_true rfl⟩ (congrArg va_rf hq) rfl (by decide) dX1_silence_16)) rfl (fun v6 => ?_)
    refine x_sipush 22 hE dX1_silence_19 rfl xc_s_9999 ?_
    refine x_icmp_ne 29 25 hE dX1_silence_22 (by decide) rfl ?_ ?_
    · refine x_sipush 28 hE dX1_silence_25 rfl xc_s_9999 ?_
      exact x_iret hE dX1_silence_28
    · refine x_aload_n 30 hE dX1_silence_29 rfl 0 rfl ?_
      refine x_aload_n 31 hE dX1_silence_30 rfl 1 rfl ?_
      refine x_iconst 32 hE dX1_silence_31 rfl xc_i_2 ?_
      refine x_calli 35 (xw_goV hE (c := 1) (by decide) (fun v9 hq => xw_rV hE (ct_X1_hour v9 v2 2) xd_X1_hour rfl q1046 q954 q955 q96 q956 rfl ⟨Nat.le_of_ble_eq_true rfl, Nat.le_of_ble_eq_true rfl⟩ (congrArg va_rf hq) rfl (by decide) dX1_silence_32)) rfl (fun v8 => ?_)
      refine x_aload_n 36 hE dX1_silence_35 rfl 0 rfl ?_
      refine x_gR 39 hE (xw_lk0 hE xkf_CrossingWords_Run_92) rfl dX1_silence_36 rfl (fun v10 => ?_)
      refine x_bipush 41 hE dX1_silence_39 rfl xc_b_8 ?_
      refine x_calli 44 (xw_goV hE (c := 17) (by decide) (fun v12 hq => xw_rV hE (ct_X20_at v12 8) xd_X20_at rfl q1045 q988 q989 q116 q990 rfl ⟨Nat.le_of_ble_eq_true rfl, Nat.le_of_ble_eq_true rfl⟩ (congrArg va_rf hq) rfl (Nat.le_trans (xw_sm1 rfl xw_sm0) (by decide)) dX1_silence_41)) rfl (fun v11 => ?_)
      refine x_iadd 45 hE dX1_silence_44 rfl ?_
      refine x_lti (fun v13 => ?_)
      refine x_istore_n 46 [(2, .int v13), (0, va_rf (some v1)), (1, va_rf v2)] hE dX1_silence_45 rfl rfl (Nat.le_of_ble_eq_true rfl) (congrArg (List.cons _) (xw_f1 (by decide) rfl (xw_f1 (by decide) (x_rfc _) xw_f0))) ?_
      refine x_aload_n 47 hE dX1_silence_46 rfl 1 rfl ?_
      refine x_aload_n 48 hE dX1_silence_47 rfl 2 rfl ?_
      refine x_iload_n 49 hE dX1_silence_48 rfl 0 rfl ?_
      refine x_calli 52 (xw_goV hE (c := 1) (by decide) (fun v15 hq => xw_rV hE (ct_X1_isOpen v15 v2 v13) xd_X1_isOpen rfl q1115 q1117 qs23 q96 q1118 rfl ⟨Nat.le_of_ble_eq_true rfl, Nat.le_of_ble_eq_true rfl⟩ (congrArg va_rf hq) rfl (by decide) dX1_silence_49)) rfl (fun v14 => ?_)
      refine x_if_ne 59 55 hE dX1_silence_52 (by decide) rfl ?_ ?_
      · refine x_sipush 58 hE dX1_silence_55 rfl xc_s_9999 ?_
        exact x_iret hE dX1_silence_58
      · refine x_iconst 60 hE dX1_silence_59 rfl xc_i_0 ?_
        refine x_istore_n 61 [(3, .int 0), (2, .int v13), (0, va_rf (some v1)), (1, va_rf v2)] hE dX1_silence_60 rfl rfl (Nat.le_of_ble_eq_true rfl) rfl ?_
        refine x_sub [(0, va_rf (some v1)), (1, va_rf v2), (2, .int v13), (3, .int 0)] [2, 3, 1, 0] rfl ?_
        refine x_loop (fun (v16 : Int32) => [(0, va_rf (some v1)), (1, va_rf v2), (2, .int v13), (3, .int v16)]) (fun JL1 hc1 hx1 v16 => ?_) _ _
        refine x_iload_n 62 hE dX1_silence_61 rfl 3 rfl ?_
        refine x_aload_n 63 hE dX1_silence_62 rfl 0 rfl ?_
        refine x_gR 66 hE (xw_lk0 hE xkf_CrossingWords_Run_31) rfl dX1_silence_63 rfl (fun v17 => ?_)
        refine x_gI 69 hE (xw_lk0 hE xkf_CrossingWords_Run_51) rfl dX1_silence_66 rfl (fun v18 => ?_)
        refine x_icmp_ge 131 72 hE dX1_silence_69 (by decide) rfl ?_ ?_
        · refine x_iload_n 132 hE dX1_silence_131 rfl 2 rfl ?_
          refine hx1 _ _ _ _ ?_
          exact x_iret hE dX1_silence_132
        · refine x_aload_n 73 hE dX1_silence_72 rfl 0 rfl ?_
          refine x_gR 76 hE (xw_lk0 hE xkf_CrossingWords_Run_31) rfl dX1_silence_73 rfl (fun v19 => ?_)
          refine x_gR 79 hE (xw_lk0 hE xkf_CrossingWords_Run_54) rfl dX1_silence_76 rfl (fun v20 => ?_)
          refine x_iload_n 80 hE dX1_silence_79 rfl 3 rfl ?_
          refine x_ldR 81 hE dX1_silence_80 rfl (fun v21 => ?_)
          refine x_calli 84 (xw_goD hE (fun v23 hq => (List.forall_mem_cons.mpr ⟨⟨Nat.le_of_ble_eq_true rfl, xw_rU (owner := "CrossingWords$Saying") (x := ⟨"CrossingWords$Saying", "answers", "()Z"⟩) hE (ct_X6_answers v23) xD_CrossingWords_Saying_answers___Z (Or.inl (Or.inl rfl)) q1127 q1129 q1130 q1128 q102 q1142 rfl ⟨Nat.le_of_ble_eq_true rfl, Nat.le_of_ble_eq_true rfl⟩ (congrArg va_rf hq) rfl (by decide) dX1_silence_81⟩, (List.forall_mem_cons.mpr ⟨⟨Nat.le_of_ble_eq_true rfl, xw_rU (owner := "CrossingWords$Saying") (x := ⟨"CrossingWords$Saying", "answers", "()Z"⟩) hE (ct_X6_answers v23) xD_CrossingWords_Saying_answers___Z (Or.inl (Or.inl rfl)) q1127 q1129 q1139 q1128 q102 q1142 rfl ⟨Nat.le_of_ble_eq_true rfl, Nat.le_of_ble_eq_true rfl⟩ (congrArg va_rf hq) rfl (by decide) dX1_silence_81⟩, (List.forall_mem_cons.mpr ⟨⟨Nat.le_of_ble_eq_true rfl, xw_rU (owner := "CrossingWords$Saying") (x := ⟨"CrossingWords$Saying", "answers", "()Z"⟩) hE (ct_X10_answers v23) xD_CrossingWords_Saying_answers___Z (Or.inl (Or.inr ⟨_, _, _, q1128, q1142⟩)) q1127 q1129 q1141 q1133 q106 q1134 rfl ⟨Nat.le_of_ble_eq_true rfl, Nat.le_of_ble_eq_true rfl⟩ (congrArg va_rf hq) rfl (by decide) dX1_silence_81⟩, (List.forall_mem_cons.mpr ⟨⟨Nat.le_of_ble_eq_true rfl, xw_rU (owner := "CrossingWords$Saying") (x := ⟨"CrossingWords$Saying", "answers", "()Z"⟩) hE (ct_X10_answers v23) xD_CrossingWords_Saying_answers___Z (Or.inl (Or.inr ⟨_, _, _, q1128, q1142⟩)) q1127 q1129 q1132 q1133 q106 q1134 rfl ⟨Nat.le_of_ble_eq_true rfl, Nat.le_of_ble_eq_true rfl⟩ (congrArg va_rf hq) rfl (by decide) dX1_silence_81⟩, (List.forall_mem_cons.mpr ⟨⟨Nat.le_of_ble_eq_true rfl, xw_rU (owner := "CrossingWords$Saying") (x := ⟨"CrossingWords$Saying", "answers", "()Z"⟩) hE (ct_X12_answers v23) xD_CrossingWords_Saying_answers___Z (Or.inl (Or.inr ⟨_, _, _, q1128, q1142⟩)) q1127 q1129 q1136 q1137 q108 q1138 rfl ⟨Nat.le_of_ble_eq_true rfl, Nat.le_of_ble_eq_true rfl⟩ (congrArg va_rf hq) rfl (by decide) dX1_silence_81⟩, (List.forall_mem_cons.mpr ⟨⟨Nat.le_of_ble_eq_true rfl, xw_rU (owner := "CrossingWords$Saying") (x := ⟨"CrossingWords$Saying", "answers", "()Z"⟩) hE (ct_X6_answers v23) xD_CrossingWords_Saying_answers___Z (Or.inl (Or.inl rfl)) q1127 q1129 q1131 q1128 q102 q1142 rfl ⟨Nat.le_of_ble_eq_true rfl, Nat.le_of_ble_eq_true rfl⟩ (congrArg va_rf hq) rfl (by decide) dX1_silence_81⟩, (List.forall_mem_cons.mpr ⟨⟨Nat.le_of_ble_eq_true rfl, xw_rU (owner := "CrossingWords$Saying") (x := ⟨"CrossingWords$Saying", "answers", "()Z"⟩) hE (ct_X10_answers v23) xD_CrossingWords_Saying_answers___Z (Or.inl (Or.inr ⟨_, _, _, q1128, q1142⟩)) q1127 q1129 q1135 q1133 q106 q1134 rfl ⟨Nat.le_of_ble_eq_true rfl, Nat.le_of_ble_eq_true rfl⟩ (congrArg va_rf hq) rfl (by decide) dX1_silence_81⟩, (List.forall_mem_cons.mpr ⟨⟨Nat.le_of_ble_eq_true rfl, xw_rU (owner := "CrossingWords$Saying") (x := ⟨"CrossingWords$Saying", "answers", "()Z"⟩) hE (ct_X6_answers v23) xD_CrossingWords_Saying_answers___Z (Or.inl (Or.inl rfl)) q1127 q1129 q1140 q1128 q102 q1142 rfl ⟨Nat.le_of_ble_eq_true rfl, Nat.le_of_ble_eq_true rfl⟩ (congrArg va_rf hq) rfl (by decide) dX1_silence_81⟩, (fun _ h => absurd h List.not_mem_nil)⟩)⟩)⟩)⟩)⟩)⟩)⟩)⟩))) rfl (fun v22 => ?_)
          refine x_if_eq 125 87 hE dX1_silence_84 (by decide) rfl ?_ ?_
          · refine x_iinc 128 [(3, .int (v16 + 1)), (0, va_rf (some v1)), (1, va_rf v2), (2, .int v13)] hE dX1_silence_125 rfl 3 rfl xc_i_1 (Nat.le_of_ble_eq_true rfl) rfl ?_
            refine x_goto 61 hE dX1_silence_128 (by decide) ?_
            refine x_sub [(0, va_rf (some v1)), (1, va_rf v2), (2, .int v13), (3, .int (v16 + 1))] [1, 2, 3, 0] rfl ?_
            exact hc1 (v16 + 1)
          · refine x_aload_n 88 hE dX1_silence_87 rfl 0 rfl ?_
            refine x_gR 91 hE (xw_lk0 hE xkf_CrossingWords_Run_31) rfl dX1_silence_88 rfl (fun v24 => ?_)
            refine x_gR 94 hE (xw_lk0 hE xkf_CrossingWords_Run_54) rfl dX1_silence_91 rfl (fun v25 => ?_)
            refine x_iload_n 95 hE dX1_silence_94 rfl 3 rfl ?_
            refine x_ldR 96 hE dX1_silence_95 rfl (fun v26 => ?_)
            refine x_aload_n 97 hE dX1_silence_96 rfl 1 rfl ?_
            refine x_calli 100 (xw_goD hE (fun v28 hq => (List.forall_mem_cons.mpr ⟨⟨Nat.le_of_ble_eq_true rfl, xw_rU (owner := "CrossingWords$Saying") (x := ⟨"CrossingWords$Saying", "isSaid", "(LCrossingWords$Saying;)Z"⟩) hE (ct_X6_isSaid v28 v2) xD_CrossingWords_Saying_isSaid__LCrossingWords_Saying__Z (Or.inl (Or.inl rfl)) q1048 q1050 q1051 q1049 q102 q1059 rfl ⟨Nat.le_of_ble_eq_true rfl, Nat.le_of_ble_eq_true rfl⟩ (congrArg va_rf hq) rfl (by decide) dX1_silence_97⟩, (List.forall_mem_cons.mpr ⟨⟨Nat.le_of_ble_eq_true rfl, xw_rU (owner := "CrossingWords$Saying") (x := ⟨"CrossingWords$Saying", "isSaid", "(LCrossingWords$Saying;)Z"⟩) hE (ct_X6_isSaid v28 v2) xD_CrossingWords_Saying_isSaid__LCrossingWords_Saying__Z (Or.inl (Or.inl rfl)) q1048 q1050 q1056 q1049 q102 q1059 rfl ⟨Nat.le_of_ble_eq_true rfl, Nat.le_of_ble_eq_true rfl⟩ (congrArg va_rf hq) rfl (by decide) dX1_silence_97⟩, (List.forall_mem_cons.mpr ⟨⟨Nat.le_of_ble_eq_true rfl, xw_rU (owner := "CrossingWords$Saying") (x := ⟨"CrossingWords$Saying", "isSaid", "(LCrossingWords$Saying;)Z"⟩) hE (ct_X6_isSaid v28 v2) xD_CrossingWords_Saying_isSaid__LCrossingWords_Saying__Z (Or.inl (Or.inl rfl)) q1048 q1050 q1058 q1049 q102 q1059 rfl ⟨Nat.le_of_ble_eq_true rfl, Nat.le_of_ble_eq_true rfl⟩ (congrArg va_rf hq) rfl (by decide) dX1_silence_97⟩, (List.forall_mem_cons.mpr ⟨⟨Nat.le_of_ble_eq_true rfl, xw_rU (owner := "CrossingWords$Saying") (x := ⟨"CrossingWords$Saying", "isSaid", "(LCrossingWords$Saying;)Z"⟩) hE (ct_X6_isSaid v28 v2) xD_CrossingWords_Saying_isSaid__LCrossingWords_Saying__Z (Or.inl (Or.inl rfl)) q1048 q1050 q1053 q1049 q102 q1059 rfl ⟨Nat.le_of_ble_eq_true rfl, Nat.le_of_ble_eq_true rfl⟩ (congrArg va_rf hq) rfl (by decide) dX1_silence_97⟩, (List.forall_mem_cons.mpr ⟨⟨Nat.le_of_ble_eq_true rfl, xw_rU (owner := "CrossingWords$Saying") (x := ⟨"CrossingWords$Saying", "isSaid", "(LCrossingWords$Saying;)Z"⟩) hE (ct_X6_isSaid v28 v2) xD_CrossingWords_Saying_isSaid__LCrossingWords_Saying__Z (Or.inl (Or.inl rfl)) q1048 q1050 q1055 q1049 q102 q1059 rfl ⟨Nat.le_of_ble_eq_true rfl, Nat.le_of_ble_eq_true rfl⟩ (congrArg va_rf hq) rfl (by decide) dX1_silence_97⟩, (List.forall_mem_cons.mpr ⟨⟨Nat.le_of_ble_eq_true rfl, xw_rU (owner := "CrossingWords$Saying") (x := ⟨"CrossingWords$Saying", "isSaid", "(LCrossingWords$Saying;)Z"⟩) hE (ct_X6_isSaid v28 v2) xD_CrossingWords_Saying_isSaid__LCrossingWords_Saying__Z (Or.inl (Or.inl rfl)) q1048 q1050 q1052 q1049 q102 q1059 rfl ⟨Nat.le_of_ble_eq_true rfl, Nat.le_of_ble_eq_true rfl⟩ (congrArg va_rf hq) rfl (by decide) dX1_silence_97⟩, (List.forall_mem_cons.mpr ⟨⟨Nat.le_of_ble_eq_true rfl, xw_rU (owner := "CrossingWords$Saying") (x := ⟨"CrossingWords$Saying", "isSaid", "(LCrossingWords$Saying;)Z"⟩) hE (ct_X6_isSaid v28 v2) xD_CrossingWords_Saying_isSaid__LCrossingWords_Saying__Z (Or.inl (Or.inl rfl)) q1048 q1050 q1054 q1049 q102 q1059 rfl ⟨Nat.le_of_ble_eq_true rfl, Nat.le_of_ble_eq_true rfl⟩ (congrArg va_rf hq) rfl (by decide) dX1_silence_97⟩, (List.forall_mem_cons.mpr ⟨⟨Nat.le_of_ble_eq_true rfl, xw_rU (owner := "CrossingWords$Saying") (x := ⟨"CrossingWords$Saying", "isSaid", "(LCrossingWords$Saying;)Z"⟩) hE (ct_X6_isSaid v28 v2) xD_CrossingWords_Saying_isSaid__LCrossingWords_Saying__Z (Or.inl (Or.inl rfl)) q1048 q1050 q1057 q1049 q102 q1059 rfl ⟨Nat.le_of_ble_eq_true rfl, Nat.le_of_ble_eq_true rfl⟩ (congrArg va_rf hq) rfl (by decide) dX1_silence_97⟩, (fun _ h => absurd h List.not_mem_nil)⟩)⟩)⟩)⟩)⟩)⟩)⟩)⟩))) rfl (fun v27 => ?_)
            refine x_if_eq 125 103 hE dX1_silence_100 (by decide) rfl ?_ ?_
            · refine x_iinc 128 [(3, .int (v16 + 1)), (0, va_rf (some v1)), (1, va_rf v2), (2, .int v13)] hE dX1_silence_125 rfl 3 rfl xc_i_1 (Nat.le_of_ble_eq_true rfl) rfl ?_
              refine x_goto 61 hE dX1_silence_128 (by decide) ?_
              refine x_sub [(0, va_rf (some v1)), (1, va_rf v2), (2, .int v13), (3, .int (v16 + 1))] [1, 2, 3, 0] rfl ?_
              exact hc1 (v16 + 1)
            · refine x_aload_n 104 hE dX1_silence_103 rfl 0 rfl ?_
              refine x_aload_n 105 hE dX1_silence_104 rfl 0 rfl ?_
              refine x_gR 108 hE (xw_lk0 hE xkf_CrossingWords_Run_31) rfl dX1_silence_105 rfl (fun v29 => ?_)
              refine x_gR 111 hE (xw_lk0 hE xkf_CrossingWords_Run_54) rfl dX1_silence_108 rfl (fun v30 => ?_)
              refine x_iload_n 112 hE dX1_silence_111 rfl 3 rfl ?_
              refine x_ldR 113 hE dX1_silence_112 rfl (fun v31 => ?_)
              refine x_iconst 114 hE dX1_silence_113 rfl xc_i_0 ?_
              refine x_calli 117 (xw_goV hE (c := 1) (by decide) (fun v33 hq => xw_rV hE (ct_X1_hour v33 v31 0) xd_X1_hour rfl q1046 q954 q955 q96 q956 rfl ⟨Nat.le_of_ble_eq_true rfl, Nat.le_of_ble_eq_true rfl⟩ (congrArg va_rf hq) rfl (by decide) dX1_silence_114)) rfl (fun v32 => ?_)
              refine x_iload_n 118 hE dX1_silence_117 rfl 2 rfl ?_
              refine x_icmp_gt 125 121 hE dX1_silence_118 (by decide) rfl ?_ ?_
              · refine x_iinc 128 [(3, .int (v16 + 1)), (0, va_rf (some v1)), (1, va_rf v2), (2, .int v13)] hE dX1_silence_125 rfl 3 rfl xc_i_1 (Nat.le_of_ble_eq_true rfl) rfl ?_
                refine x_goto 61 hE dX1_silence_128 (by decide) ?_
                refine x_sub [(0, va_rf (some v1)), (1, va_rf v2), (2, .int v13), (3, .int (v16 + 1))] [1, 2, 3, 0] rfl ?_
                exact hc1 (v16 + 1)
              · refine x_sipush 124 hE dX1_silence_121 rfl xc_s_9999 ?_
                refine hx1 _ _ _ _ ?_
                exact x_iret hE dX1_silence_124

set_option maxHeartbeats 4000000 in
theorem ct_X1_takes {l : Launch} {G : xw_G} {μ : xw_Mu} (v1 : Nat) (v2 : Int32) (v3 : Int32) (v4 : Option Nat) : xw_Ct l G (xw_hc G μ) xw_ov yX1_takes cX1_takes 4 none 1 [va_rf (some v1), .int v2, .int v3, va_rf v4] (pg_X1_takes v1 v2 v3 v4) := by
  refine xw_metL [(0, va_rf (some v1)), (1, .int v2), (2, .int v3), (3, va_rf v4)] (by decide) (Nat.le_trans (Nat.le_of_eq ((xw_l1 rfl).trans (congrArg (1 + ·) ((xw_l1 rfl).trans (congrArg (1 + ·) ((xw_l1 rfl).trans (congrArg (1 + ·) ((xw_l1 (x_rfc _)).trans (congrArg (1 + ·) xw_l0))))))))) (by decide)) ((xw_a1 rfl).trans (congrArg (List.cons _) ((xw_a1 rfl).trans (congrArg (List.cons _) ((xw_a1 rfl).trans (congrArg (List.cons _) ((xw_a1 (x_rfc _)).trans (congrArg (List.cons _) xw_a0)))))))) (fun E hE hl hG hm => ?_)
  subst hl; subst hG
  have hE : xw_ok E "CrossingWords$Run" cX1_takes 4 none 1 := hE
  unfold pg_X1_takes
  refine x_iload_n 1 hE dX1_takes_0 rfl 1 rfl ?_
  refine x_aload_n 2 hE dX1_takes_1 rfl 0 rfl ?_
  refine x_gI 5 hE (xw_lk0 hE xkf_CrossingWords_Run_145) rfl dX1_takes_2 rfl (fun v5 => ?_)
  refine x_icmp_lt 9 8 hE dX1_takes_5 (by decide) rfl ?_ ?_
  · refine x_aload_n 10 hE dX1_takes_9 rfl 0 rfl ?_
    refine x_iload_n 11 hE dX1_takes_10 rfl 1 rfl ?_
    refine x_pI 14 hE (xw_pkN (xw_lk0 hE xkf_CrossingWords_Run_145) rfl) ⟨rfl, rfl⟩ dX1_takes_11 rfl ?_
    refine x_aload_n 15 hE dX1_takes_14 rfl 0 rfl ?_
    refine x_iload_n 16 hE dX1_takes_15 rfl 2 rfl ?_
    refine x_pI 19 hE (xw_pkN (xw_lk0 hE xkf_CrossingWords_Run_148) rfl) ⟨rfl, rfl⟩ dX1_takes_16 rfl ?_
    refine x_aload_n 20 hE dX1_takes_19 rfl 0 rfl ?_
    refine x_aload_n 21 hE dX1_takes_20 rfl 3 rfl ?_
    refine x_pR 24 hE (xw_pkN (xw_lk0 hE xkf_CrossingWords_Run_151) rfl) ⟨rfl, rfl⟩ dX1_takes_21 rfl ?_
    exact x_vret hE dX1_takes_24
  · exact x_vret hE dX1_takes_8

set_option maxHeartbeats 4000000 in
theorem ct_X6_isYes {l : Launch} {G : xw_G} {μ : xw_Mu} (v1 : Nat) (v2 : Option Nat) : xw_Ct l G (xw_hc G μ) xw_oi yX6_isYes cX6_isYes 2 (some (.boolean)) 1 [va_rf (some v1), va_rf v2] (pg_X6_isYes v1 v2) := by
  refine xw_metL [(0, va_rf (some v1)), (1, va_rf v2)] (by decide) (Nat.le_trans (Nat.le_of_eq ((xw_l1 rfl).trans (congrArg (1 + ·) ((xw_l1 (x_rfc _)).trans (congrArg (1 + ·) xw_l0))))) (by decide)) ((xw_a1 rfl).trans (congrArg (List.cons _) ((xw_a1 (x_rfc _)).trans (congrArg (List.cons _) xw_a0)))) (fun E hE hl hG hm => ?_)
  subst hl; subst hG
  have hE : xw_ok E "CrossingWords$Saying" cX6_isYes 2 (some (.boolean)) 1 := hE
  unfold pg_X6_isYes
  refine x_iconst 1 hE dX6_isYes_0 rfl xc_i_0 ?_
  exact x_zretw hE (by decide) dX6_isYes_1

set_option maxHeartbeats 4000000 in
theorem ct_X10_isYes {l : Launch} {G : xw_G} {μ : xw_Mu} (v1 : Nat) (v2 : Option Nat) : xw_Ct l G (xw_hc G μ) xw_oi yX10_isYes cX10_isYes 2 (some (.boolean)) 1 [va_rf (some v1), va_rf v2] (pg_X10_isYes v1 v2) := by
  refine xw_metL [(0, va_rf (some v1)), (1, va_rf v2)] (by decide) (Nat.le_trans (Nat.le_of_eq ((xw_l1 rfl).trans (congrArg (1 + ·) ((xw_l1 (x_rfc _)).trans (congrArg (1 + ·) xw_l0))))) (by decide)) ((xw_a1 rfl).trans (congrArg (List.cons _) ((xw_a1 (x_rfc _)).trans (congrArg (List.cons _) xw_a0)))) (fun E hE hl hG hm => ?_)
  subst hl; subst hG
  have hE : xw_ok E "CrossingWords$Yes" cX10_isYes 2 (some (.boolean)) 1 := hE
  unfold pg_X10_isYes
  refine x_iconst 1 hE dX10_isYes_0 rfl xc_i_1 ?_
  exact x_zretw hE (by decide) dX10_isYes_1

set_option maxHeartbeats 4000000 in
theorem ct_X1_runs {l : Launch} {G : xw_G} {μ : xw_Mu} (HG : Nat → Int32 → Option Nat → xw_M xw_St Int32) (lamH : Nat) (hlamH : 40 ≤ lamH) (cHG : ∀ (a : Nat) (b : Int32) (c : Option Nat), xw_Ct l G (xw_hc G μ) xw_oi yX0_hasGiven cX0_hasGiven 7 (some .boolean) lamH [va_rf (some a), .int b, va_rf c] (HG a b c)) (v1 : Nat) (v2 : Option Nat) (v3 : Option Nat) (v4 : Int32) : xw_Ct l G (xw_hc G μ) xw_ov yX1_runs cX1_runs 5 none (lamH + 2) [va_rf (some v1), va_rf v2, va_rf v3, .int v4] (pg_X1_runs HG v1 v2 v3 v4) := by
  refine xw_metL [(0, va_rf (some v1)), (1, va_rf v2), (2, va_rf v3), (3, .int v4)] (by decide) (Nat.le_trans (Nat.le_of_eq ((xw_l1 rfl).trans (congrArg (1 + ·) ((xw_l1 (x_rfc _)).trans (congrArg (1 + ·) ((xw_l1 (x_rfc _)).trans (congrArg (1 + ·) ((xw_l1 rfl).trans (congrArg (1 + ·) xw_l0))))))))) (by decide)) ((xw_a1 rfl).trans (congrArg (List.cons _) ((xw_a1 (x_rfc _)).trans (congrArg (List.cons _) ((xw_a1 (x_rfc _)).trans (congrArg (List.cons _) ((xw_a1 rfl).trans (congrArg (List.cons _) xw_a0)))))))) (fun E hE hl hG hm => ?_)
  subst hl; subst hG
  have hE : xw_ok E "CrossingWords$Run" cX1_runs 5 none (lamH + 2) := hE
  unfold pg_X1_runs
  refine x_aload_n 1 hE dX1_runs_0 rfl 0 rfl ?_
  refine x_aload_n 2 hE dX1_runs_1 rfl 1 rfl ?_
  refine x_iload_n 3 hE dX1_runs_2 rfl 3 rfl ?_
  refine x_callv 6 (xw_goV hE (c := 1) (by decide) (fun v5 hq => xw_rV hE (ct_X1_lays v5 v2 v4) xd_X1_lays rfl q1007 q946 q947 q96 q948 rfl ⟨by omega, Nat.le_of_ble_eq_true rfl⟩ (congrArg va_rf hq) rfl (by decide) dX1_runs_3)) rfl ?_
  refine x_aload_n 7 hE dX1_runs_6 rfl 0 rfl ?_
  refine x_aload_n 8 hE dX1_runs_7 rfl 2 rfl ?_
  refine x_pR 11 hE (xw_pkN (xw_lk0 hE xkf_CrossingWords_Run_92) rfl) ⟨rfl, rfl⟩ dX1_runs_8 rfl ?_
  refine x_aload_n 12 hE dX1_runs_11 rfl 0 rfl ?_
  refine x_sipush 15 hE dX1_runs_12 rfl xc_s_9999 ?_
  refine x_pI 18 hE (xw_pkN (xw_lk0 hE xkf_CrossingWords_Run_145) rfl) ⟨rfl, rfl⟩ dX1_runs_15 rfl ?_
  refine x_aload_n 19 hE dX1_runs_18 rfl 0 rfl ?_
  refine x_iconst 20 hE dX1_runs_19 rfl xc_i_m1 ?_
  refine x_pI 23 hE (xw_pkN (xw_lk0 hE xkf_CrossingWords_Run_148) rfl) ⟨rfl, rfl⟩ dX1_runs_20 rfl ?_
  refine x_aload_n 24 hE dX1_runs_23 rfl 0 rfl ?_
  refine x_null 25 hE dX1_runs_24 rfl ?_
  refine x_pR 28 hE (xw_pkN (xw_lk0 hE xkf_CrossingWords_Run_151) rfl) ⟨rfl, rfl⟩ dX1_runs_25 rfl ?_
  refine x_iconst 29 hE dX1_runs_28 rfl xc_i_0 ?_
  refine x_istore 31 [(4, .int 0), (0, va_rf (some v1)), (1, va_rf v2), (2, va_rf v3), (3, .int v4)] hE dX1_runs_29 rfl (Nat.le_of_ble_eq_true rfl) rfl ?_
  refine x_sub [(0, va_rf (some v1)), (1, va_rf v2), (2, va_rf v3), (4, .int 0)] [1, 2, 3, 0] rfl ?_
  refine x_sq 71 (fun (v7 : Unit) => [(0, va_rf (some v1)), (1, va_rf v2), (2, va_rf v3)]) (fun _ => []) (fun v7 => ?_) (fun J2 hJ2 => ?_)
  · refine x_iconst 72 hE dX1_runs_71 rfl xc_i_0 ?_
    refine x_istore 74 [(4, .int 0), (0, va_rf (some v1)), (1, va_rf v2), (2, va_rf v3)] hE dX1_runs_72 rfl (Nat.le_of_ble_eq_true rfl) rfl ?_
    refine x_sub [(0, va_rf (some v1)), (1, va_rf v2), (2, va_rf v3), (4, .int 0)] [1, 2, 3, 0] rfl ?_
    refine x_sq 130 (fun (v9 : Unit) => [(0, va_rf (some v1)), (1, va_rf v2), (2, va_rf v3)]) (fun _ => []) (fun v9 => ?_) (fun J4 hJ4 => ?_)
    · refine x_iconst 131 hE dX1_runs_130 rfl xc_i_0 ?_
      refine x_istore 133 [(4, .int 0), (0, va_rf (some v1)), (1, va_rf v2), (2, va_rf v3)] hE dX1_runs_131 rfl (Nat.le_of_ble_eq_true rfl) rfl ?_
      refine x_sub [(0, va_rf (some v1)), (1, va_rf v2), (2, va_rf v3), (4, .int 0)] [1, 2, 3, 0] rfl ?_
      refine x_sq 185 (fun (v11 : Unit) => []) (fun _ => []) (fun v11 => ?_) (fun J6 hJ6 => ?_)
      · exact x_vret hE dX1_runs_185
      · refine x_loop (fun (v10 : Int32) => [(0, va_rf (some v1)), (1, va_rf v2), (2, va_rf v3), (4, .int v10)]) (fun JL5 hc5 hx5 v10 => ?_) _ _
        refine x_iload 135 hE dX1_runs_133 rfl 3 rfl ?_
        refine x_aload_n 136 hE dX1_runs_135 rfl 1 rfl ?_
        refine x_gI 139 hE (xw_lk0 hE xkf_CrossingWords_Run_51) rfl dX1_runs_136 rfl (fun v12 => ?_)
        refine x_icmp_ge 185 142 hE dX1_runs_139 (by decide) rfl ?_ ?_
        · refine x_sub [] [] rfl ?_
          refine hx5 _ _ _ _ ?_
          exact hJ6 ()
        · refine x_aload_n 143 hE dX1_runs_142 rfl 1 rfl ?_
          refine x_gR 146 hE (xw_lk0 hE xkf_CrossingWords_Run_54) rfl dX1_runs_143 rfl (fun v13 => ?_)
          refine x_iload 148 hE dX1_runs_146 rfl 3 rfl ?_
          refine x_ldR 149 hE dX1_runs_148 rfl (fun v14 => ?_)
          refine x_aload_n 150 hE dX1_runs_149 rfl 2 rfl ?_
          refine x_calli 153 (xw_goD hE (fun v16 hq => (List.forall_mem_cons.mpr ⟨⟨Nat.le_of_ble_eq_true rfl, xw_rU (owner := "CrossingWords$Saying") (x := ⟨"CrossingWords$Saying", "isOffer", "(LCrossingWords$Rules;)Z"⟩) hE (ct_X6_isOffer v16 v3) xD_CrossingWords_Saying_isOffer__LCrossingWords_Rules__Z (Or.inl (Or.inl rfl)) q1008 q1010 q1011 q1009 q102 q1031 rfl ⟨by omega, Nat.le_of_ble_eq_true rfl⟩ (congrArg va_rf hq) rfl (by decide) dX1_runs_150⟩, (List.forall_mem_cons.mpr ⟨⟨Nat.le_of_ble_eq_true rfl, xw_rU (owner := "CrossingWords$Saying") (x := ⟨"CrossingWords$Saying", "isOffer", "(LCrossingWords$Rules;)Z"⟩) hE (ct_X8_isOffer v16 v3) xD_CrossingWords_Saying_isOffer__LCrossingWords_Rules__Z (Or.inl (Or.inr ⟨_, _, _, q1009, q1031⟩)) q1008 q1010 q1026 q1027 q104 q1028 rfl ⟨by omega, Nat.le_of_ble_eq_true rfl⟩ (congrArg va_rf hq) rfl (by decide) dX1_runs_150⟩, (List.forall_mem_cons.mpr ⟨⟨Nat.le_of_ble_eq_true rfl, xw_rU (owner := "CrossingWords$Saying") (x := ⟨"CrossingWords$Saying", "isOffer", "(LCrossingWords$Rules;)Z"⟩) hE (ct_X6_isOffer v16 v3) xD_CrossingWords_Saying_isOffer__LCrossingWords_Rules__Z (Or.inl (Or.inl rfl)) q1008 q1010 q1030 q1009 q102 q1031 rfl ⟨by omega, Nat.le_of_ble_eq_true rfl⟩ (congrArg va_rf hq) rfl (by decide) dX1_runs_150⟩, (List.forall_mem_cons.mpr ⟨⟨Nat.le_of_ble_eq_true rfl, xw_rU (owner := "CrossingWords$Saying") (x := ⟨"CrossingWords$Saying", "isOffer", "(LCrossingWords$Rules;)Z"⟩) hE (ct_X11_isOffer v16 v3) xD_CrossingWords_Saying_isOffer__LCrossingWords_Rules__Z (Or.inl (Or.inr ⟨_, _, _, q1009, q1031⟩)) q1008 q1010 q1013 q1014 q107 q1015 rfl ⟨by omega, Nat.le_of_ble_eq_true rfl⟩ (congrArg va_rf hq) rfl (by decide) dX1_runs_150⟩, (List.forall_mem_cons.mpr ⟨⟨Nat.le_of_ble_eq_true rfl, xw_rU (owner := "CrossingWords$Saying") (x := ⟨"CrossingWords$Saying", "isOffer", "(LCrossingWords$Rules;)Z"⟩) hE (ct_X6_isOffer v16 v3) xD_CrossingWords_Saying_isOffer__LCrossingWords_Rules__Z (Or.inl (Or.inl rfl)) q1008 q1010 q1025 q1009 q102 q1031 rfl ⟨by omega, Nat.le_of_ble_eq_true rfl⟩ (congrArg va_rf hq) rfl (by decide) dX1_runs_150⟩, (List.forall_mem_cons.mpr ⟨⟨Nat.le_of_ble_eq_true rfl, xw_rU (owner := "CrossingWords$Saying") (x := ⟨"CrossingWords$Saying", "isOffer", "(LCrossingWords$Rules;)Z"⟩) hE (ct_X6_isOffer v16 v3) xD_CrossingWords_Saying_isOffer__LCrossingWords_Rules__Z (Or.inl (Or.inl rfl)) q1008 q1010 q1012 q1009 q102 q1031 rfl ⟨by omega, Nat.le_of_ble_eq_true rfl⟩ (congrArg va_rf hq) rfl (by decide) dX1_runs_150⟩, (List.forall_mem_cons.mpr ⟨⟨Nat.le_of_ble_eq_true rfl, xw_rU (owner := "CrossingWords$Saying") (x := ⟨"CrossingWords$Saying", "isOffer", "(LCrossingWords$Rules;)Z"⟩) hE (ct_X6_isOffer v16 v3) xD_CrossingWords_Saying_isOffer__LCrossingWords_Rules__Z (Or.inl (Or.inl rfl)) q1008 q1010 q1024 q1009 q102 q1031 rfl ⟨by omega, Nat.le_of_ble_eq_true rfl⟩ (congrArg va_rf hq) rfl (by decide) dX1_runs_150⟩, (List.forall_mem_cons.mpr ⟨⟨Nat.le_of_ble_eq_true rfl, xw_rU (owner := "CrossingWords$Saying") (x := ⟨"CrossingWords$Saying", "isOffer", "(LCrossingWords$Rules;)Z"⟩) hE (ct_X6_isOffer v16 v3) xD_CrossingWords_Saying_isOffer__LCrossingWords_Rules__Z (Or.inl (Or.inl rfl)) q1008 q1010 q1029 q1009 q102 q1031 rfl ⟨by omega, Nat.le_of_ble_eq_true rfl⟩ (congrArg va_rf hq) rfl (by decide) dX1_runs_150⟩, (fun _ h => absurd h List.not_mem_nil)⟩)⟩)⟩)⟩)⟩)⟩)⟩)⟩))) rfl (fun v15 => ?_)
          refine x_if_eq 179 156 hE dX1_runs_153 (by decide) rfl ?_ ?_
          · refine x_iinc 182 [(4, .int (v10 + 1)), (0, va_rf (some v1)), (1, va_rf v2), (2, va_rf v3)] hE dX1_runs_179 rfl 3 rfl xc_i_1 (Nat.le_of_ble_eq_true rfl) rfl ?_
            refine x_goto 133 hE dX1_runs_182 (by decide) ?_
            refine x_sub [(0, va_rf (some v1)), (1, va_rf v2), (2, va_rf v3), (4, .int (v10 + 1))] [1, 2, 3, 0] rfl ?_
            exact hc5 (v10 + 1)
          · refine x_aload_n 157 hE dX1_runs_156 rfl 0 rfl ?_
            refine x_aload_n 158 hE dX1_runs_157 rfl 0 rfl ?_
            refine x_aload_n 159 hE dX1_runs_158 rfl 1 rfl ?_
            refine x_gR 162 hE (xw_lk0 hE xkf_CrossingWords_Run_54) rfl dX1_runs_159 rfl (fun v17 => ?_)
            refine x_iload 164 hE dX1_runs_162 rfl 3 rfl ?_
            refine x_ldR 165 hE dX1_runs_164 rfl (fun v18 => ?_)
            refine x_calli 168 (xw_goV hE (c := 1) (by decide) (fun v20 hq => xw_rV hE (ct_X1_silence v20 v18) xd_X1_silence rfl q1123 q1125 qs25 q96 q1126 rfl ⟨by omega, Nat.le_of_ble_eq_true rfl⟩ (congrArg va_rf hq) rfl (Nat.le_trans (xw_sm1 rfl xw_sm0) (by decide)) dX1_runs_165)) rfl (fun v19 => ?_)
            refine x_iconst 169 hE dX1_runs_168 rfl xc_i_m1 ?_
            refine x_aload_n 170 hE dX1_runs_169 rfl 1 rfl ?_
            refine x_gR 173 hE (xw_lk0 hE xkf_CrossingWords_Run_54) rfl dX1_runs_170 rfl (fun v21 => ?_)
            refine x_iload 175 hE dX1_runs_173 rfl 3 rfl ?_
            refine x_ldR 176 hE dX1_runs_175 rfl (fun v22 => ?_)
            refine x_callv 179 (xw_goV hE (c := 1) (by decide) (fun v23 hq => xw_rV hE (ct_X1_takes v23 v19 (-1) v22) xd_X1_takes rfl q1119 q1121 qs24 q96 q1122 rfl ⟨by omega, Nat.le_of_ble_eq_true rfl⟩ (congrArg va_rf hq) rfl (by decide) dX1_runs_176)) rfl ?_
            refine x_iinc 182 [(4, .int (v10 + 1)), (0, va_rf (some v1)), (1, va_rf v2), (2, va_rf v3)] hE dX1_runs_179 rfl 3 rfl xc_i_1 (Nat.le_of_ble_eq_true rfl) rfl ?_
            refine x_goto 133 hE dX1_runs_182 (by decide) ?_
            refine x_sub [(0, va_rf (some v1)), (1, va_rf v2), (2, va_rf v3), (4, .int (v10 + 1))] [1, 2, 3, 0] rfl ?_
            exact hc5 (v10 + 1)
    · refine x_loop (fun (v8 : Int32) => [(0, va_rf (some v1)), (1, va_rf v2), (2, va_rf v3), (4, .int v8)]) (fun JL3 hc3 hx3 v8 => ?_) _ _
      refine x_iload 76 hE dX1_runs_74 rfl 3 rfl ?_
      refine x_aload_n 77 hE dX1_runs_76 rfl 1 rfl ?_
      refine x_gI 80 hE (xw_lk0 hE xkf_CrossingWords_Run_51) rfl dX1_runs_77 rfl (fun v24 => ?_)
      refine x_icmp_ge 130 83 hE dX1_runs_80 (by decide) rfl ?_ ?_
      · refine x_sub [(0, va_rf (some v1)), (1, va_rf v2), (2, va_rf v3)] [0, 1, 2] rfl ?_
        refine hx3 _ _ _ _ ?_
        exact hJ4 ()
      · refine x_aload_n 84 hE dX1_runs_83 rfl 1 rfl ?_
        refine x_gR 87 hE (xw_lk0 hE xkf_CrossingWords_Run_54) rfl dX1_runs_84 rfl (fun v25 => ?_)
        refine x_iload 89 hE dX1_runs_87 rfl 3 rfl ?_
        refine x_ldR 90 hE dX1_runs_89 rfl (fun v26 => ?_)
        refine x_aload_n 91 hE dX1_runs_90 rfl 2 rfl ?_
        refine x_calli 94 (xw_goD hE (fun v28 hq => (List.forall_mem_cons.mpr ⟨⟨Nat.le_of_ble_eq_true rfl, xw_rU (owner := "CrossingWords$Saying") (x := ⟨"CrossingWords$Saying", "isYes", "(LCrossingWords$Rules;)Z"⟩) hE (ct_X6_isYes v28 v3) xD_CrossingWords_Saying_isYes__LCrossingWords_Rules__Z (Or.inl (Or.inl rfl)) q1082 q1084 q1085 q1083 q102 q1103 rfl ⟨by omega, Nat.le_of_ble_eq_true rfl⟩ (congrArg va_rf hq) rfl (by decide) dX1_runs_91⟩, (List.forall_mem_cons.mpr ⟨⟨Nat.le_of_ble_eq_true rfl, xw_rU (owner := "CrossingWords$Saying") (x := ⟨"CrossingWords$Saying", "isYes", "(LCrossingWords$Rules;)Z"⟩) hE (ct_X6_isYes v28 v3) xD_CrossingWords_Saying_isYes__LCrossingWords_Rules__Z (Or.inl (Or.inl rfl)) q1082 q1084 q1098 q1083 q102 q1103 rfl ⟨by omega, Nat.le_of_ble_eq_true rfl⟩ (congrArg va_rf hq) rfl (by decide) dX1_runs_91⟩, (List.forall_mem_cons.mpr ⟨⟨Nat.le_of_ble_eq_true rfl, xw_rU (owner := "CrossingWords$Saying") (x := ⟨"CrossingWords$Saying", "isYes", "(LCrossingWords$Rules;)Z"⟩) hE (ct_X10_isYes v28 v3) xD_CrossingWords_Saying_isYes__LCrossingWords_Rules__Z (Or.inl (Or.inr ⟨_, _, _, q1083, q1103⟩)) q1082 q1084 q1100 q1101 q106 q1102 rfl ⟨by omega, Nat.le_of_ble_eq_true rfl⟩ (congrArg va_rf hq) rfl (by decide) dX1_runs_91⟩, (List.forall_mem_cons.mpr ⟨⟨Nat.le_of_ble_eq_true rfl, xw_rU (owner := "CrossingWords$Saying") (x := ⟨"CrossingWords$Saying", "isYes", "(LCrossingWords$Rules;)Z"⟩) hE (ct_X11_isYes v28 v3) xD_CrossingWords_Saying_isYes__LCrossingWords_Rules__Z (Or.inl (Or.inr ⟨_, _, _, q1083, q1103⟩)) q1082 q1084 q1087 q1088 q107 q1089 rfl ⟨by omega, Nat.le_of_ble_eq_true rfl⟩ (congrArg va_rf hq) rfl (by decide) dX1_runs_91⟩, (List.forall_mem_cons.mpr ⟨⟨Nat.le_of_ble_eq_true rfl, xw_rU (owner := "CrossingWords$Saying") (x := ⟨"CrossingWords$Saying", "isYes", "(LCrossingWords$Rules;)Z"⟩) hE (ct_X6_isYes v28 v3) xD_CrossingWords_Saying_isYes__LCrossingWords_Rules__Z (Or.inl (Or.inl rfl)) q1082 q1084 q1097 q1083 q102 q1103 rfl ⟨by omega, Nat.le_of_ble_eq_true rfl⟩ (congrArg va_rf hq) rfl (by decide) dX1_runs_91⟩, (List.forall_mem_cons.mpr ⟨⟨Nat.le_of_ble_eq_true rfl, xw_rU (owner := "CrossingWords$Saying") (x := ⟨"CrossingWords$Saying", "isYes", "(LCrossingWords$Rules;)Z"⟩) hE (ct_X6_isYes v28 v3) xD_CrossingWords_Saying_isYes__LCrossingWords_Rules__Z (Or.inl (Or.inl rfl)) q1082 q1084 q1086 q1083 q102 q1103 rfl ⟨by omega, Nat.le_of_ble_eq_true rfl⟩ (congrArg va_rf hq) rfl (by decide) dX1_runs_91⟩, (List.forall_mem_cons.mpr ⟨⟨Nat.le_of_ble_eq_true rfl, xw_rU (owner := "CrossingWords$Saying") (x := ⟨"CrossingWords$Saying", "isYes", "(LCrossingWords$Rules;)Z"⟩) hE (ct_X14_isYes v28 v3) xD_CrossingWords_Saying_isYes__LCrossingWords_Rules__Z (Or.inl (Or.inr ⟨_, _, _, q1083, q1103⟩)) q1082 q1084 q1090 q1091 q110 q1092 rfl ⟨by omega, Nat.le_of_ble_eq_true rfl⟩ (congrArg va_rf hq) rfl (by decide) dX1_runs_91⟩, (List.forall_mem_cons.mpr ⟨⟨Nat.le_of_ble_eq_true rfl, xw_rU (owner := "CrossingWords$Saying") (x := ⟨"CrossingWords$Saying", "isYes", "(LCrossingWords$Rules;)Z"⟩) hE (ct_X6_isYes v28 v3) xD_CrossingWords_Saying_isYes__LCrossingWords_Rules__Z (Or.inl (Or.inl rfl)) q1082 q1084 q1099 q1083 q102 q1103 rfl ⟨by omega, Nat.le_of_ble_eq_true rfl⟩ (congrArg va_rf hq) rfl (by decide) dX1_runs_91⟩, (fun _ h => absurd h List.not_mem_nil)⟩)⟩)⟩)⟩)⟩)⟩)⟩)⟩))) rfl (fun v27 => ?_)
        refine x_if_eq 124 97 hE dX1_runs_94 (by decide) rfl ?_ ?_
        · refine x_iinc 127 [(4, .int (v8 + 1)), (0, va_rf (some v1)), (1, va_rf v2), (2, va_rf v3)] hE dX1_runs_124 rfl 3 rfl xc_i_1 (Nat.le_of_ble_eq_true rfl) rfl ?_
          refine x_goto 74 hE dX1_runs_127 (by decide) ?_
          refine x_sub [(0, va_rf (some v1)), (1, va_rf v2), (2, va_rf v3), (4, .int (v8 + 1))] [1, 2, 3, 0] rfl ?_
          exact hc3 (v8 + 1)
        · refine x_aload_n 98 hE dX1_runs_97 rfl 0 rfl ?_
          refine x_aload_n 99 hE dX1_runs_98 rfl 0 rfl ?_
          refine x_aload_n 100 hE dX1_runs_99 rfl 1 rfl ?_
          refine x_gR 103 hE (xw_lk0 hE xkf_CrossingWords_Run_54) rfl dX1_runs_100 rfl (fun v29 => ?_)
          refine x_iload 105 hE dX1_runs_103 rfl 3 rfl ?_
          refine x_ldR 106 hE dX1_runs_105 rfl (fun v30 => ?_)
          refine x_calli 109 (xw_goV hE (c := 1) (by decide) (fun v32 hq => xw_rV hE (ct_X1_makes v32 v30) xd_X1_makes rfl q1104 q1106 qs22 q96 q1107 rfl ⟨by omega, Nat.le_of_ble_eq_true rfl⟩ (congrArg va_rf hq) rfl (Nat.le_trans (xw_sm1 rfl xw_sm0) (by decide)) dX1_runs_106)) rfl (fun v31 => ?_)
          refine x_iload 111 hE dX1_runs_109 rfl 3 rfl ?_
          refine x_aload_n 112 hE dX1_runs_111 rfl 1 rfl ?_
          refine x_gR 115 hE (xw_lk0 hE xkf_CrossingWords_Run_54) rfl dX1_runs_112 rfl (fun v33 => ?_)
          refine x_iload 117 hE dX1_runs_115 rfl 3 rfl ?_
          refine x_ldR 118 hE dX1_runs_117 rfl (fun v34 => ?_)
          refine x_callr 121 (xw_goD hE (fun v36 hq => (List.forall_mem_cons.mpr ⟨⟨Nat.le_of_ble_eq_true rfl, xw_rU (owner := "CrossingWords$Saying") (x := ⟨"CrossingWords$Saying", "said", "()LCrossingWords$Saying;"⟩) hE (ct_X6_said v36) xD_CrossingWords_Saying_said___LCrossingWords_Saying_ (Or.inl (Or.inl rfl)) q1108 q870 q871 q869 q102 q879 rfl ⟨by omega, Nat.le_of_ble_eq_true rfl⟩ (congrArg va_rf hq) rfl (Nat.le_trans (xw_sm1 rfl (xw_sm1 rfl (xw_sm1 rfl xw_sm0))) (by decide)) dX1_runs_118⟩, (List.forall_mem_cons.mpr ⟨⟨Nat.le_of_ble_eq_true rfl, xw_rU (owner := "CrossingWords$Saying") (x := ⟨"CrossingWords$Saying", "said", "()LCrossingWords$Saying;"⟩) hE (ct_X6_said v36) xD_CrossingWords_Saying_said___LCrossingWords_Saying_ (Or.inl (Or.inl rfl)) q1108 q870 q876 q869 q102 q879 rfl ⟨by omega, Nat.le_of_ble_eq_true rfl⟩ (congrArg va_rf hq) rfl (Nat.le_trans (xw_sm1 rfl (xw_sm1 rfl (xw_sm1 rfl xw_sm0))) (by decide)) dX1_runs_118⟩, (List.forall_mem_cons.mpr ⟨⟨Nat.le_of_ble_eq_true rfl, xw_rU (owner := "CrossingWords$Saying") (x := ⟨"CrossingWords$Saying", "said", "()LCrossingWords$Saying;"⟩) hE (ct_X9_said v36) xD_CrossingWords_Saying_said___LCrossingWords_Saying_ (Or.inl (Or.inr ⟨_, _, _, q869, q879⟩)) q1108 q870 q878 q574 q105 q575 rfl ⟨by omega, Nat.le_of_ble_eq_true rfl⟩ (congrArg va_rf hq) rfl (Nat.le_trans (xw_sm1 rfl (xw_sm1 rfl (xw_sm1 rfl xw_sm0))) (by decide)) dX1_runs_118⟩, (List.forall_mem_cons.mpr ⟨⟨Nat.le_of_ble_eq_true rfl, xw_rU (owner := "CrossingWords$Saying") (x := ⟨"CrossingWords$Saying", "said", "()LCrossingWords$Saying;"⟩) hE (ct_X9_said v36) xD_CrossingWords_Saying_said___LCrossingWords_Saying_ (Or.inl (Or.inr ⟨_, _, _, q869, q879⟩)) q1108 q870 q873 q574 q105 q575 rfl ⟨by omega, Nat.le_of_ble_eq_true rfl⟩ (congrArg va_rf hq) rfl (Nat.le_trans (xw_sm1 rfl (xw_sm1 rfl (xw_sm1 rfl xw_sm0))) (by decide)) dX1_runs_118⟩, (List.forall_mem_cons.mpr ⟨⟨Nat.le_of_ble_eq_true rfl, xw_rU (owner := "CrossingWords$Saying") (x := ⟨"CrossingWords$Saying", "said", "()LCrossingWords$Saying;"⟩) hE (ct_X9_said v36) xD_CrossingWords_Saying_said___LCrossingWords_Saying_ (Or.inl (Or.inr ⟨_, _, _, q869, q879⟩)) q1108 q870 q875 q574 q105 q575 rfl ⟨by omega, Nat.le_of_ble_eq_true rfl⟩ (congrArg va_rf hq) rfl (Nat.le_trans (xw_sm1 rfl (xw_sm1 rfl (xw_sm1 rfl xw_sm0))) (by decide)) dX1_runs_118⟩, (List.forall_mem_cons.mpr ⟨⟨Nat.le_of_ble_eq_true rfl, xw_rU (owner := "CrossingWords$Saying") (x := ⟨"CrossingWords$Saying", "said", "()LCrossingWords$Saying;"⟩) hE (ct_X9_said v36) xD_CrossingWords_Saying_said___LCrossingWords_Saying_ (Or.inl (Or.inr ⟨_, _, _, q869, q879⟩)) q1108 q870 q872 q574 q105 q575 rfl ⟨by omega, Nat.le_of_ble_eq_true rfl⟩ (congrArg va_rf hq) rfl (Nat.le_trans (xw_sm1 rfl (xw_sm1 rfl (xw_sm1 rfl xw_sm0))) (by decide)) dX1_runs_118⟩, (List.forall_mem_cons.mpr ⟨⟨Nat.le_of_ble_eq_true rfl, xw_rU (owner := "CrossingWords$Saying") (x := ⟨"CrossingWords$Saying", "said", "()LCrossingWords$Saying;"⟩) hE (ct_X9_said v36) xD_CrossingWords_Saying_said___LCrossingWords_Saying_ (Or.inl (Or.inr ⟨_, _, _, q869, q879⟩)) q1108 q870 q874 q574 q105 q575 rfl ⟨by omega, Nat.le_of_ble_eq_true rfl⟩ (congrArg va_rf hq) rfl (Nat.le_trans (xw_sm1 rfl (xw_sm1 rfl (xw_sm1 rfl xw_sm0))) (by decide)) dX1_runs_118⟩, (List.forall_mem_cons.mpr ⟨⟨Nat.le_of_ble_eq_true rfl, xw_rU (owner := "CrossingWords$Saying") (x := ⟨"CrossingWords$Saying", "said", "()LCrossingWords$Saying;"⟩) hE (ct_X9_said v36) xD_CrossingWords_Saying_said___LCrossingWords_Saying_ (Or.inl (Or.inr ⟨_, _, _, q869, q879⟩)) q1108 q870 q877 q574 q105 q575 rfl ⟨by omega, Nat.le_of_ble_eq_true rfl⟩ (congrArg va_rf hq) rfl (Nat.le_trans (xw_sm1 rfl (xw_sm1 rfl (xw_sm1 rfl xw_sm0))) (by decide)) dX1_runs_118⟩, (fun _ h => absurd h List.not_mem_nil)⟩)⟩)⟩)⟩)⟩)⟩)⟩)⟩))) rfl (fun v35 => ?_)
          refine x_callv 124 (xw_goV hE (c := 1) (by decide) (fun v37 hq => xw_rV hE (ct_X1_takes v37 v31 v8 v35) xd_X1_takes rfl q1119 q1121 qs24 q96 q1122 rfl ⟨by omega, Nat.le_of_ble_eq_true rfl⟩ (congrArg va_rf hq) rfl (by decide) dX1_runs_121)) rfl ?_
          refine x_iinc 127 [(4, .int (v8 + 1)), (0, va_rf (some v1)), (1, va_rf v2), (2, va_rf v3)] hE dX1_runs_124 rfl 3 rfl xc_i_1 (Nat.le_of_ble_eq_true rfl) rfl ?_
          refine x_goto 74 hE dX1_runs_127 (by decide) ?_
          refine x_sub [(0, va_rf (some v1)), (1, va_rf v2), (2, va_rf v3), (4, .int (v8 + 1))] [1, 2, 3, 0] rfl ?_
          exact hc3 (v8 + 1)
  · refine x_loop (fun (v6 : Int32) => [(0, va_rf (some v1)), (1, va_rf v2), (2, va_rf v3), (4, .int v6)]) (fun JL1 hc1 hx1 v6 => ?_) _ _
    refine x_iload 33 hE dX1_runs_31 rfl 3 rfl ?_
    refine x_aload_n 34 hE dX1_runs_33 rfl 1 rfl ?_
    refine x_gI 37 hE (xw_lk0 hE xkf_CrossingWords_Run_51) rfl dX1_runs_34 rfl (fun v38 => ?_)
    refine x_icmp_ge 71 40 hE dX1_runs_37 (by decide) rfl ?_ ?_
    · refine x_sub [(0, va_rf (some v1)), (1, va_rf v2), (2, va_rf v3)] [0, 1, 2] rfl ?_
      refine hx1 _ _ _ _ ?_
      exact hJ2 ()
    · refine x_aload_n 41 hE dX1_runs_40 rfl 1 rfl ?_
      refine x_gR 44 hE (xw_lk0 hE xkf_CrossingWords_Run_54) rfl dX1_runs_41 rfl (fun v39 => ?_)
      refine x_iload 46 hE dX1_runs_44 rfl 3 rfl ?_
      refine x_ldR 47 hE dX1_runs_46 rfl (fun v40 => ?_)
      refine x_aload_n 48 hE dX1_runs_47 rfl 2 rfl ?_
      refine x_calli 51 (xw_goD hE (fun v42 hq => (List.forall_mem_cons.mpr ⟨⟨Nat.le_of_ble_eq_true rfl, xw_rU (owner := "CrossingWords$Saying") (x := ⟨"CrossingWords$Saying", "isOffer", "(LCrossingWords$Rules;)Z"⟩) hE (ct_X6_isOffer v42 v3) xD_CrossingWords_Saying_isOffer__LCrossingWords_Rules__Z (Or.inl (Or.inl rfl)) q1008 q1010 q1011 q1009 q102 q1031 rfl ⟨by omega, Nat.le_of_ble_eq_true rfl⟩ (congrArg va_rf hq) rfl (by decide) dX1_runs_48⟩, (List.forall_mem_cons.mpr ⟨⟨Nat.le_of_ble_eq_true rfl, xw_rU (owner := "CrossingWords$Saying") (x := ⟨"CrossingWords$Saying", "isOffer", "(LCrossingWords$Rules;)Z"⟩) hE (ct_X8_isOffer v42 v3) xD_CrossingWords_Saying_isOffer__LCrossingWords_Rules__Z (Or.inl (Or.inr ⟨_, _, _, q1009, q1031⟩)) q1008 q1010 q1026 q1027 q104 q1028 rfl ⟨by omega, Nat.le_of_ble_eq_true rfl⟩ (congrArg va_rf hq) rfl (by decide) dX1_runs_48⟩, (List.forall_mem_cons.mpr ⟨⟨Nat.le_of_ble_eq_true rfl, xw_rU (owner := "CrossingWords$Saying") (x := ⟨"CrossingWords$Saying", "isOffer", "(LCrossingWords$Rules;)Z"⟩) hE (ct_X6_isOffer v42 v3) xD_CrossingWords_Saying_isOffer__LCrossingWords_Rules__Z (Or.inl (Or.inl rfl)) q1008 q1010 q1030 q1009 q102 q1031 rfl ⟨by omega, Nat.le_of_ble_eq_true rfl⟩ (congrArg va_rf hq) rfl (by decide) dX1_runs_48⟩, (List.forall_mem_cons.mpr ⟨⟨Nat.le_of_ble_eq_true rfl, xw_rU (owner := "CrossingWords$Saying") (x := ⟨"CrossingWords$Saying", "isOffer", "(LCrossingWords$Rules;)Z"⟩) hE (ct_X11_isOffer v42 v3) xD_CrossingWords_Saying_isOffer__LCrossingWords_Rules__Z (Or.inl (Or.inr ⟨_, _, _, q1009, q1031⟩)) q1008 q1010 q1013 q1014 q107 q1015 rfl ⟨by omega, Nat.le_of_ble_eq_true rfl⟩ (congrArg va_rf hq) rfl (by decide) dX1_runs_48⟩, (List.forall_mem_cons.mpr ⟨⟨Nat.le_of_ble_eq_true rfl, xw_rU (owner := "CrossingWords$Saying") (x := ⟨"CrossingWords$Saying", "isOffer", "(LCrossingWords$Rules;)Z"⟩) hE (ct_X6_isOffer v42 v3) xD_CrossingWords_Saying_isOffer__LCrossingWords_Rules__Z (Or.inl (Or.inl rfl)) q1008 q1010 q1025 q1009 q102 q1031 rfl ⟨by omega, Nat.le_of_ble_eq_true rfl⟩ (congrArg va_rf hq) rfl (by decide) dX1_runs_48⟩, (List.forall_mem_cons.mpr ⟨⟨Nat.le_of_ble_eq_true rfl, xw_rU (owner := "CrossingWords$Saying") (x := ⟨"CrossingWords$Saying", "isOffer", "(LCrossingWords$Rules;)Z"⟩) hE (ct_X6_isOffer v42 v3) xD_CrossingWords_Saying_isOffer__LCrossingWords_Rules__Z (Or.inl (Or.inl rfl)) q1008 q1010 q1012 q1009 q102 q1031 rfl ⟨by omega, Nat.le_of_ble_eq_true rfl⟩ (congrArg va_rf hq) rfl (by decide) dX1_runs_48⟩, (List.forall_mem_cons.mpr ⟨⟨Nat.le_of_ble_eq_true rfl, xw_rU (owner := "CrossingWords$Saying") (x := ⟨"CrossingWords$Saying", "isOffer", "(LCrossingWords$Rules;)Z"⟩) hE (ct_X6_isOffer v42 v3) xD_CrossingWords_Saying_isOffer__LCrossingWords_Rules__Z (Or.inl (Or.inl rfl)) q1008 q1010 q1024 q1009 q102 q1031 rfl ⟨by omega, Nat.le_of_ble_eq_true rfl⟩ (congrArg va_rf hq) rfl (by decide) dX1_runs_48⟩, (List.forall_mem_cons.mpr ⟨⟨Nat.le_of_ble_eq_true rfl, xw_rU (owner := "CrossingWords$Saying") (x := ⟨"CrossingWords$Saying", "isOffer", "(LCrossingWords$Rules;)Z"⟩) hE (ct_X6_isOffer v42 v3) xD_CrossingWords_Saying_isOffer__LCrossingWords_Rules__Z (Or.inl (Or.inl rfl)) q1008 q1010 q1029 q1009 q102 q1031 rfl ⟨by omega, Nat.le_of_ble_eq_true rfl⟩ (congrArg va_rf hq) rfl (by decide) dX1_runs_48⟩, (fun _ h => absurd h List.not_mem_nil)⟩)⟩)⟩)⟩)⟩)⟩)⟩)⟩))) rfl (fun v41 => ?_)
      refine x_if_eq 65 54 hE dX1_runs_51 (by decide) rfl ?_ ?_
      · refine x_iinc 68 [(4, .int (v6 + 1)), (0, va_rf (some v1)), (1, va_rf v2), (2, va_rf v3)] hE dX1_runs_65 rfl 3 rfl xc_i_1 (Nat.le_of_ble_eq_true rfl) rfl ?_
        refine x_goto 31 hE dX1_runs_68 (by decide) ?_
        refine x_sub [(0, va_rf (some v1)), (1, va_rf v2), (2, va_rf v3), (4, .int (v6 + 1))] [1, 2, 3, 0] rfl ?_
        exact hc1 (v6 + 1)
      · refine x_aload_n 55 hE dX1_runs_54 rfl 0 rfl ?_
        refine x_aload_n 56 hE dX1_runs_55 rfl 1 rfl ?_
        refine x_gR 59 hE (xw_lk0 hE xkf_CrossingWords_Run_54) rfl dX1_runs_56 rfl (fun v43 => ?_)
        refine x_iload 61 hE dX1_runs_59 rfl 3 rfl ?_
        refine x_ldR 62 hE dX1_runs_61 rfl (fun v44 => ?_)
        refine x_callv 65 (xw_goV hE (c := 1) (by decide) (fun v45 hq => xw_rV hE (ct_X1_opens HG lamH hlamH cHG v45 v44) xd_X1_opens rfl q1032 q1034 qs19 q96 q1035 rfl ⟨by omega, Nat.le_of_ble_eq_true rfl⟩ (congrArg va_rf hq) rfl (by decide) dX1_runs_62)) rfl ?_
        refine x_iinc 68 [(4, .int (v6 + 1)), (0, va_rf (some v1)), (1, va_rf v2), (2, va_rf v3)] hE dX1_runs_65 rfl 3 rfl xc_i_1 (Nat.le_of_ble_eq_true rfl) rfl ?_
        refine x_goto 31 hE dX1_runs_68 (by decide) ?_
        refine x_sub [(0, va_rf (some v1)), (1, va_rf v2), (2, va_rf v3), (4, .int (v6 + 1))] [1, 2, 3, 0] rfl ?_
        exact hc1 (v6 + 1)

set_option maxHeartbeats 4000000 in
theorem ct_X0_hasGiven {l : Launch} {G : xw_G} {μ : xw_Mu} : ∀ (d : Nat) (v1 : Nat) (v2 : Int32) (v3 : Option Nat), xw_Ct l G (xw_hc G μ) xw_oi yX0_hasGiven cX0_hasGiven 7 (some (.boolean)) (40 + 3 * d) [va_rf (some v1), .int v2, va_rf v3] (pg_X0_hasGiven d v1 v2 v3) := by
  intro d
  induction d with
  | zero => intro v1 v2 v3 σ r σ' k n h; cases h
  | succ d ih =>
  intro v1 v2 v3
  refine xw_metL [(0, va_rf (some v1)), (1, .int v2), (2, va_rf v3)] (by decide) (Nat.le_trans (Nat.le_of_eq ((xw_l1 rfl).trans (congrArg (1 + ·) ((xw_l1 rfl).trans (congrArg (1 + ·) ((xw_l1 (x_rfc _)).trans (congrArg (1 + ·) xw_l0))))))) (by decide)) ((xw_a1 rfl).trans (congrArg (List.cons _) ((xw_a1 rfl).trans (congrArg (List.cons _) ((xw_a1 (x_rfc _)).trans (congrArg (List.cons _) xw_a0)))))) (fun E hE hl hG hm => ?_)
  subst hl; subst hG
  have hE : xw_ok E "CrossingWords" cX0_hasGiven 7 (some (.boolean)) (40 + 3 * (d + 1)) := hE
  unfold pg_X0_hasGiven
  refine x_aload_n 1 hE dX0_hasGiven_0 rfl 2 rfl ?_
  refine x_gR 4 hE (xw_lkN hE xkn_CrossingWords_65) rfl dX0_hasGiven_1 rfl (fun v4 => ?_)
  refine x_iload_n 5 hE dX0_hasGiven_4 rfl 1 rfl ?_
  refine x_ldI 6 hE dX0_hasGiven_5 rfl (fun v5 => ?_)
  refine x_sq 108 (fun (v6 : Unit) => [(1, .int v2), (2, va_rf v3)]) (fun (v6 : Unit) => []) (fun v6 => ?_) (fun J1 hJ1 => ?_)
  · refine x_aload_n 109 hE dX0_hasGiven_108 rfl 1 rfl ?_
    refine x_gR 112 hE (xw_lkN hE xkn_CrossingWords_65) rfl dX0_hasGiven_109 rfl (fun v7 => ?_)
    refine x_iload_n 113 hE dX0_hasGiven_112 rfl 0 rfl ?_
    refine x_ldI 114 hE dX0_hasGiven_113 rfl (fun v8 => ?_)
    refine x_iconst 115 hE dX0_hasGiven_114 rfl xc_i_2 ?_
    refine x_icmp_ne 122 118 hE dX0_hasGiven_115 (by decide) rfl ?_ ?_
    · refine x_iconst 119 hE dX0_hasGiven_118 rfl xc_i_1 ?_
      refine x_goto 123 hE dX0_hasGiven_119 (by decide) ?_
      exact x_zretw hE (by decide) dX0_hasGiven_123
    · refine x_iconst 123 hE dX0_hasGiven_122 rfl xc_i_0 ?_
      exact x_zretw hE (by decide) dX0_hasGiven_123
  · refine x_if_ne 108 9 hE dX0_hasGiven_6 (by decide) rfl ?_ ?_
    · refine x_aload_n 10 hE dX0_hasGiven_9 rfl 0 rfl ?_
      refine x_gR 13 hE (xw_lk0 hE xkf_CrossingWords_21) rfl dX0_hasGiven_10 rfl (fun v9 => ?_)
      refine x_iload_n 14 hE dX0_hasGiven_13 rfl 1 rfl ?_
      refine x_ldR 15 hE dX0_hasGiven_14 rfl (fun v10 => ?_)
      refine x_astore_n 16 [(3, va_rf v10), (0, va_rf (some v1)), (1, .int v2), (2, va_rf v3)] hE dX0_hasGiven_15 rfl rfl (Nat.le_of_ble_eq_true rfl) (congrArg (List.cons _) (xw_f1 (by decide) rfl (xw_f1 (by decide) rfl (xw_f1 (by decide) (x_rfc _) xw_f0)))) ?_
      refine x_aload_n 17 hE dX0_hasGiven_16 rfl 1 rfl ?_
      refine x_dup 18 hE dX0_hasGiven_17 rfl rfl ?_
      refine x_gI 21 hE (xw_lk0 hE xkf_CrossingWords_70) rfl dX0_hasGiven_18 rfl (fun v11 => ?_)
      refine x_iconst 22 hE dX0_hasGiven_21 rfl xc_i_1 ?_
      refine x_iadd 23 hE dX0_hasGiven_22 rfl ?_
      refine x_pI 26 hE (xw_pkN (xw_lk0 hE xkf_CrossingWords_70) rfl) ⟨rfl, rfl⟩ dX0_hasGiven_23 rfl ?_
      refine x_aload_n 27 hE dX0_hasGiven_26 rfl 1 rfl ?_
      refine x_gR 30 hE (xw_lk0 hE xkf_CrossingWords_40) rfl dX0_hasGiven_27 rfl (fun v12 => ?_)
      refine x_aload_n 31 hE dX0_hasGiven_30 rfl 1 rfl ?_
      refine x_gI 34 hE (xw_lk0 hE xkf_CrossingWords_70) rfl dX0_hasGiven_31 rfl (fun v13 => ?_)
      refine x_ldR 35 hE dX0_hasGiven_34 rfl (fun v14 => ?_)
      refine x_astore 37 [(4, va_rf v14), (3, va_rf v10), (0, va_rf (some v1)), (1, .int v2), (2, va_rf v3)] hE dX0_hasGiven_35 rfl (Nat.le_of_ble_eq_true rfl) (congrArg (List.cons _) (xw_f1 (by decide) (x_rfc _) (xw_f1 (by decide) rfl (xw_f1 (by decide) rfl (xw_f1 (by decide) (x_rfc _) xw_f0))))) ?_
      refine x_aload_n 38 hE dX0_hasGiven_37 rfl 1 rfl ?_
      refine x_calli 41 (xw_goV hE (c := 4) (by decide) (fun v16 hq => xw_rV hE (ct_X5_isLooked v16) xd_X5_isLooked rfl q928 q929 q930 q100 q931 rfl ⟨by omega, Nat.le_of_ble_eq_true rfl⟩ (congrArg va_rf hq) rfl (by decide) dX0_hasGiven_38)) rfl (fun v15 => ?_)
      refine x_istore 43 [(5, .int v15), (4, va_rf v14), (3, va_rf v10), (0, va_rf (some v1)), (1, .int v2), (2, va_rf v3)] hE dX0_hasGiven_41 rfl (Nat.le_of_ble_eq_true rfl) (congrArg (List.cons _) (xw_f1 (by decide) (x_rfc _) (xw_f1 (by decide) (x_rfc _) (xw_f1 (by decide) rfl (xw_f1 (by decide) rfl (xw_f1 (by decide) (x_rfc _) xw_f0)))))) ?_
      refine x_iconst 44 hE dX0_hasGiven_43 rfl xc_i_0 ?_
      refine x_istore 46 [(6, .int 0), (5, .int v15), (4, va_rf v14), (3, va_rf v10), (0, va_rf (some v1)), (1, .int v2), (2, va_rf v3)] hE dX0_hasGiven_44 rfl (Nat.le_of_ble_eq_true rfl) rfl ?_
      refine x_sub [(0, va_rf (some v1)), (1, .int v2), (2, va_rf v3), (3, va_rf v10), (4, va_rf v14), (5, .int v15), (6, .int 0)] [4, 5, 6, 3, 2, 1, 0] rfl ?_
      refine x_sq 82 (fun (v18 : Int32) => [(0, va_rf (some v1)), (1, .int v2), (2, va_rf v3), (5, .int v18)]) (fun _ => []) (fun v18 => ?_) (fun J3 hJ3 => ?_)
      · refine x_aload_n 83 hE dX0_hasGiven_82 rfl 0 rfl ?_
        refine x_dup 84 hE dX0_hasGiven_83 rfl rfl ?_
        refine x_gI 87 hE (xw_lk0 hE xkf_CrossingWords_70) rfl dX0_hasGiven_84 rfl (fun v19 => ?_)
        refine x_iconst 88 hE dX0_hasGiven_87 rfl xc_i_1 ?_
        refine x_isub 89 hE dX0_hasGiven_88 rfl ?_
        refine x_pI 92 hE (xw_pkN (xw_lk0 hE xkf_CrossingWords_70) rfl) ⟨rfl, rfl⟩ dX0_hasGiven_89 rfl ?_
        refine x_aload_n 93 hE dX0_hasGiven_92 rfl 2 rfl ?_
        refine x_gR 96 hE (xw_lkN hE xkn_CrossingWords_65) rfl dX0_hasGiven_93 rfl (fun v20 => ?_)
        refine x_iload_n 97 hE dX0_hasGiven_96 rfl 1 rfl ?_
        refine x_iload 99 hE dX0_hasGiven_97 rfl 3 rfl ?_
        refine x_sq 107 (fun (v21 : Int32) => [(1, .int v2), (2, va_rf v3)]) (fun (v21 : Int32) => [.int v21, .int v2, va_rf v20]) (fun v21 => ?_) (fun J4 hJ4 => ?_)
        · refine x_stI 108 hE dX0_hasGiven_107 rfl ?_
          refine x_sub [(1, .int v2), (2, va_rf v3)] [0, 1] rfl ?_
          exact hJ1 ()
        · refine x_if_eq 106 102 hE dX0_hasGiven_99 (by decide) rfl ?_ ?_
          · refine x_iconst 107 hE dX0_hasGiven_106 rfl xc_i_1 ?_
            refine x_sub [(1, .int v2), (2, va_rf v3)] [1, 2] rfl ?_
            exact hJ4 1
          · refine x_iconst 103 hE dX0_hasGiven_102 rfl xc_i_2 ?_
            refine x_goto 107 hE dX0_hasGiven_103 (by decide) ?_
            refine x_sub [(1, .int v2), (2, va_rf v3)] [1, 2] rfl ?_
            exact hJ4 2
      · refine x_loop (fun (v17 : Int32 × Int32) => [(0, va_rf (some v1)), (1, .int v2), (2, va_rf v3), (3, va_rf v10), (4, va_rf v14), (5, .int v17.1), (6, .int v17.2)]) (fun JL2 hc2 hx2 v17 => ?_) _ _
        refine x_iload 48 hE dX0_hasGiven_46 rfl 5 rfl ?_
        refine x_if_eq 82 51 hE dX0_hasGiven_48 (by decide) rfl ?_ ?_
        · refine x_sub [(0, va_rf (some v1)), (1, .int v2), (2, va_rf v3), (5, .int v17.1)] [0, 1, 2, 5] rfl ?_
          refine hx2 _ _ _ _ ?_
          exact hJ3 (v17.1)
        · refine x_iload 53 hE dX0_hasGiven_51 rfl 6 rfl ?_
          refine x_aload_n 54 hE dX0_hasGiven_53 rfl 3 rfl ?_
          refine x_calli 57 (xw_goV hE (c := 4) (by decide) (fun v23 hq => xw_rV hE (ct_X5_combos v23) xd_X5_combos rfl q933 q934 q935 q100 q936 rfl ⟨by omega, Nat.le_of_ble_eq_true rfl⟩ (congrArg va_rf hq) rfl (Nat.le_trans (xw_sm1 rfl xw_sm0) (by decide)) dX0_hasGiven_54)) rfl (fun v22 => ?_)
          refine x_icmp_ge 82 60 hE dX0_hasGiven_57 (by decide) rfl ?_ ?_
          · refine x_sub [(0, va_rf (some v1)), (1, .int v2), (2, va_rf v3), (5, .int v17.1)] [0, 1, 2, 5] rfl ?_
            refine hx2 _ _ _ _ ?_
            exact hJ3 (v17.1)
          · refine x_aload 62 hE dX0_hasGiven_60 rfl 4 rfl ?_
            refine x_aload_n 63 hE dX0_hasGiven_62 rfl 3 rfl ?_
            refine x_aload_n 64 hE dX0_hasGiven_63 rfl 2 rfl ?_
            refine x_iload 66 hE dX0_hasGiven_64 rfl 6 rfl ?_
            refine x_callv 69 (xw_goV hE (c := 1) (by decide) (fun v24 hq => xw_rV hE (ct_X1_runs (pg_X0_hasGiven d) (40 + 3 * d) (by omega) ih v24 v10 v3 v17.2) xd_X1_runs rfl q1003 q1004 q1005 q96 q1006 rfl ⟨by omega, Nat.le_of_ble_eq_true rfl⟩ (congrArg va_rf hq) rfl (by decide) dX0_hasGiven_66)) rfl ?_
            refine x_aload 71 hE dX0_hasGiven_69 rfl 4 rfl ?_
            refine x_calli 74 (xw_goV hE (c := 1) (by decide) (fun v26 hq => xw_rV hE (ct_X1_isBargain v26) xd_X1_isBargain rfl q1041 q1042 q1043 q96 q1044 rfl ⟨by omega, Nat.le_of_ble_eq_true rfl⟩ (congrArg va_rf hq) rfl (by decide) dX0_hasGiven_71)) rfl (fun v25 => ?_)
            refine x_istore 76 [(5, .int v25), (0, va_rf (some v1)), (1, .int v2), (2, va_rf v3), (3, va_rf v10), (4, va_rf v14), (6, .int v17.2)] hE dX0_hasGiven_74 rfl (Nat.le_of_ble_eq_true rfl) (congrArg (List.cons _) (xw_f1 (by decide) rfl (xw_f1 (by decide) rfl (xw_f1 (by decide) (x_rfc _) (xw_f1 (by decide) (x_rfc _) (xw_f1 (by decide) (x_rfc _) (xw_f2 (xw_f1 (by decide) rfl xw_f0)))))))) ?_
            refine x_iinc 79 [(6, .int (v17.2 + 1)), (5, .int v25), (0, va_rf (some v1)), (1, .int v2), (2, va_rf v3), (3, va_rf v10), (4, va_rf v14)] hE dX0_hasGiven_76 rfl 6 rfl xc_i_1 (Nat.le_of_ble_eq_true rfl) rfl ?_
            refine x_goto 46 hE dX0_hasGiven_79 (by decide) ?_
            refine x_sub [(0, va_rf (some v1)), (1, .int v2), (2, va_rf v3), (3, va_rf v10), (4, va_rf v14), (5, .int v25), (6, .int (v17.2 + 1))] [2, 3, 4, 5, 6, 1, 0] rfl ?_
            exact hc2 (v25, v17.2 + 1)
    · refine x_sub [(1, .int v2), (2, va_rf v3)] [1, 2] rfl ?_
      exact hJ1 ()

set_option maxHeartbeats 4000000 in
theorem ct_X20_init {l : Launch} {G : xw_G} {μ : xw_Mu} (v1 : Nat) : xw_Ct l G (xw_hc G μ) xw_ov yX20_init cX20_init 1 none 1 [va_rf (some v1)] (pg_X20_init v1) := by
  refine xw_metL [(0, va_rf (some v1))] (by decide) (Nat.le_trans (Nat.le_of_eq ((xw_l1 rfl).trans (congrArg (1 + ·) xw_l0))) (by decide)) ((xw_a1 rfl).trans (congrArg (List.cons _) xw_a0)) (fun E hE hl hG hm => ?_)
  subst hl; subst hG
  have hE : xw_ok E "CrossingWords$Rules" cX20_init 1 none 1 := hE
  have hm : (xe_M E).name = "<init>" := hm
  unfold pg_X20_init
  refine x_aload_n 1 hE dX20_init_0 rfl 0 rfl ?_
  refine x_objInit 4 hE q974 q126 q127 (by decide) dX20_init_1 rfl rfl ?_
  refine x_aload_n 5 hE dX20_init_4 rfl 0 rfl ?_
  refine x_bipush 7 hE dX20_init_5 rfl xc_b_13 ?_
  refine x_nwa (t := 125) 9 hE xsA_125 rfl xsB_125 dX20_init_7 rfl (fun v2 => ?_)
  refine x_dup 10 hE dX20_init_9 rfl rfl ?_
  refine x_iconst 11 hE dX20_init_10 rfl xc_i_0 ?_
  refine x_iconst 12 hE dX20_init_11 rfl xc_i_1 ?_
  refine x_stI 13 hE dX20_init_12 rfl ?_
  refine x_dup 14 hE dX20_init_13 rfl rfl ?_
  refine x_iconst 15 hE dX20_init_14 rfl xc_i_1 ?_
  refine x_iconst 16 hE dX20_init_15 rfl xc_i_1 ?_
  refine x_stI 17 hE dX20_init_16 rfl ?_
  refine x_dup 18 hE dX20_init_17 rfl rfl ?_
  refine x_iconst 19 hE dX20_init_18 rfl xc_i_2 ?_
  refine x_iconst 20 hE dX20_init_19 rfl xc_i_1 ?_
  refine x_stI 21 hE dX20_init_20 rfl ?_
  refine x_dup 22 hE dX20_init_21 rfl rfl ?_
  refine x_iconst 23 hE dX20_init_22 rfl xc_i_3 ?_
  refine x_iconst 24 hE dX20_init_23 rfl xc_i_1 ?_
  refine x_stI 25 hE dX20_init_24 rfl ?_
  refine x_dup 26 hE dX20_init_25 rfl rfl ?_
  refine x_iconst 27 hE dX20_init_26 rfl xc_i_4 ?_
  refine x_iconst 28 hE dX20_init_27 rfl xc_i_1 ?_
  refine x_stI 29 hE dX20_init_28 rfl ?_
  refine x_dup 30 hE dX20_init_29 rfl rfl ?_
  refine x_iconst 31 hE dX20_init_30 rfl xc_i_5 ?_
  refine x_iconst 32 hE dX20_init_31 rfl xc_i_1 ?_
  refine x_stI 33 hE dX20_init_32 rfl ?_
  refine x_dup 34 hE dX20_init_33 rfl rfl ?_
  refine x_bipush 36 hE dX20_init_34 rfl xc_b_6 ?_
  refine x_iconst 37 hE dX20_init_36 rfl xc_i_0 ?_
  refine x_stI 38 hE dX20_init_37 rfl ?_
  refine x_dup 39 hE dX20_init_38 rfl rfl ?_
  refine x_bipush 41 hE dX20_init_39 rfl xc_b_7 ?_
  refine x_iconst 42 hE dX20_init_41 rfl xc_i_m1 ?_
  refine x_stI 43 hE dX20_init_42 rfl ?_
  refine x_dup 44 hE dX20_init_43 rfl rfl ?_
  refine x_bipush 46 hE dX20_init_44 rfl xc_b_8 ?_
  refine x_iconst 47 hE dX20_init_46 rfl xc_i_m1 ?_
  refine x_stI 48 hE dX20_init_47 rfl ?_
  refine x_dup 49 hE dX20_init_48 rfl rfl ?_
  refine x_bipush 51 hE dX20_init_49 rfl xc_b_9 ?_
  refine x_iconst 52 hE dX20_init_51 rfl xc_i_0 ?_
  refine x_stI 53 hE dX20_init_52 rfl ?_
  refine x_dup 54 hE dX20_init_53 rfl rfl ?_
  refine x_bipush 56 hE dX20_init_54 rfl xc_b_10 ?_
  refine x_iconst 57 hE dX20_init_56 rfl xc_i_0 ?_
  refine x_stI 58 hE dX20_init_57 rfl ?_
  refine x_dup 59 hE dX20_init_58 rfl rfl ?_
  refine x_bipush 61 hE dX20_init_59 rfl xc_b_11 ?_
  refine x_iconst 62 hE dX20_init_61 rfl xc_i_0 ?_
  refine x_stI 63 hE dX20_init_62 rfl ?_
  refine x_dup 64 hE dX20_init_63 rfl rfl ?_
  refine x_bipush 66 hE dX20_init_64 rfl xc_b_12 ?_
  refine x_iconst 67 hE dX20_init_66 rfl xc_i_0 ?_
  refine x_stI 68 hE dX20_init_67 rfl ?_
  refine x_pR 71 hE (xw_pkF hE hm xkf_CrossingWords_Rules_9 rfl rfl) ⟨rfl, rfl⟩ dX20_init_68 rfl ?_
  refine x_aload_n 72 hE dX20_init_71 rfl 0 rfl ?_
  refine x_bipush 74 hE dX20_init_72 rfl xc_b_16 ?_
  refine x_nwa (t := 126) 76 hE xsA_126 rfl xsB_126 dX20_init_74 rfl (fun v3 => ?_)
  refine x_pR 79 hE (xw_pkF hE hm xkf_CrossingWords_Rules_15 rfl rfl) ⟨rfl, rfl⟩ dX20_init_76 rfl ?_
  exact x_vret hE dX20_init_79

set_option maxHeartbeats 4000000 in
theorem ct_X20_takes {l : Launch} {G : xw_G} {μ : xw_Mu} (v1 : Nat) (v2 : Option Nat) : xw_Ct l G (xw_hc G μ) xw_ov yX20_takes cX20_takes 3 none 1 [va_rf (some v1), va_rf v2] (pg_X20_takes v1 v2) := by
  refine xw_metL [(0, va_rf (some v1)), (1, va_rf v2)] (by decide) (Nat.le_trans (Nat.le_of_eq ((xw_l1 rfl).trans (congrArg (1 + ·) ((xw_l1 (x_rfc _)).trans (congrArg (1 + ·) xw_l0))))) (by decide)) ((xw_a1 rfl).trans (congrArg (List.cons _) ((xw_a1 (x_rfc _)).trans (congrArg (List.cons _) xw_a0)))) (fun E hE hl hG hm => ?_)
  subst hl; subst hG
  have hE : xw_ok E "CrossingWords$Rules" cX20_takes 3 none 1 := hE
  unfold pg_X20_takes
  refine x_iconst 1 hE dX20_takes_0 rfl xc_i_0 ?_
  refine x_istore_n 2 [(2, .int 0), (0, va_rf (some v1)), (1, va_rf v2)] hE dX20_takes_1 rfl rfl (Nat.le_of_ble_eq_true rfl) (congrArg (List.cons _) (xw_f1 (by decide) rfl (xw_f1 (by decide) (x_rfc _) xw_f0))) ?_
  refine x_sub [(0, va_rf (some v1)), (1, va_rf v2), (2, .int 0)] [1, 2, 0] rfl ?_
  refine x_sq 33 (fun (v4 : Unit) => []) (fun _ => []) (fun v4 => ?_) (fun J2 hJ2 => ?_)
  · exact x_vret hE dX20_takes_33
  · refine x_loop (fun (v3 : Int32) => [(0, va_rf (some v1)), (1, va_rf v2), (2, .int v3)]) (fun JL1 hc1 hx1 v3 => ?_) _ _
    refine x_iload_n 3 hE dX20_takes_2 rfl 2 rfl ?_
    refine x_aload_n 4 hE dX20_takes_3 rfl 1 rfl ?_
    refine x_gI 7 hE (xw_lk0 hE xkf_CrossingWords_Rules_18) rfl dX20_takes_4 rfl (fun v5 => ?_)
    refine x_icmp_ge 33 10 hE dX20_takes_7 (by decide) rfl ?_ ?_
    · refine x_sub [] [] rfl ?_
      refine hx1 _ _ _ _ ?_
      exact hJ2 ()
    · refine x_aload_n 11 hE dX20_takes_10 rfl 0 rfl ?_
      refine x_gR 14 hE (xw_lk0 hE xkf_CrossingWords_Rules_9) rfl dX20_takes_11 rfl (fun v6 => ?_)
      refine x_aload_n 15 hE dX20_takes_14 rfl 1 rfl ?_
      refine x_gR 18 hE (xw_lk0 hE xkf_CrossingWords_Rules_24) rfl dX20_takes_15 rfl (fun v7 => ?_)
      refine x_iload_n 19 hE dX20_takes_18 rfl 2 rfl ?_
      refine x_ldI 20 hE dX20_takes_19 rfl (fun v8 => ?_)
      refine x_aload_n 21 hE dX20_takes_20 rfl 1 rfl ?_
      refine x_gR 24 hE (xw_lk0 hE xkf_CrossingWords_Rules_27) rfl dX20_takes_21 rfl (fun v9 => ?_)
      refine x_iload_n 25 hE dX20_takes_24 rfl 2 rfl ?_
      refine x_ldI 26 hE dX20_takes_25 rfl (fun v10 => ?_)
      refine x_stI 27 hE dX20_takes_26 rfl ?_
      refine x_iinc 30 [(2, .int (v3 + 1)), (0, va_rf (some v1)), (1, va_rf v2)] hE dX20_takes_27 rfl 2 rfl xc_i_1 (Nat.le_of_ble_eq_true rfl) (congrArg (List.cons _) (xw_f1 (by decide) rfl (xw_f1 (by decide) (x_rfc _) (xw_f2 xw_f0)))) ?_
      refine x_goto 2 hE dX20_takes_30 (by decide) ?_
      refine x_sub [(0, va_rf (some v1)), (1, va_rf v2), (2, .int (v3 + 1))] [1, 2, 0] rfl ?_
      exact hc1 (v3 + 1)

set_option maxHeartbeats 4000000 in
theorem ct_X0_rulesOf {l : Launch} {G : xw_G} {μ : xw_Mu} (v1 : Nat) (v2 : Int32) : xw_Ct l G (xw_hc G μ) xw_or yX0_rulesOf cX0_rulesOf 3 (some (.object "CrossingWords$Rules")) 2 [va_rf (some v1), .int v2] (pg_X0_rulesOf v1 v2) := by
  refine xw_metL [(0, va_rf (some v1)), (1, .int v2)] (by decide) (Nat.le_trans (Nat.le_of_eq ((xw_l1 rfl).trans (congrArg (1 + ·) ((xw_l1 rfl).trans (congrArg (1 + ·) xw_l0))))) (by decide)) ((xw_a1 rfl).trans (congrArg (List.cons _) ((xw_a1 rfl).trans (congrArg (List.cons _) xw_a0)))) (fun E hE hl hG hm => ?_)
  subst hl; subst hG
  have hE : xw_ok E "CrossingWords" cX0_rulesOf 3 (some (.object "CrossingWords$Rules")) 2 := hE
  unfold pg_X0_rulesOf
  refine x_new (c := 17) 3 hE (by decide) q969 q970 q116 dX0_rulesOf_0 rfl (fun v3 => ?_)
  refine x_dup 4 hE dX0_rulesOf_3 rfl rfl ?_
  refine x_callv 7 (xw_goIN hE (b := v3) (ct_X20_init v3) xd_X20_init xkm_CrossingWords_86 q972 q116 q973 rfl rfl ⟨Nat.le_of_ble_eq_true rfl, Nat.le_of_ble_eq_true rfl⟩ rfl (Nat.le_trans (xw_sm1 rfl xw_sm0) (by decide)) dX0_rulesOf_4) rfl ?_
  refine x_astore_n 8 [(2, va_rf (some v3)), (0, va_rf (some v1)), (1, .int v2)] hE dX0_rulesOf_7 rfl rfl (Nat.le_of_ble_eq_true rfl) rfl ?_
  refine x_aload_n 9 hE dX0_rulesOf_8 rfl 0 rfl ?_
  refine x_aload_n 10 hE dX0_rulesOf_9 rfl 1 rfl ?_
  refine x_gR 13 hE (xw_lk0 hE xkf_CrossingWords_27) rfl dX0_rulesOf_10 rfl (fun v4 => ?_)
  refine x_iload_n 14 hE dX0_rulesOf_13 rfl 2 rfl ?_
  refine x_ldR 15 hE dX0_rulesOf_14 rfl (fun v5 => ?_)
  refine x_callv 18 (xw_goV hE (c := 17) (by decide) (fun v6 hq => xw_rV hE (ct_X20_takes v6 v5) xd_X20_takes rfl q983 q984 q985 q116 q986 rfl ⟨Nat.le_of_ble_eq_true rfl, Nat.le_of_ble_eq_true rfl⟩ (congrArg va_rf hq) rfl (by decide) dX0_rulesOf_15)) rfl ?_
  refine x_aload_n 19 hE dX0_rulesOf_18 rfl 0 rfl ?_
  exact x_aret hE rfl dX0_rulesOf_19

set_option maxHeartbeats 4000000 in
theorem ct_X0_ran {l : Launch} {G : xw_G} {μ : xw_Mu} (v1 : Nat) (v2 : Option Nat) (v3 : Option Nat) (v4 : Int32) : xw_Ct l G (xw_hc G μ) xw_or yX0_ran cX0_ran 4 (some (.object "CrossingWords$Run")) 94 [va_rf (some v1), va_rf v2, va_rf v3, .int v4] (pg_X0_ran v1 v2 v3 v4) := by
  refine xw_metL [(0, va_rf (some v1)), (1, va_rf v2), (2, va_rf v3), (3, .int v4)] (by decide) (Nat.le_trans (Nat.le_of_eq ((xw_l1 rfl).trans (congrArg (1 + ·) ((xw_l1 (x_rfc _)).trans (congrArg (1 + ·) ((xw_l1 (x_rfc _)).trans (congrArg (1 + ·) ((xw_l1 rfl).trans (congrArg (1 + ·) xw_l0))))))))) (by decide)) ((xw_a1 rfl).trans (congrArg (List.cons _) ((xw_a1 (x_rfc _)).trans (congrArg (List.cons _) ((xw_a1 (x_rfc _)).trans (congrArg (List.cons _) ((xw_a1 rfl).trans (congrArg (List.cons _) xw_a0)))))))) (fun E hE hl hG hm => ?_)
  subst hl; subst hG
  have hE : xw_ok E "CrossingWords" cX0_ran 4 (some (.object "CrossingWords$Run")) 94 := hE
  unfold pg_X0_ran
  refine x_aload_n 1 hE dX0_ran_0 rfl 0 rfl ?_
  refine x_gR 4 hE (xw_lk0 hE xkf_CrossingWords_40) rfl dX0_ran_1 rfl (fun v5 => ?_)
  refine x_iconst 5 hE dX0_ran_4 rfl xc_i_0 ?_
  refine x_ldR 6 hE dX0_ran_5 rfl (fun v6 => ?_)
  refine x_aload_n 7 hE dX0_ran_6 rfl 1 rfl ?_
  refine x_aload_n 8 hE dX0_ran_7 rfl 2 rfl ?_
  refine x_iload_n 9 hE dX0_ran_8 rfl 3 rfl ?_
  refine x_callv 12 (xw_goV hE (c := 1) (by decide) (fun v7 hq => xw_rV hE (ct_X1_runs (pg_X0_hasGiven 17) 91 (by decide) (ct_X0_hasGiven 17) v7 v2 v3 v4) xd_X1_runs rfl q1003 q1004 q1005 q96 q1006 rfl ⟨Nat.le_of_ble_eq_true rfl, Nat.le_of_ble_eq_true rfl⟩ (congrArg va_rf hq) rfl (by decide) dX0_ran_9)) rfl ?_
  refine x_aload_n 13 hE dX0_ran_12 rfl 0 rfl ?_
  refine x_gR 16 hE (xw_lk0 hE xkf_CrossingWords_40) rfl dX0_ran_13 rfl (fun v8 => ?_)
  refine x_iconst 17 hE dX0_ran_16 rfl xc_i_0 ?_
  refine x_ldR 18 hE dX0_ran_17 rfl (fun v9 => ?_)
  exact x_aret hE rfl dX0_ran_18

set_option maxHeartbeats 4000000 in
theorem ct_X0_feed {l : Launch} {G : xw_G} {μ : xw_Mu} (v1 : Nat) (v2 : Int32) (v3 : Int32) (v4 : Int32) (v5 : Int32) (v6 : Int32) : xw_Ct l G (xw_hc G μ) xw_oi yX0_feed cX0_feed 8 (some (.int)) 1 [va_rf (some v1), .int v2, .int v3, .int v4, .int v5, .int v6] (pg_X0_feed v1 v2 v3 v4 v5 v6) := by
  refine xw_metL [(0, va_rf (some v1)), (1, .int v2), (2, .int v3), (3, .int v4), (4, .int v5), (5, .int v6)] (by decide) (Nat.le_trans (Nat.le_of_eq ((xw_l1 rfl).trans (congrArg (1 + ·) ((xw_l1 rfl).trans (congrArg (1 + ·) ((xw_l1 rfl).trans (congrArg (1 + ·) ((xw_l1 rfl).trans (congrArg (1 + ·) ((xw_l1 rfl).trans (congrArg (1 + ·) ((xw_l1 rfl).trans (congrArg (1 + ·) xw_l0))))))))))))) (by decide)) ((xw_a1 rfl).trans (congrArg (List.cons _) ((xw_a1 rfl).trans (congrArg (List.cons _) ((xw_a1 rfl).trans (congrArg (List.cons _) ((xw_a1 rfl).trans (congrArg (List.cons _) ((xw_a1 rfl).trans (congrArg (List.cons _) ((xw_a1 rfl).trans (congrArg (List.cons _) xw_a0)))))))))))) (fun E hE hl hG hm => ?_)
  subst hl; subst hG
  have hE : xw_ok E "CrossingWords" cX0_feed 8 (some (.int)) 1 := hE
  unfold pg_X0_feed
  refine x_aload_n 1 hE dX0_feed_0 rfl 0 rfl ?_
  refine x_gI 4 hE (xw_lk0 hE xkf_CrossingWords_91) rfl dX0_feed_1 rfl (fun v7 => ?_)
  refine x_bipush 6 hE dX0_feed_4 rfl xc_b_20 ?_
  refine x_iadd 7 hE dX0_feed_6 rfl ?_
  refine x_sipush 10 hE dX0_feed_7 rfl xc_s_900 ?_
  refine x_icmp_le 15 13 hE dX0_feed_10 (by decide) rfl ?_ ?_
  · refine x_iconst 16 hE dX0_feed_15 rfl xc_i_5 ?_
    refine x_nwa (t := 72) 18 hE xsA_72 rfl xsB_72 dX0_feed_16 rfl (fun v8 => ?_)
    refine x_dup 19 hE dX0_feed_18 rfl rfl ?_
    refine x_iconst 20 hE dX0_feed_19 rfl xc_i_0 ?_
    refine x_iload_n 21 hE dX0_feed_20 rfl 1 rfl ?_
    refine x_stI 22 hE dX0_feed_21 rfl ?_
    refine x_dup 23 hE dX0_feed_22 rfl rfl ?_
    refine x_iconst 24 hE dX0_feed_23 rfl xc_i_1 ?_
    refine x_iload_n 25 hE dX0_feed_24 rfl 2 rfl ?_
    refine x_stI 26 hE dX0_feed_25 rfl ?_
    refine x_dup 27 hE dX0_feed_26 rfl rfl ?_
    refine x_iconst 28 hE dX0_feed_27 rfl xc_i_2 ?_
    refine x_iload_n 29 hE dX0_feed_28 rfl 3 rfl ?_
    refine x_stI 30 hE dX0_feed_29 rfl ?_
    refine x_dup 31 hE dX0_feed_30 rfl rfl ?_
    refine x_iconst 32 hE dX0_feed_31 rfl xc_i_3 ?_
    refine x_iload 34 hE dX0_feed_32 rfl 4 rfl ?_
    refine x_stI 35 hE dX0_feed_34 rfl ?_
    refine x_dup 36 hE dX0_feed_35 rfl rfl ?_
    refine x_iconst 37 hE dX0_feed_36 rfl xc_i_4 ?_
    refine x_iload 39 hE dX0_feed_37 rfl 5 rfl ?_
    refine x_stI 40 hE dX0_feed_39 rfl ?_
    refine x_astore 42 [(6, va_rf (some v8)), (0, va_rf (some v1)), (1, .int v2), (2, .int v3), (3, .int v4), (4, .int v5), (5, .int v6)] hE dX0_feed_40 rfl (Nat.le_of_ble_eq_true rfl) rfl ?_
    refine x_iconst 43 hE dX0_feed_42 rfl xc_i_0 ?_
    refine x_istore 45 [(7, .int 0), (6, va_rf (some v8)), (0, va_rf (some v1)), (1, .int v2), (2, .int v3), (3, .int v4), (4, .int v5), (5, .int v6)] hE dX0_feed_43 rfl (Nat.le_of_ble_eq_true rfl) rfl ?_
    refine x_sub [(0, va_rf (some v1)), (6, va_rf (some v8)), (7, .int 0)] [2, 1, 0] rfl ?_
    refine x_sq 89 (fun (v10 : Unit) => [(0, va_rf (some v1))]) (fun _ => []) (fun v10 => ?_) (fun J2 hJ2 => ?_)
    · refine x_aload_n 90 hE dX0_feed_89 rfl 0 rfl ?_
      refine x_dup 91 hE dX0_feed_90 rfl rfl ?_
      refine x_gI 94 hE (xw_lk0 hE xkf_CrossingWords_91) rfl dX0_feed_91 rfl (fun v11 => ?_)
      refine x_bipush 96 hE dX0_feed_94 rfl xc_b_20 ?_
      refine x_iadd 97 hE dX0_feed_96 rfl ?_
      refine x_pI 100 hE (xw_pkN (xw_lk0 hE xkf_CrossingWords_91) rfl) ⟨rfl, rfl⟩ dX0_feed_97 rfl ?_
      refine x_aload_n 101 hE dX0_feed_100 rfl 0 rfl ?_
      refine x_gI 104 hE (xw_lk0 hE xkf_CrossingWords_91) rfl dX0_feed_101 rfl (fun v12 => ?_)
      exact x_iret hE dX0_feed_104
    · refine x_loop (fun (v9 : Int32) => [(0, va_rf (some v1)), (6, va_rf (some v8)), (7, .int v9)]) (fun JL1 hc1 hx1 v9 => ?_) _ _
      refine x_iload 47 hE dX0_feed_45 rfl 2 rfl ?_
      refine x_bipush 49 hE dX0_feed_47 rfl xc_b_20 ?_
      refine x_icmp_ge 89 52 hE dX0_feed_49 (by decide) rfl ?_ ?_
      · refine x_sub [(0, va_rf (some v1))] [0] rfl ?_
        refine hx1 _ _ _ _ ?_
        exact hJ2 ()
      · refine x_aload_n 53 hE dX0_feed_52 rfl 0 rfl ?_
        refine x_gR 56 hE (xw_lk0 hE xkf_CrossingWords_34) rfl dX0_feed_53 rfl (fun v13 => ?_)
        refine x_aload_n 57 hE dX0_feed_56 rfl 0 rfl ?_
        refine x_gI 60 hE (xw_lk0 hE xkf_CrossingWords_91) rfl dX0_feed_57 rfl (fun v14 => ?_)
        refine x_iload 62 hE dX0_feed_60 rfl 2 rfl ?_
        refine x_iadd 63 hE dX0_feed_62 rfl ?_
        refine x_aload 65 hE dX0_feed_63 rfl 1 rfl ?_
        refine x_iload 67 hE dX0_feed_65 rfl 2 rfl ?_
        refine x_iconst 68 hE dX0_feed_67 rfl xc_i_4 ?_
        refine x_div 69 hE dX0_feed_68 rfl (fun v15 => ?_)
        refine x_ldI 70 hE dX0_feed_69 rfl (fun v16 => ?_)
        refine x_bipush 72 hE dX0_feed_70 rfl xc_b_24 ?_
        refine x_bipush 74 hE dX0_feed_72 rfl xc_b_8 ?_
        refine x_iload 76 hE dX0_feed_74 rfl 2 rfl ?_
        refine x_iconst 77 hE dX0_feed_76 rfl xc_i_4 ?_
        refine x_rem 78 hE dX0_feed_77 rfl (fun v17 => ?_)
        refine x_imul 79 hE dX0_feed_78 rfl ?_
        refine x_isub 80 hE dX0_feed_79 rfl ?_
        refine x_ishr 81 hE dX0_feed_80 rfl ?_
        refine x_i2b 82 hE dX0_feed_81 rfl ?_
        refine x_stB 83 hE dX0_feed_82 rfl ?_
        refine x_iinc 86 [(7, .int (v9 + 1)), (0, va_rf (some v1)), (6, va_rf (some v8))] hE dX0_feed_83 rfl 2 rfl xc_i_1 (Nat.le_of_ble_eq_true rfl) rfl ?_
        refine x_goto 45 hE dX0_feed_86 (by decide) ?_
        refine x_sub [(0, va_rf (some v1)), (6, va_rf (some v8)), (7, .int (v9 + 1))] [1, 2, 0] rfl ?_
        exact hc1 (v9 + 1)
  · refine x_iconst 14 hE dX0_feed_13 rfl xc_i_m1 ?_
    exact x_iret hE dX0_feed_14

set_option maxHeartbeats 4000000 in
theorem ct_X3_place {l : Launch} {G : xw_G} {μ : xw_Mu} (v1 : Nat) : xw_Ct l G (xw_hc G μ) xw_oi yX3_place cX3_place 1 (some (.int)) 1 [va_rf (some v1)] (pg_X3_place v1) := by
  refine xw_metL [(0, va_rf (some v1))] (by decide) (Nat.le_trans (Nat.le_of_eq ((xw_l1 rfl).trans (congrArg (1 + ·) xw_l0))) (by decide)) ((xw_a1 rfl).trans (congrArg (List.cons _) xw_a0)) (fun E hE hl hG hm => ?_)
  subst hl; subst hG
  have hE : xw_ok E "CrossingWords$Reader" cX3_place 1 (some (.int)) 1 := hE
  unfold pg_X3_place
  refine x_aload_n 1 hE dX3_place_0 rfl 0 rfl ?_
  refine x_gI 4 hE (xw_lk0 hE xkf_CrossingWords_Reader_22) rfl dX3_place_1 rfl (fun v2 => ?_)
  exact x_iret hE dX3_place_4

set_option maxHeartbeats 4000000 in
theorem ct_X4_hasRoom {l : Launch} {G : xw_G} {μ : xw_Mu} (v1 : Nat) : xw_Ct l G (xw_hc G μ) xw_oi yX4_hasRoom cX4_hasRoom 1 (some (.boolean)) 1 [va_rf (some v1)] (pg_X4_hasRoom v1) := by
  refine xw_metL [(0, va_rf (some v1))] (by decide) (Nat.le_trans (Nat.le_of_eq ((xw_l1 rfl).trans (congrArg (1 + ·) xw_l0))) (by decide)) ((xw_a1 rfl).trans (congrArg (List.cons _) xw_a0)) (fun E hE hl hG hm => ?_)
  subst hl; subst hG
  have hE : xw_ok E "CrossingWords$CaseReader" cX4_hasRoom 1 (some (.boolean)) 1 := hE
  unfold pg_X4_hasRoom
  refine x_aload_n 1 hE dX4_hasRoom_0 rfl 0 rfl ?_
  refine x_gR 4 hE (xw_lk0 hE xkf_CrossingWords_CaseReader_14) rfl dX4_hasRoom_1 rfl (fun v2 => ?_)
  refine x_gI 7 hE (xw_lk0 hE xkf_CrossingWords_CaseReader_28) rfl dX4_hasRoom_4 rfl (fun v3 => ?_)
  refine x_bipush 9 hE dX4_hasRoom_7 rfl xc_b_12 ?_
  refine x_icmp_ge 16 12 hE dX4_hasRoom_9 (by decide) rfl ?_ ?_
  · refine x_iconst 17 hE dX4_hasRoom_16 rfl xc_i_0 ?_
    exact x_zretw hE (by decide) dX4_hasRoom_17
  · refine x_iconst 13 hE dX4_hasRoom_12 rfl xc_i_1 ?_
    refine x_goto 17 hE dX4_hasRoom_13 (by decide) ?_
    exact x_zretw hE (by decide) dX4_hasRoom_17

set_option maxHeartbeats 4000000 in
theorem ct_X4_isWhole {l : Launch} {G : xw_G} {μ : xw_Mu} (v1 : Nat) : xw_Ct l G (xw_hc G μ) xw_oi yX4_isWhole cX4_isWhole 1 (some (.boolean)) 1 [va_rf (some v1)] (pg_X4_isWhole v1) := by
  refine xw_metL [(0, va_rf (some v1))] (by decide) (Nat.le_trans (Nat.le_of_eq ((xw_l1 rfl).trans (congrArg (1 + ·) xw_l0))) (by decide)) ((xw_a1 rfl).trans (congrArg (List.cons _) xw_a0)) (fun E hE hl hG hm => ?_)
  subst hl; subst hG
  have hE : xw_ok E "CrossingWords$CaseReader" cX4_isWhole 1 (some (.boolean)) 1 := hE
  unfold pg_X4_isWhole
  refine x_aload_n 1 hE dX4_isWhole_0 rfl 0 rfl ?_
  refine x_gR 4 hE (xw_lk0 hE xkf_CrossingWords_CaseReader_14) rfl dX4_isWhole_1 rfl (fun v2 => ?_)
  refine x_gI 7 hE (xw_lk0 hE xkf_CrossingWords_CaseReader_28) rfl dX4_isWhole_4 rfl (fun v3 => ?_)
  refine x_aload_n 8 hE dX4_isWhole_7 rfl 0 rfl ?_
  refine x_gI 11 hE (xw_lk0 hE xkf_CrossingWords_CaseReader_31) rfl dX4_isWhole_8 rfl (fun v4 => ?_)
  refine x_icmp_le 18 14 hE dX4_isWhole_11 (by decide) rfl ?_ ?_
  · refine x_iconst 19 hE dX4_isWhole_18 rfl xc_i_0 ?_
    exact x_zretw hE (by decide) dX4_isWhole_19
  · refine x_iconst 15 hE dX4_isWhole_14 rfl xc_i_1 ?_
    refine x_goto 19 hE dX4_isWhole_15 (by decide) ?_
    exact x_zretw hE (by decide) dX4_isWhole_19

set_option maxHeartbeats 4000000 in
theorem ct_X5_asks {l : Launch} {G : xw_G} {μ : xw_Mu} (v1 : Nat) (v2 : Int32) (v3 : Int32) (v4 : Int32) : xw_Ct l G (xw_hc G μ) xw_ov yX5_asks cX5_asks 4 none 1 [va_rf (some v1), .int v2, .int v3, .int v4] (pg_X5_asks v1 v2 v3 v4) := by
  refine xw_metL [(0, va_rf (some v1)), (1, .int v2), (2, .int v3), (3, .int v4)] (by decide) (Nat.le_trans (Nat.le_of_eq ((xw_l1 rfl).trans (congrArg (1 + ·) ((xw_l1 rfl).trans (congrArg (1 + ·) ((xw_l1 rfl).trans (congrArg (1 + ·) ((xw_l1 rfl).trans (congrArg (1 + ·) xw_l0))))))))) (by decide)) ((xw_a1 rfl).trans (congrArg (List.cons _) ((xw_a1 rfl).trans (congrArg (List.cons _) ((xw_a1 rfl).trans (congrArg (List.cons _) ((xw_a1 rfl).trans (congrArg (List.cons _) xw_a0)))))))) (fun E hE hl hG hm => ?_)
  subst hl; subst hG
  have hE : xw_ok E "CrossingWords$Case" cX5_asks 4 none 1 := hE
  unfold pg_X5_asks
  refine x_iload_n 1 hE dX5_asks_0 rfl 3 rfl ?_
  refine x_iconst 2 hE dX5_asks_1 rfl xc_i_1 ?_
  refine x_icmp_ne 6 5 hE dX5_asks_2 (by decide) rfl ?_ ?_
  · exact x_vret hE dX5_asks_5
  · refine x_aload_n 7 hE dX5_asks_6 rfl 0 rfl ?_
    refine x_gR 10 hE (xw_lk0 hE xkf_CrossingWords_Case_17) rfl dX5_asks_7 rfl (fun v5 => ?_)
    refine x_aload_n 11 hE dX5_asks_10 rfl 0 rfl ?_
    refine x_gI 14 hE (xw_lk0 hE xkf_CrossingWords_Case_35) rfl dX5_asks_11 rfl (fun v6 => ?_)
    refine x_iload_n 15 hE dX5_asks_14 rfl 1 rfl ?_
    refine x_stI 16 hE dX5_asks_15 rfl ?_
    refine x_aload_n 17 hE dX5_asks_16 rfl 0 rfl ?_
    refine x_gR 20 hE (xw_lk0 hE xkf_CrossingWords_Case_21) rfl dX5_asks_17 rfl (fun v7 => ?_)
    refine x_aload_n 21 hE dX5_asks_20 rfl 0 rfl ?_
    refine x_gI 24 hE (xw_lk0 hE xkf_CrossingWords_Case_35) rfl dX5_asks_21 rfl (fun v8 => ?_)
    refine x_iload_n 25 hE dX5_asks_24 rfl 2 rfl ?_
    refine x_stI 26 hE dX5_asks_25 rfl ?_
    refine x_aload_n 27 hE dX5_asks_26 rfl 0 rfl ?_
    refine x_gR 30 hE (xw_lk0 hE xkf_CrossingWords_Case_24) rfl dX5_asks_27 rfl (fun v9 => ?_)
    refine x_aload_n 31 hE dX5_asks_30 rfl 0 rfl ?_
    refine x_gI 34 hE (xw_lk0 hE xkf_CrossingWords_Case_35) rfl dX5_asks_31 rfl (fun v10 => ?_)
    refine x_iload_n 35 hE dX5_asks_34 rfl 3 rfl ?_
    refine x_stI 36 hE dX5_asks_35 rfl ?_
    refine x_aload_n 37 hE dX5_asks_36 rfl 0 rfl ?_
    refine x_dup 38 hE dX5_asks_37 rfl rfl ?_
    refine x_gI 41 hE (xw_lk0 hE xkf_CrossingWords_Case_35) rfl dX5_asks_38 rfl (fun v11 => ?_)
    refine x_iconst 42 hE dX5_asks_41 rfl xc_i_1 ?_
    refine x_iadd 43 hE dX5_asks_42 rfl ?_
    refine x_pI 46 hE (xw_pkN (xw_lk0 hE xkf_CrossingWords_Case_35) rfl) ⟨rfl, rfl⟩ dX5_asks_43 rfl ?_
    refine x_aload_n 47 hE dX5_asks_46 rfl 0 rfl ?_
    refine x_ldc2 50 hE q328 dX5_asks_47 rfl ?_
    refine x_aload_n 51 hE dX5_asks_50 rfl 0 rfl ?_
    refine x_gJ 54 hE (xw_lk0 hE xkf_CrossingWords_Case_27) rfl dX5_asks_51 rfl (fun v12 => ?_)
    refine x_iload_n 55 hE dX5_asks_54 rfl 3 rfl ?_
    refine x_i2l 56 hE dX5_asks_55 rfl ?_
    refine x_lmul 57 hE dX5_asks_56 rfl ?_
    refine x_mminL 60 hE q329 q330 q101 xm_mminL (by decide) (Nat.le_trans (xw_sm1 rfl xw_sm0) (by decide)) dX5_asks_57 rfl ?_
    refine x_ltl (fun v13 => ?_)
    refine x_pJ 63 hE (xw_pkN (xw_lk0 hE xkf_CrossingWords_Case_27) rfl) ⟨rfl, rfl⟩ dX5_asks_60 rfl ?_
    exact x_vret hE dX5_asks_63

set_option maxHeartbeats 4000000 in
theorem ct_X16_many {l : Launch} {G : xw_G} {μ : xw_Mu} (v1 : Nat) : xw_Ct l G (xw_hc G μ) xw_oi yX16_many cX16_many 1 (some (.int)) 1 [va_rf (some v1)] (pg_X16_many v1) := by
  refine xw_metL [(0, va_rf (some v1))] (by decide) (Nat.le_trans (Nat.le_of_eq ((xw_l1 rfl).trans (congrArg (1 + ·) xw_l0))) (by decide)) ((xw_a1 rfl).trans (congrArg (List.cons _) xw_a0)) (fun E hE hl hG hm => ?_)
  subst hl; subst hG
  have hE : xw_ok E "CrossingWords$Span" cX16_many 1 (some (.int)) 1 := hE
  unfold pg_X16_many
  refine x_aload_n 1 hE dX16_many_0 rfl 0 rfl ?_
  refine x_gI 4 hE (xw_lk0 hE xkf_CrossingWords_Span_13) rfl dX16_many_1 rfl (fun v2 => ?_)
  refine x_aload_n 5 hE dX16_many_4 rfl 0 rfl ?_
  refine x_gI 8 hE (xw_lk0 hE xkf_CrossingWords_Span_7) rfl dX16_many_5 rfl (fun v3 => ?_)
  refine x_isub 9 hE dX16_many_8 rfl ?_
  refine x_iconst 10 hE dX16_many_9 rfl xc_i_1 ?_
  refine x_iadd 11 hE dX16_many_10 rfl ?_
  exact x_iret hE dX16_many_11

set_option maxHeartbeats 4000000 in
theorem ct_X5_adds {l : Launch} {G : xw_G} {μ : xw_Mu} (v1 : Nat) (v2 : Option Nat) : xw_Ct l G (xw_hc G μ) xw_ov yX5_adds cX5_adds 2 none 2 [va_rf (some v1), va_rf v2] (pg_X5_adds v1 v2) := by
  refine xw_metL [(0, va_rf (some v1)), (1, va_rf v2)] (by decide) (Nat.le_trans (Nat.le_of_eq ((xw_l1 rfl).trans (congrArg (1 + ·) ((xw_l1 (x_rfc _)).trans (congrArg (1 + ·) xw_l0))))) (by decide)) ((xw_a1 rfl).trans (congrArg (List.cons _) ((xw_a1 (x_rfc _)).trans (congrArg (List.cons _) xw_a0)))) (fun E hE hl hG hm => ?_)
  subst hl; subst hG
  have hE : xw_ok E "CrossingWords$Case" cX5_adds 2 none 2 := hE
  unfold pg_X5_adds
  refine x_aload_n 1 hE dX5_adds_0 rfl 0 rfl ?_
  refine x_gR 4 hE (xw_lk0 hE xkf_CrossingWords_Case_11) rfl dX5_adds_1 rfl (fun v3 => ?_)
  refine x_aload_n 5 hE dX5_adds_4 rfl 0 rfl ?_
  refine x_gI 8 hE (xw_lk0 hE xkf_CrossingWords_Case_31) rfl dX5_adds_5 rfl (fun v4 => ?_)
  refine x_aload_n 9 hE dX5_adds_8 rfl 1 rfl ?_
  refine x_stR 10 hE dX5_adds_9 rfl ?_
  refine x_aload_n 11 hE dX5_adds_10 rfl 0 rfl ?_
  refine x_dup 12 hE dX5_adds_11 rfl rfl ?_
  refine x_gI 15 hE (xw_lk0 hE xkf_CrossingWords_Case_31) rfl dX5_adds_12 rfl (fun v5 => ?_)
  refine x_iconst 16 hE dX5_adds_15 rfl xc_i_1 ?_
  refine x_iadd 17 hE dX5_adds_16 rfl ?_
  refine x_pI 20 hE (xw_pkN (xw_lk0 hE xkf_CrossingWords_Case_31) rfl) ⟨rfl, rfl⟩ dX5_adds_17 rfl ?_
  refine x_aload_n 21 hE dX5_adds_20 rfl 0 rfl ?_
  refine x_aload_n 22 hE dX5_adds_21 rfl 1 rfl ?_
  refine x_gI 25 hE (xw_lk0 hE xkf_CrossingWords_Case_42) rfl dX5_adds_22 rfl (fun v6 => ?_)
  refine x_iconst 26 hE dX5_adds_25 rfl xc_i_0 ?_
  refine x_aload_n 27 hE dX5_adds_26 rfl 1 rfl ?_
  refine x_gR 30 hE (xw_lk0 hE xkf_CrossingWords_Case_45) rfl dX5_adds_27 rfl (fun v7 => ?_)
  refine x_gR 33 hE (xw_lk0 hE xkf_CrossingWords_Case_49) rfl dX5_adds_30 rfl (fun v8 => ?_)
  refine x_calli 36 (xw_goV hE (c := 13) (by decide) (fun v10 hq => xw_rV hE (ct_X16_many v10) xd_X16_many rfl q320 q321 q322 q112 q323 rfl ⟨Nat.le_of_ble_eq_true rfl, Nat.le_of_ble_eq_true rfl⟩ (congrArg va_rf hq) rfl (Nat.le_trans (xw_sm1 rfl (xw_sm1 rfl (xw_sm1 rfl xw_sm0))) (by decide)) dX5_adds_33)) rfl (fun v9 => ?_)
  refine x_callv 39 (xw_goV hE (c := 4) (by decide) (fun v11 hq => xw_rV hE (ct_X5_asks v11 v6 0 v9) xd_X5_asks rfl q324 q326 qs0 q100 q327 rfl ⟨Nat.le_of_ble_eq_true rfl, Nat.le_of_ble_eq_true rfl⟩ (congrArg va_rf hq) rfl (by decide) dX5_adds_36)) rfl ?_
  refine x_aload_n 40 hE dX5_adds_39 rfl 0 rfl ?_
  refine x_aload_n 41 hE dX5_adds_40 rfl 1 rfl ?_
  refine x_gI 44 hE (xw_lk0 hE xkf_CrossingWords_Case_42) rfl dX5_adds_41 rfl (fun v12 => ?_)
  refine x_iconst 45 hE dX5_adds_44 rfl xc_i_1 ?_
  refine x_aload_n 46 hE dX5_adds_45 rfl 1 rfl ?_
  refine x_gR 49 hE (xw_lk0 hE xkf_CrossingWords_Case_45) rfl dX5_adds_46 rfl (fun v13 => ?_)
  refine x_gR 52 hE (xw_lk0 hE xkf_CrossingWords_Case_64) rfl dX5_adds_49 rfl (fun v14 => ?_)
  refine x_calli 55 (xw_goV hE (c := 13) (by decide) (fun v16 hq => xw_rV hE (ct_X16_many v16) xd_X16_many rfl q320 q321 q322 q112 q323 rfl ⟨Nat.le_of_ble_eq_true rfl, Nat.le_of_ble_eq_true rfl⟩ (congrArg va_rf hq) rfl (Nat.le_trans (xw_sm1 rfl (xw_sm1 rfl (xw_sm1 rfl xw_sm0))) (by decide)) dX5_adds_52)) rfl (fun v15 => ?_)
  refine x_callv 58 (xw_goV hE (c := 4) (by decide) (fun v17 hq => xw_rV hE (ct_X5_asks v17 v12 1 v15) xd_X5_asks rfl q324 q326 qs0 q100 q327 rfl ⟨Nat.le_of_ble_eq_true rfl, Nat.le_of_ble_eq_true rfl⟩ (congrArg va_rf hq) rfl (by decide) dX5_adds_55)) rfl ?_
  refine x_aload_n 59 hE dX5_adds_58 rfl 0 rfl ?_
  refine x_aload_n 60 hE dX5_adds_59 rfl 1 rfl ?_
  refine x_gI 63 hE (xw_lk0 hE xkf_CrossingWords_Case_42) rfl dX5_adds_60 rfl (fun v18 => ?_)
  refine x_iconst 64 hE dX5_adds_63 rfl xc_i_2 ?_
  refine x_aload_n 65 hE dX5_adds_64 rfl 1 rfl ?_
  refine x_gR 68 hE (xw_lk0 hE xkf_CrossingWords_Case_45) rfl dX5_adds_65 rfl (fun v19 => ?_)
  refine x_gR 71 hE (xw_lk0 hE xkf_CrossingWords_Case_67) rfl dX5_adds_68 rfl (fun v20 => ?_)
  refine x_calli 74 (xw_goV hE (c := 13) (by decide) (fun v22 hq => xw_rV hE (ct_X16_many v22) xd_X16_many rfl q320 q321 q322 q112 q323 rfl ⟨Nat.le_of_ble_eq_true rfl, Nat.le_of_ble_eq_true rfl⟩ (congrArg va_rf hq) rfl (Nat.le_trans (xw_sm1 rfl (xw_sm1 rfl (xw_sm1 rfl xw_sm0))) (by decide)) dX5_adds_71)) rfl (fun v21 => ?_)
  refine x_callv 77 (xw_goV hE (c := 4) (by decide) (fun v23 hq => xw_rV hE (ct_X5_asks v23 v18 2 v21) xd_X5_asks rfl q324 q326 qs0 q100 q327 rfl ⟨Nat.le_of_ble_eq_true rfl, Nat.le_of_ble_eq_true rfl⟩ (congrArg va_rf hq) rfl (by decide) dX5_adds_74)) rfl ?_
  refine x_aload_n 78 hE dX5_adds_77 rfl 0 rfl ?_
  refine x_aload_n 79 hE dX5_adds_78 rfl 1 rfl ?_
  refine x_gI 82 hE (xw_lk0 hE xkf_CrossingWords_Case_42) rfl dX5_adds_79 rfl (fun v24 => ?_)
  refine x_iconst 83 hE dX5_adds_82 rfl xc_i_3 ?_
  refine x_aload_n 84 hE dX5_adds_83 rfl 1 rfl ?_
  refine x_gR 87 hE (xw_lk0 hE xkf_CrossingWords_Case_45) rfl dX5_adds_84 rfl (fun v25 => ?_)
  refine x_gI 90 hE (xw_lk0 hE xkf_CrossingWords_Case_70) rfl dX5_adds_87 rfl (fun v26 => ?_)
  refine x_sq 98 (fun (v27 : Int32) => []) (fun (v27 : Int32) => [.int v27, .int 3, .int v24, va_rf (some v1)]) (fun v27 => ?_) (fun J1 hJ1 => ?_)
  · refine x_callv 101 (xw_goV hE (c := 4) (by decide) (fun v28 hq => xw_rV hE (ct_X5_asks v28 v24 3 v27) xd_X5_asks rfl q324 q326 qs0 q100 q327 rfl ⟨Nat.le_of_ble_eq_true rfl, Nat.le_of_ble_eq_true rfl⟩ (congrArg va_rf hq) rfl (by decide) dX5_adds_98)) rfl ?_
    exact x_vret hE dX5_adds_101
  · refine x_if_eq 97 93 hE dX5_adds_90 (by decide) rfl ?_ ?_
    · refine x_iconst 98 hE dX5_adds_97 rfl xc_i_1 ?_
      refine x_sub [] [] rfl ?_
      exact hJ1 1
    · refine x_iconst 94 hE dX5_adds_93 rfl xc_i_2 ?_
      refine x_goto 98 hE dX5_adds_94 (by decide) ?_
      refine x_sub [] [] rfl ?_
      exact hJ1 2

set_option maxHeartbeats 4000000 in
theorem ct_X6_init {l : Launch} {G : xw_G} {μ : xw_Mu} (v1 : Nat) (v2 : Int32) (v3 : Int32) : xw_Ct l G (xw_hc G μ) xw_ov yX6_init cX6_init 3 none 1 [va_rf (some v1), .int v2, .int v3] (pg_X6_init v1 v2 v3) := by
  refine xw_metL [(0, va_rf (some v1)), (1, .int v2), (2, .int v3)] (by decide) (Nat.le_trans (Nat.le_of_eq ((xw_l1 rfl).trans (congrArg (1 + ·) ((xw_l1 rfl).trans (congrArg (1 + ·) ((xw_l1 rfl).trans (congrArg (1 + ·) xw_l0))))))) (by decide)) ((xw_a1 rfl).trans (congrArg (List.cons _) ((xw_a1 rfl).trans (congrArg (List.cons _) ((xw_a1 rfl).trans (congrArg (List.cons _) xw_a0)))))) (fun E hE hl hG hm => ?_)
  subst hl; subst hG
  have hE : xw_ok E "CrossingWords$Saying" cX6_init 3 none 1 := hE
  have hm : (xe_M E).name = "<init>" := hm
  unfold pg_X6_init
  refine x_aload_n 1 hE dX6_init_0 rfl 0 rfl ?_
  refine x_objInit 4 hE q444 q126 q127 (by decide) dX6_init_1 rfl rfl ?_
  refine x_aload_n 5 hE dX6_init_4 rfl 0 rfl ?_
  refine x_iload_n 6 hE dX6_init_5 rfl 1 rfl ?_
  refine x_pI 9 hE (xw_pkF hE hm xkf_CrossingWords_Saying_9 rfl rfl) ⟨rfl, rfl⟩ dX6_init_6 rfl ?_
  refine x_aload_n 10 hE dX6_init_9 rfl 0 rfl ?_
  refine x_iload_n 11 hE dX6_init_10 rfl 2 rfl ?_
  refine x_pI 14 hE (xw_pkF hE hm xkf_CrossingWords_Saying_15 rfl rfl) ⟨rfl, rfl⟩ dX6_init_11 rfl ?_
  exact x_vret hE dX6_init_14

set_option maxHeartbeats 4000000 in
theorem ct_X9_init {l : Launch} {G : xw_G} {μ : xw_Mu} (v1 : Nat) (v2 : Int32) (v3 : Int32) (v4 : Option Nat) : xw_Ct l G (xw_hc G μ) xw_ov yX9_init cX9_init 4 none 2 [va_rf (some v1), .int v2, .int v3, va_rf v4] (pg_X9_init v1 v2 v3 v4) := by
  refine xw_metL [(0, va_rf (some v1)), (1, .int v2), (2, .int v3), (3, va_rf v4)] (by decide) (Nat.le_trans (Nat.le_of_eq ((xw_l1 rfl).trans (congrArg (1 + ·) ((xw_l1 rfl).trans (congrArg (1 + ·) ((xw_l1 rfl).trans (congrArg (1 + ·) ((xw_l1 (x_rfc _)).trans (congrArg (1 + ·) xw_l0))))))))) (by decide)) ((xw_a1 rfl).trans (congrArg (List.cons _) ((xw_a1 rfl).trans (congrArg (List.cons _) ((xw_a1 rfl).trans (congrArg (List.cons _) ((xw_a1 (x_rfc _)).trans (congrArg (List.cons _) xw_a0)))))))) (fun E hE hl hG hm => ?_)
  subst hl; subst hG
  have hE : xw_ok E "CrossingWords$Answer" cX9_init 4 none 2 := hE
  have hm : (xe_M E).name = "<init>" := hm
  unfold pg_X9_init
  refine x_aload_n 1 hE dX9_init_0 rfl 0 rfl ?_
  refine x_iload_n 2 hE dX9_init_1 rfl 1 rfl ?_
  refine x_iload_n 3 hE dX9_init_2 rfl 2 rfl ?_
  refine x_callv 6 (xw_goI hE (b := v1) (ct_X6_init v1 v2 v3) xd_X6_init q601 q442 q102 q443 rfl rfl ⟨Nat.le_of_ble_eq_true rfl, Nat.le_of_ble_eq_true rfl⟩ rfl (by decide) dX9_init_3) rfl ?_
  refine x_aload_n 7 hE dX9_init_6 rfl 0 rfl ?_
  refine x_aload_n 8 hE dX9_init_7 rfl 3 rfl ?_
  refine x_pR 11 hE (xw_pkF hE hm xkf_CrossingWords_Answer_7 rfl rfl) ⟨rfl, rfl⟩ dX9_init_8 rfl ?_
  exact x_vret hE dX9_init_11

set_option maxHeartbeats 4000000 in
theorem ct_X13_init {l : Launch} {G : xw_G} {μ : xw_Mu} (v1 : Nat) (v2 : Int32) (v3 : Int32) (v4 : Option Nat) : xw_Ct l G (xw_hc G μ) xw_ov yX13_init cX13_init 4 none 3 [va_rf (some v1), .int v2, .int v3, va_rf v4] (pg_X13_init v1 v2 v3 v4) := by
  refine xw_metL [(0, va_rf (some v1)), (1, .int v2), (2, .int v3), (3, va_rf v4)] (by decide) (Nat.le_trans (Nat.le_of_eq ((xw_l1 rfl).trans (congrArg (1 + ·) ((xw_l1 rfl).trans (congrArg (1 + ·) ((xw_l1 rfl).trans (congrArg (1 + ·) ((xw_l1 (x_rfc _)).trans (congrArg (1 + ·) xw_l0))))))))) (by decide)) ((xw_a1 rfl).trans (congrArg (List.cons _) ((xw_a1 rfl).trans (congrArg (List.cons _) ((xw_a1 rfl).trans (congrArg (List.cons _) ((xw_a1 (x_rfc _)).trans (congrArg (List.cons _) xw_a0)))))))) (fun E hE hl hG hm => ?_)
  subst hl; subst hG
  have hE : xw_ok E "CrossingWords$Back" cX13_init 4 none 3 := hE
  unfold pg_X13_init
  refine x_aload_n 1 hE dX13_init_0 rfl 0 rfl ?_
  refine x_iload_n 2 hE dX13_init_1 rfl 1 rfl ?_
  refine x_iload_n 3 hE dX13_init_2 rfl 2 rfl ?_
  refine x_aload_n 4 hE dX13_init_3 rfl 3 rfl ?_
  refine x_callv 7 (xw_goI hE (b := v1) (ct_X9_init v1 v2 v3 v4) xd_X9_init q636 q599 q105 q600 rfl rfl ⟨Nat.le_of_ble_eq_true rfl, Nat.le_of_ble_eq_true rfl⟩ rfl (by decide) dX13_init_4) rfl ?_
  exact x_vret hE dX13_init_7

set_option maxHeartbeats 4000000 in
theorem ct_X10_init {l : Launch} {G : xw_G} {μ : xw_Mu} (v1 : Nat) (v2 : Int32) (v3 : Int32) (v4 : Option Nat) : xw_Ct l G (xw_hc G μ) xw_ov yX10_init cX10_init 4 none 3 [va_rf (some v1), .int v2, .int v3, va_rf v4] (pg_X10_init v1 v2 v3 v4) := by
  refine xw_metL [(0, va_rf (some v1)), (1, .int v2), (2, .int v3), (3, va_rf v4)] (by decide) (Nat.le_trans (Nat.le_of_eq ((xw_l1 rfl).trans (congrArg (1 + ·) ((xw_l1 rfl).trans (congrArg (1 + ·) ((xw_l1 rfl).trans (congrArg (1 + ·) ((xw_l1 (x_rfc _)).trans (congrArg (1 + ·) xw_l0))))))))) (by decide)) ((xw_a1 rfl).trans (congrArg (List.cons _) ((xw_a1 rfl).trans (congrArg (List.cons _) ((xw_a1 rfl).trans (congrArg (List.cons _) ((xw_a1 (x_rfc _)).trans (congrArg (List.cons _) xw_a0)))))))) (fun E hE hl hG hm => ?_)
  subst hl; subst hG
  have hE : xw_ok E "CrossingWords$Yes" cX10_init 4 none 3 := hE
  unfold pg_X10_init
  refine x_aload_n 1 hE dX10_init_0 rfl 0 rfl ?_
  refine x_iload_n 2 hE dX10_init_1 rfl 1 rfl ?_
  refine x_iload_n 3 hE dX10_init_2 rfl 2 rfl ?_
  refine x_aload_n 4 hE dX10_init_3 rfl 3 rfl ?_
  refine x_callv 7 (xw_goI hE (b := v1) (ct_X9_init v1 v2 v3 v4) xd_X9_init q598 q599 q105 q600 rfl rfl ⟨Nat.le_of_ble_eq_true rfl, Nat.le_of_ble_eq_true rfl⟩ rfl (by decide) dX10_init_4) rfl ?_
  exact x_vret hE dX10_init_7

set_option maxHeartbeats 4000000 in
theorem ct_X11_init {l : Launch} {G : xw_G} {μ : xw_Mu} (v1 : Nat) (v2 : Int32) (v3 : Int32) (v4 : Option Nat) (v5 : Option Nat) : xw_Ct l G (xw_hc G μ) xw_ov yX11_init cX11_init 5 none 4 [va_rf (some v1), .int v2, .int v3, va_rf v4, va_rf v5] (pg_X11_init v1 v2 v3 v4 v5) := by
  refine xw_metL [(0, va_rf (some v1)), (1, .int v2), (2, .int v3), (3, va_rf v4), (4, va_rf v5)] (by decide) (Nat.le_trans (Nat.le_of_eq ((xw_l1 rfl).trans (congrArg (1 + ·) ((xw_l1 rfl).trans (congrArg (1 + ·) ((xw_l1 rfl).trans (congrArg (1 + ·) ((xw_l1 (x_rfc _)).trans (congrArg (1 + ·) ((xw_l1 (x_rfc _)).trans (congrArg (1 + ·) xw_l0))))))))))) (by decide)) ((xw_a1 rfl).trans (congrArg (List.cons _) ((xw_a1 rfl).trans (congrArg (List.cons _) ((xw_a1 rfl).trans (congrArg (List.cons _) ((xw_a1 (x_rfc _)).trans (congrArg (List.cons _) ((xw_a1 (x_rfc _)).trans (congrArg (List.cons _) xw_a0)))))))))) (fun E hE hl hG hm => ?_)
  subst hl; subst hG
  have hE : xw_ok E "CrossingWords$But" cX11_init 5 none 4 := hE
  have hm : (xe_M E).name = "<init>" := hm
  unfold pg_X11_init
  refine x_aload_n 1 hE dX11_init_0 rfl 0 rfl ?_
  refine x_iload_n 2 hE dX11_init_1 rfl 1 rfl ?_
  refine x_iload_n 3 hE dX11_init_2 rfl 2 rfl ?_
  refine x_aload_n 4 hE dX11_init_3 rfl 3 rfl ?_
  refine x_callv 7 (xw_goI hE (b := v1) (ct_X10_init v1 v2 v3 v4) xd_X10_init q595 q596 q106 q597 rfl rfl ⟨Nat.le_of_ble_eq_true rfl, Nat.le_of_ble_eq_true rfl⟩ rfl (by decide) dX11_init_4) rfl ?_
  refine x_aload_n 8 hE dX11_init_7 rfl 0 rfl ?_
  refine x_aload 10 hE dX11_init_8 rfl 4 rfl ?_
  refine x_pR 13 hE (xw_pkF hE hm xkf_CrossingWords_But_9 rfl rfl) ⟨rfl, rfl⟩ dX11_init_10 rfl ?_
  exact x_vret hE dX11_init_13

set_option maxHeartbeats 4000000 in
theorem ct_X3_isDigit {l : Launch} {G : xw_G} {μ : xw_Mu} (v1 : Nat) (v2 : Int32) : xw_Ct l G (xw_hc G μ) xw_oi yX3_isDigit cX3_isDigit 2 (some (.boolean)) 1 [va_rf (some v1), .int v2] (pg_X3_isDigit v1 v2) := by
  refine xw_metL [(0, va_rf (some v1)), (1, .int v2)] (by decide) (Nat.le_trans (Nat.le_of_eq ((xw_l1 rfl).trans (congrArg (1 + ·) ((xw_l1 rfl).trans (congrArg (1 + ·) xw_l0))))) (by decide)) ((xw_a1 rfl).trans (congrArg (List.cons _) ((xw_a1 rfl).trans (congrArg (List.cons _) xw_a0)))) (fun E hE hl hG hm => ?_)
  subst hl; subst hG
  have hE : xw_ok E "CrossingWords$Reader" cX3_isDigit 2 (some (.boolean)) 1 := hE
  unfold pg_X3_isDigit
  refine x_iload_n 1 hE dX3_isDigit_0 rfl 1 rfl ?_
  refine x_aload_n 2 hE dX3_isDigit_1 rfl 0 rfl ?_
  refine x_gI 5 hE (xw_lk0 hE xkf_CrossingWords_Reader_15) rfl dX3_isDigit_2 rfl (fun v3 => ?_)
  refine x_icmp_ge 34 8 hE dX3_isDigit_5 (by decide) rfl ?_ ?_
  · refine x_iconst 35 hE dX3_isDigit_34 rfl xc_i_0 ?_
    exact x_zretw hE (by decide) dX3_isDigit_35
  · refine x_aload_n 9 hE dX3_isDigit_8 rfl 0 rfl ?_
    refine x_gR 12 hE (xw_lk0 hE xkf_CrossingWords_Reader_9) rfl dX3_isDigit_9 rfl (fun v4 => ?_)
    refine x_iload_n 13 hE dX3_isDigit_12 rfl 1 rfl ?_
    refine x_ldB 14 hE dX3_isDigit_13 rfl (fun v5 => ?_)
    refine x_bipush 16 hE dX3_isDigit_14 rfl xc_b_48 ?_
    refine x_icmp_lt 34 19 hE dX3_isDigit_16 (by decide) rfl ?_ ?_
    · refine x_iconst 35 hE dX3_isDigit_34 rfl xc_i_0 ?_
      exact x_zretw hE (by decide) dX3_isDigit_35
    · refine x_aload_n 20 hE dX3_isDigit_19 rfl 0 rfl ?_
      refine x_gR 23 hE (xw_lk0 hE xkf_CrossingWords_Reader_9) rfl dX3_isDigit_20 rfl (fun v6 => ?_)
      refine x_iload_n 24 hE dX3_isDigit_23 rfl 1 rfl ?_
      refine x_ldB 25 hE dX3_isDigit_24 rfl (fun v7 => ?_)
      refine x_bipush 27 hE dX3_isDigit_25 rfl xc_b_57 ?_
      refine x_icmp_gt 34 30 hE dX3_isDigit_27 (by decide) rfl ?_ ?_
      · refine x_iconst 35 hE dX3_isDigit_34 rfl xc_i_0 ?_
        exact x_zretw hE (by decide) dX3_isDigit_35
      · refine x_iconst 31 hE dX3_isDigit_30 rfl xc_i_1 ?_
        refine x_goto 35 hE dX3_isDigit_31 (by decide) ?_
        exact x_zretw hE (by decide) dX3_isDigit_35

set_option maxHeartbeats 4000000 in
theorem ct_X3_isLetter {l : Launch} {G : xw_G} {μ : xw_Mu} (v1 : Nat) (v2 : Int32) : xw_Ct l G (xw_hc G μ) xw_oi yX3_isLetter cX3_isLetter 2 (some (.boolean)) 1 [va_rf (some v1), .int v2] (pg_X3_isLetter v1 v2) := by
  refine xw_metL [(0, va_rf (some v1)), (1, .int v2)] (by decide) (Nat.le_trans (Nat.le_of_eq ((xw_l1 rfl).trans (congrArg (1 + ·) ((xw_l1 rfl).trans (congrArg (1 + ·) xw_l0))))) (by decide)) ((xw_a1 rfl).trans (congrArg (List.cons _) ((xw_a1 rfl).trans (congrArg (List.cons _) xw_a0)))) (fun E hE hl hG hm => ?_)
  subst hl; subst hG
  have hE : xw_ok E "CrossingWords$Reader" cX3_isLetter 2 (some (.boolean)) 1 := hE
  unfold pg_X3_isLetter
  refine x_iload_n 1 hE dX3_isLetter_0 rfl 1 rfl ?_
  refine x_aload_n 2 hE dX3_isLetter_1 rfl 0 rfl ?_
  refine x_gI 5 hE (xw_lk0 hE xkf_CrossingWords_Reader_15) rfl dX3_isLetter_2 rfl (fun v3 => ?_)
  refine x_icmp_ge 34 8 hE dX3_isLetter_5 (by decide) rfl ?_ ?_
  · refine x_iconst 35 hE dX3_isLetter_34 rfl xc_i_0 ?_
    exact x_zretw hE (by decide) dX3_isLetter_35
  · refine x_aload_n 9 hE dX3_isLetter_8 rfl 0 rfl ?_
    refine x_gR 12 hE (xw_lk0 hE xkf_CrossingWords_Reader_9) rfl dX3_isLetter_9 rfl (fun v4 => ?_)
    refine x_iload_n 13 hE dX3_isLetter_12 rfl 1 rfl ?_
    refine x_ldB 14 hE dX3_isLetter_13 rfl (fun v5 => ?_)
    refine x_bipush 16 hE dX3_isLetter_14 rfl xc_b_97 ?_
    refine x_icmp_lt 34 19 hE dX3_isLetter_16 (by decide) rfl ?_ ?_
    · refine x_iconst 35 hE dX3_isLetter_34 rfl xc_i_0 ?_
      exact x_zretw hE (by decide) dX3_isLetter_35
    · refine x_aload_n 20 hE dX3_isLetter_19 rfl 0 rfl ?_
      refine x_gR 23 hE (xw_lk0 hE xkf_CrossingWords_Reader_9) rfl dX3_isLetter_20 rfl (fun v6 => ?_)
      refine x_iload_n 24 hE dX3_isLetter_23 rfl 1 rfl ?_
      refine x_ldB 25 hE dX3_isLetter_24 rfl (fun v7 => ?_)
      refine x_bipush 27 hE dX3_isLetter_25 rfl xc_b_122 ?_
      refine x_icmp_gt 34 30 hE dX3_isLetter_27 (by decide) rfl ?_ ?_
      · refine x_iconst 35 hE dX3_isLetter_34 rfl xc_i_0 ?_
        exact x_zretw hE (by decide) dX3_isLetter_35
      · refine x_iconst 31 hE dX3_isLetter_30 rfl xc_i_1 ?_
        refine x_goto 35 hE dX3_isLetter_31 (by decide) ?_
        exact x_zretw hE (by decide) dX3_isLetter_35

set_option maxHeartbeats 4000000 in
theorem ct_X3_look {l : Launch} {G : xw_G} {μ : xw_Mu} (v1 : Nat) : xw_Ct l G (xw_hc G μ) xw_ov yX3_look cX3_look 1 none 2 [va_rf (some v1)] (pg_X3_look v1) := by
  refine xw_metL [(0, va_rf (some v1))] (by decide) (Nat.le_trans (Nat.le_of_eq ((xw_l1 rfl).trans (congrArg (1 + ·) xw_l0))) (by decide)) ((xw_a1 rfl).trans (congrArg (List.cons _) xw_a0)) (fun E hE hl hG hm => ?_)
  subst hl; subst hG
  have hE : xw_ok E "CrossingWords$Reader" cX3_look 1 none 2 := hE
  unfold pg_X3_look
  refine x_sub [(0, va_rf (some v1))] [0] rfl ?_
  refine x_sq 52 (fun (v3 : Unit) => [(0, va_rf (some v1))]) (fun _ => []) (fun v3 => ?_) (fun J2 hJ2 => ?_)
  · refine x_aload_n 53 hE dX3_look_52 rfl 0 rfl ?_
    refine x_aload_n 54 hE dX3_look_53 rfl 0 rfl ?_
    refine x_gI 57 hE (xw_lk0 hE xkf_CrossingWords_Reader_22) rfl dX3_look_54 rfl (fun v4 => ?_)
    refine x_pI 60 hE (xw_pkN (xw_lk0 hE xkf_CrossingWords_Reader_25) rfl) ⟨rfl, rfl⟩ dX3_look_57 rfl ?_
    refine x_aload_n 61 hE dX3_look_60 rfl 0 rfl ?_
    refine x_lconst 62 hE dX3_look_61 rfl xc_l_0 ?_
    refine x_pJ 65 hE (xw_pkN (xw_lk0 hE xkf_CrossingWords_Reader_28) rfl) ⟨rfl, rfl⟩ dX3_look_62 rfl ?_
    refine x_aload_n 66 hE dX3_look_65 rfl 0 rfl ?_
    refine x_gI 69 hE (xw_lk0 hE xkf_CrossingWords_Reader_22) rfl dX3_look_66 rfl (fun v5 => ?_)
    refine x_aload_n 70 hE dX3_look_69 rfl 0 rfl ?_
    refine x_gI 73 hE (xw_lk0 hE xkf_CrossingWords_Reader_15) rfl dX3_look_70 rfl (fun v6 => ?_)
    refine x_icmp_ne 84 76 hE dX3_look_73 (by decide) rfl ?_ ?_
    · refine x_aload_n 77 hE dX3_look_76 rfl 0 rfl ?_
      refine x_iconst 78 hE dX3_look_77 rfl xc_i_0 ?_
      refine x_pI 81 hE (xw_pkN (xw_lk0 hE xkf_CrossingWords_Reader_32) rfl) ⟨rfl, rfl⟩ dX3_look_78 rfl ?_
      refine x_goto 322 hE dX3_look_81 (by decide) ?_
      exact x_vret hE dX3_look_322
    · refine x_aload_n 85 hE dX3_look_84 rfl 0 rfl ?_
      refine x_aload_n 86 hE dX3_look_85 rfl 0 rfl ?_
      refine x_gI 89 hE (xw_lk0 hE xkf_CrossingWords_Reader_22) rfl dX3_look_86 rfl (fun v7 => ?_)
      refine x_calli 92 (xw_goD hE (fun v9 hq => (List.forall_mem_cons.mpr ⟨⟨Nat.le_of_ble_eq_true rfl, xw_rP hE (ct_X3_isLetter v9 v7) xd_X3_isLetter q260 q262 (List.mem_of_getElem? (i := 2) rfl) q98 q263 rfl ⟨Nat.le_of_ble_eq_true rfl, Nat.le_of_ble_eq_true rfl⟩ (congrArg va_rf hq) rfl (by decide) dX3_look_89⟩, (List.forall_mem_cons.mpr ⟨⟨Nat.le_of_ble_eq_true rfl, xw_rP hE (ct_X3_isLetter v9 v7) xd_X3_isLetter q260 q262 (List.mem_of_getElem? (i := 3) rfl) q98 q263 rfl ⟨Nat.le_of_ble_eq_true rfl, Nat.le_of_ble_eq_true rfl⟩ (congrArg va_rf hq) rfl (by decide) dX3_look_89⟩, (fun _ h => absurd h List.not_mem_nil)⟩)⟩))) rfl (fun v8 => ?_)
      refine x_if_eq 190 95 hE dX3_look_92 (by decide) rfl ?_ ?_
      · refine x_aload_n 191 hE dX3_look_190 rfl 0 rfl ?_
        refine x_aload_n 192 hE dX3_look_191 rfl 0 rfl ?_
        refine x_gI 195 hE (xw_lk0 hE xkf_CrossingWords_Reader_22) rfl dX3_look_192 rfl (fun v10 => ?_)
        refine x_calli 198 (xw_goD hE (fun v12 hq => (List.forall_mem_cons.mpr ⟨⟨Nat.le_of_ble_eq_true rfl, xw_rP hE (ct_X3_isDigit v12 v10) xd_X3_isDigit q265 q267 (List.mem_of_getElem? (i := 4) rfl) q98 q268 rfl ⟨Nat.le_of_ble_eq_true rfl, Nat.le_of_ble_eq_true rfl⟩ (congrArg va_rf hq) rfl (by decide) dX3_look_195⟩, (List.forall_mem_cons.mpr ⟨⟨Nat.le_of_ble_eq_true rfl, xw_rP hE (ct_X3_isDigit v12 v10) xd_X3_isDigit q265 q267 (List.mem_of_getElem? (i := 5) rfl) q98 q268 rfl ⟨Nat.le_of_ble_eq_true rfl, Nat.le_of_ble_eq_true rfl⟩ (congrArg va_rf hq) rfl (by decide) dX3_look_195⟩, (fun _ h => absurd h List.not_mem_nil)⟩)⟩))) rfl (fun v11 => ?_)
        refine x_if_eq 293 201 hE dX3_look_198 (by decide) rfl ?_ ?_
        · refine x_aload_n 294 hE dX3_look_293 rfl 0 rfl ?_
          refine x_iconst 295 hE dX3_look_294 rfl xc_i_3 ?_
          refine x_pI 298 hE (xw_pkN (xw_lk0 hE xkf_CrossingWords_Reader_32) rfl) ⟨rfl, rfl⟩ dX3_look_295 rfl ?_
          refine x_aload_n 299 hE dX3_look_298 rfl 0 rfl ?_
          refine x_aload_n 300 hE dX3_look_299 rfl 0 rfl ?_
          refine x_gR 303 hE (xw_lk0 hE xkf_CrossingWords_Reader_9) rfl dX3_look_300 rfl (fun v13 => ?_)
          refine x_aload_n 304 hE dX3_look_303 rfl 0 rfl ?_
          refine x_gI 307 hE (xw_lk0 hE xkf_CrossingWords_Reader_22) rfl dX3_look_304 rfl (fun v14 => ?_)
          refine x_ldB 308 hE dX3_look_307 rfl (fun v15 => ?_)
          refine x_i2l 309 hE dX3_look_308 rfl ?_
          refine x_pJ 312 hE (xw_pkN (xw_lk0 hE xkf_CrossingWords_Reader_28) rfl) ⟨rfl, rfl⟩ dX3_look_309 rfl ?_
          refine x_aload_n 313 hE dX3_look_312 rfl 0 rfl ?_
          refine x_dup 314 hE dX3_look_313 rfl rfl ?_
          refine x_gI 317 hE (xw_lk0 hE xkf_CrossingWords_Reader_25) rfl dX3_look_314 rfl (fun v16 => ?_)
          refine x_iconst 318 hE dX3_look_317 rfl xc_i_1 ?_
          refine x_iadd 319 hE dX3_look_318 rfl ?_
          refine x_pI 322 hE (xw_pkN (xw_lk0 hE xkf_CrossingWords_Reader_25) rfl) ⟨rfl, rfl⟩ dX3_look_319 rfl ?_
          exact x_vret hE dX3_look_322
        · refine x_aload_n 202 hE dX3_look_201 rfl 0 rfl ?_
          refine x_iconst 203 hE dX3_look_202 rfl xc_i_2 ?_
          refine x_pI 206 hE (xw_pkN (xw_lk0 hE xkf_CrossingWords_Reader_32) rfl) ⟨rfl, rfl⟩ dX3_look_203 rfl ?_
          refine x_sub [(0, va_rf (some v1))] [0] rfl ?_
          refine x_sq 270 (fun (v18 : Unit) => [(0, va_rf (some v1))]) (fun _ => []) (fun v18 => ?_) (fun J4 hJ4 => ?_)
          · refine x_aload_n 271 hE dX3_look_270 rfl 0 rfl ?_
            refine x_gI 274 hE (xw_lk0 hE xkf_CrossingWords_Reader_25) rfl dX3_look_271 rfl (fun v19 => ?_)
            refine x_aload_n 275 hE dX3_look_274 rfl 0 rfl ?_
            refine x_gI 278 hE (xw_lk0 hE xkf_CrossingWords_Reader_22) rfl dX3_look_275 rfl (fun v20 => ?_)
            refine x_isub 279 hE dX3_look_278 rfl ?_
            refine x_iconst 280 hE dX3_look_279 rfl xc_i_4 ?_
            refine x_icmp_le 322 283 hE dX3_look_280 (by decide) rfl ?_ ?_
            · exact x_vret hE dX3_look_322
            · refine x_aload_n 284 hE dX3_look_283 rfl 0 rfl ?_
              refine x_ldc2 287 hE q264 dX3_look_284 rfl ?_
              refine x_pJ 290 hE (xw_pkN (xw_lk0 hE xkf_CrossingWords_Reader_28) rfl) ⟨rfl, rfl⟩ dX3_look_287 rfl ?_
              refine x_goto 322 hE dX3_look_290 (by decide) ?_
              exact x_vret hE dX3_look_322
          · refine x_loop (fun (v17 : Unit) => [(0, va_rf (some v1))]) (fun JL3 hc3 hx3 v17 => ?_) _ _
            refine x_aload_n 207 hE dX3_look_206 rfl 0 rfl ?_
            refine x_aload_n 208 hE dX3_look_207 rfl 0 rfl ?_
            refine x_gI 211 hE (xw_lk0 hE xkf_CrossingWords_Reader_25) rfl dX3_look_208 rfl (fun v21 => ?_)
            refine x_calli 214 (xw_goD hE (fun v23 hq => (List.forall_mem_cons.mpr ⟨⟨Nat.le_of_ble_eq_true rfl, xw_rP hE (ct_X3_isDigit v23 v21) xd_X3_isDigit q265 q267 (List.mem_of_getElem? (i := 4) rfl) q98 q268 rfl ⟨Nat.le_of_ble_eq_true rfl, Nat.le_of_ble_eq_true rfl⟩ (congrArg va_rf hq) rfl (by decide) dX3_look_211⟩, (List.forall_mem_cons.mpr ⟨⟨Nat.le_of_ble_eq_true rfl, xw_rP hE (ct_X3_isDigit v23 v21) xd_X3_isDigit q265 q267 (List.mem_of_getElem? (i := 5) rfl) q98 q268 rfl ⟨Nat.le_of_ble_eq_true rfl, Nat.le_of_ble_eq_true rfl⟩ (congrArg va_rf hq) rfl (by decide) dX3_look_211⟩, (fun _ h => absurd h List.not_mem_nil)⟩)⟩))) rfl (fun v22 => ?_)
            refine x_if_eq 270 217 hE dX3_look_214 (by decide) rfl ?_ ?_
            · refine x_sub [(0, va_rf (some v1))] [0] rfl ?_
              refine hx3 _ _ _ _ ?_
              exact hJ4 ()
            · refine x_aload_n 218 hE dX3_look_217 rfl 0 rfl ?_
              refine x_gI 221 hE (xw_lk0 hE xkf_CrossingWords_Reader_25) rfl dX3_look_218 rfl (fun v24 => ?_)
              refine x_aload_n 222 hE dX3_look_221 rfl 0 rfl ?_
              refine x_gI 225 hE (xw_lk0 hE xkf_CrossingWords_Reader_22) rfl dX3_look_222 rfl (fun v25 => ?_)
              refine x_isub 226 hE dX3_look_225 rfl ?_
              refine x_iconst 227 hE dX3_look_226 rfl xc_i_4 ?_
              refine x_sq 257 (fun (v26 : Unit) => [(0, va_rf (some v1))]) (fun (v26 : Unit) => []) (fun v26 => ?_) (fun J5 hJ5 => ?_)
              · refine x_aload_n 258 hE dX3_look_257 rfl 0 rfl ?_
                refine x_dup 259 hE dX3_look_258 rfl rfl ?_
                refine x_gI 262 hE (xw_lk0 hE xkf_CrossingWords_Reader_25) rfl dX3_look_259 rfl (fun v27 => ?_)
                refine x_iconst 263 hE dX3_look_262 rfl xc_i_1 ?_
                refine x_iadd 264 hE dX3_look_263 rfl ?_
                refine x_pI 267 hE (xw_pkN (xw_lk0 hE xkf_CrossingWords_Reader_25) rfl) ⟨rfl, rfl⟩ dX3_look_264 rfl ?_
                refine x_goto 206 hE dX3_look_267 (by decide) ?_
                refine x_sub [(0, va_rf (some v1))] [0] rfl ?_
                exact hc3 ()
              · refine x_icmp_ge 257 230 hE dX3_look_227 (by decide) rfl ?_ ?_
                · refine x_sub [(0, va_rf (some v1))] [0] rfl ?_
                  exact hJ5 ()
                · refine x_aload_n 231 hE dX3_look_230 rfl 0 rfl ?_
                  refine x_ldc2 234 hE q269 dX3_look_231 rfl ?_
                  refine x_aload_n 235 hE dX3_look_234 rfl 0 rfl ?_
                  refine x_gJ 238 hE (xw_lk0 hE xkf_CrossingWords_Reader_28) rfl dX3_look_235 rfl (fun v28 => ?_)
                  refine x_lmul 239 hE dX3_look_238 rfl ?_
                  refine x_aload_n 240 hE dX3_look_239 rfl 0 rfl ?_
                  refine x_gR 243 hE (xw_lk0 hE xkf_CrossingWords_Reader_9) rfl dX3_look_240 rfl (fun v29 => ?_)
                  refine x_aload_n 244 hE dX3_look_243 rfl 0 rfl ?_
                  refine x_gI 247 hE (xw_lk0 hE xkf_CrossingWords_Reader_25) rfl dX3_look_244 rfl (fun v30 => ?_)
                  refine x_ldB 248 hE dX3_look_247 rfl (fun v31 => ?_)
                  refine x_i2l 249 hE dX3_look_248 rfl ?_
                  refine x_ladd 250 hE dX3_look_249 rfl ?_
                  refine x_ldc2 253 hE q270 dX3_look_250 rfl ?_
                  refine x_lsub 254 hE dX3_look_253 rfl ?_
                  refine x_pJ 257 hE (xw_pkN (xw_lk0 hE xkf_CrossingWords_Reader_28) rfl) ⟨rfl, rfl⟩ dX3_look_254 rfl ?_
                  refine x_sub [(0, va_rf (some v1))] [0] rfl ?_
                  exact hJ5 ()
      · refine x_aload_n 96 hE dX3_look_95 rfl 0 rfl ?_
        refine x_iconst 97 hE dX3_look_96 rfl xc_i_1 ?_
        refine x_pI 100 hE (xw_pkN (xw_lk0 hE xkf_CrossingWords_Reader_32) rfl) ⟨rfl, rfl⟩ dX3_look_97 rfl ?_
        refine x_sub [(0, va_rf (some v1))] [0] rfl ?_
        refine x_sq 166 (fun (v33 : Unit) => [(0, va_rf (some v1))]) (fun _ => []) (fun v33 => ?_) (fun J7 hJ7 => ?_)
        · refine x_aload_n 167 hE dX3_look_166 rfl 0 rfl ?_
          refine x_gI 170 hE (xw_lk0 hE xkf_CrossingWords_Reader_25) rfl dX3_look_167 rfl (fun v34 => ?_)
          refine x_aload_n 171 hE dX3_look_170 rfl 0 rfl ?_
          refine x_gI 174 hE (xw_lk0 hE xkf_CrossingWords_Reader_22) rfl dX3_look_171 rfl (fun v35 => ?_)
          refine x_isub 175 hE dX3_look_174 rfl ?_
          refine x_bipush 177 hE dX3_look_175 rfl xc_b_7 ?_
          refine x_icmp_le 322 180 hE dX3_look_177 (by decide) rfl ?_ ?_
          · exact x_vret hE dX3_look_322
          · refine x_aload_n 181 hE dX3_look_180 rfl 0 rfl ?_
            refine x_ldc2 184 hE q264 dX3_look_181 rfl ?_
            refine x_pJ 187 hE (xw_pkN (xw_lk0 hE xkf_CrossingWords_Reader_28) rfl) ⟨rfl, rfl⟩ dX3_look_184 rfl ?_
            refine x_goto 322 hE dX3_look_187 (by decide) ?_
            exact x_vret hE dX3_look_322
        · refine x_loop (fun (v32 : Unit) => [(0, va_rf (some v1))]) (fun JL6 hc6 hx6 v32 => ?_) _ _
          refine x_aload_n 101 hE dX3_look_100 rfl 0 rfl ?_
          refine x_aload_n 102 hE dX3_look_101 rfl 0 rfl ?_
          refine x_gI 105 hE (xw_lk0 hE xkf_CrossingWords_Reader_25) rfl dX3_look_102 rfl (fun v36 => ?_)
          refine x_calli 108 (xw_goD hE (fun v38 hq => (List.forall_mem_cons.mpr ⟨⟨Nat.le_of_ble_eq_true rfl, xw_rP hE (ct_X3_isLetter v38 v36) xd_X3_isLetter q260 q262 (List.mem_of_getElem? (i := 2) rfl) q98 q263 rfl ⟨Nat.le_of_ble_eq_true rfl, Nat.le_of_ble_eq_true rfl⟩ (congrArg va_rf hq) rfl (by decide) dX3_look_105⟩, (List.forall_mem_cons.mpr ⟨⟨Nat.le_of_ble_eq_true rfl, xw_rP hE (ct_X3_isLetter v38 v36) xd_X3_isLetter q260 q262 (List.mem_of_getElem? (i := 3) rfl) q98 q263 rfl ⟨Nat.le_of_ble_eq_true rfl, Nat.le_of_ble_eq_true rfl⟩ (congrArg va_rf hq) rfl (by decide) dX3_look_105⟩, (fun _ h => absurd h List.not_mem_nil)⟩)⟩))) rfl (fun v37 => ?_)
          refine x_if_eq 166 111 hE dX3_look_108 (by decide) rfl ?_ ?_
          · refine x_sub [(0, va_rf (some v1))] [0] rfl ?_
            refine hx6 _ _ _ _ ?_
            exact hJ7 ()
          · refine x_aload_n 112 hE dX3_look_111 rfl 0 rfl ?_
            refine x_aload_n 113 hE dX3_look_112 rfl 0 rfl ?_
            refine x_gI 116 hE (xw_lk0 hE xkf_CrossingWords_Reader_25) rfl dX3_look_113 rfl (fun v39 => ?_)
            refine x_aload_n 117 hE dX3_look_116 rfl 0 rfl ?_
            refine x_gI 120 hE (xw_lk0 hE xkf_CrossingWords_Reader_22) rfl dX3_look_117 rfl (fun v40 => ?_)
            refine x_isub 121 hE dX3_look_120 rfl ?_
            refine x_bipush 123 hE dX3_look_121 rfl xc_b_7 ?_
            refine x_sq 150 (fun (v41 : Int64) => [(0, va_rf (some v1))]) (fun (v41 : Int64) => [.long v41, va_rf (some v1)]) (fun v41 => ?_) (fun J8 hJ8 => ?_)
            · refine x_pJ 153 hE (xw_pkN (xw_lk0 hE xkf_CrossingWords_Reader_28) rfl) ⟨rfl, rfl⟩ dX3_look_150 rfl ?_
              refine x_aload_n 154 hE dX3_look_153 rfl 0 rfl ?_
              refine x_dup 155 hE dX3_look_154 rfl rfl ?_
              refine x_gI 158 hE (xw_lk0 hE xkf_CrossingWords_Reader_25) rfl dX3_look_155 rfl (fun v42 => ?_)
              refine x_iconst 159 hE dX3_look_158 rfl xc_i_1 ?_
              refine x_iadd 160 hE dX3_look_159 rfl ?_
              refine x_pI 163 hE (xw_pkN (xw_lk0 hE xkf_CrossingWords_Reader_25) rfl) ⟨rfl, rfl⟩ dX3_look_160 rfl ?_
              refine x_goto 100 hE dX3_look_163 (by decide) ?_
              refine x_sub [(0, va_rf (some v1))] [0] rfl ?_
              exact hc6 ()
            · refine x_icmp_ge 147 126 hE dX3_look_123 (by decide) rfl ?_ ?_
              · refine x_ldc2 150 hE q264 dX3_look_147 rfl ?_
                refine x_sub [(0, va_rf (some v1))] [0] rfl ?_
                exact hJ8 (-1)
              · refine x_aload_n 127 hE dX3_look_126 rfl 0 rfl ?_
                refine x_gJ 130 hE (xw_lk0 hE xkf_CrossingWords_Reader_28) rfl dX3_look_127 rfl (fun v43 => ?_)
                refine x_bipush 132 hE dX3_look_130 rfl xc_b_8 ?_
                refine x_lshl 133 hE dX3_look_132 rfl ?_
                refine x_aload_n 134 hE dX3_look_133 rfl 0 rfl ?_
                refine x_gR 137 hE (xw_lk0 hE xkf_CrossingWords_Reader_9) rfl dX3_look_134 rfl (fun v44 => ?_)
                refine x_aload_n 138 hE dX3_look_137 rfl 0 rfl ?_
                refine x_gI 141 hE (xw_lk0 hE xkf_CrossingWords_Reader_25) rfl dX3_look_138 rfl (fun v45 => ?_)
                refine x_ldB 142 hE dX3_look_141 rfl (fun v46 => ?_)
                refine x_i2l 143 hE dX3_look_142 rfl ?_
                refine x_lor 144 hE dX3_look_143 rfl ?_
                refine x_goto 150 hE dX3_look_144 (by decide) ?_
                refine x_sub [(0, va_rf (some v1))] [0] rfl ?_
                exact hJ8 ((v43 <<< ((8 : Int32).toInt64 &&& 63)) ||| ((v46 : Int32).toInt64))
  · refine x_loop (fun (v2 : Unit) => [(0, va_rf (some v1))]) (fun JL1 hc1 hx1 v2 => ?_) _ _
    refine x_aload_n 1 hE dX3_look_0 rfl 0 rfl ?_
    refine x_gI 4 hE (xw_lk0 hE xkf_CrossingWords_Reader_22) rfl dX3_look_1 rfl (fun v47 => ?_)
    refine x_aload_n 5 hE dX3_look_4 rfl 0 rfl ?_
    refine x_gI 8 hE (xw_lk0 hE xkf_CrossingWords_Reader_15) rfl dX3_look_5 rfl (fun v48 => ?_)
    refine x_icmp_ge 52 11 hE dX3_look_8 (by decide) rfl ?_ ?_
    · refine x_sub [(0, va_rf (some v1))] [0] rfl ?_
      refine hx1 _ _ _ _ ?_
      exact hJ2 ()
    · refine x_aload_n 12 hE dX3_look_11 rfl 0 rfl ?_
      refine x_gR 15 hE (xw_lk0 hE xkf_CrossingWords_Reader_9) rfl dX3_look_12 rfl (fun v49 => ?_)
      refine x_aload_n 16 hE dX3_look_15 rfl 0 rfl ?_
      refine x_gI 19 hE (xw_lk0 hE xkf_CrossingWords_Reader_22) rfl dX3_look_16 rfl (fun v50 => ?_)
      refine x_ldB 20 hE dX3_look_19 rfl (fun v51 => ?_)
      refine x_bipush 22 hE dX3_look_20 rfl xc_b_32 ?_
      refine x_jn 39 (fun (v52 : Unit) => [(0, va_rf (some v1))]) (fun (v52 : Unit) => []) (fun v52 => ?_) (fun J9 hJ9 => ?_)
      · refine x_aload_n 40 hE dX3_look_39 rfl 0 rfl ?_
        refine x_dup 41 hE dX3_look_40 rfl rfl ?_
        refine x_gI 44 hE (xw_lk0 hE xkf_CrossingWords_Reader_22) rfl dX3_look_41 rfl (fun v53 => ?_)
        refine x_iconst 45 hE dX3_look_44 rfl xc_i_1 ?_
        refine x_iadd 46 hE dX3_look_45 rfl ?_
        refine x_pI 49 hE (xw_pkN (xw_lk0 hE xkf_CrossingWords_Reader_22) rfl) ⟨rfl, rfl⟩ dX3_look_46 rfl ?_
        refine x_goto 0 hE dX3_look_49 (by decide) ?_
        refine x_sub [(0, va_rf (some v1))] [0] rfl ?_
        exact hc1 ()
      · refine x_icmp_eq 39 25 hE dX3_look_22 (by decide) rfl ?_ ?_
        · refine x_sub [(0, va_rf (some v1))] [0] rfl ?_
          exact hJ9 ()
        · refine x_aload_n 26 hE dX3_look_25 rfl 0 rfl ?_
          refine x_gR 29 hE (xw_lk0 hE xkf_CrossingWords_Reader_9) rfl dX3_look_26 rfl (fun v54 => ?_)
          refine x_aload_n 30 hE dX3_look_29 rfl 0 rfl ?_
          refine x_gI 33 hE (xw_lk0 hE xkf_CrossingWords_Reader_22) rfl dX3_look_30 rfl (fun v55 => ?_)
          refine x_ldB 34 hE dX3_look_33 rfl (fun v56 => ?_)
          refine x_bipush 36 hE dX3_look_34 rfl xc_b_10 ?_
          refine x_icmp_ne 52 39 hE dX3_look_36 (by decide) rfl ?_ ?_
          · refine x_sub [(0, va_rf (some v1))] [0] rfl ?_
            exact hJ9 ()
          · refine x_sub [(0, va_rf (some v1))] [0] rfl ?_
            refine hx1 _ _ _ _ ?_
            exact hJ2 ()

set_option maxHeartbeats 4000000 in
theorem ct_X3_pass {l : Launch} {G : xw_G} {μ : xw_Mu} (v1 : Nat) : xw_Ct l G (xw_hc G μ) xw_ov yX3_pass cX3_pass 1 none 3 [va_rf (some v1)] (pg_X3_pass v1) := by
  refine xw_metL [(0, va_rf (some v1))] (by decide) (Nat.le_trans (Nat.le_of_eq ((xw_l1 rfl).trans (congrArg (1 + ·) xw_l0))) (by decide)) ((xw_a1 rfl).trans (congrArg (List.cons _) xw_a0)) (fun E hE hl hG hm => ?_)
  subst hl; subst hG
  have hE : xw_ok E "CrossingWords$Reader" cX3_pass 1 none 3 := hE
  unfold pg_X3_pass
  refine x_aload_n 1 hE dX3_pass_0 rfl 0 rfl ?_
  refine x_aload_n 2 hE dX3_pass_1 rfl 0 rfl ?_
  refine x_gI 5 hE (xw_lk0 hE xkf_CrossingWords_Reader_25) rfl dX3_pass_2 rfl (fun v2 => ?_)
  refine x_pI 8 hE (xw_pkN (xw_lk0 hE xkf_CrossingWords_Reader_22) rfl) ⟨rfl, rfl⟩ dX3_pass_5 rfl ?_
  refine x_aload_n 9 hE dX3_pass_8 rfl 0 rfl ?_
  refine x_callv 12 (xw_goD hE (fun v3 hq => (List.forall_mem_cons.mpr ⟨⟨Nat.le_of_ble_eq_true rfl, xw_rP hE (ct_X3_look v3) xd_X3_look q256 q258 (List.mem_of_getElem? (i := 0) rfl) q98 q259 rfl ⟨Nat.le_of_ble_eq_true rfl, Nat.le_of_ble_eq_true rfl⟩ (congrArg va_rf hq) rfl (by decide) dX3_pass_9⟩, (List.forall_mem_cons.mpr ⟨⟨Nat.le_of_ble_eq_true rfl, xw_rP hE (ct_X3_look v3) xd_X3_look q256 q258 (List.mem_of_getElem? (i := 1) rfl) q98 q259 rfl ⟨Nat.le_of_ble_eq_true rfl, Nat.le_of_ble_eq_true rfl⟩ (congrArg va_rf hq) rfl (by decide) dX3_pass_9⟩, (fun _ h => absurd h List.not_mem_nil)⟩)⟩))) rfl ?_
  exact x_vret hE dX3_pass_12

set_option maxHeartbeats 4000000 in
theorem ct_X3_maybe {l : Launch} {G : xw_G} {μ : xw_Mu} (v1 : Nat) (v2 : Option Nat) : xw_Ct l G (xw_hc G μ) xw_oi yX3_maybe cX3_maybe 3 (some (.int)) 4 [va_rf (some v1), va_rf v2] (pg_X3_maybe v1 v2) := by
  refine xw_metL [(0, va_rf (some v1)), (1, va_rf v2)] (by decide) (Nat.le_trans (Nat.le_of_eq ((xw_l1 rfl).trans (congrArg (1 + ·) ((xw_l1 (x_rfc _)).trans (congrArg (1 + ·) xw_l0))))) (by decide)) ((xw_a1 rfl).trans (congrArg (List.cons _) ((xw_a1 (x_rfc _)).trans (congrArg (List.cons _) xw_a0)))) (fun E hE hl hG hm => ?_)
  subst hl; subst hG
  have hE : xw_ok E "CrossingWords$Reader" cX3_maybe 3 (some (.int)) 4 := hE
  unfold pg_X3_maybe
  refine x_aload_n 1 hE dX3_maybe_0 rfl 0 rfl ?_
  refine x_gI 4 hE (xw_lk0 hE xkf_CrossingWords_Reader_48) rfl dX3_maybe_1 rfl (fun v3 => ?_)
  refine x_sq 27 (fun (v4 : Int32) => [(0, va_rf (some v1))]) (fun (v4 : Int32) => [.int v4]) (fun v4 => ?_) (fun J1 hJ1 => ?_)
  · refine x_istore_n 28 [(2, .int v4), (0, va_rf (some v1))] hE dX3_maybe_27 rfl rfl (Nat.le_of_ble_eq_true rfl) rfl ?_
    refine x_iload_n 29 hE dX3_maybe_28 rfl 0 rfl ?_
    refine x_iconst 30 hE dX3_maybe_29 rfl xc_i_m1 ?_
    refine x_icmp_eq 37 33 hE dX3_maybe_30 (by decide) rfl ?_ ?_
    · refine x_iload_n 38 hE dX3_maybe_37 rfl 0 rfl ?_
      exact x_iret hE dX3_maybe_38
    · refine x_aload_n 34 hE dX3_maybe_33 rfl 1 rfl ?_
      refine x_callv 37 (xw_goD hE (fun v5 hq => (List.forall_mem_cons.mpr ⟨⟨Nat.le_of_ble_eq_true rfl, xw_rU (owner := "CrossingWords$Reader") (x := ⟨"CrossingWords$Reader", "pass", "()V"⟩) hE (ct_X3_pass v5) xD_CrossingWords_Reader_pass___V (Or.inl (Or.inl rfl)) q412 q414 q415 q413 q98 q417 rfl ⟨Nat.le_of_ble_eq_true rfl, Nat.le_of_ble_eq_true rfl⟩ (congrArg va_rf hq) rfl (by decide) dX3_maybe_34⟩, (List.forall_mem_cons.mpr ⟨⟨Nat.le_of_ble_eq_true rfl, xw_rU (owner := "CrossingWords$Reader") (x := ⟨"CrossingWords$Reader", "pass", "()V"⟩) hE (ct_X3_pass v5) xD_CrossingWords_Reader_pass___V (Or.inl (Or.inl rfl)) q412 q414 q416 q413 q98 q417 rfl ⟨Nat.le_of_ble_eq_true rfl, Nat.le_of_ble_eq_true rfl⟩ (congrArg va_rf hq) rfl (by decide) dX3_maybe_34⟩, (fun _ h => absurd h List.not_mem_nil)⟩)⟩))) rfl ?_
      refine x_iload_n 38 hE dX3_maybe_37 rfl 0 rfl ?_
      exact x_iret hE dX3_maybe_38
  · refine x_if_ne 26 7 hE dX3_maybe_4 (by decide) rfl ?_ ?_
    · refine x_aload_n 8 hE dX3_maybe_7 rfl 0 rfl ?_
      refine x_gI 11 hE (xw_lk0 hE xkf_CrossingWords_Reader_32) rfl dX3_maybe_8 rfl (fun v6 => ?_)
      refine x_iconst 12 hE dX3_maybe_11 rfl xc_i_1 ?_
      refine x_icmp_ne 26 15 hE dX3_maybe_12 (by decide) rfl ?_ ?_
      · refine x_aload_n 16 hE dX3_maybe_15 rfl 1 rfl ?_
        refine x_aload_n 17 hE dX3_maybe_16 rfl 0 rfl ?_
        refine x_gJ 20 hE (xw_lk0 hE xkf_CrossingWords_Reader_28) rfl dX3_maybe_17 rfl (fun v7 => ?_)
        refine x_calli 23 (xw_goSN hE (ct_X0_find v2 v7) xd_X0_find xkm_CrossingWords_Reader_59 q410 q95 q411 rfl ⟨Nat.le_of_ble_eq_true rfl, Nat.le_of_ble_eq_true rfl⟩ rfl (by decide) dX3_maybe_20) rfl (fun v8 => ?_)
        refine x_goto 27 hE dX3_maybe_23 (by decide) ?_
        refine x_sub [(0, va_rf (some v1))] [0] rfl ?_
        exact hJ1 v8
      · refine x_iconst 27 hE dX3_maybe_26 rfl xc_i_m1 ?_
        refine x_sub [(0, va_rf (some v1))] [0] rfl ?_
        exact hJ1 (-1)
    · refine x_iconst 27 hE dX3_maybe_26 rfl xc_i_m1 ?_
      refine x_sub [(0, va_rf (some v1))] [0] rfl ?_
      exact hJ1 (-1)

set_option maxHeartbeats 4000000 in
theorem ct_X3_number {l : Launch} {G : xw_G} {μ : xw_Mu} (v1 : Nat) (v2 : Int32) (v3 : Int32) : xw_Ct l G (xw_hc G μ) xw_oi yX3_number cX3_number 4 (some (.int)) 4 [va_rf (some v1), .int v2, .int v3] (pg_X3_number v1 v2 v3) := by
  refine xw_metL [(0, va_rf (some v1)), (1, .int v2), (2, .int v3)] (by decide) (Nat.le_trans (Nat.le_of_eq ((xw_l1 rfl).trans (congrArg (1 + ·) ((xw_l1 rfl).trans (congrArg (1 + ·) ((xw_l1 rfl).trans (congrArg (1 + ·) xw_l0))))))) (by decide)) ((xw_a1 rfl).trans (congrArg (List.cons _) ((xw_a1 rfl).trans (congrArg (List.cons _) ((xw_a1 rfl).trans (congrArg (List.cons _) xw_a0)))))) (fun E hE hl hG hm => ?_)
  subst hl; subst hG
  have hE : xw_ok E "CrossingWords$Reader" cX3_number 4 (some (.int)) 4 := hE
  unfold pg_X3_number
  refine x_aload_n 1 hE dX3_number_0 rfl 0 rfl ?_
  refine x_gI 4 hE (xw_lk0 hE xkf_CrossingWords_Reader_48) rfl dX3_number_1 rfl (fun v4 => ?_)
  refine x_jn 28 (fun (v5 : Unit) => [(0, va_rf (some v1)), (1, .int v2)]) (fun (v5 : Unit) => []) (fun v5 => ?_) (fun J1 hJ1 => ?_)
  · refine x_aload_n 29 hE dX3_number_28 rfl 0 rfl ?_
    refine x_iconst 30 hE dX3_number_29 rfl xc_i_1 ?_
    refine x_pZ 33 hE (xw_pkN (xw_lk0 hE xkf_CrossingWords_Reader_48) rfl) ⟨rfl, rfl⟩ dX3_number_30 rfl ?_
    refine x_iload_n 34 hE dX3_number_33 rfl 1 rfl ?_
    exact x_iret hE dX3_number_34
  · refine x_if_ne 28 7 hE dX3_number_4 (by decide) rfl ?_ ?_
    · refine x_aload_n 8 hE dX3_number_7 rfl 0 rfl ?_
      refine x_gI 11 hE (xw_lk0 hE xkf_CrossingWords_Reader_32) rfl dX3_number_8 rfl (fun v6 => ?_)
      refine x_iconst 12 hE dX3_number_11 rfl xc_i_2 ?_
      refine x_icmp_ne 28 15 hE dX3_number_12 (by decide) rfl ?_ ?_
      · refine x_aload_n 16 hE dX3_number_15 rfl 0 rfl ?_
        refine x_gJ 19 hE (xw_lk0 hE xkf_CrossingWords_Reader_28) rfl dX3_number_16 rfl (fun v7 => ?_)
        refine x_l2i 20 hE dX3_number_19 rfl ?_
        refine x_iload_n 21 hE dX3_number_20 rfl 1 rfl ?_
        refine x_iload_n 22 hE dX3_number_21 rfl 2 rfl ?_
        refine x_calli 25 (xw_goSN hE (ct_X0_isIn ((v7 : Int64).toInt32) v2 v3) xd_X0_isIn xkm_CrossingWords_Reader_55 q245 q95 q246 rfl ⟨Nat.le_of_ble_eq_true rfl, Nat.le_of_ble_eq_true rfl⟩ rfl (by decide) dX3_number_22) rfl (fun v8 => ?_)
        refine x_if_ne 35 28 hE dX3_number_25 (by decide) rfl ?_ ?_
        · refine x_sub [(0, va_rf (some v1)), (1, .int v2)] [0, 1] rfl ?_
          exact hJ1 ()
        · refine x_aload_n 36 hE dX3_number_35 rfl 0 rfl ?_
          refine x_gJ 39 hE (xw_lk0 hE xkf_CrossingWords_Reader_28) rfl dX3_number_36 rfl (fun v9 => ?_)
          refine x_l2i 40 hE dX3_number_39 rfl ?_
          refine x_lti (fun v10 => ?_)
          refine x_istore_n 41 [(3, .int v10), (0, va_rf (some v1)), (1, .int v2), (2, .int v3)] hE dX3_number_40 rfl rfl (Nat.le_of_ble_eq_true rfl) rfl ?_
          refine x_aload_n 42 hE dX3_number_41 rfl 1 rfl ?_
          refine x_callv 45 (xw_goD hE (fun v11 hq => (List.forall_mem_cons.mpr ⟨⟨Nat.le_of_ble_eq_true rfl, xw_rU (owner := "CrossingWords$Reader") (x := ⟨"CrossingWords$Reader", "pass", "()V"⟩) hE (ct_X3_pass v11) xD_CrossingWords_Reader_pass___V (Or.inl (Or.inl rfl)) q412 q414 q415 q413 q98 q417 rfl ⟨Nat.le_of_ble_eq_true rfl, Nat.le_of_ble_eq_true rfl⟩ (congrArg va_rf hq) rfl (by decide) dX3_number_42⟩, (List.forall_mem_cons.mpr ⟨⟨Nat.le_of_ble_eq_true rfl, xw_rU (owner := "CrossingWords$Reader") (x := ⟨"CrossingWords$Reader", "pass", "()V"⟩) hE (ct_X3_pass v11) xD_CrossingWords_Reader_pass___V (Or.inl (Or.inl rfl)) q412 q414 q416 q413 q98 q417 rfl ⟨Nat.le_of_ble_eq_true rfl, Nat.le_of_ble_eq_true rfl⟩ (congrArg va_rf hq) rfl (by decide) dX3_number_42⟩, (fun _ h => absurd h List.not_mem_nil)⟩)⟩))) rfl ?_
          refine x_iload_n 46 hE dX3_number_45 rfl 0 rfl ?_
          exact x_iret hE dX3_number_46
      · refine x_sub [(0, va_rf (some v1)), (1, .int v2)] [0, 1] rfl ?_
        exact hJ1 ()
    · refine x_sub [(0, va_rf (some v1)), (1, .int v2)] [0, 1] rfl ?_
      exact hJ1 ()
