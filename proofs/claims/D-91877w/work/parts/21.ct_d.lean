set_option maxRecDepth 100000
/-! the walks: printed by wip/D-91877w/gen/gen2.py -/
set_option maxHeartbeats 4000000 in
theorem ct_X2_within {l : Launch} {G : xw_G} {σ0 : xw_St} (v1 : Int32) (v2 : Int32) (v3 : Int32) : xw_Ct l G (xw_hr G σ0) xw_oi yX2_within cX2_within 3 (some (.boolean)) 1 [.int v1, .int v2, .int v3] (pg_X2_within v1 v2 v3) := by
  refine xw_metL [(0, .int v1), (1, .int v2), (2, .int v3)] (by decide) (Nat.le_trans (Nat.le_of_eq ((xw_l1 rfl).trans (congrArg (1 + ·) ((xw_l1 rfl).trans (congrArg (1 + ·) ((xw_l1 rfl).trans (congrArg (1 + ·) xw_l0))))))) (by decide)) ((xw_a1 rfl).trans (congrArg (List.cons _) ((xw_a1 rfl).trans (congrArg (List.cons _) ((xw_a1 rfl).trans (congrArg (List.cons _) xw_a0)))))) (fun E hE hl hG hm => ?_)
  subst hl; subst hG
  have hE : xw_ok E "CrossingWordsModel" cX2_within 3 (some (.boolean)) 1 := hE
  unfold pg_X2_within
  refine x_iload_n 1 hE dX2_within_0 rfl 0 rfl ?_
  refine x_iload_n 2 hE dX2_within_1 rfl 1 rfl ?_
  refine x_icmp_lt 14 5 hE dX2_within_2 (by decide) rfl ?_ ?_
  · refine x_iconst 15 hE dX2_within_14 rfl xc_i_0 ?_
    exact x_zretw hE (by decide) dX2_within_15
  · refine x_iload_n 6 hE dX2_within_5 rfl 0 rfl ?_
    refine x_iload_n 7 hE dX2_within_6 rfl 2 rfl ?_
    refine x_icmp_gt 14 10 hE dX2_within_7 (by decide) rfl ?_ ?_
    · refine x_iconst 15 hE dX2_within_14 rfl xc_i_0 ?_
      exact x_zretw hE (by decide) dX2_within_15
    · refine x_iconst 11 hE dX2_within_10 rfl xc_i_1 ?_
      refine x_goto 15 hE dX2_within_11 (by decide) ?_
      exact x_zretw hE (by decide) dX2_within_15

set_option maxHeartbeats 4000000 in
theorem ct_X2_feed {l : Launch} {G : xw_G} {σ0 : xw_St} (hac : xw_ac G = true) (v1 : Int32) (v2 : Int32) (v3 : Int32) (v4 : Int32) (v5 : Int32) : xw_Ct l G (xw_hr G σ0) xw_oi yX2_feed cX2_feed 8 (some (.int)) 1 [va_rf (some (xw_hm G)), .int v1, .int v2, .int v3, .int v4, .int v5] (pg_X2_feed v1 v2 v3 v4 v5) := by
  refine xw_metL [(0, va_rf (some (xw_hm G))), (1, .int v1), (2, .int v2), (3, .int v3), (4, .int v4), (5, .int v5)] (by decide) (Nat.le_trans (Nat.le_of_eq ((xw_l1 rfl).trans (congrArg (1 + ·) ((xw_l1 rfl).trans (congrArg (1 + ·) ((xw_l1 rfl).trans (congrArg (1 + ·) ((xw_l1 rfl).trans (congrArg (1 + ·) ((xw_l1 rfl).trans (congrArg (1 + ·) ((xw_l1 rfl).trans (congrArg (1 + ·) xw_l0))))))))))))) (by decide)) ((xw_a1 rfl).trans (congrArg (List.cons _) ((xw_a1 rfl).trans (congrArg (List.cons _) ((xw_a1 rfl).trans (congrArg (List.cons _) ((xw_a1 rfl).trans (congrArg (List.cons _) ((xw_a1 rfl).trans (congrArg (List.cons _) ((xw_a1 rfl).trans (congrArg (List.cons _) xw_a0)))))))))))) (fun E hE hl hG hm => ?_)
  subst hl; subst hG
  have hE : xw_ok E "CrossingWordsModel" cX2_feed 8 (some (.int)) 1 := hE
  unfold pg_X2_feed
  refine x_aload_n 1 hE dX2_feed_0 rfl 0 rfl ?_
  refine y_g 4 hE hac (by decide) ymf_17 rfl xkf_CrossingWordsModel_148 dX2_feed_1 rfl (fun v6 => ?_)
  refine x_bipush 6 hE dX2_feed_4 rfl xc_b_20 ?_
  refine x_iadd 7 hE dX2_feed_6 rfl ?_
  refine x_sipush 10 hE dX2_feed_7 rfl xc_s_900 ?_
  refine x_icmp_le 15 13 hE dX2_feed_10 (by decide) rfl ?_ ?_
  · refine x_iconst 16 hE dX2_feed_15 rfl xc_i_0 ?_
    refine x_istore 18 [(6, .int 0), (0, va_rf (some (xw_hm (xe_G E)))), (1, .int v1), (2, .int v2), (3, .int v3), (4, .int v4), (5, .int v5)] hE dX2_feed_16 rfl (Nat.le_of_ble_eq_true rfl) rfl ?_
    refine x_sub [(0, va_rf (some (xw_hm (xe_G E)))), (1, .int v1), (2, .int v2), (3, .int v3), (4, .int v4), (5, .int v5), (6, .int 0)] [1, 2, 3, 4, 5, 6, 0] rfl ?_
    refine x_sq 112 (fun (v8 : Unit) => [(0, va_rf (some (xw_hm (xe_G E))))]) (fun _ => []) (fun v8 => ?_) (fun J2 hJ2 => ?_)
    · refine x_aload_n 113 hE dX2_feed_112 rfl 0 rfl ?_
      refine y_g 116 hE hac (by decide) ymf_17 rfl xkf_CrossingWordsModel_148 dX2_feed_113 rfl (fun v9 => ?_)
      exact x_iret hE dX2_feed_116
    · refine x_loop (fun (v7 : Int32) => [(0, va_rf (some (xw_hm (xe_G E)))), (1, .int v1), (2, .int v2), (3, .int v3), (4, .int v4), (5, .int v5), (6, .int v7)]) (fun JL1 hc1 hx1 v7 => ?_) _ _
      refine x_iload 20 hE dX2_feed_18 rfl 6 rfl ?_
      refine x_bipush 22 hE dX2_feed_20 rfl xc_b_20 ?_
      refine x_icmp_ge 112 25 hE dX2_feed_22 (by decide) rfl ?_ ?_
      · refine x_sub [(0, va_rf (some (xw_hm (xe_G E))))] [0] rfl ?_
        refine hx1 _ _ _ _ ?_
        exact hJ2 ()
      · refine x_iload 27 hE dX2_feed_25 rfl 6 rfl ?_
        refine x_iconst 28 hE dX2_feed_27 rfl xc_i_4 ?_
        refine x_sq 71 (fun (v10 : Int32) => [(0, va_rf (some (xw_hm (xe_G E)))), (1, .int v1), (2, .int v2), (3, .int v3), (4, .int v4), (5, .int v5), (6, .int v7)]) (fun (v10 : Int32) => [.int v10]) (fun v10 => ?_) (fun J3 hJ3 => ?_)
        · refine x_istore 73 [(7, .int v10), (0, va_rf (some (xw_hm (xe_G E)))), (1, .int v1), (2, .int v2), (3, .int v3), (4, .int v4), (5, .int v5), (6, .int v7)] hE dX2_feed_71 rfl (Nat.le_of_ble_eq_true rfl) rfl ?_
          refine x_aload_n 74 hE dX2_feed_73 rfl 1 rfl ?_
          refine y_ga 77 hE hac (by decide) ymf_16 rfl xkf_CrossingWordsModel_58 dX2_feed_74 rfl ?_
          refine x_aload_n 78 hE dX2_feed_77 rfl 1 rfl ?_
          refine y_g 81 hE hac (by decide) ymf_17 rfl xkf_CrossingWordsModel_148 dX2_feed_78 rfl (fun v11 => ?_)
          refine x_iload 83 hE dX2_feed_81 rfl 0 rfl ?_
          refine x_bipush 85 hE dX2_feed_83 rfl xc_b_24 ?_
          refine x_bipush 87 hE dX2_feed_85 rfl xc_b_8 ?_
          refine x_iload 89 hE dX2_feed_87 rfl 7 rfl ?_
          refine x_iconst 90 hE dX2_feed_89 rfl xc_i_4 ?_
          refine x_rem 91 hE dX2_feed_90 rfl (fun v12 => ?_)
          refine x_imul 92 hE dX2_feed_91 rfl ?_
          refine x_isub 93 hE dX2_feed_92 rfl ?_
          refine x_ishr 94 hE dX2_feed_93 rfl ?_
          refine x_i2b 95 hE dX2_feed_94 rfl ?_
          refine y_stB 96 hE hac ⟨rfl, rfl⟩ dX2_feed_95 rfl ?_
          refine x_aload_n 97 hE dX2_feed_96 rfl 1 rfl ?_
          refine x_dup 98 hE dX2_feed_97 rfl rfl ?_
          refine y_g 101 hE hac (by decide) ymf_17 rfl xkf_CrossingWordsModel_148 dX2_feed_98 rfl (fun v13 => ?_)
          refine x_iconst 102 hE dX2_feed_101 rfl xc_i_1 ?_
          refine x_iadd 103 hE dX2_feed_102 rfl ?_
          refine y_p 106 hE hac (by decide) ymf_17 (Or.inl ⟨rfl, rfl⟩) rfl xkf_CrossingWordsModel_148 dX2_feed_103 rfl ?_
          refine x_iinc 109 [(6, .int (v7 + 1)), (7, .int v10), (0, va_rf (some (xw_hm (xe_G E)))), (1, .int v1), (2, .int v2), (3, .int v3), (4, .int v4), (5, .int v5)] hE dX2_feed_106 rfl 7 rfl xc_i_1 (Nat.le_of_ble_eq_true rfl) rfl ?_
          refine x_goto 18 hE dX2_feed_109 (by decide) ?_
          refine x_sub [(0, va_rf (some (xw_hm (xe_G E)))), (1, .int v1), (2, .int v2), (3, .int v3), (4, .int v4), (5, .int v5), (6, .int (v7 + 1))] [2, 3, 4, 5, 6, 7, 0] rfl ?_
          exact hc1 (v7 + 1)
        · refine x_icmp_ge 35 31 hE dX2_feed_28 (by decide) rfl ?_ ?_
          · refine x_iload 37 hE dX2_feed_35 rfl 6 rfl ?_
            refine x_bipush 39 hE dX2_feed_37 rfl xc_b_8 ?_
            refine x_icmp_ge 46 42 hE dX2_feed_39 (by decide) rfl ?_ ?_
            · refine x_iload 48 hE dX2_feed_46 rfl 6 rfl ?_
              refine x_bipush 50 hE dX2_feed_48 rfl xc_b_12 ?_
              refine x_icmp_ge 57 53 hE dX2_feed_50 (by decide) rfl ?_ ?_
              · refine x_iload 59 hE dX2_feed_57 rfl 6 rfl ?_
                refine x_bipush 61 hE dX2_feed_59 rfl xc_b_16 ?_
                refine x_icmp_ge 69 64 hE dX2_feed_61 (by decide) rfl ?_ ?_
                · refine x_iload 71 hE dX2_feed_69 rfl 5 rfl ?_
                  refine x_sub [(0, va_rf (some (xw_hm (xe_G E)))), (1, .int v1), (2, .int v2), (3, .int v3), (4, .int v4), (5, .int v5), (6, .int v7)] [0, 1, 2, 3, 4, 5, 6] rfl ?_
                  exact hJ3 v5
                · refine x_iload 66 hE dX2_feed_64 rfl 4 rfl ?_
                  refine x_goto 71 hE dX2_feed_66 (by decide) ?_
                  refine x_sub [(0, va_rf (some (xw_hm (xe_G E)))), (1, .int v1), (2, .int v2), (3, .int v3), (4, .int v4), (5, .int v5), (6, .int v7)] [0, 1, 2, 3, 4, 5, 6] rfl ?_
                  exact hJ3 v4
              · refine x_iload_n 54 hE dX2_feed_53 rfl 3 rfl ?_
                refine x_goto 71 hE dX2_feed_54 (by decide) ?_
                refine x_sub [(0, va_rf (some (xw_hm (xe_G E)))), (1, .int v1), (2, .int v2), (3, .int v3), (4, .int v4), (5, .int v5), (6, .int v7)] [0, 1, 2, 3, 4, 5, 6] rfl ?_
                exact hJ3 v3
            · refine x_iload_n 43 hE dX2_feed_42 rfl 2 rfl ?_
              refine x_goto 71 hE dX2_feed_43 (by decide) ?_
              refine x_sub [(0, va_rf (some (xw_hm (xe_G E)))), (1, .int v1), (2, .int v2), (3, .int v3), (4, .int v4), (5, .int v5), (6, .int v7)] [0, 1, 2, 3, 4, 5, 6] rfl ?_
              exact hJ3 v2
          · refine x_iload_n 32 hE dX2_feed_31 rfl 1 rfl ?_
            refine x_goto 71 hE dX2_feed_32 (by decide) ?_
            refine x_sub [(0, va_rf (some (xw_hm (xe_G E)))), (1, .int v1), (2, .int v2), (3, .int v3), (4, .int v4), (5, .int v5), (6, .int v7)] [0, 1, 2, 3, 4, 5, 6] rfl ?_
            exact hJ3 v1
  · refine x_iconst 14 hE dX2_feed_13 rfl xc_i_m1 ?_
    exact x_iret hE dX2_feed_14

set_option maxHeartbeats 4000000 in
theorem ct_X2_here {l : Launch} {G : xw_G} {σ0 : xw_St} (hac : xw_ac G = true)  : xw_Ct l G (xw_hr G σ0) xw_oi yX2_here cX2_here 1 (some (.int)) 1 [va_rf (some (xw_hm G))] (pg_X2_here) := by
  refine xw_metL [(0, va_rf (some (xw_hm G)))] (by decide) (Nat.le_trans (Nat.le_of_eq ((xw_l1 rfl).trans (congrArg (1 + ·) xw_l0))) (by decide)) ((xw_a1 rfl).trans (congrArg (List.cons _) xw_a0)) (fun E hE hl hG hm => ?_)
  subst hl; subst hG
  have hE : xw_ok E "CrossingWordsModel" cX2_here 1 (some (.int)) 1 := hE
  unfold pg_X2_here
  refine x_aload_n 1 hE dX2_here_0 rfl 0 rfl ?_
  refine y_g 4 hE hac (by decide) ymf_20 rfl xkf_CrossingWordsModel_151 dX2_here_1 rfl (fun v1 => ?_)
  refine x_aload_n 5 hE dX2_here_4 rfl 0 rfl ?_
  refine y_g 8 hE hac (by decide) ymf_19 rfl xkf_CrossingWordsModel_154 dX2_here_5 rfl (fun v2 => ?_)
  refine x_icmp_ge 27 11 hE dX2_here_8 (by decide) rfl ?_ ?_
  · refine x_iconst 28 hE dX2_here_27 rfl xc_i_m1 ?_
    exact x_iret hE dX2_here_28
  · refine x_aload_n 12 hE dX2_here_11 rfl 0 rfl ?_
    refine y_ga 15 hE hac (by decide) ymf_16 rfl xkf_CrossingWordsModel_58 dX2_here_12 rfl ?_
    refine x_aload_n 16 hE dX2_here_15 rfl 0 rfl ?_
    refine y_g 19 hE hac (by decide) ymf_20 rfl xkf_CrossingWordsModel_151 dX2_here_16 rfl (fun v3 => ?_)
    refine y_ldB 20 hE hac ⟨rfl, Or.inr rfl⟩ dX2_here_19 rfl (fun v4 => ?_)
    refine x_sipush 23 hE dX2_here_20 rfl xc_s_255 ?_
    refine x_iand 24 hE dX2_here_23 rfl ?_
    refine x_goto 28 hE dX2_here_24 (by decide) ?_
    exact x_iret hE dX2_here_28

set_option maxHeartbeats 4000000 in
theorem ct_X2_next {l : Launch} {G : xw_G} {σ0 : xw_St} (hac : xw_ac G = true)  : xw_Ct l G (xw_hr G σ0) xw_ov yX2_next cX2_next 2 none 2 [va_rf (some (xw_hm G))] (pg_X2_next) := by
  refine xw_metL [(0, va_rf (some (xw_hm G)))] (by decide) (Nat.le_trans (Nat.le_of_eq ((xw_l1 rfl).trans (congrArg (1 + ·) xw_l0))) (by decide)) ((xw_a1 rfl).trans (congrArg (List.cons _) xw_a0)) (fun E hE hl hG hm => ?_)
  subst hl; subst hG
  have hE : xw_ok E "CrossingWordsModel" cX2_next 2 none 2 := hE
  unfold pg_X2_next
  refine x_sub [(0, va_rf (some (xw_hm (xe_G E))))] [0] rfl ?_
  refine x_sq 31 (fun (v2 : Unit) => [(0, va_rf (some (xw_hm (xe_G E))))]) (fun _ => []) (fun v2 => ?_) (fun J2 hJ2 => ?_)
  · refine x_aload_n 32 hE dX2_next_31 rfl 0 rfl ?_
    refine x_aload_n 33 hE dX2_next_32 rfl 0 rfl ?_
    refine y_g 36 hE hac (by decide) ymf_20 rfl xkf_CrossingWordsModel_151 dX2_next_33 rfl (fun v3 => ?_)
    refine y_p 39 hE hac (by decide) ymf_21 (Or.inl ⟨rfl, rfl⟩) rfl xkf_CrossingWordsModel_161 dX2_next_36 rfl ?_
    refine x_aload_n 40 hE dX2_next_39 rfl 0 rfl ?_
    refine x_calli 43 (xw_goM hE hac (xw_rV hE (ct_X2_here hac ) xd_X2_here rfl q1546 q1548 qs35 q97 q1549 rfl ⟨Nat.le_of_ble_eq_true rfl, Nat.le_of_ble_eq_true rfl⟩ rfl rfl (by decide) dX2_next_40)) rfl (fun v4 => ?_)
    refine x_istore_n 44 [(1, .int v4), (0, va_rf (some (xw_hm (xe_G E))))] hE dX2_next_43 rfl rfl (Nat.le_of_ble_eq_true rfl) rfl ?_
    refine x_aload_n 45 hE dX2_next_44 rfl 1 rfl ?_
    refine x_ldc2 48 hE q1550 dX2_next_45 rfl ?_
    refine y_pJ 51 hE hac rfl ymf_24 rfl rfl xkf_CrossingWordsModel_166 dX2_next_48 rfl ?_
    refine x_aload_n 52 hE dX2_next_51 rfl 1 rfl ?_
    refine x_iconst 53 hE dX2_next_52 rfl xc_i_0 ?_
    refine y_p 56 hE hac (by decide) ymf_23 (Or.inl ⟨rfl, rfl⟩) rfl xkf_CrossingWordsModel_170 dX2_next_53 rfl ?_
    refine x_iload_n 57 hE dX2_next_56 rfl 0 rfl ?_
    refine x_if_ge 68 60 hE dX2_next_57 (by decide) rfl ?_ ?_
    · refine x_iload_n 69 hE dX2_next_68 rfl 0 rfl ?_
      refine x_bipush 71 hE dX2_next_69 rfl xc_b_97 ?_
      refine x_bipush 73 hE dX2_next_71 rfl xc_b_122 ?_
      refine x_calli 76 (xw_goS hE (ct_X2_within v4 97 122) xd_X2_within q1551 q1552 q97 q1553 rfl ⟨Nat.le_of_ble_eq_true rfl, Nat.le_of_ble_eq_true rfl⟩ rfl (by decide) dX2_next_73) rfl (fun v5 => ?_)
      refine x_if_eq 157 79 hE dX2_next_76 (by decide) rfl ?_ ?_
      · refine x_iload_n 158 hE dX2_next_157 rfl 0 rfl ?_
        refine x_bipush 160 hE dX2_next_158 rfl xc_b_48 ?_
        refine x_bipush 162 hE dX2_next_160 rfl xc_b_57 ?_
        refine x_calli 165 (xw_goS hE (ct_X2_within v4 48 57) xd_X2_within q1551 q1552 q97 q1553 rfl ⟨Nat.le_of_ble_eq_true rfl, Nat.le_of_ble_eq_true rfl⟩ rfl (by decide) dX2_next_162) rfl (fun v6 => ?_)
        refine x_if_eq 248 168 hE dX2_next_165 (by decide) rfl ?_ ?_
        · refine x_aload_n 249 hE dX2_next_248 rfl 1 rfl ?_
          refine x_iload_n 250 hE dX2_next_249 rfl 0 rfl ?_
          refine x_bipush 252 hE dX2_next_250 rfl xc_b_59 ?_
          refine x_sq 261 (fun (v7 : Int32) => [(0, va_rf (some (xw_hm (xe_G E))))]) (fun (v7 : Int32) => [.int v7, va_rf (some (xw_hm (xe_G E)))]) (fun v7 => ?_) (fun J3 hJ3 => ?_)
          · refine y_p 264 hE hac (by decide) ymf_22 (Or.inl ⟨rfl, rfl⟩) rfl xkf_CrossingWordsModel_173 dX2_next_261 rfl ?_
            refine x_aload_n 265 hE dX2_next_264 rfl 0 rfl ?_
            refine x_dup 266 hE dX2_next_265 rfl rfl ?_
            refine y_g 269 hE hac (by decide) ymf_20 rfl xkf_CrossingWordsModel_151 dX2_next_266 rfl (fun v8 => ?_)
            refine x_iconst 270 hE dX2_next_269 rfl xc_i_1 ?_
            refine x_iadd 271 hE dX2_next_270 rfl ?_
            refine y_p 274 hE hac (by decide) ymf_20 (Or.inl ⟨rfl, rfl⟩) rfl xkf_CrossingWordsModel_151 dX2_next_271 rfl ?_
            exact x_vret hE dX2_next_274
          · refine x_icmp_ne 260 255 hE dX2_next_252 (by decide) rfl ?_ ?_
            · refine x_bipush 257 hE dX2_next_255 rfl xc_b_59 ?_
              refine x_goto 261 hE dX2_next_257 (by decide) ?_
              refine x_sub [(0, va_rf (some (xw_hm (xe_G E))))] [1] rfl ?_
              exact hJ3 59
            · refine x_iconst 261 hE dX2_next_260 rfl xc_i_3 ?_
              refine x_sub [(0, va_rf (some (xw_hm (xe_G E))))] [1] rfl ?_
              exact hJ3 3
        · refine x_sub [(0, va_rf (some (xw_hm (xe_G E))))] [1] rfl ?_
          refine x_sq 223 (fun (v10 : Unit) => [(0, va_rf (some (xw_hm (xe_G E))))]) (fun _ => []) (fun v10 => ?_) (fun J5 hJ5 => ?_)
          · refine x_aload_n 224 hE dX2_next_223 rfl 0 rfl ?_
            refine x_aload_n 225 hE dX2_next_224 rfl 0 rfl ?_
            refine y_g 228 hE hac (by decide) ymf_20 rfl xkf_CrossingWordsModel_151 dX2_next_225 rfl (fun v11 => ?_)
            refine x_aload_n 229 hE dX2_next_228 rfl 0 rfl ?_
            refine y_g 232 hE hac (by decide) ymf_21 rfl xkf_CrossingWordsModel_161 dX2_next_229 rfl (fun v12 => ?_)
            refine x_isub 233 hE dX2_next_232 rfl ?_
            refine x_iconst 234 hE dX2_next_233 rfl xc_i_4 ?_
            refine x_sq 242 (fun (v13 : Int32) => []) (fun (v13 : Int32) => [.int v13, va_rf (some (xw_hm (xe_G E)))]) (fun v13 => ?_) (fun J6 hJ6 => ?_)
            · refine y_p 245 hE hac (by decide) ymf_22 (Or.inl ⟨rfl, rfl⟩) rfl xkf_CrossingWordsModel_173 dX2_next_242 rfl ?_
              refine x_goto 274 hE dX2_next_245 (by decide) ?_
              exact x_vret hE dX2_next_274
            · refine x_icmp_gt 241 237 hE dX2_next_234 (by decide) rfl ?_ ?_
              · refine x_iconst 242 hE dX2_next_241 rfl xc_i_3 ?_
                refine x_sub [] [] rfl ?_
                exact hJ6 3
              · refine x_iconst 238 hE dX2_next_237 rfl xc_i_2 ?_
                refine x_goto 242 hE dX2_next_238 (by decide) ?_
                refine x_sub [] [] rfl ?_
                exact hJ6 2
          · refine x_loop (fun (v9 : Unit) => [(0, va_rf (some (xw_hm (xe_G E))))]) (fun JL4 hc4 hx4 v9 => ?_) _ _
            refine x_aload_n 169 hE dX2_next_168 rfl 0 rfl ?_
            refine x_calli 172 (xw_goM hE hac (xw_rV hE (ct_X2_here hac ) xd_X2_here rfl q1546 q1548 qs35 q97 q1549 rfl ⟨Nat.le_of_ble_eq_true rfl, Nat.le_of_ble_eq_true rfl⟩ rfl rfl (by decide) dX2_next_169)) rfl (fun v14 => ?_)
            refine x_bipush 174 hE dX2_next_172 rfl xc_b_48 ?_
            refine x_bipush 176 hE dX2_next_174 rfl xc_b_57 ?_
            refine x_calli 179 (xw_goS hE (ct_X2_within v14 48 57) xd_X2_within q1551 q1552 q97 q1553 rfl ⟨Nat.le_of_ble_eq_true rfl, Nat.le_of_ble_eq_true rfl⟩ rfl (by decide) dX2_next_176) rfl (fun v15 => ?_)
            refine x_if_eq 223 182 hE dX2_next_179 (by decide) rfl ?_ ?_
            · refine x_sub [(0, va_rf (some (xw_hm (xe_G E))))] [0] rfl ?_
              refine hx4 _ _ _ _ ?_
              exact hJ5 ()
            · refine x_aload_n 183 hE dX2_next_182 rfl 0 rfl ?_
              refine y_g 186 hE hac (by decide) ymf_23 rfl xkf_CrossingWordsModel_170 dX2_next_183 rfl (fun v16 => ?_)
              refine x_ldc 188 hE q1555 dX2_next_186 rfl ?_
              refine x_sq 210 (fun (v17 : Unit) => [(0, va_rf (some (xw_hm (xe_G E))))]) (fun (v17 : Unit) => []) (fun v17 => ?_) (fun J7 hJ7 => ?_)
              · refine x_aload_n 211 hE dX2_next_210 rfl 0 rfl ?_
                refine x_dup 212 hE dX2_next_211 rfl rfl ?_
                refine y_g 215 hE hac (by decide) ymf_20 rfl xkf_CrossingWordsModel_151 dX2_next_212 rfl (fun v18 => ?_)
                refine x_iconst 216 hE dX2_next_215 rfl xc_i_1 ?_
                refine x_iadd 217 hE dX2_next_216 rfl ?_
                refine y_p 220 hE hac (by decide) ymf_20 (Or.inl ⟨rfl, rfl⟩) rfl xkf_CrossingWordsModel_151 dX2_next_217 rfl ?_
                refine x_goto 168 hE dX2_next_220 (by decide) ?_
                refine x_sub [(0, va_rf (some (xw_hm (xe_G E))))] [0] rfl ?_
                exact hc4 ()
              · refine x_icmp_ge 210 191 hE dX2_next_188 (by decide) rfl ?_ ?_
                · refine x_sub [(0, va_rf (some (xw_hm (xe_G E))))] [0] rfl ?_
                  exact hJ7 ()
                · refine x_aload_n 192 hE dX2_next_191 rfl 0 rfl ?_
                  refine x_bipush 194 hE dX2_next_192 rfl xc_b_10 ?_
                  refine x_aload_n 195 hE dX2_next_194 rfl 0 rfl ?_
                  refine y_g 198 hE hac (by decide) ymf_23 rfl xkf_CrossingWordsModel_170 dX2_next_195 rfl (fun v19 => ?_)
                  refine x_imul 199 hE dX2_next_198 rfl ?_
                  refine x_aload_n 200 hE dX2_next_199 rfl 0 rfl ?_
                  refine x_calli 203 (xw_goM hE hac (xw_rV hE (ct_X2_here hac ) xd_X2_here rfl q1546 q1548 qs35 q97 q1549 rfl ⟨Nat.le_of_ble_eq_true rfl, Nat.le_of_ble_eq_true rfl⟩ rfl rfl (Nat.le_trans (xw_sm1 rfl (xw_sm1 rfl xw_sm0)) (by decide)) dX2_next_200)) rfl (fun v20 => ?_)
                  refine x_iadd 204 hE dX2_next_203 rfl ?_
                  refine x_bipush 206 hE dX2_next_204 rfl xc_b_48 ?_
                  refine x_isub 207 hE dX2_next_206 rfl ?_
                  refine y_p 210 hE hac (by decide) ymf_23 (Or.inl ⟨rfl, rfl⟩) rfl xkf_CrossingWordsModel_170 dX2_next_207 rfl ?_
                  refine x_sub [(0, va_rf (some (xw_hm (xe_G E))))] [0] rfl ?_
                  exact hJ7 ()
      · refine x_aload_n 80 hE dX2_next_79 rfl 1 rfl ?_
        refine x_iconst 81 hE dX2_next_80 rfl xc_i_1 ?_
        refine y_p 84 hE hac (by decide) ymf_22 (Or.inl ⟨rfl, rfl⟩) rfl xkf_CrossingWordsModel_173 dX2_next_81 rfl ?_
        refine x_aload_n 85 hE dX2_next_84 rfl 1 rfl ?_
        refine x_lconst 86 hE dX2_next_85 rfl xc_l_0 ?_
        refine y_pJ 89 hE hac rfl ymf_24 rfl rfl xkf_CrossingWordsModel_166 dX2_next_86 rfl ?_
        refine x_sub [(0, va_rf (some (xw_hm (xe_G E))))] [1] rfl ?_
        refine x_sq 274 (fun (v22 : Unit) => []) (fun _ => []) (fun v22 => ?_) (fun J9 hJ9 => ?_)
        · exact x_vret hE dX2_next_274
        · refine x_loop (fun (v21 : Unit) => [(0, va_rf (some (xw_hm (xe_G E))))]) (fun JL8 hc8 hx8 v21 => ?_) _ _
          refine x_aload_n 90 hE dX2_next_89 rfl 0 rfl ?_
          refine x_calli 93 (xw_goM hE hac (xw_rV hE (ct_X2_here hac ) xd_X2_here rfl q1546 q1548 qs35 q97 q1549 rfl ⟨Nat.le_of_ble_eq_true rfl, Nat.le_of_ble_eq_true rfl⟩ rfl rfl (by decide) dX2_next_90)) rfl (fun v23 => ?_)
          refine x_bipush 95 hE dX2_next_93 rfl xc_b_97 ?_
          refine x_bipush 97 hE dX2_next_95 rfl xc_b_122 ?_
          refine x_calli 100 (xw_goS hE (ct_X2_within v23 97 122) xd_X2_within q1551 q1552 q97 q1553 rfl ⟨Nat.le_of_ble_eq_true rfl, Nat.le_of_ble_eq_true rfl⟩ rfl (by decide) dX2_next_97) rfl (fun v24 => ?_)
          refine x_if_eq 274 103 hE dX2_next_100 (by decide) rfl ?_ ?_
          · refine x_sub [] [] rfl ?_
            refine hx8 _ _ _ _ ?_
            exact hJ9 ()
          · refine x_aload_n 104 hE dX2_next_103 rfl 0 rfl ?_
            refine x_aload_n 105 hE dX2_next_104 rfl 0 rfl ?_
            refine y_g 108 hE hac (by decide) ymf_20 rfl xkf_CrossingWordsModel_151 dX2_next_105 rfl (fun v25 => ?_)
            refine x_aload_n 109 hE dX2_next_108 rfl 0 rfl ?_
            refine y_g 112 hE hac (by decide) ymf_21 rfl xkf_CrossingWordsModel_161 dX2_next_109 rfl (fun v26 => ?_)
            refine x_isub 113 hE dX2_next_112 rfl ?_
            refine x_bipush 115 hE dX2_next_113 rfl xc_b_8 ?_
            refine x_sq 141 (fun (v27 : Int64) => [(0, va_rf (some (xw_hm (xe_G E))))]) (fun (v27 : Int64) => [.long v27, va_rf (some (xw_hm (xe_G E)))]) (fun v27 => ?_) (fun J10 hJ10 => ?_)
            · refine y_pJ 144 hE hac rfl ymf_24 rfl rfl xkf_CrossingWordsModel_166 dX2_next_141 rfl ?_
              refine x_aload_n 145 hE dX2_next_144 rfl 0 rfl ?_
              refine x_dup 146 hE dX2_next_145 rfl rfl ?_
              refine y_g 149 hE hac (by decide) ymf_20 rfl xkf_CrossingWordsModel_151 dX2_next_146 rfl (fun v28 => ?_)
              refine x_iconst 150 hE dX2_next_149 rfl xc_i_1 ?_
              refine x_iadd 151 hE dX2_next_150 rfl ?_
              refine y_p 154 hE hac (by decide) ymf_20 (Or.inl ⟨rfl, rfl⟩) rfl xkf_CrossingWordsModel_151 dX2_next_151 rfl ?_
              refine x_goto 89 hE dX2_next_154 (by decide) ?_
              refine x_sub [(0, va_rf (some (xw_hm (xe_G E))))] [0] rfl ?_
              exact hc8 ()
            · refine x_icmp_ge 138 118 hE dX2_next_115 (by decide) rfl ?_ ?_
              · refine x_ldc2 141 hE q1550 dX2_next_138 rfl ?_
                refine x_sub [(0, va_rf (some (xw_hm (xe_G E))))] [0] rfl ?_
                exact hJ10 (-1)
              · refine x_aload_n 119 hE dX2_next_118 rfl 0 rfl ?_
                refine y_gJ 122 hE hac (by decide) ymf_24 rfl xkf_CrossingWordsModel_166 dX2_next_119 rfl (fun v29 => ?_)
                refine x_ldc2 125 hE q1554 dX2_next_122 rfl ?_
                refine x_lmul 126 hE dX2_next_125 rfl ?_
                refine x_aload_n 127 hE dX2_next_126 rfl 0 rfl ?_
                refine x_calli 130 (xw_goM hE hac (xw_rV hE (ct_X2_here hac ) xd_X2_here rfl q1546 q1548 qs35 q97 q1549 rfl ⟨Nat.le_of_ble_eq_true rfl, Nat.le_of_ble_eq_true rfl⟩ rfl rfl (Nat.le_trans (xw_sm2 (xw_sm1 rfl xw_sm0)) (by decide)) dX2_next_127)) rfl (fun v30 => ?_)
                refine x_bipush 132 hE dX2_next_130 rfl xc_b_96 ?_
                refine x_isub 133 hE dX2_next_132 rfl ?_
                refine x_i2l 134 hE dX2_next_133 rfl ?_
                refine x_ladd 135 hE dX2_next_134 rfl ?_
                refine x_goto 141 hE dX2_next_135 (by decide) ?_
                refine x_sub [(0, va_rf (some (xw_hm (xe_G E))))] [0] rfl ?_
                exact hJ10 ((v29 * 27) + ((v30 - 96 : Int32).toInt64))
    · refine x_aload_n 61 hE dX2_next_60 rfl 1 rfl ?_
      refine x_iconst 62 hE dX2_next_61 rfl xc_i_0 ?_
      refine y_p 65 hE hac (by decide) ymf_22 (Or.inl ⟨rfl, rfl⟩) rfl xkf_CrossingWordsModel_173 dX2_next_62 rfl ?_
      refine x_goto 274 hE dX2_next_65 (by decide) ?_
      exact x_vret hE dX2_next_274
  · refine x_loop (fun (v1 : Unit) => [(0, va_rf (some (xw_hm (xe_G E))))]) (fun JL1 hc1 hx1 v1 => ?_) _ _
    refine x_aload_n 1 hE dX2_next_0 rfl 0 rfl ?_
    refine x_calli 4 (xw_goM hE hac (xw_rV hE (ct_X2_here hac ) xd_X2_here rfl q1546 q1548 qs35 q97 q1549 rfl ⟨Nat.le_of_ble_eq_true rfl, Nat.le_of_ble_eq_true rfl⟩ rfl rfl (by decide) dX2_next_1)) rfl (fun v31 => ?_)
    refine x_bipush 6 hE dX2_next_4 rfl xc_b_32 ?_
    refine x_jn 18 (fun (v32 : Unit) => [(0, va_rf (some (xw_hm (xe_G E))))]) (fun (v32 : Unit) => []) (fun v32 => ?_) (fun J11 hJ11 => ?_)
    · refine x_aload_n 19 hE dX2_next_18 rfl 0 rfl ?_
      refine x_dup 20 hE dX2_next_19 rfl rfl ?_
      refine y_g 23 hE hac (by decide) ymf_20 rfl xkf_CrossingWordsModel_151 dX2_next_20 rfl (fun v33 => ?_)
      refine x_iconst 24 hE dX2_next_23 rfl xc_i_1 ?_
      refine x_iadd 25 hE dX2_next_24 rfl ?_
      refine y_p 28 hE hac (by decide) ymf_20 (Or.inl ⟨rfl, rfl⟩) rfl xkf_CrossingWordsModel_151 dX2_next_25 rfl ?_
      refine x_goto 0 hE dX2_next_28 (by decide) ?_
      refine x_sub [(0, va_rf (some (xw_hm (xe_G E))))] [0] rfl ?_
      exact hc1 ()
    · refine x_icmp_eq 18 9 hE dX2_next_6 (by decide) rfl ?_ ?_
      · refine x_sub [(0, va_rf (some (xw_hm (xe_G E))))] [0] rfl ?_
        exact hJ11 ()
      · refine x_aload_n 10 hE dX2_next_9 rfl 0 rfl ?_
        refine x_calli 13 (xw_goM hE hac (xw_rV hE (ct_X2_here hac ) xd_X2_here rfl q1546 q1548 qs35 q97 q1549 rfl ⟨Nat.le_of_ble_eq_true rfl, Nat.le_of_ble_eq_true rfl⟩ rfl rfl (by decide) dX2_next_10)) rfl (fun v34 => ?_)
        refine x_bipush 15 hE dX2_next_13 rfl xc_b_10 ?_
        refine x_icmp_ne 31 18 hE dX2_next_15 (by decide) rfl ?_ ?_
        · refine x_sub [(0, va_rf (some (xw_hm (xe_G E))))] [0] rfl ?_
          exact hJ11 ()
        · refine x_sub [(0, va_rf (some (xw_hm (xe_G E))))] [0] rfl ?_
          refine hx1 _ _ _ _ ?_
          exact hJ2 ()

set_option maxHeartbeats 4000000 in
theorem ct_X2_errs {l : Launch} {G : xw_G} {σ0 : xw_St} (hac : xw_ac G = true)  : xw_Ct l G (xw_hr G σ0) xw_ov yX2_errs cX2_errs 1 none 1 [va_rf (some (xw_hm G))] (pg_X2_errs) := by
  refine xw_metL [(0, va_rf (some (xw_hm G)))] (by decide) (Nat.le_trans (Nat.le_of_eq ((xw_l1 rfl).trans (congrArg (1 + ·) xw_l0))) (by decide)) ((xw_a1 rfl).trans (congrArg (List.cons _) xw_a0)) (fun E hE hl hG hm => ?_)
  subst hl; subst hG
  have hE : xw_ok E "CrossingWordsModel" cX2_errs 1 none 1 := hE
  unfold pg_X2_errs
  refine x_aload_n 1 hE dX2_errs_0 rfl 0 rfl ?_
  refine y_g 4 hE hac (by decide) ymf_25 rfl xkf_CrossingWordsModel_183 dX2_errs_1 rfl (fun v1 => ?_)
  refine x_if_eq 8 7 hE dX2_errs_4 (by decide) rfl ?_ ?_
  · refine x_aload_n 9 hE dX2_errs_8 rfl 0 rfl ?_
    refine x_iconst 10 hE dX2_errs_9 rfl xc_i_1 ?_
    refine y_p 13 hE hac (by decide) ymf_25 (Or.inr ⟨rfl, rfl⟩) rfl xkf_CrossingWordsModel_183 dX2_errs_10 rfl ?_
    refine x_aload_n 14 hE dX2_errs_13 rfl 0 rfl ?_
    refine x_aload_n 15 hE dX2_errs_14 rfl 0 rfl ?_
    refine y_g 18 hE hac (by decide) ymf_21 rfl xkf_CrossingWordsModel_161 dX2_errs_15 rfl (fun v2 => ?_)
    refine y_p 21 hE hac (by decide) ymf_18 (Or.inl ⟨rfl, rfl⟩) rfl xkf_CrossingWordsModel_62 dX2_errs_18 rfl ?_
    exact x_vret hE dX2_errs_21
  · exact x_vret hE dX2_errs_7

set_option maxHeartbeats 4000000 in
theorem ct_X2_is {l : Launch} {G : xw_G} {σ0 : xw_St} (hac : xw_ac G = true) (v1 : Int64) : xw_Ct l G (xw_hr G σ0) xw_oi yX2_is cX2_is 3 (some (.boolean)) 1 [va_rf (some (xw_hm G)), .long v1] (pg_X2_is v1) := by
  refine xw_metL [(0, va_rf (some (xw_hm G))), (1, .long v1)] (by decide) (Nat.le_trans (Nat.le_of_eq ((xw_l1 rfl).trans (congrArg (1 + ·) (xw_l2.trans (congrArg (2 + ·) xw_l0))))) (by decide)) ((xw_a1 rfl).trans (congrArg (List.cons _) (xw_a2.trans (congrArg (List.cons _) xw_a0)))) (fun E hE hl hG hm => ?_)
  subst hl; subst hG
  have hE : xw_ok E "CrossingWordsModel" cX2_is 3 (some (.boolean)) 1 := hE
  unfold pg_X2_is
  refine x_aload_n 1 hE dX2_is_0 rfl 0 rfl ?_
  refine y_g 4 hE hac (by decide) ymf_25 rfl xkf_CrossingWordsModel_183 dX2_is_1 rfl (fun v2 => ?_)
  refine x_if_ne 28 7 hE dX2_is_4 (by decide) rfl ?_ ?_
  · refine x_aload_n 8 hE dX2_is_7 rfl 0 rfl ?_
    refine y_g 11 hE hac (by decide) ymf_22 rfl xkf_CrossingWordsModel_173 dX2_is_8 rfl (fun v3 => ?_)
    refine x_iconst 12 hE dX2_is_11 rfl xc_i_1 ?_
    refine x_icmp_ne 28 15 hE dX2_is_12 (by decide) rfl ?_ ?_
    · refine x_aload_n 16 hE dX2_is_15 rfl 0 rfl ?_
      refine y_gJ 19 hE hac (by decide) ymf_24 rfl xkf_CrossingWordsModel_166 dX2_is_16 rfl (fun v4 => ?_)
      refine x_lload_n 20 hE dX2_is_19 rfl 1 rfl ?_
      refine x_lcmp 21 hE dX2_is_20 rfl ?_
      refine x_if_ne 28 24 hE dX2_is_21 (by decide) rfl ?_ ?_
      · refine x_iconst 25 hE dX2_is_24 rfl xc_i_1 ?_
        refine x_goto 29 hE dX2_is_25 (by decide) ?_
        exact x_zretw hE (by decide) dX2_is_29
      · refine x_iconst 29 hE dX2_is_28 rfl xc_i_0 ?_
        exact x_zretw hE (by decide) dX2_is_29
    · refine x_iconst 29 hE dX2_is_28 rfl xc_i_0 ?_
      exact x_zretw hE (by decide) dX2_is_29
  · refine x_iconst 29 hE dX2_is_28 rfl xc_i_0 ?_
    exact x_zretw hE (by decide) dX2_is_29

set_option maxHeartbeats 4000000 in
theorem ct_X2_mustBe {l : Launch} {G : xw_G} {σ0 : xw_St} (hac : xw_ac G = true) (v1 : Int64) : xw_Ct l G (xw_hr G σ0) xw_ov yX2_mustBe cX2_mustBe 3 none 3 [va_rf (some (xw_hm G)), .long v1] (pg_X2_mustBe v1) := by
  refine xw_metL [(0, va_rf (some (xw_hm G))), (1, .long v1)] (by decide) (Nat.le_trans (Nat.le_of_eq ((xw_l1 rfl).trans (congrArg (1 + ·) (xw_l2.trans (congrArg (2 + ·) xw_l0))))) (by decide)) ((xw_a1 rfl).trans (congrArg (List.cons _) (xw_a2.trans (congrArg (List.cons _) xw_a0)))) (fun E hE hl hG hm => ?_)
  subst hl; subst hG
  have hE : xw_ok E "CrossingWordsModel" cX2_mustBe 3 none 3 := hE
  unfold pg_X2_mustBe
  refine x_aload_n 1 hE dX2_mustBe_0 rfl 0 rfl ?_
  refine x_lload_n 2 hE dX2_mustBe_1 rfl 1 rfl ?_
  refine x_calli 5 (xw_goM hE hac (xw_rV hE (ct_X2_is hac v1) xd_X2_is rfl q1610 q1612 qs46 q97 q1613 rfl ⟨Nat.le_of_ble_eq_true rfl, Nat.le_of_ble_eq_true rfl⟩ rfl rfl (by decide) dX2_mustBe_2)) rfl (fun v2 => ?_)
  refine x_if_eq 15 8 hE dX2_mustBe_5 (by decide) rfl ?_ ?_
  · refine x_aload_n 16 hE dX2_mustBe_15 rfl 0 rfl ?_
    refine x_callv 19 (xw_goM hE hac (xw_rV hE (ct_X2_errs hac ) xd_X2_errs rfl q1560 q1562 qs37 q97 q1563 rfl ⟨Nat.le_of_ble_eq_true rfl, Nat.le_of_ble_eq_true rfl⟩ rfl rfl (by decide) dX2_mustBe_16)) rfl ?_
    exact x_vret hE dX2_mustBe_19
  · refine x_aload_n 9 hE dX2_mustBe_8 rfl 0 rfl ?_
    refine x_callv 12 (xw_goM hE hac (xw_rV hE (ct_X2_next hac ) xd_X2_next rfl q1542 q1544 qs34 q97 q1545 rfl ⟨Nat.le_of_ble_eq_true rfl, Nat.le_of_ble_eq_true rfl⟩ rfl rfl (by decide) dX2_mustBe_9)) rfl ?_
    refine x_goto 19 hE dX2_mustBe_12 (by decide) ?_
    exact x_vret hE dX2_mustBe_19

set_option maxHeartbeats 4000000 in
theorem ct_X2_numeral {l : Launch} {G : xw_G} {σ0 : xw_St} (hac : xw_ac G = true) (v1 : Int32) (v2 : Int32) : xw_Ct l G (xw_hr G σ0) xw_oi yX2_numeral cX2_numeral 4 (some (.int)) 3 [va_rf (some (xw_hm G)), .int v1, .int v2] (pg_X2_numeral v1 v2) := by
  refine xw_metL [(0, va_rf (some (xw_hm G))), (1, .int v1), (2, .int v2)] (by decide) (Nat.le_trans (Nat.le_of_eq ((xw_l1 rfl).trans (congrArg (1 + ·) ((xw_l1 rfl).trans (congrArg (1 + ·) ((xw_l1 rfl).trans (congrArg (1 + ·) xw_l0))))))) (by decide)) ((xw_a1 rfl).trans (congrArg (List.cons _) ((xw_a1 rfl).trans (congrArg (List.cons _) ((xw_a1 rfl).trans (congrArg (List.cons _) xw_a0)))))) (fun E hE hl hG hm => ?_)
  subst hl; subst hG
  have hE : xw_ok E "CrossingWordsModel" cX2_numeral 4 (some (.int)) 3 := hE
  unfold pg_X2_numeral
  refine x_aload_n 1 hE dX2_numeral_0 rfl 0 rfl ?_
  refine y_g 4 hE hac (by decide) ymf_23 rfl xkf_CrossingWordsModel_170 dX2_numeral_1 rfl (fun v3 => ?_)
  refine x_istore_n 5 [(3, .int v3), (0, va_rf (some (xw_hm (xe_G E)))), (1, .int v1), (2, .int v2)] hE dX2_numeral_4 rfl rfl (Nat.le_of_ble_eq_true rfl) rfl ?_
  refine x_aload_n 6 hE dX2_numeral_5 rfl 1 rfl ?_
  refine y_g 9 hE hac (by decide) ymf_25 rfl xkf_CrossingWordsModel_183 dX2_numeral_6 rfl (fun v4 => ?_)
  refine x_if_eq 14 12 hE dX2_numeral_9 (by decide) rfl ?_ ?_
  · refine x_aload_n 15 hE dX2_numeral_14 rfl 1 rfl ?_
    refine y_g 18 hE hac (by decide) ymf_22 rfl xkf_CrossingWordsModel_173 dX2_numeral_15 rfl (fun v5 => ?_)
    refine x_iconst 19 hE dX2_numeral_18 rfl xc_i_2 ?_
    refine x_jn 32 (fun (v6 : Unit) => [(0, va_rf (some (xw_hm (xe_G E))))]) (fun (v6 : Unit) => []) (fun v6 => ?_) (fun J1 hJ1 => ?_)
    · refine x_aload_n 33 hE dX2_numeral_32 rfl 0 rfl ?_
      refine x_callv 36 (xw_goM hE hac (xw_rV hE (ct_X2_errs hac ) xd_X2_errs rfl q1560 q1562 qs37 q97 q1563 rfl ⟨Nat.le_of_ble_eq_true rfl, Nat.le_of_ble_eq_true rfl⟩ rfl rfl (by decide) dX2_numeral_33)) rfl ?_
      refine x_iconst 37 hE dX2_numeral_36 rfl xc_i_0 ?_
      exact x_iret hE dX2_numeral_37
    · refine x_icmp_ne 32 22 hE dX2_numeral_19 (by decide) rfl ?_ ?_
      · refine x_iload_n 23 hE dX2_numeral_22 rfl 0 rfl ?_
        refine x_iload_n 24 hE dX2_numeral_23 rfl 2 rfl ?_
        refine x_icmp_lt 32 27 hE dX2_numeral_24 (by decide) rfl ?_ ?_
        · refine x_sub [(0, va_rf (some (xw_hm (xe_G E))))] [1] rfl ?_
          exact hJ1 ()
        · refine x_iload_n 28 hE dX2_numeral_27 rfl 0 rfl ?_
          refine x_iload_n 29 hE dX2_numeral_28 rfl 3 rfl ?_
          refine x_icmp_le 38 32 hE dX2_numeral_29 (by decide) rfl ?_ ?_
          · refine x_aload_n 39 hE dX2_numeral_38 rfl 1 rfl ?_
            refine x_callv 42 (xw_goM hE hac (xw_rV hE (ct_X2_next hac ) xd_X2_next rfl q1542 q1544 qs34 q97 q1545 rfl ⟨Nat.le_of_ble_eq_true rfl, Nat.le_of_ble_eq_true rfl⟩ rfl rfl (by decide) dX2_numeral_39)) rfl ?_
            refine x_iload_n 43 hE dX2_numeral_42 rfl 0 rfl ?_
            exact x_iret hE dX2_numeral_43
          · refine x_sub [(0, va_rf (some (xw_hm (xe_G E))))] [1] rfl ?_
            exact hJ1 ()
      · refine x_sub [(0, va_rf (some (xw_hm (xe_G E))))] [1] rfl ?_
        exact hJ1 ()
  · refine x_iconst 13 hE dX2_numeral_12 rfl xc_i_0 ?_
    exact x_iret hE dX2_numeral_13

set_option maxHeartbeats 4000000 in
theorem ct_X2_ends {l : Launch} {G : xw_G} {σ0 : xw_St} (hac : xw_ac G = true)  : xw_Ct l G (xw_hr G σ0) xw_ov yX2_ends cX2_ends 1 none 3 [va_rf (some (xw_hm G))] (pg_X2_ends) := by
  refine xw_metL [(0, va_rf (some (xw_hm G)))] (by decide) (Nat.le_trans (Nat.le_of_eq ((xw_l1 rfl).trans (congrArg (1 + ·) xw_l0))) (by decide)) ((xw_a1 rfl).trans (congrArg (List.cons _) xw_a0)) (fun E hE hl hG hm => ?_)
  subst hl; subst hG
  have hE : xw_ok E "CrossingWordsModel" cX2_ends 1 none 3 := hE
  unfold pg_X2_ends
  refine x_aload_n 1 hE dX2_ends_0 rfl 0 rfl ?_
  refine y_g 4 hE hac (by decide) ymf_25 rfl xkf_CrossingWordsModel_183 dX2_ends_1 rfl (fun v1 => ?_)
  refine x_if_eq 8 7 hE dX2_ends_4 (by decide) rfl ?_ ?_
  · refine x_aload_n 9 hE dX2_ends_8 rfl 0 rfl ?_
    refine y_g 12 hE hac (by decide) ymf_22 rfl xkf_CrossingWordsModel_173 dX2_ends_9 rfl (fun v2 => ?_)
    refine x_bipush 14 hE dX2_ends_12 rfl xc_b_59 ?_
    refine x_icmp_ne 24 17 hE dX2_ends_14 (by decide) rfl ?_ ?_
    · refine x_aload_n 18 hE dX2_ends_17 rfl 0 rfl ?_
      refine x_callv 21 (xw_goM hE hac (xw_rV hE (ct_X2_next hac ) xd_X2_next rfl q1542 q1544 qs34 q97 q1545 rfl ⟨Nat.le_of_ble_eq_true rfl, Nat.le_of_ble_eq_true rfl⟩ rfl rfl (by decide) dX2_ends_18)) rfl ?_
      refine x_goto 28 hE dX2_ends_21 (by decide) ?_
      exact x_vret hE dX2_ends_28
    · refine x_aload_n 25 hE dX2_ends_24 rfl 0 rfl ?_
      refine x_callv 28 (xw_goM hE hac (xw_rV hE (ct_X2_errs hac ) xd_X2_errs rfl q1560 q1562 qs37 q97 q1563 rfl ⟨Nat.le_of_ble_eq_true rfl, Nat.le_of_ble_eq_true rfl⟩ rfl rfl (by decide) dX2_ends_25)) rfl ?_
      exact x_vret hE dX2_ends_28
  · exact x_vret hE dX2_ends_7

set_option maxHeartbeats 4000000 in
theorem ct_X2_begins {l : Launch} {G : xw_G} {σ0 : xw_St} (hac : xw_ac G = true) (v1 : Int32) : xw_Ct l G (xw_hr G σ0) xw_ov yX2_begins cX2_begins 2 none 3 [va_rf (some (xw_hm G)), .int v1] (pg_X2_begins v1) := by
  refine xw_metL [(0, va_rf (some (xw_hm G))), (1, .int v1)] (by decide) (Nat.le_trans (Nat.le_of_eq ((xw_l1 rfl).trans (congrArg (1 + ·) ((xw_l1 rfl).trans (congrArg (1 + ·) xw_l0))))) (by decide)) ((xw_a1 rfl).trans (congrArg (List.cons _) ((xw_a1 rfl).trans (congrArg (List.cons _) xw_a0)))) (fun E hE hl hG hm => ?_)
  subst hl; subst hG
  have hE : xw_ok E "CrossingWordsModel" cX2_begins 2 none 3 := hE
  unfold pg_X2_begins
  refine x_aload_n 1 hE dX2_begins_0 rfl 0 rfl ?_
  refine x_iload_n 2 hE dX2_begins_1 rfl 1 rfl ?_
  refine y_p 5 hE hac (by decide) ymf_19 (Or.inl ⟨rfl, rfl⟩) rfl xkf_CrossingWordsModel_154 dX2_begins_2 rfl ?_
  refine x_aload_n 6 hE dX2_begins_5 rfl 0 rfl ?_
  refine x_iconst 7 hE dX2_begins_6 rfl xc_i_0 ?_
  refine y_p 10 hE hac (by decide) ymf_17 (Or.inl ⟨rfl, rfl⟩) rfl xkf_CrossingWordsModel_148 dX2_begins_7 rfl ?_
  refine x_aload_n 11 hE dX2_begins_10 rfl 0 rfl ?_
  refine x_iconst 12 hE dX2_begins_11 rfl xc_i_0 ?_
  refine y_p 15 hE hac (by decide) ymf_20 (Or.inl ⟨rfl, rfl⟩) rfl xkf_CrossingWordsModel_151 dX2_begins_12 rfl ?_
  refine x_aload_n 16 hE dX2_begins_15 rfl 0 rfl ?_
  refine x_iconst 17 hE dX2_begins_16 rfl xc_i_m1 ?_
  refine y_p 20 hE hac (by decide) ymf_18 (Or.inl ⟨rfl, rfl⟩) rfl xkf_CrossingWordsModel_62 dX2_begins_17 rfl ?_
  refine x_aload_n 21 hE dX2_begins_20 rfl 0 rfl ?_
  refine x_iconst 22 hE dX2_begins_21 rfl xc_i_0 ?_
  refine y_p 25 hE hac (by decide) ymf_25 (Or.inr ⟨rfl, rfl⟩) rfl xkf_CrossingWordsModel_183 dX2_begins_22 rfl ?_
  refine x_aload_n 26 hE dX2_begins_25 rfl 0 rfl ?_
  refine x_callv 29 (xw_goM hE hac (xw_rV hE (ct_X2_next hac ) xd_X2_next rfl q1542 q1544 qs34 q97 q1545 rfl ⟨Nat.le_of_ble_eq_true rfl, Nat.le_of_ble_eq_true rfl⟩ rfl rfl (by decide) dX2_begins_26)) rfl ?_
  exact x_vret hE dX2_begins_29

set_option maxHeartbeats 4000000 in
theorem ct_X2_handHere {l : Launch} {G : xw_G} {σ0 : xw_St} (hac : xw_ac G = true) (v1 : Int32) : xw_Ct l G (xw_hr G σ0) xw_oi yX2_handHere cX2_handHere 3 (some (.int)) 3 [va_rf (some (xw_hm G)), .int v1] (pg_X2_handHere v1) := by
  refine xw_metL [(0, va_rf (some (xw_hm G))), (1, .int v1)] (by decide) (Nat.le_trans (Nat.le_of_eq ((xw_l1 rfl).trans (congrArg (1 + ·) ((xw_l1 rfl).trans (congrArg (1 + ·) xw_l0))))) (by decide)) ((xw_a1 rfl).trans (congrArg (List.cons _) ((xw_a1 rfl).trans (congrArg (List.cons _) xw_a0)))) (fun E hE hl hG hm => ?_)
  subst hl; subst hG
  have hE : xw_ok E "CrossingWordsModel" cX2_handHere 3 (some (.int)) 3 := hE
  unfold pg_X2_handHere
  refine x_aload_n 1 hE dX2_handHere_0 rfl 0 rfl ?_
  refine y_g 4 hE hac (by decide) ymf_25 rfl xkf_CrossingWordsModel_183 dX2_handHere_1 rfl (fun v2 => ?_)
  refine x_if_eq 9 7 hE dX2_handHere_4 (by decide) rfl ?_ ?_
  · refine x_aload_n 10 hE dX2_handHere_9 rfl 0 rfl ?_
    refine y_g 13 hE hac (by decide) ymf_22 rfl xkf_CrossingWordsModel_173 dX2_handHere_10 rfl (fun v3 => ?_)
    refine x_iconst 14 hE dX2_handHere_13 rfl xc_i_1 ?_
    refine x_sq 48 (fun (v4 : Int32) => [(0, va_rf (some (xw_hm (xe_G E)))), (1, .int v1)]) (fun (v4 : Int32) => [.int v4]) (fun v4 => ?_) (fun J1 hJ1 => ?_)
    · refine x_istore_n 49 [(2, .int v4), (0, va_rf (some (xw_hm (xe_G E)))), (1, .int v1)] hE dX2_handHere_48 rfl rfl (Nat.le_of_ble_eq_true rfl) rfl ?_
      refine x_iload_n 50 hE dX2_handHere_49 rfl 0 rfl ?_
      refine x_jn 58 (fun (v5 : Unit) => [(0, va_rf (some (xw_hm (xe_G E))))]) (fun (v5 : Unit) => []) (fun v5 => ?_) (fun J2 hJ2 => ?_)
      · refine x_aload_n 59 hE dX2_handHere_58 rfl 0 rfl ?_
        refine x_callv 62 (xw_goM hE hac (xw_rV hE (ct_X2_errs hac ) xd_X2_errs rfl q1560 q1562 qs37 q97 q1563 rfl ⟨Nat.le_of_ble_eq_true rfl, Nat.le_of_ble_eq_true rfl⟩ rfl rfl (by decide) dX2_handHere_59)) rfl ?_
        refine x_iconst 63 hE dX2_handHere_62 rfl xc_i_0 ?_
        exact x_iret hE dX2_handHere_63
      · refine x_if_lt 58 53 hE dX2_handHere_50 (by decide) rfl ?_ ?_
        · refine x_sub [(0, va_rf (some (xw_hm (xe_G E))))] [1] rfl ?_
          exact hJ2 ()
        · refine x_iload_n 54 hE dX2_handHere_53 rfl 0 rfl ?_
          refine x_iload_n 55 hE dX2_handHere_54 rfl 2 rfl ?_
          refine x_icmp_ne 64 58 hE dX2_handHere_55 (by decide) rfl ?_ ?_
          · refine x_sub [(0, va_rf (some (xw_hm (xe_G E))))] [1] rfl ?_
            exact hJ2 ()
          · refine x_aload_n 65 hE dX2_handHere_64 rfl 1 rfl ?_
            refine x_callv 68 (xw_goM hE hac (xw_rV hE (ct_X2_next hac ) xd_X2_next rfl q1542 q1544 qs34 q97 q1545 rfl ⟨Nat.le_of_ble_eq_true rfl, Nat.le_of_ble_eq_true rfl⟩ rfl rfl (by decide) dX2_handHere_65)) rfl ?_
            refine x_iload_n 69 hE dX2_handHere_68 rfl 0 rfl ?_
            exact x_iret hE dX2_handHere_69
    · refine x_icmp_ne 47 17 hE dX2_handHere_14 (by decide) rfl ?_ ?_
      · refine x_aload_n 18 hE dX2_handHere_17 rfl 0 rfl ?_
        refine y_gJ 21 hE hac (by decide) ymf_24 rfl xkf_CrossingWordsModel_166 dX2_handHere_18 rfl (fun v6 => ?_)
        refine x_lconst 22 hE dX2_handHere_21 rfl xc_l_1 ?_
        refine x_lcmp 23 hE dX2_handHere_22 rfl ?_
        refine x_if_lt 47 26 hE dX2_handHere_23 (by decide) rfl ?_ ?_
        · refine x_iconst 48 hE dX2_handHere_47 rfl xc_i_m1 ?_
          refine x_sub [(0, va_rf (some (xw_hm (xe_G E)))), (1, .int v1)] [0, 1] rfl ?_
          exact hJ1 (-1)
        · refine x_aload_n 27 hE dX2_handHere_26 rfl 0 rfl ?_
          refine y_gJ 30 hE hac (by decide) ymf_24 rfl xkf_CrossingWordsModel_166 dX2_handHere_27 rfl (fun v7 => ?_)
          refine x_ldc2 33 hE q1583 dX2_handHere_30 rfl ?_
          refine x_lcmp 34 hE dX2_handHere_33 rfl ?_
          refine x_if_gt 47 37 hE dX2_handHere_34 (by decide) rfl ?_ ?_
          · refine x_iconst 48 hE dX2_handHere_47 rfl xc_i_m1 ?_
            refine x_sub [(0, va_rf (some (xw_hm (xe_G E)))), (1, .int v1)] [0, 1] rfl ?_
            exact hJ1 (-1)
          · refine x_aload_n 38 hE dX2_handHere_37 rfl 0 rfl ?_
            refine y_gJ 41 hE hac (by decide) ymf_24 rfl xkf_CrossingWordsModel_166 dX2_handHere_38 rfl (fun v8 => ?_)
            refine x_l2i 42 hE dX2_handHere_41 rfl ?_
            refine x_iconst 43 hE dX2_handHere_42 rfl xc_i_1 ?_
            refine x_isub 44 hE dX2_handHere_43 rfl ?_
            refine x_goto 48 hE dX2_handHere_44 (by decide) ?_
            refine x_sub [(0, va_rf (some (xw_hm (xe_G E)))), (1, .int v1)] [0, 1] rfl ?_
            exact hJ1 (((v8 : Int64).toInt32) - 1)
      · refine x_iconst 48 hE dX2_handHere_47 rfl xc_i_m1 ?_
        refine x_sub [(0, va_rf (some (xw_hm (xe_G E)))), (1, .int v1)] [0, 1] rfl ?_
        exact hJ1 (-1)
  · refine x_iconst 8 hE dX2_handHere_7 rfl xc_i_0 ?_
    exact x_iret hE dX2_handHere_8

set_option maxHeartbeats 4000000 in
theorem ct_X2_wordHere {l : Launch} {G : xw_G} {σ0 : xw_St} (hac : xw_ac G = true)  : xw_Ct l G (xw_hr G σ0) xw_oi yX2_wordHere cX2_wordHere 1 (some (.int)) 1 [va_rf (some (xw_hm G))] (pg_X2_wordHere) := by
  refine xw_metL [(0, va_rf (some (xw_hm G)))] (by decide) (Nat.le_trans (Nat.le_of_eq ((xw_l1 rfl).trans (congrArg (1 + ·) xw_l0))) (by decide)) ((xw_a1 rfl).trans (congrArg (List.cons _) xw_a0)) (fun E hE hl hG hm => ?_)
  subst hl; subst hG
  have hE : xw_ok E "CrossingWordsModel" cX2_wordHere 1 (some (.int)) 1 := hE
  unfold pg_X2_wordHere
  refine x_aload_n 1 hE dX2_wordHere_0 rfl 0 rfl ?_
  refine y_g 4 hE hac (by decide) ymf_25 rfl xkf_CrossingWordsModel_183 dX2_wordHere_1 rfl (fun v1 => ?_)
  refine x_if_ne 15 7 hE dX2_wordHere_4 (by decide) rfl ?_ ?_
  · refine x_aload_n 8 hE dX2_wordHere_7 rfl 0 rfl ?_
    refine y_g 11 hE hac (by decide) ymf_22 rfl xkf_CrossingWordsModel_173 dX2_wordHere_8 rfl (fun v2 => ?_)
    refine x_iconst 12 hE dX2_wordHere_11 rfl xc_i_1 ?_
    refine x_icmp_eq 17 15 hE dX2_wordHere_12 (by decide) rfl ?_ ?_
    · refine x_aload_n 18 hE dX2_wordHere_17 rfl 0 rfl ?_
      refine y_gJ 21 hE hac (by decide) ymf_24 rfl xkf_CrossingWordsModel_166 dX2_wordHere_18 rfl (fun v3 => ?_)
      refine x_ldc2 24 hE q1600 dX2_wordHere_21 rfl ?_
      refine x_lcmp 25 hE dX2_wordHere_24 rfl ?_
      refine x_if_ne 30 28 hE dX2_wordHere_25 (by decide) rfl ?_ ?_
      · refine x_iconst 29 hE dX2_wordHere_28 rfl xc_i_0 ?_
        exact x_iret hE dX2_wordHere_29
      · refine x_aload_n 31 hE dX2_wordHere_30 rfl 0 rfl ?_
        refine y_gJ 34 hE hac (by decide) ymf_24 rfl xkf_CrossingWordsModel_166 dX2_wordHere_31 rfl (fun v4 => ?_)
        refine x_ldc2 37 hE q1601 dX2_wordHere_34 rfl ?_
        refine x_lcmp 38 hE dX2_wordHere_37 rfl ?_
        refine x_if_ne 43 41 hE dX2_wordHere_38 (by decide) rfl ?_ ?_
        · refine x_iconst 42 hE dX2_wordHere_41 rfl xc_i_1 ?_
          exact x_iret hE dX2_wordHere_42
        · refine x_aload_n 44 hE dX2_wordHere_43 rfl 0 rfl ?_
          refine y_gJ 47 hE hac (by decide) ymf_24 rfl xkf_CrossingWordsModel_166 dX2_wordHere_44 rfl (fun v5 => ?_)
          refine x_ldc2 50 hE q1602 dX2_wordHere_47 rfl ?_
          refine x_lcmp 51 hE dX2_wordHere_50 rfl ?_
          refine x_if_ne 56 54 hE dX2_wordHere_51 (by decide) rfl ?_ ?_
          · refine x_iconst 55 hE dX2_wordHere_54 rfl xc_i_2 ?_
            exact x_iret hE dX2_wordHere_55
          · refine x_aload_n 57 hE dX2_wordHere_56 rfl 0 rfl ?_
            refine y_gJ 60 hE hac (by decide) ymf_24 rfl xkf_CrossingWordsModel_166 dX2_wordHere_57 rfl (fun v6 => ?_)
            refine x_ldc2 63 hE q1603 dX2_wordHere_60 rfl ?_
            refine x_lcmp 64 hE dX2_wordHere_63 rfl ?_
            refine x_if_ne 69 67 hE dX2_wordHere_64 (by decide) rfl ?_ ?_
            · refine x_iconst 68 hE dX2_wordHere_67 rfl xc_i_3 ?_
              exact x_iret hE dX2_wordHere_68
            · refine x_aload_n 70 hE dX2_wordHere_69 rfl 0 rfl ?_
              refine y_gJ 73 hE hac (by decide) ymf_24 rfl xkf_CrossingWordsModel_166 dX2_wordHere_70 rfl (fun v7 => ?_)
              refine x_ldc2 76 hE q1604 dX2_wordHere_73 rfl ?_
              refine x_lcmp 77 hE dX2_wordHere_76 rfl ?_
              refine x_if_ne 82 80 hE dX2_wordHere_77 (by decide) rfl ?_ ?_
              · refine x_iconst 81 hE dX2_wordHere_80 rfl xc_i_4 ?_
                exact x_iret hE dX2_wordHere_81
              · refine x_iconst 83 hE dX2_wordHere_82 rfl xc_i_m1 ?_
                exact x_iret hE dX2_wordHere_83
    · refine x_iconst 16 hE dX2_wordHere_15 rfl xc_i_m1 ?_
      exact x_iret hE dX2_wordHere_16
  · refine x_iconst 16 hE dX2_wordHere_15 rfl xc_i_m1 ?_
    exact x_iret hE dX2_wordHere_16

set_option maxHeartbeats 4000000 in
theorem ct_X2_whatHere {l : Launch} {G : xw_G} {σ0 : xw_St} (hac : xw_ac G = true)  : xw_Ct l G (xw_hr G σ0) xw_oi yX2_whatHere cX2_whatHere 1 (some (.int)) 1 [va_rf (some (xw_hm G))] (pg_X2_whatHere) := by
  refine xw_metL [(0, va_rf (some (xw_hm G)))] (by decide) (Nat.le_trans (Nat.le_of_eq ((xw_l1 rfl).trans (congrArg (1 + ·) xw_l0))) (by decide)) ((xw_a1 rfl).trans (congrArg (List.cons _) xw_a0)) (fun E hE hl hG hm => ?_)
  subst hl; subst hG
  have hE : xw_ok E "CrossingWordsModel" cX2_whatHere 1 (some (.int)) 1 := hE
  unfold pg_X2_whatHere
  refine x_aload_n 1 hE dX2_whatHere_0 rfl 0 rfl ?_
  refine y_g 4 hE hac (by decide) ymf_25 rfl xkf_CrossingWordsModel_183 dX2_whatHere_1 rfl (fun v1 => ?_)
  refine x_if_ne 15 7 hE dX2_whatHere_4 (by decide) rfl ?_ ?_
  · refine x_aload_n 8 hE dX2_whatHere_7 rfl 0 rfl ?_
    refine y_g 11 hE hac (by decide) ymf_22 rfl xkf_CrossingWordsModel_173 dX2_whatHere_8 rfl (fun v2 => ?_)
    refine x_iconst 12 hE dX2_whatHere_11 rfl xc_i_1 ?_
    refine x_icmp_eq 17 15 hE dX2_whatHere_12 (by decide) rfl ?_ ?_
    · refine x_aload_n 18 hE dX2_whatHere_17 rfl 0 rfl ?_
      refine y_gJ 21 hE hac (by decide) ymf_24 rfl xkf_CrossingWordsModel_166 dX2_whatHere_18 rfl (fun v3 => ?_)
      refine x_ldc2 24 hE q1572 dX2_whatHere_21 rfl ?_
      refine x_lcmp 25 hE dX2_whatHere_24 rfl ?_
      refine x_if_ne 30 28 hE dX2_whatHere_25 (by decide) rfl ?_ ?_
      · refine x_iconst 29 hE dX2_whatHere_28 rfl xc_i_0 ?_
        exact x_iret hE dX2_whatHere_29
      · refine x_aload_n 31 hE dX2_whatHere_30 rfl 0 rfl ?_
        refine y_gJ 34 hE hac (by decide) ymf_24 rfl xkf_CrossingWordsModel_166 dX2_whatHere_31 rfl (fun v4 => ?_)
        refine x_ldc2 37 hE q1573 dX2_whatHere_34 rfl ?_
        refine x_lcmp 38 hE dX2_whatHere_37 rfl ?_
        refine x_if_ne 43 41 hE dX2_whatHere_38 (by decide) rfl ?_ ?_
        · refine x_iconst 42 hE dX2_whatHere_41 rfl xc_i_1 ?_
          exact x_iret hE dX2_whatHere_42
        · refine x_aload_n 44 hE dX2_whatHere_43 rfl 0 rfl ?_
          refine y_gJ 47 hE hac (by decide) ymf_24 rfl xkf_CrossingWordsModel_166 dX2_whatHere_44 rfl (fun v5 => ?_)
          refine x_ldc2 50 hE q1574 dX2_whatHere_47 rfl ?_
          refine x_lcmp 51 hE dX2_whatHere_50 rfl ?_
          refine x_if_ne 56 54 hE dX2_whatHere_51 (by decide) rfl ?_ ?_
          · refine x_iconst 55 hE dX2_whatHere_54 rfl xc_i_2 ?_
            exact x_iret hE dX2_whatHere_55
          · refine x_aload_n 57 hE dX2_whatHere_56 rfl 0 rfl ?_
            refine y_gJ 60 hE hac (by decide) ymf_24 rfl xkf_CrossingWordsModel_166 dX2_whatHere_57 rfl (fun v6 => ?_)
            refine x_ldc2 63 hE q1575 dX2_whatHere_60 rfl ?_
            refine x_lcmp 64 hE dX2_whatHere_63 rfl ?_
            refine x_if_ne 69 67 hE dX2_whatHere_64 (by decide) rfl ?_ ?_
            · refine x_iconst 68 hE dX2_whatHere_67 rfl xc_i_4 ?_
              exact x_iret hE dX2_whatHere_68
            · refine x_aload_n 70 hE dX2_whatHere_69 rfl 0 rfl ?_
              refine y_gJ 73 hE hac (by decide) ymf_24 rfl xkf_CrossingWordsModel_166 dX2_whatHere_70 rfl (fun v7 => ?_)
              refine x_ldc2 76 hE q1576 dX2_whatHere_73 rfl ?_
              refine x_lcmp 77 hE dX2_whatHere_76 rfl ?_
              refine x_if_ne 82 80 hE dX2_whatHere_77 (by decide) rfl ?_ ?_
              · refine x_iconst 81 hE dX2_whatHere_80 rfl xc_i_5 ?_
                exact x_iret hE dX2_whatHere_81
              · refine x_aload_n 83 hE dX2_whatHere_82 rfl 0 rfl ?_
                refine y_gJ 86 hE hac (by decide) ymf_24 rfl xkf_CrossingWordsModel_166 dX2_whatHere_83 rfl (fun v8 => ?_)
                refine x_ldc2 89 hE q1577 dX2_whatHere_86 rfl ?_
                refine x_lcmp 90 hE dX2_whatHere_89 rfl ?_
                refine x_if_ne 96 93 hE dX2_whatHere_90 (by decide) rfl ?_ ?_
                · refine x_bipush 95 hE dX2_whatHere_93 rfl xc_b_6 ?_
                  exact x_iret hE dX2_whatHere_95
                · refine x_aload_n 97 hE dX2_whatHere_96 rfl 0 rfl ?_
                  refine y_gJ 100 hE hac (by decide) ymf_24 rfl xkf_CrossingWordsModel_166 dX2_whatHere_97 rfl (fun v9 => ?_)
                  refine x_ldc2 103 hE q1578 dX2_whatHere_100 rfl ?_
                  refine x_lcmp 104 hE dX2_whatHere_103 rfl ?_
                  refine x_if_ne 110 107 hE dX2_whatHere_104 (by decide) rfl ?_ ?_
                  · refine x_bipush 109 hE dX2_whatHere_107 rfl xc_b_7 ?_
                    exact x_iret hE dX2_whatHere_109
                  · refine x_iconst 111 hE dX2_whatHere_110 rfl xc_i_m1 ?_
                    exact x_iret hE dX2_whatHere_111
    · refine x_iconst 16 hE dX2_whatHere_15 rfl xc_i_m1 ?_
      exact x_iret hE dX2_whatHere_16
  · refine x_iconst 16 hE dX2_whatHere_15 rfl xc_i_m1 ?_
    exact x_iret hE dX2_whatHere_16

set_option maxHeartbeats 4000000 in
theorem ct_X2_wayHere {l : Launch} {G : xw_G} {σ0 : xw_St} (hac : xw_ac G = true)  : xw_Ct l G (xw_hr G σ0) xw_oi yX2_wayHere cX2_wayHere 1 (some (.int)) 1 [va_rf (some (xw_hm G))] (pg_X2_wayHere) := by
  refine xw_metL [(0, va_rf (some (xw_hm G)))] (by decide) (Nat.le_trans (Nat.le_of_eq ((xw_l1 rfl).trans (congrArg (1 + ·) xw_l0))) (by decide)) ((xw_a1 rfl).trans (congrArg (List.cons _) xw_a0)) (fun E hE hl hG hm => ?_)
  subst hl; subst hG
  have hE : xw_ok E "CrossingWordsModel" cX2_wayHere 1 (some (.int)) 1 := hE
  unfold pg_X2_wayHere
  refine x_aload_n 1 hE dX2_wayHere_0 rfl 0 rfl ?_
  refine y_g 4 hE hac (by decide) ymf_25 rfl xkf_CrossingWordsModel_183 dX2_wayHere_1 rfl (fun v1 => ?_)
  refine x_if_ne 15 7 hE dX2_wayHere_4 (by decide) rfl ?_ ?_
  · refine x_aload_n 8 hE dX2_wayHere_7 rfl 0 rfl ?_
    refine y_g 11 hE hac (by decide) ymf_22 rfl xkf_CrossingWordsModel_173 dX2_wayHere_8 rfl (fun v2 => ?_)
    refine x_iconst 12 hE dX2_wayHere_11 rfl xc_i_1 ?_
    refine x_icmp_eq 17 15 hE dX2_wayHere_12 (by decide) rfl ?_ ?_
    · refine x_aload_n 18 hE dX2_wayHere_17 rfl 0 rfl ?_
      refine y_gJ 21 hE hac (by decide) ymf_24 rfl xkf_CrossingWordsModel_166 dX2_wayHere_18 rfl (fun v3 => ?_)
      refine x_ldc2 24 hE q1624 dX2_wayHere_21 rfl ?_
      refine x_lcmp 25 hE dX2_wayHere_24 rfl ?_
      refine x_if_ne 30 28 hE dX2_wayHere_25 (by decide) rfl ?_ ?_
      · refine x_iconst 29 hE dX2_wayHere_28 rfl xc_i_0 ?_
        exact x_iret hE dX2_wayHere_29
      · refine x_aload_n 31 hE dX2_wayHere_30 rfl 0 rfl ?_
        refine y_gJ 34 hE hac (by decide) ymf_24 rfl xkf_CrossingWordsModel_166 dX2_wayHere_31 rfl (fun v4 => ?_)
        refine x_ldc2 37 hE q1625 dX2_wayHere_34 rfl ?_
        refine x_lcmp 38 hE dX2_wayHere_37 rfl ?_
        refine x_if_ne 43 41 hE dX2_wayHere_38 (by decide) rfl ?_ ?_
        · refine x_iconst 42 hE dX2_wayHere_41 rfl xc_i_1 ?_
          exact x_iret hE dX2_wayHere_42
        · refine x_aload_n 44 hE dX2_wayHere_43 rfl 0 rfl ?_
          refine y_gJ 47 hE hac (by decide) ymf_24 rfl xkf_CrossingWordsModel_166 dX2_wayHere_44 rfl (fun v5 => ?_)
          refine x_ldc2 50 hE q1626 dX2_wayHere_47 rfl ?_
          refine x_lcmp 51 hE dX2_wayHere_50 rfl ?_
          refine x_if_ne 56 54 hE dX2_wayHere_51 (by decide) rfl ?_ ?_
          · refine x_iconst 55 hE dX2_wayHere_54 rfl xc_i_2 ?_
            exact x_iret hE dX2_wayHere_55
          · refine x_aload_n 57 hE dX2_wayHere_56 rfl 0 rfl ?_
            refine y_gJ 60 hE hac (by decide) ymf_24 rfl xkf_CrossingWordsModel_166 dX2_wayHere_57 rfl (fun v6 => ?_)
            refine x_ldc2 63 hE q1577 dX2_wayHere_60 rfl ?_
            refine x_lcmp 64 hE dX2_wayHere_63 rfl ?_
            refine x_if_ne 69 67 hE dX2_wayHere_64 (by decide) rfl ?_ ?_
            · refine x_iconst 68 hE dX2_wayHere_67 rfl xc_i_3 ?_
              exact x_iret hE dX2_wayHere_68
            · refine x_iconst 70 hE dX2_wayHere_69 rfl xc_i_m1 ?_
              exact x_iret hE dX2_wayHere_70
    · refine x_iconst 16 hE dX2_wayHere_15 rfl xc_i_m1 ?_
      exact x_iret hE dX2_wayHere_16
  · refine x_iconst 16 hE dX2_wayHere_15 rfl xc_i_m1 ?_
    exact x_iret hE dX2_wayHere_16

set_option maxHeartbeats 4000000 in
theorem ct_X2_words {l : Launch} {G : xw_G} {σ0 : xw_St} (hac : xw_ac G = true) (v1 : Int32) (v2 : Int32) : xw_Ct l G (xw_hr G σ0) xw_ov yX2_words cX2_words 4 none 4 [va_rf (some (xw_hm G)), .int v1, .int v2] (pg_X2_words v1 v2) := by
  refine xw_metL [(0, va_rf (some (xw_hm G))), (1, .int v1), (2, .int v2)] (by decide) (Nat.le_trans (Nat.le_of_eq ((xw_l1 rfl).trans (congrArg (1 + ·) ((xw_l1 rfl).trans (congrArg (1 + ·) ((xw_l1 rfl).trans (congrArg (1 + ·) xw_l0))))))) (by decide)) ((xw_a1 rfl).trans (congrArg (List.cons _) ((xw_a1 rfl).trans (congrArg (List.cons _) ((xw_a1 rfl).trans (congrArg (List.cons _) xw_a0)))))) (fun E hE hl hG hm => ?_)
  subst hl; subst hG
  have hE : xw_ok E "CrossingWordsModel" cX2_words 4 none 4 := hE
  unfold pg_X2_words
  refine x_iload_n 1 hE dX2_words_0 rfl 2 rfl ?_
  refine x_sq 15 (fun (v3 : Unit) => [(0, va_rf (some (xw_hm (xe_G E)))), (1, .int v1)]) (fun (v3 : Unit) => []) (fun v3 => ?_) (fun J1 hJ1 => ?_)
  · refine x_sub [(0, va_rf (some (xw_hm (xe_G E)))), (1, .int v1)] [0, 1] rfl ?_
    refine x_sq 52 (fun (v5 : Unit) => []) (fun _ => []) (fun v5 => ?_) (fun J3 hJ3 => ?_)
    · exact x_vret hE dX2_words_52
    · refine x_loop (fun (v4 : Unit) => [(0, va_rf (some (xw_hm (xe_G E)))), (1, .int v1)]) (fun JL2 hc2 hx2 v4 => ?_) _ _
      refine x_aload_n 16 hE dX2_words_15 rfl 0 rfl ?_
      refine x_calli 19 (xw_goM hE hac (xw_rV hE (ct_X2_wordHere hac ) xd_X2_wordHere rfl q1596 q1598 qs44 q97 q1599 rfl ⟨Nat.le_of_ble_eq_true rfl, Nat.le_of_ble_eq_true rfl⟩ rfl rfl (by decide) dX2_words_16)) rfl (fun v6 => ?_)
      refine x_if_lt 52 22 hE dX2_words_19 (by decide) rfl ?_ ?_
      · refine x_sub [] [] rfl ?_
        refine hx2 _ _ _ _ ?_
        exact hJ3 ()
      · refine x_aload_n 23 hE dX2_words_22 rfl 0 rfl ?_
        refine x_calli 26 (xw_goM hE hac (xw_rV hE (ct_X2_wordHere hac ) xd_X2_wordHere rfl q1596 q1598 qs44 q97 q1599 rfl ⟨Nat.le_of_ble_eq_true rfl, Nat.le_of_ble_eq_true rfl⟩ rfl rfl (by decide) dX2_words_23)) rfl (fun v7 => ?_)
        refine x_istore_n 27 [(3, .int v7), (0, va_rf (some (xw_hm (xe_G E)))), (1, .int v1)] hE dX2_words_26 rfl rfl (Nat.le_of_ble_eq_true rfl) rfl ?_
        refine x_aload_n 28 hE dX2_words_27 rfl 1 rfl ?_
        refine x_callv 31 (xw_goM hE hac (xw_rV hE (ct_X2_next hac ) xd_X2_next rfl q1542 q1544 qs34 q97 q1545 rfl ⟨Nat.le_of_ble_eq_true rfl, Nat.le_of_ble_eq_true rfl⟩ rfl rfl (by decide) dX2_words_28)) rfl ?_
        refine x_aload_n 32 hE dX2_words_31 rfl 1 rfl ?_
        refine y_ga 35 hE hac (by decide) ymf_12 rfl xkf_CrossingWordsModel_46 dX2_words_32 rfl ?_
        refine x_iconst 36 hE dX2_words_35 rfl xc_i_5 ?_
        refine x_iload_n 37 hE dX2_words_36 rfl 2 rfl ?_
        refine x_imul 38 hE dX2_words_37 rfl ?_
        refine x_iload_n 39 hE dX2_words_38 rfl 0 rfl ?_
        refine x_iadd 40 hE dX2_words_39 rfl ?_
        refine x_aload_n 41 hE dX2_words_40 rfl 1 rfl ?_
        refine x_iconst 42 hE dX2_words_41 rfl xc_i_0 ?_
        refine x_sipush 45 hE dX2_words_42 rfl xc_s_999 ?_
        refine x_calli 48 (xw_goM hE hac (xw_rV hE (ct_X2_numeral hac 0 999) xd_X2_numeral rfl q1605 q1607 qs45 q97 q1608 rfl ⟨Nat.le_of_ble_eq_true rfl, Nat.le_of_ble_eq_true rfl⟩ rfl rfl (Nat.le_trans (xw_sm1 rfl (xw_sm1 rfl xw_sm0)) (by decide)) dX2_words_45)) rfl (fun v8 => ?_)
        refine y_st 49 hE hac ⟨rfl, rfl⟩ dX2_words_48 rfl ?_
        refine x_goto 15 hE dX2_words_49 (by decide) ?_
        refine x_sub [(0, va_rf (some (xw_hm (xe_G E)))), (1, .int v1)] [1, 2] rfl ?_
        exact hc2 ()
  · refine x_if_eq 15 4 hE dX2_words_1 (by decide) rfl ?_ ?_
    · refine x_sub [(0, va_rf (some (xw_hm (xe_G E)))), (1, .int v1)] [0, 1] rfl ?_
      exact hJ1 ()
    · refine x_aload_n 5 hE dX2_words_4 rfl 0 rfl ?_
      refine x_calli 8 (xw_goM hE hac (xw_rV hE (ct_X2_wordHere hac ) xd_X2_wordHere rfl q1596 q1598 qs44 q97 q1599 rfl ⟨Nat.le_of_ble_eq_true rfl, Nat.le_of_ble_eq_true rfl⟩ rfl rfl (by decide) dX2_words_5)) rfl (fun v9 => ?_)
      refine x_if_ge 15 11 hE dX2_words_8 (by decide) rfl ?_ ?_
      · refine x_sub [(0, va_rf (some (xw_hm (xe_G E)))), (1, .int v1)] [0, 1] rfl ?_
        exact hJ1 ()
      · refine x_aload_n 12 hE dX2_words_11 rfl 0 rfl ?_
        refine x_callv 15 (xw_goM hE hac (xw_rV hE (ct_X2_errs hac ) xd_X2_errs rfl q1560 q1562 qs37 q97 q1563 rfl ⟨Nat.le_of_ble_eq_true rfl, Nat.le_of_ble_eq_true rfl⟩ rfl rfl (by decide) dX2_words_12)) rfl ?_
        refine x_sub [(0, va_rf (some (xw_hm (xe_G E)))), (1, .int v1)] [0, 1] rfl ?_
        exact hJ1 ()

set_option maxHeartbeats 4000000 in
theorem ct_X2_span {l : Launch} {G : xw_G} {σ0 : xw_St} (hac : xw_ac G = true) (v1 : Int32) (v2 : Int32) (v3 : Int32) : xw_Ct l G (xw_hr G σ0) xw_ov yX2_span cX2_span 5 none 4 [va_rf (some (xw_hm G)), .int v1, .int v2, .int v3] (pg_X2_span v1 v2 v3) := by
  refine xw_metL [(0, va_rf (some (xw_hm G))), (1, .int v1), (2, .int v2), (3, .int v3)] (by decide) (Nat.le_trans (Nat.le_of_eq ((xw_l1 rfl).trans (congrArg (1 + ·) ((xw_l1 rfl).trans (congrArg (1 + ·) ((xw_l1 rfl).trans (congrArg (1 + ·) ((xw_l1 rfl).trans (congrArg (1 + ·) xw_l0))))))))) (by decide)) ((xw_a1 rfl).trans (congrArg (List.cons _) ((xw_a1 rfl).trans (congrArg (List.cons _) ((xw_a1 rfl).trans (congrArg (List.cons _) ((xw_a1 rfl).trans (congrArg (List.cons _) xw_a0)))))))) (fun E hE hl hG hm => ?_)
  subst hl; subst hG
  have hE : xw_ok E "CrossingWordsModel" cX2_span 5 none 4 := hE
  unfold pg_X2_span
  refine x_aload_n 1 hE dX2_span_0 rfl 0 rfl ?_
  refine y_ga 4 hE hac (by decide) ymf_13 rfl xkf_CrossingWordsModel_49 dX2_span_1 rfl ?_
  refine x_iconst 5 hE dX2_span_4 rfl xc_i_3 ?_
  refine x_iload_n 6 hE dX2_span_5 rfl 1 rfl ?_
  refine x_imul 7 hE dX2_span_6 rfl ?_
  refine x_iload_n 8 hE dX2_span_7 rfl 2 rfl ?_
  refine x_iadd 9 hE dX2_span_8 rfl ?_
  refine x_aload_n 10 hE dX2_span_9 rfl 0 rfl ?_
  refine x_iconst 11 hE dX2_span_10 rfl xc_i_0 ?_
  refine x_iload_n 12 hE dX2_span_11 rfl 3 rfl ?_
  refine x_calli 15 (xw_goM hE hac (xw_rV hE (ct_X2_numeral hac 0 v3) xd_X2_numeral rfl q1605 q1607 qs45 q97 q1608 rfl ⟨Nat.le_of_ble_eq_true rfl, Nat.le_of_ble_eq_true rfl⟩ rfl rfl (Nat.le_trans (xw_sm1 rfl (xw_sm1 rfl xw_sm0)) (by decide)) dX2_span_12)) rfl (fun v4 => ?_)
  refine y_st 16 hE hac ⟨rfl, rfl⟩ dX2_span_15 rfl ?_
  refine x_aload_n 17 hE dX2_span_16 rfl 0 rfl ?_
  refine y_ga 20 hE hac (by decide) ymf_14 rfl xkf_CrossingWordsModel_52 dX2_span_17 rfl ?_
  refine x_iconst 21 hE dX2_span_20 rfl xc_i_3 ?_
  refine x_iload_n 22 hE dX2_span_21 rfl 1 rfl ?_
  refine x_imul 23 hE dX2_span_22 rfl ?_
  refine x_iload_n 24 hE dX2_span_23 rfl 2 rfl ?_
  refine x_iadd 25 hE dX2_span_24 rfl ?_
  refine x_aload_n 26 hE dX2_span_25 rfl 0 rfl ?_
  refine y_ga 29 hE hac (by decide) ymf_13 rfl xkf_CrossingWordsModel_49 dX2_span_26 rfl ?_
  refine x_iconst 30 hE dX2_span_29 rfl xc_i_3 ?_
  refine x_iload_n 31 hE dX2_span_30 rfl 1 rfl ?_
  refine x_imul 32 hE dX2_span_31 rfl ?_
  refine x_iload_n 33 hE dX2_span_32 rfl 2 rfl ?_
  refine x_iadd 34 hE dX2_span_33 rfl ?_
  refine y_ld 35 hE hac ⟨rfl, rfl⟩ dX2_span_34 rfl (fun v5 => ?_)
  refine y_st 36 hE hac ⟨rfl, rfl⟩ dX2_span_35 rfl ?_
  refine x_aload_n 37 hE dX2_span_36 rfl 0 rfl ?_
  refine x_ldc2 40 hE q1636 dX2_span_37 rfl ?_
  refine x_calli 43 (xw_goM hE hac (xw_rV hE (ct_X2_is hac 555) xd_X2_is rfl q1610 q1612 qs46 q97 q1613 rfl ⟨Nat.le_of_ble_eq_true rfl, Nat.le_of_ble_eq_true rfl⟩ rfl rfl (by decide) dX2_span_40)) rfl (fun v6 => ?_)
  refine x_if_ne 47 46 hE dX2_span_43 (by decide) rfl ?_ ?_
  · exact x_vret hE dX2_span_46
  · refine x_aload_n 48 hE dX2_span_47 rfl 0 rfl ?_
    refine x_callv 51 (xw_goM hE hac (xw_rV hE (ct_X2_next hac ) xd_X2_next rfl q1542 q1544 qs34 q97 q1545 rfl ⟨Nat.le_of_ble_eq_true rfl, Nat.le_of_ble_eq_true rfl⟩ rfl rfl (by decide) dX2_span_48)) rfl ?_
    refine x_aload_n 52 hE dX2_span_51 rfl 0 rfl ?_
    refine y_ga 55 hE hac (by decide) ymf_13 rfl xkf_CrossingWordsModel_49 dX2_span_52 rfl ?_
    refine x_iconst 56 hE dX2_span_55 rfl xc_i_3 ?_
    refine x_iload_n 57 hE dX2_span_56 rfl 1 rfl ?_
    refine x_imul 58 hE dX2_span_57 rfl ?_
    refine x_iload_n 59 hE dX2_span_58 rfl 2 rfl ?_
    refine x_iadd 60 hE dX2_span_59 rfl ?_
    refine y_ld 61 hE hac ⟨rfl, rfl⟩ dX2_span_60 rfl (fun v7 => ?_)
    refine x_bipush 63 hE dX2_span_61 rfl xc_b_15 ?_
    refine x_iadd 64 hE dX2_span_63 rfl ?_
    refine x_lti (fun v8 => ?_)
    refine x_istore 66 [(4, .int v8), (0, va_rf (some (xw_hm (xe_G E)))), (1, .int v1), (2, .int v2), (3, .int v3)] hE dX2_span_64 rfl (Nat.le_of_ble_eq_true rfl) rfl ?_
    refine x_aload_n 67 hE dX2_span_66 rfl 1 rfl ?_
    refine y_ga 70 hE hac (by decide) ymf_14 rfl xkf_CrossingWordsModel_52 dX2_span_67 rfl ?_
    refine x_iconst 71 hE dX2_span_70 rfl xc_i_3 ?_
    refine x_iload_n 72 hE dX2_span_71 rfl 2 rfl ?_
    refine x_imul 73 hE dX2_span_72 rfl ?_
    refine x_iload_n 74 hE dX2_span_73 rfl 3 rfl ?_
    refine x_iadd 75 hE dX2_span_74 rfl ?_
    refine x_aload_n 76 hE dX2_span_75 rfl 1 rfl ?_
    refine x_aload_n 77 hE dX2_span_76 rfl 1 rfl ?_
    refine y_ga 80 hE hac (by decide) ymf_13 rfl xkf_CrossingWordsModel_49 dX2_span_77 rfl ?_
    refine x_iconst 81 hE dX2_span_80 rfl xc_i_3 ?_
    refine x_iload_n 82 hE dX2_span_81 rfl 2 rfl ?_
    refine x_imul 83 hE dX2_span_82 rfl ?_
    refine x_iload_n 84 hE dX2_span_83 rfl 3 rfl ?_
    refine x_iadd 85 hE dX2_span_84 rfl ?_
    refine y_ld 86 hE hac ⟨rfl, rfl⟩ dX2_span_85 rfl (fun v9 => ?_)
    refine x_iload 88 hE dX2_span_86 rfl 0 rfl ?_
    refine x_iload_n 89 hE dX2_span_88 rfl 4 rfl ?_
    refine x_sq 98 (fun (v10 : Int32) => []) (fun (v10 : Int32) => [.int v10, .int v9, va_rf (some (xw_hm (xe_G E))), .int ((3 * v1) + v2), va_rf (some (xw_am (xe_G E) 14))]) (fun v10 => ?_) (fun J1 hJ1 => ?_)
    · refine x_calli 101 (xw_goM hE hac (xw_rV hE (ct_X2_numeral hac v9 v10) xd_X2_numeral rfl q1605 q1607 qs45 q97 q1608 rfl ⟨Nat.le_of_ble_eq_true rfl, Nat.le_of_ble_eq_true rfl⟩ rfl rfl (Nat.le_trans (xw_sm1 rfl (xw_sm1 rfl xw_sm0)) (by decide)) dX2_span_98)) rfl (fun v11 => ?_)
      refine y_st 102 hE hac ⟨rfl, rfl⟩ dX2_span_101 rfl ?_
      exact x_vret hE dX2_span_102
    · refine x_icmp_ge 97 92 hE dX2_span_89 (by decide) rfl ?_ ?_
      · refine x_iload_n 98 hE dX2_span_97 rfl 4 rfl ?_
        refine x_sub [] [] rfl ?_
        exact hJ1 v3
      · refine x_iload 94 hE dX2_span_92 rfl 0 rfl ?_
        refine x_goto 98 hE dX2_span_94 (by decide) ?_
        refine x_sub [] [] rfl ?_
        exact hJ1 v8

set_option maxHeartbeats 4000000 in
theorem ct_X2_times {l : Launch} {G : xw_G} {σ0 : xw_St} (hac : xw_ac G = true) (v1 : Int32) : xw_Ct l G (xw_hr G σ0) xw_ov yX2_times cX2_times 3 none 5 [va_rf (some (xw_hm G)), .int v1] (pg_X2_times v1) := by
  refine xw_metL [(0, va_rf (some (xw_hm G))), (1, .int v1)] (by decide) (Nat.le_trans (Nat.le_of_eq ((xw_l1 rfl).trans (congrArg (1 + ·) ((xw_l1 rfl).trans (congrArg (1 + ·) xw_l0))))) (by decide)) ((xw_a1 rfl).trans (congrArg (List.cons _) ((xw_a1 rfl).trans (congrArg (List.cons _) xw_a0)))) (fun E hE hl hG hm => ?_)
  subst hl; subst hG
  have hE : xw_ok E "CrossingWordsModel" cX2_times 3 none 5 := hE
  unfold pg_X2_times
  refine x_aload_n 1 hE dX2_times_0 rfl 0 rfl ?_
  refine x_calli 4 (xw_goM hE hac (xw_rV hE (ct_X2_wayHere hac ) xd_X2_wayHere rfl q1620 q1622 qs48 q97 q1623 rfl ⟨Nat.le_of_ble_eq_true rfl, Nat.le_of_ble_eq_true rfl⟩ rfl rfl (by decide) dX2_times_1)) rfl (fun v2 => ?_)
  refine x_istore_n 5 [(2, .int v2), (0, va_rf (some (xw_hm (xe_G E)))), (1, .int v1)] hE dX2_times_4 rfl rfl (Nat.le_of_ble_eq_true rfl) rfl ?_
  refine x_iload_n 6 hE dX2_times_5 rfl 0 rfl ?_
  refine x_if_ge 14 9 hE dX2_times_6 (by decide) rfl ?_ ?_
  · refine x_aload_n 15 hE dX2_times_14 rfl 1 rfl ?_
    refine x_callv 18 (xw_goM hE hac (xw_rV hE (ct_X2_next hac ) xd_X2_next rfl q1542 q1544 qs34 q97 q1545 rfl ⟨Nat.le_of_ble_eq_true rfl, Nat.le_of_ble_eq_true rfl⟩ rfl rfl (by decide) dX2_times_15)) rfl ?_
    refine x_aload_n 19 hE dX2_times_18 rfl 1 rfl ?_
    refine y_ga 22 hE hac (by decide) ymf_8 rfl xkf_CrossingWordsModel_34 dX2_times_19 rfl ?_
    refine x_iload_n 23 hE dX2_times_22 rfl 2 rfl ?_
    refine x_iload_n 24 hE dX2_times_23 rfl 0 rfl ?_
    refine y_st 25 hE hac ⟨rfl, rfl⟩ dX2_times_24 rfl ?_
    refine x_aload_n 26 hE dX2_times_25 rfl 1 rfl ?_
    refine x_ldc2 29 hE q1627 dX2_times_26 rfl ?_
    refine x_callv 32 (xw_goM hE hac (xw_rV hE (ct_X2_mustBe hac 47) xd_X2_mustBe rfl q1628 q1630 qs49 q97 q1631 rfl ⟨Nat.le_of_ble_eq_true rfl, Nat.le_of_ble_eq_true rfl⟩ rfl rfl (by decide) dX2_times_29)) rfl ?_
    refine x_aload_n 33 hE dX2_times_32 rfl 1 rfl ?_
    refine x_iload_n 34 hE dX2_times_33 rfl 2 rfl ?_
    refine x_iconst 35 hE dX2_times_34 rfl xc_i_0 ?_
    refine x_sipush 38 hE dX2_times_35 rfl xc_s_1999 ?_
    refine x_callv 41 (xw_goM hE hac (xw_rV hE (ct_X2_span hac v1 0 1999) xd_X2_span rfl q1632 q1634 qs50 q97 q1635 rfl ⟨Nat.le_of_ble_eq_true rfl, Nat.le_of_ble_eq_true rfl⟩ rfl rfl (by decide) dX2_times_38)) rfl ?_
    refine x_iload_n 42 hE dX2_times_41 rfl 0 rfl ?_
    refine x_iconst 43 hE dX2_times_42 rfl xc_i_1 ?_
    refine x_icmp_le 47 46 hE dX2_times_43 (by decide) rfl ?_ ?_
    · refine x_aload_n 48 hE dX2_times_47 rfl 1 rfl ?_
      refine x_ldc2 51 hE q1637 dX2_times_48 rfl ?_
      refine x_callv 54 (xw_goM hE hac (xw_rV hE (ct_X2_mustBe hac 664272) xd_X2_mustBe rfl q1628 q1630 qs49 q97 q1631 rfl ⟨Nat.le_of_ble_eq_true rfl, Nat.le_of_ble_eq_true rfl⟩ rfl rfl (by decide) dX2_times_51)) rfl ?_
      refine x_aload_n 55 hE dX2_times_54 rfl 1 rfl ?_
      refine x_iload_n 56 hE dX2_times_55 rfl 2 rfl ?_
      refine x_iconst 57 hE dX2_times_56 rfl xc_i_1 ?_
      refine x_sipush 60 hE dX2_times_57 rfl xc_s_999 ?_
      refine x_callv 63 (xw_goM hE hac (xw_rV hE (ct_X2_span hac v1 1 999) xd_X2_span rfl q1632 q1634 qs50 q97 q1635 rfl ⟨Nat.le_of_ble_eq_true rfl, Nat.le_of_ble_eq_true rfl⟩ rfl rfl (by decide) dX2_times_60)) rfl ?_
      refine x_aload_n 64 hE dX2_times_63 rfl 1 rfl ?_
      refine x_ldc2 67 hE q1638 dX2_times_64 rfl ?_
      refine x_calli 70 (xw_goM hE hac (xw_rV hE (ct_X2_is hac 357970) xd_X2_is rfl q1610 q1612 qs46 q97 q1613 rfl ⟨Nat.le_of_ble_eq_true rfl, Nat.le_of_ble_eq_true rfl⟩ rfl rfl (by decide) dX2_times_67)) rfl (fun v3 => ?_)
      refine x_sq 86 (fun (v4 : Unit) => [(0, va_rf (some (xw_hm (xe_G E)))), (1, .int v1)]) (fun (v4 : Unit) => []) (fun v4 => ?_) (fun J1 hJ1 => ?_)
      · refine x_aload_n 87 hE dX2_times_86 rfl 0 rfl ?_
        refine x_ldc2 90 hE q1639 dX2_times_87 rfl ?_
        refine x_calli 93 (xw_goM hE hac (xw_rV hE (ct_X2_is hac 247664) xd_X2_is rfl q1610 q1612 qs46 q97 q1613 rfl ⟨Nat.le_of_ble_eq_true rfl, Nat.le_of_ble_eq_true rfl⟩ rfl rfl (by decide) dX2_times_90)) rfl (fun v5 => ?_)
        refine x_if_eq 107 96 hE dX2_times_93 (by decide) rfl ?_ ?_
        · exact x_vret hE dX2_times_107
        · refine x_aload_n 97 hE dX2_times_96 rfl 0 rfl ?_
          refine x_callv 100 (xw_goM hE hac (xw_rV hE (ct_X2_next hac ) xd_X2_next rfl q1542 q1544 qs34 q97 q1545 rfl ⟨Nat.le_of_ble_eq_true rfl, Nat.le_of_ble_eq_true rfl⟩ rfl rfl (by decide) dX2_times_97)) rfl ?_
          refine x_aload_n 101 hE dX2_times_100 rfl 0 rfl ?_
          refine y_ga 104 hE hac (by decide) ymf_11 rfl xkf_CrossingWordsModel_43 dX2_times_101 rfl ?_
          refine x_iload_n 105 hE dX2_times_104 rfl 1 rfl ?_
          refine x_iconst 106 hE dX2_times_105 rfl xc_i_1 ?_
          refine y_st 107 hE hac ⟨rfl, rfl⟩ dX2_times_106 rfl ?_
          exact x_vret hE dX2_times_107
      · refine x_if_eq 86 73 hE dX2_times_70 (by decide) rfl ?_ ?_
        · refine x_sub [(0, va_rf (some (xw_hm (xe_G E)))), (1, .int v1)] [1, 2] rfl ?_
          exact hJ1 ()
        · refine x_aload_n 74 hE dX2_times_73 rfl 1 rfl ?_
          refine x_callv 77 (xw_goM hE hac (xw_rV hE (ct_X2_next hac ) xd_X2_next rfl q1542 q1544 qs34 q97 q1545 rfl ⟨Nat.le_of_ble_eq_true rfl, Nat.le_of_ble_eq_true rfl⟩ rfl rfl (by decide) dX2_times_74)) rfl ?_
          refine x_aload_n 78 hE dX2_times_77 rfl 1 rfl ?_
          refine x_iload_n 79 hE dX2_times_78 rfl 2 rfl ?_
          refine x_iconst 80 hE dX2_times_79 rfl xc_i_2 ?_
          refine x_sipush 83 hE dX2_times_80 rfl xc_s_999 ?_
          refine x_callv 86 (xw_goM hE hac (xw_rV hE (ct_X2_span hac v1 2 999) xd_X2_span rfl q1632 q1634 qs50 q97 q1635 rfl ⟨Nat.le_of_ble_eq_true rfl, Nat.le_of_ble_eq_true rfl⟩ rfl rfl (by decide) dX2_times_83)) rfl ?_
          refine x_sub [(0, va_rf (some (xw_hm (xe_G E)))), (1, .int v1)] [1, 2] rfl ?_
          exact hJ1 ()
    · exact x_vret hE dX2_times_46
  · refine x_aload_n 10 hE dX2_times_9 rfl 1 rfl ?_
    refine x_callv 13 (xw_goM hE hac (xw_rV hE (ct_X2_errs hac ) xd_X2_errs rfl q1560 q1562 qs37 q97 q1563 rfl ⟨Nat.le_of_ble_eq_true rfl, Nat.le_of_ble_eq_true rfl⟩ rfl rfl (by decide) dX2_times_10)) rfl ?_
    exact x_vret hE dX2_times_13

set_option maxHeartbeats 4000000 in
theorem ct_X2_isOffer {l : Launch} {G : xw_G} {σ0 : xw_St} (hac : xw_ac G = true) (v1 : Int32) : xw_Ct l G (xw_hr G σ0) xw_oi yX2_isOffer cX2_isOffer 2 (some (.boolean)) 1 [va_rf (some (xw_hm G)), .int v1] (pg_X2_isOffer v1) := by
  refine xw_metL [(0, va_rf (some (xw_hm G))), (1, .int v1)] (by decide) (Nat.le_trans (Nat.le_of_eq ((xw_l1 rfl).trans (congrArg (1 + ·) ((xw_l1 rfl).trans (congrArg (1 + ·) xw_l0))))) (by decide)) ((xw_a1 rfl).trans (congrArg (List.cons _) ((xw_a1 rfl).trans (congrArg (List.cons _) xw_a0)))) (fun E hE hl hG hm => ?_)
  subst hl; subst hG
  have hE : xw_ok E "CrossingWordsModel" cX2_isOffer 2 (some (.boolean)) 1 := hE
  unfold pg_X2_isOffer
  refine x_iload_n 1 hE dX2_isOffer_0 rfl 1 rfl ?_
  refine x_if_eq 9 4 hE dX2_isOffer_1 (by decide) rfl ?_ ?_
  · refine x_iconst 10 hE dX2_isOffer_9 rfl xc_i_1 ?_
    refine x_goto 14 hE dX2_isOffer_10 (by decide) ?_
    exact x_zretw hE (by decide) dX2_isOffer_14
  · refine x_iload_n 5 hE dX2_isOffer_4 rfl 1 rfl ?_
    refine x_iconst 6 hE dX2_isOffer_5 rfl xc_i_3 ?_
    refine x_icmp_ne 13 9 hE dX2_isOffer_6 (by decide) rfl ?_ ?_
    · refine x_iconst 10 hE dX2_isOffer_9 rfl xc_i_1 ?_
      refine x_goto 14 hE dX2_isOffer_10 (by decide) ?_
      exact x_zretw hE (by decide) dX2_isOffer_14
    · refine x_iconst 14 hE dX2_isOffer_13 rfl xc_i_0 ?_
      exact x_zretw hE (by decide) dX2_isOffer_14

set_option maxHeartbeats 4000000 in
theorem ct_X2_saidHere {l : Launch} {G : xw_G} {σ0 : xw_St} (hac : xw_ac G = true) (v1 : Int32) (v2 : Int32) (v3 : Int32) (v4 : Int32) : xw_Ct l G (xw_hr G σ0) xw_oi yX2_saidHere cX2_saidHere 8 (some (.int)) 3 [va_rf (some (xw_hm G)), .int v1, .int v2, .int v3, .int v4] (pg_X2_saidHere v1 v2 v3 v4) := by
  refine xw_metL [(0, va_rf (some (xw_hm G))), (1, .int v1), (2, .int v2), (3, .int v3), (4, .int v4)] (by decide) (Nat.le_trans (Nat.le_of_eq ((xw_l1 rfl).trans (congrArg (1 + ·) ((xw_l1 rfl).trans (congrArg (1 + ·) ((xw_l1 rfl).trans (congrArg (1 + ·) ((xw_l1 rfl).trans (congrArg (1 + ·) ((xw_l1 rfl).trans (congrArg (1 + ·) xw_l0))))))))))) (by decide)) ((xw_a1 rfl).trans (congrArg (List.cons _) ((xw_a1 rfl).trans (congrArg (List.cons _) ((xw_a1 rfl).trans (congrArg (List.cons _) ((xw_a1 rfl).trans (congrArg (List.cons _) ((xw_a1 rfl).trans (congrArg (List.cons _) xw_a0)))))))))) (fun E hE hl hG hm => ?_)
  subst hl; subst hG
  have hE : xw_ok E "CrossingWordsModel" cX2_saidHere 8 (some (.int)) 3 := hE
  unfold pg_X2_saidHere
  refine x_aload_n 1 hE dX2_saidHere_0 rfl 0 rfl ?_
  refine y_g 4 hE hac (by decide) ymf_25 rfl xkf_CrossingWordsModel_183 dX2_saidHere_1 rfl (fun v5 => ?_)
  refine x_if_eq 9 7 hE dX2_saidHere_4 (by decide) rfl ?_ ?_
  · refine x_aload_n 10 hE dX2_saidHere_9 rfl 0 rfl ?_
    refine y_g 13 hE hac (by decide) ymf_22 rfl xkf_CrossingWordsModel_173 dX2_saidHere_10 rfl (fun v6 => ?_)
    refine x_iconst 14 hE dX2_saidHere_13 rfl xc_i_2 ?_
    refine x_sq 33 (fun (v7 : Int32) => [(0, va_rf (some (xw_hm (xe_G E)))), (1, .int v1), (3, .int v3), (4, .int v4)]) (fun (v7 : Int32) => [.int v7]) (fun v7 => ?_) (fun J1 hJ1 => ?_)
    · refine x_istore 35 [(5, .int v7), (0, va_rf (some (xw_hm (xe_G E)))), (1, .int v1), (3, .int v3), (4, .int v4)] hE dX2_saidHere_33 rfl (Nat.le_of_ble_eq_true rfl) rfl ?_
      refine x_bipush 37 hE dX2_saidHere_35 rfl xc_b_12 ?_
      refine x_iload_n 38 hE dX2_saidHere_37 rfl 2 rfl ?_
      refine x_imul 39 hE dX2_saidHere_38 rfl ?_
      refine x_iload 41 hE dX2_saidHere_39 rfl 0 rfl ?_
      refine x_iadd 42 hE dX2_saidHere_41 rfl ?_
      refine x_lti (fun v8 => ?_)
      refine x_istore 44 [(6, .int v8), (5, .int v7), (0, va_rf (some (xw_hm (xe_G E)))), (1, .int v1), (3, .int v3), (4, .int v4)] hE dX2_saidHere_42 rfl (Nat.le_of_ble_eq_true rfl) rfl ?_
      refine x_iload 46 hE dX2_saidHere_44 rfl 1 rfl ?_
      refine x_sq 54 (fun (v9 : Int32) => [(0, va_rf (some (xw_hm (xe_G E)))), (3, .int v3), (4, .int v4), (5, .int v7), (6, .int v8)]) (fun (v9 : Int32) => [.int v9]) (fun v9 => ?_) (fun J2 hJ2 => ?_)
      · refine x_istore 56 [(7, .int v9), (0, va_rf (some (xw_hm (xe_G E)))), (3, .int v3), (4, .int v4), (5, .int v7), (6, .int v8)] hE dX2_saidHere_54 rfl (Nat.le_of_ble_eq_true rfl) rfl ?_
        refine x_iload 58 hE dX2_saidHere_56 rfl 0 rfl ?_
        refine x_sq 110 (fun (v10 : Int32) => [(0, va_rf (some (xw_hm (xe_G E)))), (3, .int v3), (4, .int v4), (5, .int v7), (6, .int v8), (7, .int v10)]) (fun (v10 : Int32) => []) (fun v10 => ?_) (fun J3 hJ3 => ?_)
        · refine x_iload 112 hE dX2_saidHere_110 rfl 5 rfl ?_
          refine x_sq 164 (fun (v11 : Int32) => [(0, va_rf (some (xw_hm (xe_G E)))), (3, .int v3), (4, .int v4), (5, .int v7), (6, .int v8), (7, .int v11)]) (fun (v11 : Int32) => []) (fun v11 => ?_) (fun J4 hJ4 => ?_)
          · refine x_iload 166 hE dX2_saidHere_164 rfl 5 rfl ?_
            refine x_sq 208 (fun (v12 : Int32) => [(0, va_rf (some (xw_hm (xe_G E)))), (5, .int v7), (7, .int v12)]) (fun (v12 : Int32) => []) (fun v12 => ?_) (fun J5 hJ5 => ?_)
            · refine x_iload 210 hE dX2_saidHere_208 rfl 2 rfl ?_
              refine x_if_ne 220 213 hE dX2_saidHere_210 (by decide) rfl ?_ ?_
              · refine x_aload_n 214 hE dX2_saidHere_213 rfl 0 rfl ?_
                refine x_callv 217 (xw_goM hE hac (xw_rV hE (ct_X2_errs hac ) xd_X2_errs rfl q1560 q1562 qs37 q97 q1563 rfl ⟨Nat.le_of_ble_eq_true rfl, Nat.le_of_ble_eq_true rfl⟩ rfl rfl (by decide) dX2_saidHere_214)) rfl ?_
                refine x_goto 224 hE dX2_saidHere_217 (by decide) ?_
                refine x_iload 226 hE dX2_saidHere_224 rfl 1 rfl ?_
                exact x_iret hE dX2_saidHere_226
              · refine x_aload_n 221 hE dX2_saidHere_220 rfl 0 rfl ?_
                refine x_callv 224 (xw_goM hE hac (xw_rV hE (ct_X2_next hac ) xd_X2_next rfl q1542 q1544 qs34 q97 q1545 rfl ⟨Nat.le_of_ble_eq_true rfl, Nat.le_of_ble_eq_true rfl⟩ rfl rfl (by decide) dX2_saidHere_221)) rfl ?_
                refine x_iload 226 hE dX2_saidHere_224 rfl 1 rfl ?_
                exact x_iret hE dX2_saidHere_226
            · refine x_if_eq 208 169 hE dX2_saidHere_166 (by decide) rfl ?_ ?_
              · refine x_sub [(0, va_rf (some (xw_hm (xe_G E)))), (5, .int v7), (7, .int v11)] [0, 3, 5] rfl ?_
                exact hJ5 v11
              · refine x_iload_n 170 hE dX2_saidHere_169 rfl 1 rfl ?_
                refine x_bipush 172 hE dX2_saidHere_170 rfl xc_b_7 ?_
                refine x_icmp_ne 208 175 hE dX2_saidHere_172 (by decide) rfl ?_ ?_
                · refine x_aload_n 176 hE dX2_saidHere_175 rfl 0 rfl ?_
                  refine x_aload_n 177 hE dX2_saidHere_176 rfl 0 rfl ?_
                  refine y_ga 180 hE hac (by decide) ymf_4 rfl xkf_CrossingWordsModel_22 dX2_saidHere_177 rfl ?_
                  refine x_iload 182 hE dX2_saidHere_180 rfl 4 rfl ?_
                  refine y_ld 183 hE hac ⟨rfl, rfl⟩ dX2_saidHere_182 rfl (fun v13 => ?_)
                  refine x_calli 186 (xw_goM hE hac (xw_rV hE (ct_X2_isOffer hac v13) xd_X2_isOffer rfl q1588 q1590 qs42 q97 q1591 rfl ⟨Nat.le_of_ble_eq_true rfl, Nat.le_of_ble_eq_true rfl⟩ rfl rfl (by decide) dX2_saidHere_183)) rfl (fun v14 => ?_)
                  refine x_if_eq 205 189 hE dX2_saidHere_186 (by decide) rfl ?_ ?_
                  · refine x_iconst 206 hE dX2_saidHere_205 rfl xc_i_0 ?_
                    refine x_istore 208 [(7, .int 0), (0, va_rf (some (xw_hm (xe_G E)))), (3, .int v3), (4, .int v4), (5, .int v7), (6, .int v8)] hE dX2_saidHere_206 rfl (Nat.le_of_ble_eq_true rfl) rfl ?_
                    refine x_sub [(0, va_rf (some (xw_hm (xe_G E)))), (5, .int v7), (7, .int 0)] [1, 4, 0] rfl ?_
                    exact hJ5 0
                  · refine x_aload_n 190 hE dX2_saidHere_189 rfl 0 rfl ?_
                    refine y_ga 193 hE hac (by decide) ymf_5 rfl xkf_CrossingWordsModel_25 dX2_saidHere_190 rfl ?_
                    refine x_iload 195 hE dX2_saidHere_193 rfl 4 rfl ?_
                    refine y_ld 196 hE hac ⟨rfl, rfl⟩ dX2_saidHere_195 rfl (fun v15 => ?_)
                    refine x_iload 198 hE dX2_saidHere_196 rfl 2 rfl ?_
                    refine x_icmp_ne 205 201 hE dX2_saidHere_198 (by decide) rfl ?_ ?_
                    · refine x_iconst 202 hE dX2_saidHere_201 rfl xc_i_1 ?_
                      refine x_goto 206 hE dX2_saidHere_202 (by decide) ?_
                      refine x_istore 208 [(7, .int 1), (0, va_rf (some (xw_hm (xe_G E)))), (3, .int v3), (4, .int v4), (5, .int v7), (6, .int v8)] hE dX2_saidHere_206 rfl (Nat.le_of_ble_eq_true rfl) rfl ?_
                      refine x_sub [(0, va_rf (some (xw_hm (xe_G E)))), (5, .int v7), (7, .int 1)] [1, 4, 0] rfl ?_
                      exact hJ5 1
                    · refine x_iconst 206 hE dX2_saidHere_205 rfl xc_i_0 ?_
                      refine x_istore 208 [(7, .int 0), (0, va_rf (some (xw_hm (xe_G E)))), (3, .int v3), (4, .int v4), (5, .int v7), (6, .int v8)] hE dX2_saidHere_206 rfl (Nat.le_of_ble_eq_true rfl) rfl ?_
                      refine x_sub [(0, va_rf (some (xw_hm (xe_G E)))), (5, .int v7), (7, .int 0)] [1, 4, 0] rfl ?_
                      exact hJ5 0
                · refine x_sub [(0, va_rf (some (xw_hm (xe_G E)))), (5, .int v7), (7, .int v11)] [0, 3, 5] rfl ?_
                  exact hJ5 v11
          · refine x_if_eq 164 115 hE dX2_saidHere_112 (by decide) rfl ?_ ?_
            · refine x_sub [(0, va_rf (some (xw_hm (xe_G E)))), (3, .int v3), (4, .int v4), (5, .int v7), (6, .int v8), (7, .int v10)] [0, 1, 2, 3, 4, 5] rfl ?_
              exact hJ4 v10
            · refine x_iload_n 116 hE dX2_saidHere_115 rfl 1 rfl ?_
              refine x_iconst 117 hE dX2_saidHere_116 rfl xc_i_5 ?_
              refine x_icmp_ne 164 120 hE dX2_saidHere_117 (by decide) rfl ?_ ?_
              · refine x_aload_n 121 hE dX2_saidHere_120 rfl 0 rfl ?_
                refine x_aload_n 122 hE dX2_saidHere_121 rfl 0 rfl ?_
                refine y_ga 125 hE hac (by decide) ymf_4 rfl xkf_CrossingWordsModel_22 dX2_saidHere_122 rfl ?_
                refine x_iload 127 hE dX2_saidHere_125 rfl 4 rfl ?_
                refine y_ld 128 hE hac ⟨rfl, rfl⟩ dX2_saidHere_127 rfl (fun v16 => ?_)
                refine x_calli 131 (xw_goM hE hac (xw_rV hE (ct_X2_isOffer hac v16) xd_X2_isOffer rfl q1588 q1590 qs42 q97 q1591 rfl ⟨Nat.le_of_ble_eq_true rfl, Nat.le_of_ble_eq_true rfl⟩ rfl rfl (by decide) dX2_saidHere_128)) rfl (fun v17 => ?_)
                refine x_if_ne 145 134 hE dX2_saidHere_131 (by decide) rfl ?_ ?_
                · refine x_aload_n 135 hE dX2_saidHere_134 rfl 0 rfl ?_
                  refine y_ga 138 hE hac (by decide) ymf_4 rfl xkf_CrossingWordsModel_22 dX2_saidHere_135 rfl ?_
                  refine x_iload 140 hE dX2_saidHere_138 rfl 4 rfl ?_
                  refine y_ld 141 hE hac ⟨rfl, rfl⟩ dX2_saidHere_140 rfl (fun v19 => ?_)
                  refine x_iconst 142 hE dX2_saidHere_141 rfl xc_i_2 ?_
                  refine x_icmp_ne 161 145 hE dX2_saidHere_142 (by decide) rfl ?_ ?_
                  · refine x_aload_n 146 hE dX2_saidHere_145 rfl 0 rfl ?_
                    refine y_ga 149 hE hac (by decide) ymf_5 rfl xkf_CrossingWordsModel_25 dX2_saidHere_146 rfl ?_
                    refine x_iload 151 hE dX2_saidHere_149 rfl 4 rfl ?_
                    refine y_ld 152 hE hac ⟨rfl, rfl⟩ dX2_saidHere_151 rfl (fun v20 => ?_)
                    refine x_iload 154 hE dX2_saidHere_152 rfl 2 rfl ?_
                    refine x_icmp_ne 161 157 hE dX2_saidHere_154 (by decide) rfl ?_ ?_
                    · refine x_iconst 158 hE dX2_saidHere_157 rfl xc_i_1 ?_
                      refine x_goto 162 hE dX2_saidHere_158 (by decide) ?_
                      refine x_istore 164 [(7, .int 1), (0, va_rf (some (xw_hm (xe_G E)))), (3, .int v3), (4, .int v4), (5, .int v7), (6, .int v8)] hE dX2_saidHere_162 rfl (Nat.le_of_ble_eq_true rfl) rfl ?_
                      refine x_sub [(0, va_rf (some (xw_hm (xe_G E)))), (3, .int v3), (4, .int v4), (5, .int v7), (6, .int v8), (7, .int 1)] [1, 2, 3, 4, 5, 0] rfl ?_
                      exact hJ4 1
                    · refine x_iconst 162 hE dX2_saidHere_161 rfl xc_i_0 ?_
                      refine x_istore 164 [(7, .int 0), (0, va_rf (some (xw_hm (xe_G E)))), (3, .int v3), (4, .int v4), (5, .int v7), (6, .int v8)] hE dX2_saidHere_162 rfl (Nat.le_of_ble_eq_true rfl) rfl ?_
                      refine x_sub [(0, va_rf (some (xw_hm (xe_G E)))), (3, .int v3), (4, .int v4), (5, .int v7), (6, .int v8), (7, .int 0)] [1, 2, 3, 4, 5, 0] rfl ?_
                      exact hJ4 0
                  · refine x_iconst 162 hE dX2_saidHere_161 rfl xc_i_0 ?_
                    refine x_istore 164 [(7, .int 0), (0, va_rf (some (xw_hm (xe_G E)))), (3, .int v3), (4, .int v4), (5, .int v7), (6, .int v8)] hE dX2_saidHere_162 rfl (Nat.le_of_ble_eq_true rfl) rfl ?_
                    refine x_sub [(0, va_rf (some (xw_hm (xe_G E)))), (3, .int v3), (4, .int v4), (5, .int v7), (6, .int v8), (7, .int 0)] [1, 2, 3, 4, 5, 0] rfl ?_
                    exact hJ4 0
                · refine x_aload_n 146 hE dX2_saidHere_145 rfl 0 rfl ?_
                  refine y_ga 149 hE hac (by decide) ymf_5 rfl xkf_CrossingWordsModel_25 dX2_saidHere_146 rfl ?_
                  refine x_iload 151 hE dX2_saidHere_149 rfl 4 rfl ?_
                  refine y_ld 152 hE hac ⟨rfl, rfl⟩ dX2_saidHere_151 rfl (fun v18 => ?_)
                  refine x_iload 154 hE dX2_saidHere_152 rfl 2 rfl ?_
                  refine x_icmp_ne 161 157 hE dX2_saidHere_154 (by decide) rfl ?_ ?_
                  · refine x_iconst 158 hE dX2_saidHere_157 rfl xc_i_1 ?_
                    refine x_goto 162 hE dX2_saidHere_158 (by decide) ?_
                    refine x_istore 164 [(7, .int 1), (0, va_rf (some (xw_hm (xe_G E)))), (3, .int v3), (4, .int v4), (5, .int v7), (6, .int v8)] hE dX2_saidHere_162 rfl (Nat.le_of_ble_eq_true rfl) rfl ?_
                    refine x_sub [(0, va_rf (some (xw_hm (xe_G E)))), (3, .int v3), (4, .int v4), (5, .int v7), (6, .int v8), (7, .int 1)] [1, 2, 3, 4, 5, 0] rfl ?_
                    exact hJ4 1
                  · refine x_iconst 162 hE dX2_saidHere_161 rfl xc_i_0 ?_
                    refine x_istore 164 [(7, .int 0), (0, va_rf (some (xw_hm (xe_G E)))), (3, .int v3), (4, .int v4), (5, .int v7), (6, .int v8)] hE dX2_saidHere_162 rfl (Nat.le_of_ble_eq_true rfl) rfl ?_
                    refine x_sub [(0, va_rf (some (xw_hm (xe_G E)))), (3, .int v3), (4, .int v4), (5, .int v7), (6, .int v8), (7, .int 0)] [1, 2, 3, 4, 5, 0] rfl ?_
                    exact hJ4 0
              · refine x_sub [(0, va_rf (some (xw_hm (xe_G E)))), (3, .int v3), (4, .int v4), (5, .int v7), (6, .int v8), (7, .int v10)] [0, 1, 2, 3, 4, 5] rfl ?_
                exact hJ4 v10
        · refine x_if_eq 110 61 hE dX2_saidHere_58 (by decide) rfl ?_ ?_
          · refine x_sub [(0, va_rf (some (xw_hm (xe_G E)))), (3, .int v3), (4, .int v4), (5, .int v7), (6, .int v8), (7, .int v9)] [1, 2, 3, 4, 5, 0] rfl ?_
            exact hJ3 v9
          · refine x_iload_n 62 hE dX2_saidHere_61 rfl 2 rfl ?_
            refine x_iconst 63 hE dX2_saidHere_62 rfl xc_i_2 ?_
            refine x_jn 77 (fun (v21 : Unit) => [(0, va_rf (some (xw_hm (xe_G E)))), (3, .int v3), (4, .int v4), (5, .int v7), (6, .int v8)]) (fun (v21 : Unit) => []) (fun v21 => ?_) (fun J6 hJ6 => ?_)
            · refine x_aload_n 78 hE dX2_saidHere_77 rfl 0 rfl ?_
              refine x_aload_n 79 hE dX2_saidHere_78 rfl 0 rfl ?_
              refine y_ga 82 hE hac (by decide) ymf_4 rfl xkf_CrossingWordsModel_22 dX2_saidHere_79 rfl ?_
              refine x_iload 84 hE dX2_saidHere_82 rfl 4 rfl ?_
              refine y_ld 85 hE hac ⟨rfl, rfl⟩ dX2_saidHere_84 rfl (fun v22 => ?_)
              refine x_calli 88 (xw_goM hE hac (xw_rV hE (ct_X2_isOffer hac v22) xd_X2_isOffer rfl q1588 q1590 qs42 q97 q1591 rfl ⟨Nat.le_of_ble_eq_true rfl, Nat.le_of_ble_eq_true rfl⟩ rfl rfl (by decide) dX2_saidHere_85)) rfl (fun v23 => ?_)
              refine x_if_eq 107 91 hE dX2_saidHere_88 (by decide) rfl ?_ ?_
              · refine x_iconst 108 hE dX2_saidHere_107 rfl xc_i_0 ?_
                refine x_istore 110 [(7, .int 0), (0, va_rf (some (xw_hm (xe_G E)))), (3, .int v3), (4, .int v4), (5, .int v7), (6, .int v8)] hE dX2_saidHere_108 rfl (Nat.le_of_ble_eq_true rfl) rfl ?_
                refine x_sub [(0, va_rf (some (xw_hm (xe_G E)))), (3, .int v3), (4, .int v4), (5, .int v7), (6, .int v8), (7, .int 0)] [1, 2, 3, 4, 5, 0] rfl ?_
                exact hJ3 0
              · refine x_aload_n 92 hE dX2_saidHere_91 rfl 0 rfl ?_
                refine y_ga 95 hE hac (by decide) ymf_6 rfl xkf_CrossingWordsModel_28 dX2_saidHere_92 rfl ?_
                refine x_iload 97 hE dX2_saidHere_95 rfl 4 rfl ?_
                refine y_ld 98 hE hac ⟨rfl, rfl⟩ dX2_saidHere_97 rfl (fun v24 => ?_)
                refine x_iload 100 hE dX2_saidHere_98 rfl 2 rfl ?_
                refine x_icmp_ne 107 103 hE dX2_saidHere_100 (by decide) rfl ?_ ?_
                · refine x_iconst 104 hE dX2_saidHere_103 rfl xc_i_1 ?_
                  refine x_goto 108 hE dX2_saidHere_104 (by decide) ?_
                  refine x_istore 110 [(7, .int 1), (0, va_rf (some (xw_hm (xe_G E)))), (3, .int v3), (4, .int v4), (5, .int v7), (6, .int v8)] hE dX2_saidHere_108 rfl (Nat.le_of_ble_eq_true rfl) rfl ?_
                  refine x_sub [(0, va_rf (some (xw_hm (xe_G E)))), (3, .int v3), (4, .int v4), (5, .int v7), (6, .int v8), (7, .int 1)] [1, 2, 3, 4, 5, 0] rfl ?_
                  exact hJ3 1
                · refine x_iconst 108 hE dX2_saidHere_107 rfl xc_i_0 ?_
                  refine x_istore 110 [(7, .int 0), (0, va_rf (some (xw_hm (xe_G E)))), (3, .int v3), (4, .int v4), (5, .int v7), (6, .int v8)] hE dX2_saidHere_108 rfl (Nat.le_of_ble_eq_true rfl) rfl ?_
                  refine x_sub [(0, va_rf (some (xw_hm (xe_G E)))), (3, .int v3), (4, .int v4), (5, .int v7), (6, .int v8), (7, .int 0)] [1, 2, 3, 4, 5, 0] rfl ?_
                  exact hJ3 0
            · refine x_icmp_eq 77 66 hE dX2_saidHere_63 (by decide) rfl ?_ ?_
              · refine x_sub [(0, va_rf (some (xw_hm (xe_G E)))), (3, .int v3), (4, .int v4), (5, .int v7), (6, .int v8)] [1, 2, 3, 4, 5] rfl ?_
                exact hJ6 ()
              · refine x_iload_n 67 hE dX2_saidHere_66 rfl 2 rfl ?_
                refine x_iconst 68 hE dX2_saidHere_67 rfl xc_i_4 ?_
                refine x_icmp_eq 77 71 hE dX2_saidHere_68 (by decide) rfl ?_ ?_
                · refine x_sub [(0, va_rf (some (xw_hm (xe_G E)))), (3, .int v3), (4, .int v4), (5, .int v7), (6, .int v8)] [1, 2, 3, 4, 5] rfl ?_
                  exact hJ6 ()
                · refine x_iload_n 72 hE dX2_saidHere_71 rfl 2 rfl ?_
                  refine x_bipush 74 hE dX2_saidHere_72 rfl xc_b_6 ?_
                  refine x_icmp_ne 110 77 hE dX2_saidHere_74 (by decide) rfl ?_ ?_
                  · refine x_sub [(0, va_rf (some (xw_hm (xe_G E)))), (3, .int v3), (4, .int v4), (5, .int v7), (6, .int v8)] [1, 2, 3, 4, 5] rfl ?_
                    exact hJ6 ()
                  · refine x_sub [(0, va_rf (some (xw_hm (xe_G E)))), (3, .int v3), (4, .int v4), (5, .int v7), (6, .int v8), (7, .int v9)] [1, 2, 3, 4, 5, 0] rfl ?_
                    exact hJ3 v9
      · refine x_if_lt 53 49 hE dX2_saidHere_46 (by decide) rfl ?_ ?_
        · refine x_iconst 54 hE dX2_saidHere_53 rfl xc_i_0 ?_
          refine x_sub [(0, va_rf (some (xw_hm (xe_G E)))), (3, .int v3), (4, .int v4), (5, .int v7), (6, .int v8)] [2, 4, 5, 1, 0] rfl ?_
          exact hJ2 0
        · refine x_iconst 50 hE dX2_saidHere_49 rfl xc_i_1 ?_
          refine x_goto 54 hE dX2_saidHere_50 (by decide) ?_
          refine x_sub [(0, va_rf (some (xw_hm (xe_G E)))), (3, .int v3), (4, .int v4), (5, .int v7), (6, .int v8)] [2, 4, 5, 1, 0] rfl ?_
          exact hJ2 1
    · refine x_icmp_ne 32 17 hE dX2_saidHere_14 (by decide) rfl ?_ ?_
      · refine x_aload_n 18 hE dX2_saidHere_17 rfl 0 rfl ?_
        refine y_g 21 hE hac (by decide) ymf_23 rfl xkf_CrossingWordsModel_170 dX2_saidHere_18 rfl (fun v25 => ?_)
        refine x_iload_n 22 hE dX2_saidHere_21 rfl 2 rfl ?_
        refine x_icmp_ge 32 25 hE dX2_saidHere_22 (by decide) rfl ?_ ?_
        · refine x_iconst 33 hE dX2_saidHere_32 rfl xc_i_m1 ?_
          refine x_sub [(0, va_rf (some (xw_hm (xe_G E)))), (1, .int v1), (3, .int v3), (4, .int v4)] [0, 1, 3, 4] rfl ?_
          exact hJ1 (-1)
        · refine x_aload_n 26 hE dX2_saidHere_25 rfl 0 rfl ?_
          refine y_g 29 hE hac (by decide) ymf_23 rfl xkf_CrossingWordsModel_170 dX2_saidHere_26 rfl (fun v26 => ?_)
          refine x_goto 33 hE dX2_saidHere_29 (by decide) ?_
          refine x_sub [(0, va_rf (some (xw_hm (xe_G E)))), (1, .int v1), (3, .int v3), (4, .int v4)] [0, 1, 3, 4] rfl ?_
          exact hJ1 v26
      · refine x_iconst 33 hE dX2_saidHere_32 rfl xc_i_m1 ?_
        refine x_sub [(0, va_rf (some (xw_hm (xe_G E)))), (1, .int v1), (3, .int v3), (4, .int v4)] [0, 1, 3, 4] rfl ?_
        exact hJ1 (-1)
  · refine x_iconst 8 hE dX2_saidHere_7 rfl xc_i_m1 ?_
    exact x_iret hE dX2_saidHere_8

set_option maxHeartbeats 4000000 in
theorem ct_X2_readSaying {l : Launch} {G : xw_G} {σ0 : xw_St} (hac : xw_ac G = true) (v1 : Int32) (v2 : Int32) : xw_Ct l G (xw_hr G σ0) xw_ov yX2_readSaying cX2_readSaying 6 none 6 [va_rf (some (xw_hm G)), .int v1, .int v2] (pg_X2_readSaying v1 v2) := by
  refine xw_metL [(0, va_rf (some (xw_hm G))), (1, .int v1), (2, .int v2)] (by decide) (Nat.le_trans (Nat.le_of_eq ((xw_l1 rfl).trans (congrArg (1 + ·) ((xw_l1 rfl).trans (congrArg (1 + ·) ((xw_l1 rfl).trans (congrArg (1 + ·) xw_l0))))))) (by decide)) ((xw_a1 rfl).trans (congrArg (List.cons _) ((xw_a1 rfl).trans (congrArg (List.cons _) ((xw_a1 rfl).trans (congrArg (List.cons _) xw_a0)))))) (fun E hE hl hG hm => ?_)
  subst hl; subst hG
  have hE : xw_ok E "CrossingWordsModel" cX2_readSaying 6 none 6 := hE
  unfold pg_X2_readSaying
  refine x_bipush 2 hE dX2_readSaying_0 rfl xc_b_12 ?_
  refine x_iload_n 3 hE dX2_readSaying_2 rfl 1 rfl ?_
  refine x_imul 4 hE dX2_readSaying_3 rfl ?_
  refine x_iload_n 5 hE dX2_readSaying_4 rfl 2 rfl ?_
  refine x_iadd 6 hE dX2_readSaying_5 rfl ?_
  refine x_lti (fun v3 => ?_)
  refine x_istore_n 7 [(3, .int v3), (0, va_rf (some (xw_hm (xe_G E)))), (1, .int v1), (2, .int v2)] hE dX2_readSaying_6 rfl rfl (Nat.le_of_ble_eq_true rfl) rfl ?_
  refine x_aload_n 8 hE dX2_readSaying_7 rfl 1 rfl ?_
  refine x_calli 11 (xw_goM hE hac (xw_rV hE (ct_X2_whatHere hac ) xd_X2_whatHere rfl q1568 q1570 qs39 q97 q1571 rfl ⟨Nat.le_of_ble_eq_true rfl, Nat.le_of_ble_eq_true rfl⟩ rfl rfl (by decide) dX2_readSaying_8)) rfl (fun v4 => ?_)
  refine x_istore 13 [(4, .int v4), (3, .int v3), (0, va_rf (some (xw_hm (xe_G E)))), (1, .int v1), (2, .int v2)] hE dX2_readSaying_11 rfl (Nat.le_of_ble_eq_true rfl) rfl ?_
  refine x_iload 15 hE dX2_readSaying_13 rfl 0 rfl ?_
  refine x_jn 24 (fun (v5 : Unit) => [(0, va_rf (some (xw_hm (xe_G E))))]) (fun (v5 : Unit) => []) (fun v5 => ?_) (fun J1 hJ1 => ?_)
  · refine x_aload_n 25 hE dX2_readSaying_24 rfl 0 rfl ?_
    refine x_callv 28 (xw_goM hE hac (xw_rV hE (ct_X2_errs hac ) xd_X2_errs rfl q1560 q1562 qs37 q97 q1563 rfl ⟨Nat.le_of_ble_eq_true rfl, Nat.le_of_ble_eq_true rfl⟩ rfl rfl (by decide) dX2_readSaying_25)) rfl ?_
    exact x_vret hE dX2_readSaying_28
  · refine x_if_lt 24 18 hE dX2_readSaying_15 (by decide) rfl ?_ ?_
    · refine x_sub [(0, va_rf (some (xw_hm (xe_G E))))] [2] rfl ?_
      exact hJ1 ()
    · refine x_iload_n 19 hE dX2_readSaying_18 rfl 4 rfl ?_
      refine x_bipush 21 hE dX2_readSaying_19 rfl xc_b_12 ?_
      refine x_icmp_ne 29 24 hE dX2_readSaying_21 (by decide) rfl ?_ ?_
      · refine x_sub [(0, va_rf (some (xw_hm (xe_G E))))] [2] rfl ?_
        exact hJ1 ()
      · refine x_aload_n 30 hE dX2_readSaying_29 rfl 2 rfl ?_
        refine x_callv 33 (xw_goM hE hac (xw_rV hE (ct_X2_next hac ) xd_X2_next rfl q1542 q1544 qs34 q97 q1545 rfl ⟨Nat.le_of_ble_eq_true rfl, Nat.le_of_ble_eq_true rfl⟩ rfl rfl (by decide) dX2_readSaying_30)) rfl ?_
        refine x_aload_n 34 hE dX2_readSaying_33 rfl 2 rfl ?_
        refine y_ga 37 hE hac (by decide) ymf_4 rfl xkf_CrossingWordsModel_22 dX2_readSaying_34 rfl ?_
        refine x_iload_n 38 hE dX2_readSaying_37 rfl 1 rfl ?_
        refine x_iload 40 hE dX2_readSaying_38 rfl 0 rfl ?_
        refine y_st 41 hE hac ⟨rfl, rfl⟩ dX2_readSaying_40 rfl ?_
        refine x_aload_n 42 hE dX2_readSaying_41 rfl 2 rfl ?_
        refine y_ga 45 hE hac (by decide) ymf_6 rfl xkf_CrossingWordsModel_28 dX2_readSaying_42 rfl ?_
        refine x_iload_n 46 hE dX2_readSaying_45 rfl 1 rfl ?_
        refine x_iconst 47 hE dX2_readSaying_46 rfl xc_i_m1 ?_
        refine y_st 48 hE hac ⟨rfl, rfl⟩ dX2_readSaying_47 rfl ?_
        refine x_aload_n 49 hE dX2_readSaying_48 rfl 2 rfl ?_
        refine y_ga 52 hE hac (by decide) ymf_7 rfl xkf_CrossingWordsModel_31 dX2_readSaying_49 rfl ?_
        refine x_iload_n 53 hE dX2_readSaying_52 rfl 1 rfl ?_
        refine x_iconst 54 hE dX2_readSaying_53 rfl xc_i_m1 ?_
        refine y_st 55 hE hac ⟨rfl, rfl⟩ dX2_readSaying_54 rfl ?_
        refine x_aload_n 56 hE dX2_readSaying_55 rfl 2 rfl ?_
        refine y_ga 59 hE hac (by decide) ymf_9 rfl xkf_CrossingWordsModel_37 dX2_readSaying_56 rfl ?_
        refine x_iload_n 60 hE dX2_readSaying_59 rfl 1 rfl ?_
        refine x_iconst 61 hE dX2_readSaying_60 rfl xc_i_m1 ?_
        refine y_st 62 hE hac ⟨rfl, rfl⟩ dX2_readSaying_61 rfl ?_
        refine x_aload_n 63 hE dX2_readSaying_62 rfl 2 rfl ?_
        refine y_ga 66 hE hac (by decide) ymf_10 rfl xkf_CrossingWordsModel_40 dX2_readSaying_63 rfl ?_
        refine x_iload_n 67 hE dX2_readSaying_66 rfl 1 rfl ?_
        refine x_iconst 68 hE dX2_readSaying_67 rfl xc_i_m1 ?_
        refine y_st 69 hE hac ⟨rfl, rfl⟩ dX2_readSaying_68 rfl ?_
        refine x_aload_n 70 hE dX2_readSaying_69 rfl 2 rfl ?_
        refine y_ga 73 hE hac (by decide) ymf_11 rfl xkf_CrossingWordsModel_43 dX2_readSaying_70 rfl ?_
        refine x_iload_n 74 hE dX2_readSaying_73 rfl 1 rfl ?_
        refine x_iconst 75 hE dX2_readSaying_74 rfl xc_i_0 ?_
        refine y_st 76 hE hac ⟨rfl, rfl⟩ dX2_readSaying_75 rfl ?_
        refine x_iconst 77 hE dX2_readSaying_76 rfl xc_i_0 ?_
        refine x_istore 79 [(5, .int 0), (4, .int v4), (3, .int v3), (0, va_rf (some (xw_hm (xe_G E)))), (1, .int v1), (2, .int v2)] hE dX2_readSaying_77 rfl (Nat.le_of_ble_eq_true rfl) rfl ?_
        refine x_sub [(0, va_rf (some (xw_hm (xe_G E)))), (1, .int v1), (2, .int v2), (3, .int v3), (4, .int v4), (5, .int 0)] [3, 4, 5, 2, 1, 0] rfl ?_
        refine x_sq 103 (fun (v7 : Unit) => [(0, va_rf (some (xw_hm (xe_G E)))), (1, .int v1), (2, .int v2), (3, .int v3), (4, .int v4)]) (fun _ => []) (fun v7 => ?_) (fun J3 hJ3 => ?_)
        · refine x_iconst 104 hE dX2_readSaying_103 rfl xc_i_0 ?_
          refine x_istore 106 [(5, .int 0), (0, va_rf (some (xw_hm (xe_G E)))), (1, .int v1), (2, .int v2), (3, .int v3), (4, .int v4)] hE dX2_readSaying_104 rfl (Nat.le_of_ble_eq_true rfl) rfl ?_
          refine x_sub [(0, va_rf (some (xw_hm (xe_G E)))), (1, .int v1), (2, .int v2), (3, .int v3), (4, .int v4), (5, .int 0)] [1, 2, 3, 4, 5, 0] rfl ?_
          refine x_sq 142 (fun (v9 : Unit) => [(0, va_rf (some (xw_hm (xe_G E)))), (1, .int v1), (2, .int v2), (3, .int v3), (4, .int v4)]) (fun _ => []) (fun v9 => ?_) (fun J5 hJ5 => ?_)
          · refine x_aload_n 143 hE dX2_readSaying_142 rfl 0 rfl ?_
            refine y_ga 146 hE hac (by decide) ymf_5 rfl xkf_CrossingWordsModel_25 dX2_readSaying_143 rfl ?_
            refine x_iload_n 147 hE dX2_readSaying_146 rfl 3 rfl ?_
            refine x_aload_n 148 hE dX2_readSaying_147 rfl 0 rfl ?_
            refine x_iconst 149 hE dX2_readSaying_148 rfl xc_i_m1 ?_
            refine x_calli 152 (xw_goM hE hac (xw_rV hE (ct_X2_handHere hac (-1)) xd_X2_handHere rfl q1579 q1581 qs40 q97 q1582 rfl ⟨Nat.le_of_ble_eq_true rfl, Nat.le_of_ble_eq_true rfl⟩ rfl rfl (Nat.le_trans (xw_sm1 rfl (xw_sm1 rfl xw_sm0)) (by decide)) dX2_readSaying_149)) rfl (fun v10 => ?_)
            refine y_st 153 hE hac ⟨rfl, rfl⟩ dX2_readSaying_152 rfl ?_
            refine x_iload 155 hE dX2_readSaying_153 rfl 4 rfl ?_
            refine x_iconst 156 hE dX2_readSaying_155 rfl xc_i_2 ?_
            refine x_sq 198 (fun (v11 : Unit) => [(0, va_rf (some (xw_hm (xe_G E)))), (1, .int v1), (3, .int v3), (4, .int v4)]) (fun (v11 : Unit) => []) (fun v11 => ?_) (fun J6 hJ6 => ?_)
            · refine x_iload 200 hE dX2_readSaying_198 rfl 3 rfl ?_
              refine x_sq 265 (fun (v12 : Unit) => [(0, va_rf (some (xw_hm (xe_G E)))), (1, .int v1), (3, .int v3), (4, .int v4)]) (fun (v12 : Unit) => []) (fun v12 => ?_) (fun J7 hJ7 => ?_)
              · refine x_iload 267 hE dX2_readSaying_265 rfl 3 rfl ?_
                refine x_iconst 268 hE dX2_readSaying_267 rfl xc_i_2 ?_
                refine x_sq 320 (fun (v13 : Unit) => [(0, va_rf (some (xw_hm (xe_G E)))), (3, .int v3)]) (fun (v13 : Unit) => []) (fun v13 => ?_) (fun J8 hJ8 => ?_)
                · refine x_aload_n 321 hE dX2_readSaying_320 rfl 0 rfl ?_
                  refine x_iload_n 322 hE dX2_readSaying_321 rfl 1 rfl ?_
                  refine x_callv 325 (xw_goM hE hac (xw_rV hE (ct_X2_times hac v3) xd_X2_times rfl q1616 q1618 qs47 q97 q1619 rfl ⟨Nat.le_of_ble_eq_true rfl, Nat.le_of_ble_eq_true rfl⟩ rfl rfl (by decide) dX2_readSaying_322)) rfl ?_
                  refine x_aload_n 326 hE dX2_readSaying_325 rfl 0 rfl ?_
                  refine x_callv 329 (xw_goM hE hac (xw_rV hE (ct_X2_ends hac ) xd_X2_ends rfl q1640 q1642 qs51 q97 q1643 rfl ⟨Nat.le_of_ble_eq_true rfl, Nat.le_of_ble_eq_true rfl⟩ rfl rfl (by decide) dX2_readSaying_326)) rfl ?_
                  exact x_vret hE dX2_readSaying_329
                · refine x_icmp_ne 320 271 hE dX2_readSaying_268 (by decide) rfl ?_ ?_
                  · refine x_aload_n 272 hE dX2_readSaying_271 rfl 0 rfl ?_
                    refine x_ldc2 275 hE q1615 dX2_readSaying_272 rfl ?_
                    refine x_calli 278 (xw_goM hE hac (xw_rV hE (ct_X2_is hac 2045) xd_X2_is rfl q1610 q1612 qs46 q97 q1613 rfl ⟨Nat.le_of_ble_eq_true rfl, Nat.le_of_ble_eq_true rfl⟩ rfl rfl (by decide) dX2_readSaying_275)) rfl (fun v14 => ?_)
                    refine x_if_eq 320 281 hE dX2_readSaying_278 (by decide) rfl ?_ ?_
                    · refine x_sub [(0, va_rf (some (xw_hm (xe_G E)))), (3, .int v3)] [0, 2] rfl ?_
                      exact hJ8 ()
                    · refine x_aload_n 282 hE dX2_readSaying_281 rfl 0 rfl ?_
                      refine x_callv 285 (xw_goM hE hac (xw_rV hE (ct_X2_next hac ) xd_X2_next rfl q1542 q1544 qs34 q97 q1545 rfl ⟨Nat.le_of_ble_eq_true rfl, Nat.le_of_ble_eq_true rfl⟩ rfl rfl (by decide) dX2_readSaying_282)) rfl ?_
                      refine x_aload_n 286 hE dX2_readSaying_285 rfl 0 rfl ?_
                      refine y_ga 289 hE hac (by decide) ymf_4 rfl xkf_CrossingWordsModel_22 dX2_readSaying_286 rfl ?_
                      refine x_iload_n 290 hE dX2_readSaying_289 rfl 2 rfl ?_
                      refine x_iconst 291 hE dX2_readSaying_290 rfl xc_i_3 ?_
                      refine y_st 292 hE hac ⟨rfl, rfl⟩ dX2_readSaying_291 rfl ?_
                      refine x_aload_n 293 hE dX2_readSaying_292 rfl 0 rfl ?_
                      refine y_ga 296 hE hac (by decide) ymf_6 rfl xkf_CrossingWordsModel_28 dX2_readSaying_293 rfl ?_
                      refine x_iload_n 297 hE dX2_readSaying_296 rfl 2 rfl ?_
                      refine x_aload_n 298 hE dX2_readSaying_297 rfl 0 rfl ?_
                      refine y_ga 301 hE hac (by decide) ymf_5 rfl xkf_CrossingWordsModel_25 dX2_readSaying_298 rfl ?_
                      refine x_bipush 303 hE dX2_readSaying_301 rfl xc_b_12 ?_
                      refine x_iload_n 304 hE dX2_readSaying_303 rfl 1 rfl ?_
                      refine x_imul 305 hE dX2_readSaying_304 rfl ?_
                      refine x_aload_n 306 hE dX2_readSaying_305 rfl 0 rfl ?_
                      refine y_ga 309 hE hac (by decide) ymf_7 rfl xkf_CrossingWordsModel_31 dX2_readSaying_306 rfl ?_
                      refine x_iload_n 310 hE dX2_readSaying_309 rfl 2 rfl ?_
                      refine y_ld 311 hE hac ⟨rfl, rfl⟩ dX2_readSaying_310 rfl (fun v15 => ?_)
                      refine x_iadd 312 hE dX2_readSaying_311 rfl ?_
                      refine y_ld 313 hE hac ⟨rfl, rfl⟩ dX2_readSaying_312 rfl (fun v16 => ?_)
                      refine y_st 314 hE hac ⟨rfl, rfl⟩ dX2_readSaying_313 rfl ?_
                      refine x_aload_n 315 hE dX2_readSaying_314 rfl 0 rfl ?_
                      refine x_iload_n 316 hE dX2_readSaying_315 rfl 2 rfl ?_
                      refine x_iconst 317 hE dX2_readSaying_316 rfl xc_i_1 ?_
                      refine x_callv 320 (xw_goM hE hac (xw_rV hE (ct_X2_words hac v3 1) xd_X2_words rfl q1592 q1594 qs43 q97 q1595 rfl ⟨Nat.le_of_ble_eq_true rfl, Nat.le_of_ble_eq_true rfl⟩ rfl rfl (by decide) dX2_readSaying_317)) rfl ?_
                      refine x_sub [(0, va_rf (some (xw_hm (xe_G E)))), (3, .int v3)] [0, 2] rfl ?_
                      exact hJ8 ()
                  · refine x_sub [(0, va_rf (some (xw_hm (xe_G E)))), (3, .int v3)] [0, 2] rfl ?_
                    exact hJ8 ()
              · refine x_if_ne 265 203 hE dX2_readSaying_200 (by decide) rfl ?_ ?_
                · refine x_aload_n 204 hE dX2_readSaying_203 rfl 0 rfl ?_
                  refine x_iload_n 205 hE dX2_readSaying_204 rfl 2 rfl ?_
                  refine x_iconst 206 hE dX2_readSaying_205 rfl xc_i_0 ?_
                  refine x_callv 209 (xw_goM hE hac (xw_rV hE (ct_X2_words hac v3 0) xd_X2_words rfl q1592 q1594 qs43 q97 q1595 rfl ⟨Nat.le_of_ble_eq_true rfl, Nat.le_of_ble_eq_true rfl⟩ rfl rfl (by decide) dX2_readSaying_206)) rfl ?_
                  refine x_aload_n 210 hE dX2_readSaying_209 rfl 0 rfl ?_
                  refine x_ldc2 213 hE q1609 dX2_readSaying_210 rfl ?_
                  refine x_calli 216 (xw_goM hE hac (xw_rV hE (ct_X2_is hac 168727) xd_X2_is rfl q1610 q1612 qs46 q97 q1613 rfl ⟨Nat.le_of_ble_eq_true rfl, Nat.le_of_ble_eq_true rfl⟩ rfl rfl (by decide) dX2_readSaying_213)) rfl (fun v17 => ?_)
                  refine x_sq 237 (fun (v18 : Unit) => [(0, va_rf (some (xw_hm (xe_G E)))), (1, .int v1), (3, .int v3), (4, .int v4)]) (fun (v18 : Unit) => []) (fun v18 => ?_) (fun J9 hJ9 => ?_)
                  · refine x_aload_n 238 hE dX2_readSaying_237 rfl 0 rfl ?_
                    refine x_ldc2 241 hE q1614 dX2_readSaying_238 rfl ?_
                    refine x_calli 244 (xw_goM hE hac (xw_rV hE (ct_X2_is hac 3913421) xd_X2_is rfl q1610 q1612 qs46 q97 q1613 rfl ⟨Nat.le_of_ble_eq_true rfl, Nat.le_of_ble_eq_true rfl⟩ rfl rfl (by decide) dX2_readSaying_241)) rfl (fun v19 => ?_)
                    refine x_if_eq 265 247 hE dX2_readSaying_244 (by decide) rfl ?_ ?_
                    · refine x_sub [(0, va_rf (some (xw_hm (xe_G E)))), (1, .int v1), (3, .int v3), (4, .int v4)] [0, 1, 2, 3] rfl ?_
                      exact hJ7 ()
                    · refine x_aload_n 248 hE dX2_readSaying_247 rfl 0 rfl ?_
                      refine x_callv 251 (xw_goM hE hac (xw_rV hE (ct_X2_next hac ) xd_X2_next rfl q1542 q1544 qs34 q97 q1545 rfl ⟨Nat.le_of_ble_eq_true rfl, Nat.le_of_ble_eq_true rfl⟩ rfl rfl (by decide) dX2_readSaying_248)) rfl ?_
                      refine x_aload_n 252 hE dX2_readSaying_251 rfl 0 rfl ?_
                      refine y_ga 255 hE hac (by decide) ymf_10 rfl xkf_CrossingWordsModel_40 dX2_readSaying_252 rfl ?_
                      refine x_iload_n 256 hE dX2_readSaying_255 rfl 2 rfl ?_
                      refine x_aload_n 257 hE dX2_readSaying_256 rfl 0 rfl ?_
                      refine x_iconst 258 hE dX2_readSaying_257 rfl xc_i_0 ?_
                      refine x_iload_n 259 hE dX2_readSaying_258 rfl 1 rfl ?_
                      refine x_iconst 260 hE dX2_readSaying_259 rfl xc_i_1 ?_
                      refine x_isub 261 hE dX2_readSaying_260 rfl ?_
                      refine x_calli 264 (xw_goM hE hac (xw_rV hE (ct_X2_numeral hac 0 (v1 - 1)) xd_X2_numeral rfl q1605 q1607 qs45 q97 q1608 rfl ⟨Nat.le_of_ble_eq_true rfl, Nat.le_of_ble_eq_true rfl⟩ rfl rfl (Nat.le_trans (xw_sm1 rfl (xw_sm1 rfl xw_sm0)) (by decide)) dX2_readSaying_261)) rfl (fun v20 => ?_)
                      refine y_st 265 hE hac ⟨rfl, rfl⟩ dX2_readSaying_264 rfl ?_
                      refine x_sub [(0, va_rf (some (xw_hm (xe_G E)))), (1, .int v1), (3, .int v3), (4, .int v4)] [0, 1, 2, 3] rfl ?_
                      exact hJ7 ()
                  · refine x_if_eq 237 219 hE dX2_readSaying_216 (by decide) rfl ?_ ?_
                    · refine x_sub [(0, va_rf (some (xw_hm (xe_G E)))), (1, .int v1), (3, .int v3), (4, .int v4)] [0, 1, 2, 3] rfl ?_
                      exact hJ9 ()
                    · refine x_aload_n 220 hE dX2_readSaying_219 rfl 0 rfl ?_
                      refine x_callv 223 (xw_goM hE hac (xw_rV hE (ct_X2_next hac ) xd_X2_next rfl q1542 q1544 qs34 q97 q1545 rfl ⟨Nat.le_of_ble_eq_true rfl, Nat.le_of_ble_eq_true rfl⟩ rfl rfl (by decide) dX2_readSaying_220)) rfl ?_
                      refine x_aload_n 224 hE dX2_readSaying_223 rfl 0 rfl ?_
                      refine y_ga 227 hE hac (by decide) ymf_9 rfl xkf_CrossingWordsModel_37 dX2_readSaying_224 rfl ?_
                      refine x_iload_n 228 hE dX2_readSaying_227 rfl 2 rfl ?_
                      refine x_aload_n 229 hE dX2_readSaying_228 rfl 0 rfl ?_
                      refine x_iconst 230 hE dX2_readSaying_229 rfl xc_i_0 ?_
                      refine x_sipush 233 hE dX2_readSaying_230 rfl xc_s_1999 ?_
                      refine x_calli 236 (xw_goM hE hac (xw_rV hE (ct_X2_numeral hac 0 1999) xd_X2_numeral rfl q1605 q1607 qs45 q97 q1608 rfl ⟨Nat.le_of_ble_eq_true rfl, Nat.le_of_ble_eq_true rfl⟩ rfl rfl (Nat.le_trans (xw_sm1 rfl (xw_sm1 rfl xw_sm0)) (by decide)) dX2_readSaying_233)) rfl (fun v21 => ?_)
                      refine y_st 237 hE hac ⟨rfl, rfl⟩ dX2_readSaying_236 rfl ?_
                      refine x_sub [(0, va_rf (some (xw_hm (xe_G E)))), (1, .int v1), (3, .int v3), (4, .int v4)] [0, 1, 2, 3] rfl ?_
                      exact hJ9 ()
                · refine x_sub [(0, va_rf (some (xw_hm (xe_G E)))), (1, .int v1), (3, .int v3), (4, .int v4)] [0, 1, 2, 3] rfl ?_
                  exact hJ7 ()
            · refine x_icmp_ge 178 159 hE dX2_readSaying_156 (by decide) rfl ?_ ?_
              · refine x_aload_n 179 hE dX2_readSaying_178 rfl 0 rfl ?_
                refine y_ga 182 hE hac (by decide) ymf_7 rfl xkf_CrossingWordsModel_31 dX2_readSaying_179 rfl ?_
                refine x_iload_n 183 hE dX2_readSaying_182 rfl 3 rfl ?_
                refine x_aload_n 184 hE dX2_readSaying_183 rfl 0 rfl ?_
                refine x_iload_n 185 hE dX2_readSaying_184 rfl 1 rfl ?_
                refine x_iload_n 186 hE dX2_readSaying_185 rfl 2 rfl ?_
                refine x_iload 188 hE dX2_readSaying_186 rfl 4 rfl ?_
                refine x_aload_n 189 hE dX2_readSaying_188 rfl 0 rfl ?_
                refine y_ga 192 hE hac (by decide) ymf_5 rfl xkf_CrossingWordsModel_25 dX2_readSaying_189 rfl ?_
                refine x_iload_n 193 hE dX2_readSaying_192 rfl 3 rfl ?_
                refine y_ld 194 hE hac ⟨rfl, rfl⟩ dX2_readSaying_193 rfl (fun v22 => ?_)
                refine x_calli 197 (xw_goM hE hac (xw_rV hE (ct_X2_saidHere hac v1 v2 v4 v22) xd_X2_saidHere rfl q1584 q1586 qs41 q97 q1587 rfl ⟨Nat.le_of_ble_eq_true rfl, Nat.le_of_ble_eq_true rfl⟩ rfl rfl (Nat.le_trans (xw_sm1 rfl (xw_sm1 rfl xw_sm0)) (by decide)) dX2_readSaying_194)) rfl (fun v23 => ?_)
                refine y_st 198 hE hac ⟨rfl, rfl⟩ dX2_readSaying_197 rfl ?_
                refine x_sub [(0, va_rf (some (xw_hm (xe_G E)))), (1, .int v1), (3, .int v3), (4, .int v4)] [0, 1, 3, 4] rfl ?_
                exact hJ6 ()
              · refine x_aload_n 160 hE dX2_readSaying_159 rfl 0 rfl ?_
                refine y_ga 163 hE hac (by decide) ymf_6 rfl xkf_CrossingWordsModel_28 dX2_readSaying_160 rfl ?_
                refine x_iload_n 164 hE dX2_readSaying_163 rfl 3 rfl ?_
                refine x_aload_n 165 hE dX2_readSaying_164 rfl 0 rfl ?_
                refine x_aload_n 166 hE dX2_readSaying_165 rfl 0 rfl ?_
                refine y_ga 169 hE hac (by decide) ymf_5 rfl xkf_CrossingWordsModel_25 dX2_readSaying_166 rfl ?_
                refine x_iload_n 170 hE dX2_readSaying_169 rfl 3 rfl ?_
                refine y_ld 171 hE hac ⟨rfl, rfl⟩ dX2_readSaying_170 rfl (fun v24 => ?_)
                refine x_calli 174 (xw_goM hE hac (xw_rV hE (ct_X2_handHere hac v24) xd_X2_handHere rfl q1579 q1581 qs40 q97 q1582 rfl ⟨Nat.le_of_ble_eq_true rfl, Nat.le_of_ble_eq_true rfl⟩ rfl rfl (Nat.le_trans (xw_sm1 rfl (xw_sm1 rfl xw_sm0)) (by decide)) dX2_readSaying_171)) rfl (fun v25 => ?_)
                refine y_st 175 hE hac ⟨rfl, rfl⟩ dX2_readSaying_174 rfl ?_
                refine x_goto 198 hE dX2_readSaying_175 (by decide) ?_
                refine x_sub [(0, va_rf (some (xw_hm (xe_G E)))), (1, .int v1), (3, .int v3), (4, .int v4)] [0, 1, 3, 4] rfl ?_
                exact hJ6 ()
          · refine x_loop (fun (v8 : Int32) => [(0, va_rf (some (xw_hm (xe_G E)))), (1, .int v1), (2, .int v2), (3, .int v3), (4, .int v4), (5, .int v8)]) (fun JL4 hc4 hx4 v8 => ?_) _ _
            refine x_iload 108 hE dX2_readSaying_106 rfl 5 rfl ?_
            refine x_iconst 109 hE dX2_readSaying_108 rfl xc_i_3 ?_
            refine x_icmp_ge 142 112 hE dX2_readSaying_109 (by decide) rfl ?_ ?_
            · refine x_sub [(0, va_rf (some (xw_hm (xe_G E)))), (1, .int v1), (2, .int v2), (3, .int v3), (4, .int v4)] [0, 1, 2, 3, 4] rfl ?_
              refine hx4 _ _ _ _ ?_
              exact hJ5 ()
            · refine x_aload_n 113 hE dX2_readSaying_112 rfl 0 rfl ?_
              refine y_ga 116 hE hac (by decide) ymf_13 rfl xkf_CrossingWordsModel_49 dX2_readSaying_113 rfl ?_
              refine x_iconst 117 hE dX2_readSaying_116 rfl xc_i_3 ?_
              refine x_iload_n 118 hE dX2_readSaying_117 rfl 3 rfl ?_
              refine x_imul 119 hE dX2_readSaying_118 rfl ?_
              refine x_iload 121 hE dX2_readSaying_119 rfl 5 rfl ?_
              refine x_iadd 122 hE dX2_readSaying_121 rfl ?_
              refine x_iconst 123 hE dX2_readSaying_122 rfl xc_i_0 ?_
              refine y_st 124 hE hac ⟨rfl, rfl⟩ dX2_readSaying_123 rfl ?_
              refine x_aload_n 125 hE dX2_readSaying_124 rfl 0 rfl ?_
              refine y_ga 128 hE hac (by decide) ymf_14 rfl xkf_CrossingWordsModel_52 dX2_readSaying_125 rfl ?_
              refine x_iconst 129 hE dX2_readSaying_128 rfl xc_i_3 ?_
              refine x_iload_n 130 hE dX2_readSaying_129 rfl 3 rfl ?_
              refine x_imul 131 hE dX2_readSaying_130 rfl ?_
              refine x_iload 133 hE dX2_readSaying_131 rfl 5 rfl ?_
              refine x_iadd 134 hE dX2_readSaying_133 rfl ?_
              refine x_iconst 135 hE dX2_readSaying_134 rfl xc_i_0 ?_
              refine y_st 136 hE hac ⟨rfl, rfl⟩ dX2_readSaying_135 rfl ?_
              refine x_iinc 139 [(5, .int (v8 + 1)), (0, va_rf (some (xw_hm (xe_G E)))), (1, .int v1), (2, .int v2), (3, .int v3), (4, .int v4)] hE dX2_readSaying_136 rfl 5 rfl xc_i_1 (Nat.le_of_ble_eq_true rfl) rfl ?_
              refine x_goto 106 hE dX2_readSaying_139 (by decide) ?_
              refine x_sub [(0, va_rf (some (xw_hm (xe_G E)))), (1, .int v1), (2, .int v2), (3, .int v3), (4, .int v4), (5, .int (v8 + 1))] [1, 2, 3, 4, 5, 0] rfl ?_
              exact hc4 (v8 + 1)
        · refine x_loop (fun (v6 : Int32) => [(0, va_rf (some (xw_hm (xe_G E)))), (1, .int v1), (2, .int v2), (3, .int v3), (4, .int v4), (5, .int v6)]) (fun JL2 hc2 hx2 v6 => ?_) _ _
          refine x_iload 81 hE dX2_readSaying_79 rfl 5 rfl ?_
          refine x_iconst 82 hE dX2_readSaying_81 rfl xc_i_5 ?_
          refine x_icmp_ge 103 85 hE dX2_readSaying_82 (by decide) rfl ?_ ?_
          · refine x_sub [(0, va_rf (some (xw_hm (xe_G E)))), (1, .int v1), (2, .int v2), (3, .int v3), (4, .int v4)] [0, 1, 2, 3, 4] rfl ?_
            refine hx2 _ _ _ _ ?_
            exact hJ3 ()
          · refine x_aload_n 86 hE dX2_readSaying_85 rfl 0 rfl ?_
            refine y_ga 89 hE hac (by decide) ymf_12 rfl xkf_CrossingWordsModel_46 dX2_readSaying_86 rfl ?_
            refine x_iconst 90 hE dX2_readSaying_89 rfl xc_i_5 ?_
            refine x_iload_n 91 hE dX2_readSaying_90 rfl 3 rfl ?_
            refine x_imul 92 hE dX2_readSaying_91 rfl ?_
            refine x_iload 94 hE dX2_readSaying_92 rfl 5 rfl ?_
            refine x_iadd 95 hE dX2_readSaying_94 rfl ?_
            refine x_iconst 96 hE dX2_readSaying_95 rfl xc_i_m1 ?_
            refine y_st 97 hE hac ⟨rfl, rfl⟩ dX2_readSaying_96 rfl ?_
            refine x_iinc 100 [(5, .int (v6 + 1)), (0, va_rf (some (xw_hm (xe_G E)))), (1, .int v1), (2, .int v2), (3, .int v3), (4, .int v4)] hE dX2_readSaying_97 rfl 5 rfl xc_i_1 (Nat.le_of_ble_eq_true rfl) rfl ?_
            refine x_goto 79 hE dX2_readSaying_100 (by decide) ?_
            refine x_sub [(0, va_rf (some (xw_hm (xe_G E)))), (1, .int v1), (2, .int v2), (3, .int v3), (4, .int v4), (5, .int (v6 + 1))] [1, 2, 3, 4, 5, 0] rfl ?_
            exact hc2 (v6 + 1)

set_option maxHeartbeats 4000000 in
theorem ct_X2_readSayings {l : Launch} {G : xw_G} {σ0 : xw_St} (hac : xw_ac G = true) (v1 : Int32) (v2 : Int32) : xw_Ct l G (xw_hr G σ0) xw_oi yX2_readSayings cX2_readSayings 4 (some (.int)) 7 [va_rf (some (xw_hm G)), .int v1, .int v2] (pg_X2_readSayings v1 v2) := by
  refine xw_metL [(0, va_rf (some (xw_hm G))), (1, .int v1), (2, .int v2)] (by decide) (Nat.le_trans (Nat.le_of_eq ((xw_l1 rfl).trans (congrArg (1 + ·) ((xw_l1 rfl).trans (congrArg (1 + ·) ((xw_l1 rfl).trans (congrArg (1 + ·) xw_l0))))))) (by decide)) ((xw_a1 rfl).trans (congrArg (List.cons _) ((xw_a1 rfl).trans (congrArg (List.cons _) ((xw_a1 rfl).trans (congrArg (List.cons _) xw_a0)))))) (fun E hE hl hG hm => ?_)
  subst hl; subst hG
  have hE : xw_ok E "CrossingWordsModel" cX2_readSayings 4 (some (.int)) 7 := hE
  unfold pg_X2_readSayings
  refine x_iload_n 1 hE dX2_readSayings_0 rfl 2 rfl ?_
  refine x_istore_n 2 [(3, .int v2), (0, va_rf (some (xw_hm (xe_G E)))), (1, .int v1), (2, .int v2)] hE dX2_readSayings_1 rfl rfl (Nat.le_of_ble_eq_true rfl) rfl ?_
  refine x_aload_n 3 hE dX2_readSayings_2 rfl 1 rfl ?_
  refine y_g 6 hE hac (by decide) ymf_22 rfl xkf_CrossingWordsModel_173 dX2_readSayings_3 rfl (fun v3 => ?_)
  refine x_sq 13 (fun (v4 : Unit) => [(0, va_rf (some (xw_hm (xe_G E)))), (1, .int v1), (3, .int v2)]) (fun (v4 : Unit) => []) (fun v4 => ?_) (fun J1 hJ1 => ?_)
  · refine x_sub [(0, va_rf (some (xw_hm (xe_G E)))), (1, .int v1), (3, .int v2)] [0, 1, 2] rfl ?_
    refine x_sq 39 (fun (v6 : Int32) => [(0, va_rf (some (xw_hm (xe_G E)))), (3, .int v6)]) (fun _ => []) (fun v6 => ?_) (fun J3 hJ3 => ?_)
    · refine x_aload_n 40 hE dX2_readSayings_39 rfl 0 rfl ?_
      refine y_g 43 hE hac (by decide) ymf_25 rfl xkf_CrossingWordsModel_183 dX2_readSayings_40 rfl (fun v7 => ?_)
      refine x_if_eq 50 46 hE dX2_readSayings_43 (by decide) rfl ?_ ?_
      · refine x_iload_n 51 hE dX2_readSayings_50 rfl 1 rfl ?_
        exact x_iret hE dX2_readSayings_51
      · refine x_iconst 47 hE dX2_readSayings_46 rfl xc_i_m1 ?_
        refine x_goto 51 hE dX2_readSayings_47 (by decide) ?_
        exact x_iret hE dX2_readSayings_51
    · refine x_loop (fun (v5 : Int32) => [(0, va_rf (some (xw_hm (xe_G E)))), (1, .int v1), (3, .int v5)]) (fun JL2 hc2 hx2 v5 => ?_) _ _
      refine x_aload_n 14 hE dX2_readSayings_13 rfl 0 rfl ?_
      refine y_g 17 hE hac (by decide) ymf_22 rfl xkf_CrossingWordsModel_173 dX2_readSayings_14 rfl (fun v8 => ?_)
      refine x_if_eq 39 20 hE dX2_readSayings_17 (by decide) rfl ?_ ?_
      · refine x_sub [(0, va_rf (some (xw_hm (xe_G E)))), (3, .int v5)] [0, 2] rfl ?_
        refine hx2 _ _ _ _ ?_
        exact hJ3 v5
      · refine x_aload_n 21 hE dX2_readSayings_20 rfl 0 rfl ?_
        refine y_g 24 hE hac (by decide) ymf_25 rfl xkf_CrossingWordsModel_183 dX2_readSayings_21 rfl (fun v9 => ?_)
        refine x_if_ne 39 27 hE dX2_readSayings_24 (by decide) rfl ?_ ?_
        · refine x_aload_n 28 hE dX2_readSayings_27 rfl 0 rfl ?_
          refine x_iload_n 29 hE dX2_readSayings_28 rfl 1 rfl ?_
          refine x_iload_n 30 hE dX2_readSayings_29 rfl 2 rfl ?_
          refine x_callv 33 (xw_goM hE hac (xw_rV hE (ct_X2_readSaying hac v1 v5) xd_X2_readSaying rfl q1564 q1566 qs38 q97 q1567 rfl ⟨Nat.le_of_ble_eq_true rfl, Nat.le_of_ble_eq_true rfl⟩ rfl rfl (by decide) dX2_readSayings_30)) rfl ?_
          refine x_iinc 36 [(3, .int (v5 + 1)), (0, va_rf (some (xw_hm (xe_G E)))), (1, .int v1)] hE dX2_readSayings_33 rfl 2 rfl xc_i_1 (Nat.le_of_ble_eq_true rfl) rfl ?_
          refine x_goto 13 hE dX2_readSayings_36 (by decide) ?_
          refine x_sub [(0, va_rf (some (xw_hm (xe_G E)))), (1, .int v1), (3, .int (v5 + 1))] [1, 2, 0] rfl ?_
          exact hc2 (v5 + 1)
        · refine x_sub [(0, va_rf (some (xw_hm (xe_G E)))), (3, .int v5)] [0, 2] rfl ?_
          refine hx2 _ _ _ _ ?_
          exact hJ3 v5
  · refine x_if_ne 13 9 hE dX2_readSayings_6 (by decide) rfl ?_ ?_
    · refine x_aload_n 10 hE dX2_readSayings_9 rfl 1 rfl ?_
      refine x_callv 13 (xw_goM hE hac (xw_rV hE (ct_X2_errs hac ) xd_X2_errs rfl q1560 q1562 qs37 q97 q1563 rfl ⟨Nat.le_of_ble_eq_true rfl, Nat.le_of_ble_eq_true rfl⟩ rfl rfl (by decide) dX2_readSayings_10)) rfl ?_
      refine x_sub [(0, va_rf (some (xw_hm (xe_G E)))), (1, .int v1), (3, .int v2)] [1, 2, 0] rfl ?_
      exact hJ1 ()
    · refine x_sub [(0, va_rf (some (xw_hm (xe_G E)))), (1, .int v1), (3, .int v2)] [1, 2, 0] rfl ?_
      exact hJ1 ()

set_option maxHeartbeats 4000000 in
theorem ct_X2_tell {l : Launch} {G : xw_G} {σ0 : xw_St} (hac : xw_ac G = true) (v1 : Int32) : xw_Ct l G (xw_hr G σ0) xw_oi yX2_tell cX2_tell 3 (some (.int)) 8 [va_rf (some (xw_hm G)), .int v1] (pg_X2_tell v1) := by
  refine xw_metL [(0, va_rf (some (xw_hm G))), (1, .int v1)] (by decide) (Nat.le_trans (Nat.le_of_eq ((xw_l1 rfl).trans (congrArg (1 + ·) ((xw_l1 rfl).trans (congrArg (1 + ·) xw_l0))))) (by decide)) ((xw_a1 rfl).trans (congrArg (List.cons _) ((xw_a1 rfl).trans (congrArg (List.cons _) xw_a0)))) (fun E hE hl hG hm => ?_)
  subst hl; subst hG
  have hE : xw_ok E "CrossingWordsModel" cX2_tell 3 (some (.int)) 8 := hE
  unfold pg_X2_tell
  refine x_iload_n 1 hE dX2_tell_0 rfl 1 rfl ?_
  refine x_if_lt 12 4 hE dX2_tell_1 (by decide) rfl ?_ ?_
  · refine x_bipush 14 hE dX2_tell_12 rfl xc_b_m2 ?_
    exact x_iret hE dX2_tell_14
  · refine x_iload_n 5 hE dX2_tell_4 rfl 1 rfl ?_
    refine x_aload_n 6 hE dX2_tell_5 rfl 0 rfl ?_
    refine y_g 9 hE hac (by decide) ymf_17 rfl xkf_CrossingWordsModel_148 dX2_tell_6 rfl (fun v2 => ?_)
    refine x_icmp_le 15 12 hE dX2_tell_9 (by decide) rfl ?_ ?_
    · refine x_aload_n 16 hE dX2_tell_15 rfl 0 rfl ?_
      refine y_ga 19 hE hac (by decide) ymf_0 rfl xkf_CrossingWordsModel_7 dX2_tell_16 rfl ?_
      refine x_iconst 20 hE dX2_tell_19 rfl xc_i_0 ?_
      refine y_ld 21 hE hac ⟨rfl, rfl⟩ dX2_tell_20 rfl (fun v3 => ?_)
      refine x_bipush 23 hE dX2_tell_21 rfl xc_b_16 ?_
      refine x_icmp_ne 29 26 hE dX2_tell_23 (by decide) rfl ?_ ?_
      · refine x_bipush 28 hE dX2_tell_26 rfl xc_b_m3 ?_
        exact x_iret hE dX2_tell_28
      · refine x_aload_n 30 hE dX2_tell_29 rfl 0 rfl ?_
        refine x_iload_n 31 hE dX2_tell_30 rfl 1 rfl ?_
        refine x_callv 34 (xw_goM hE hac (xw_rV hE (ct_X2_begins hac v1) xd_X2_begins rfl q1538 q1540 qs33 q97 q1541 rfl ⟨Nat.le_of_ble_eq_true rfl, Nat.le_of_ble_eq_true rfl⟩ rfl rfl (by decide) dX2_tell_31)) rfl ?_
        refine x_aload_n 35 hE dX2_tell_34 rfl 0 rfl ?_
        refine x_aload_n 36 hE dX2_tell_35 rfl 0 rfl ?_
        refine y_ga 39 hE hac (by decide) ymf_0 rfl xkf_CrossingWordsModel_7 dX2_tell_36 rfl ?_
        refine x_iconst 40 hE dX2_tell_39 rfl xc_i_0 ?_
        refine y_ld 41 hE hac ⟨rfl, rfl⟩ dX2_tell_40 rfl (fun v4 => ?_)
        refine x_iconst 42 hE dX2_tell_41 rfl xc_i_0 ?_
        refine x_calli 45 (xw_goM hE hac (xw_rV hE (ct_X2_readSayings hac v4 0) xd_X2_readSayings rfl q1556 q1558 qs36 q97 q1559 rfl ⟨Nat.le_of_ble_eq_true rfl, Nat.le_of_ble_eq_true rfl⟩ rfl rfl (by decide) dX2_tell_42)) rfl (fun v5 => ?_)
        refine x_istore_n 46 [(2, .int v5), (0, va_rf (some (xw_hm (xe_G E)))), (1, .int v1)] hE dX2_tell_45 rfl rfl (Nat.le_of_ble_eq_true rfl) rfl ?_
        refine x_iload_n 47 hE dX2_tell_46 rfl 0 rfl ?_
        refine x_if_ge 52 50 hE dX2_tell_47 (by decide) rfl ?_ ?_
        · refine x_aload_n 53 hE dX2_tell_52 rfl 1 rfl ?_
          refine y_ga 56 hE hac (by decide) ymf_3 rfl xkf_CrossingWordsModel_19 dX2_tell_53 rfl ?_
          refine x_aload_n 57 hE dX2_tell_56 rfl 1 rfl ?_
          refine y_ga 60 hE hac (by decide) ymf_0 rfl xkf_CrossingWordsModel_7 dX2_tell_57 rfl ?_
          refine x_iconst 61 hE dX2_tell_60 rfl xc_i_0 ?_
          refine y_ld 62 hE hac ⟨rfl, rfl⟩ dX2_tell_61 rfl (fun v6 => ?_)
          refine x_iload_n 63 hE dX2_tell_62 rfl 0 rfl ?_
          refine y_st 64 hE hac ⟨rfl, rfl⟩ dX2_tell_63 rfl ?_
          refine x_aload_n 65 hE dX2_tell_64 rfl 1 rfl ?_
          refine y_ga 68 hE hac (by decide) ymf_0 rfl xkf_CrossingWordsModel_7 dX2_tell_65 rfl ?_
          refine x_iconst 69 hE dX2_tell_68 rfl xc_i_0 ?_
          refine x_dup2 70 hE dX2_tell_69 rfl rfl rfl ?_
          refine y_ld 71 hE hac ⟨rfl, rfl⟩ dX2_tell_70 rfl (fun v7 => ?_)
          refine x_iconst 72 hE dX2_tell_71 rfl xc_i_1 ?_
          refine x_iadd 73 hE dX2_tell_72 rfl ?_
          refine y_st 74 hE hac ⟨rfl, rfl⟩ dX2_tell_73 rfl ?_
          refine x_aload_n 75 hE dX2_tell_74 rfl 1 rfl ?_
          refine y_ga 78 hE hac (by decide) ymf_0 rfl xkf_CrossingWordsModel_7 dX2_tell_75 rfl ?_
          refine x_iconst 79 hE dX2_tell_78 rfl xc_i_0 ?_
          refine y_ld 80 hE hac ⟨rfl, rfl⟩ dX2_tell_79 rfl (fun v8 => ?_)
          refine x_iconst 81 hE dX2_tell_80 rfl xc_i_1 ?_
          refine x_isub 82 hE dX2_tell_81 rfl ?_
          exact x_iret hE dX2_tell_82
        · refine x_iconst 51 hE dX2_tell_50 rfl xc_i_m1 ?_
          exact x_iret hE dX2_tell_51
    · refine x_bipush 14 hE dX2_tell_12 rfl xc_b_m2 ?_
      exact x_iret hE dX2_tell_14

set_option maxHeartbeats 4000000 in
theorem ct_X2_isCase {l : Launch} {G : xw_G} {σ0 : xw_St} (hac : xw_ac G = true) (v1 : Int32) : xw_Ct l G (xw_hr G σ0) xw_oi yX2_isCase cX2_isCase 2 (some (.boolean)) 1 [va_rf (some (xw_hm G)), .int v1] (pg_X2_isCase v1) := by
  refine xw_metL [(0, va_rf (some (xw_hm G))), (1, .int v1)] (by decide) (Nat.le_trans (Nat.le_of_eq ((xw_l1 rfl).trans (congrArg (1 + ·) ((xw_l1 rfl).trans (congrArg (1 + ·) xw_l0))))) (by decide)) ((xw_a1 rfl).trans (congrArg (List.cons _) ((xw_a1 rfl).trans (congrArg (List.cons _) xw_a0)))) (fun E hE hl hG hm => ?_)
  subst hl; subst hG
  have hE : xw_ok E "CrossingWordsModel" cX2_isCase 2 (some (.boolean)) 1 := hE
  unfold pg_X2_isCase
  refine x_iload_n 1 hE dX2_isCase_0 rfl 1 rfl ?_
  refine x_if_lt 18 4 hE dX2_isCase_1 (by decide) rfl ?_ ?_
  · refine x_iconst 19 hE dX2_isCase_18 rfl xc_i_0 ?_
    exact x_zretw hE (by decide) dX2_isCase_19
  · refine x_iload_n 5 hE dX2_isCase_4 rfl 1 rfl ?_
    refine x_aload_n 6 hE dX2_isCase_5 rfl 0 rfl ?_
    refine y_ga 9 hE hac (by decide) ymf_0 rfl xkf_CrossingWordsModel_7 dX2_isCase_6 rfl ?_
    refine x_iconst 10 hE dX2_isCase_9 rfl xc_i_0 ?_
    refine y_ld 11 hE hac ⟨rfl, rfl⟩ dX2_isCase_10 rfl (fun v2 => ?_)
    refine x_icmp_ge 18 14 hE dX2_isCase_11 (by decide) rfl ?_ ?_
    · refine x_iconst 19 hE dX2_isCase_18 rfl xc_i_0 ?_
      exact x_zretw hE (by decide) dX2_isCase_19
    · refine x_iconst 15 hE dX2_isCase_14 rfl xc_i_1 ?_
      refine x_goto 19 hE dX2_isCase_15 (by decide) ?_
      exact x_zretw hE (by decide) dX2_isCase_19

set_option maxHeartbeats 4000000 in
theorem ct_X2_isLaw {l : Launch} {G : xw_G} {σ0 : xw_St} (hac : xw_ac G = true) (v1 : Int32) : xw_Ct l G (xw_hr G σ0) xw_oi yX2_isLaw cX2_isLaw 2 (some (.boolean)) 1 [va_rf (some (xw_hm G)), .int v1] (pg_X2_isLaw v1) := by
  refine xw_metL [(0, va_rf (some (xw_hm G))), (1, .int v1)] (by decide) (Nat.le_trans (Nat.le_of_eq ((xw_l1 rfl).trans (congrArg (1 + ·) ((xw_l1 rfl).trans (congrArg (1 + ·) xw_l0))))) (by decide)) ((xw_a1 rfl).trans (congrArg (List.cons _) ((xw_a1 rfl).trans (congrArg (List.cons _) xw_a0)))) (fun E hE hl hG hm => ?_)
  subst hl; subst hG
  have hE : xw_ok E "CrossingWordsModel" cX2_isLaw 2 (some (.boolean)) 1 := hE
  unfold pg_X2_isLaw
  refine x_iload_n 1 hE dX2_isLaw_0 rfl 1 rfl ?_
  refine x_if_lt 18 4 hE dX2_isLaw_1 (by decide) rfl ?_ ?_
  · refine x_iconst 19 hE dX2_isLaw_18 rfl xc_i_0 ?_
    exact x_zretw hE (by decide) dX2_isLaw_19
  · refine x_iload_n 5 hE dX2_isLaw_4 rfl 1 rfl ?_
    refine x_aload_n 6 hE dX2_isLaw_5 rfl 0 rfl ?_
    refine y_ga 9 hE hac (by decide) ymf_1 rfl xkf_CrossingWordsModel_13 dX2_isLaw_6 rfl ?_
    refine x_iconst 10 hE dX2_isLaw_9 rfl xc_i_0 ?_
    refine y_ld 11 hE hac ⟨rfl, rfl⟩ dX2_isLaw_10 rfl (fun v2 => ?_)
    refine x_icmp_ge 18 14 hE dX2_isLaw_11 (by decide) rfl ?_ ?_
    · refine x_iconst 19 hE dX2_isLaw_18 rfl xc_i_0 ?_
      exact x_zretw hE (by decide) dX2_isLaw_19
    · refine x_iconst 15 hE dX2_isLaw_14 rfl xc_i_1 ?_
      refine x_goto 19 hE dX2_isLaw_15 (by decide) ?_
      exact x_zretw hE (by decide) dX2_isLaw_19

set_option maxHeartbeats 4000000 in
theorem ct_X2_more {l : Launch} {G : xw_G} {σ0 : xw_St} (hac : xw_ac G = true) (v1 : Int32) (v2 : Int32) : xw_Ct l G (xw_hr G σ0) xw_oi yX2_more cX2_more 4 (some (.int)) 8 [va_rf (some (xw_hm G)), .int v1, .int v2] (pg_X2_more v1 v2) := by
  refine xw_metL [(0, va_rf (some (xw_hm G))), (1, .int v1), (2, .int v2)] (by decide) (Nat.le_trans (Nat.le_of_eq ((xw_l1 rfl).trans (congrArg (1 + ·) ((xw_l1 rfl).trans (congrArg (1 + ·) ((xw_l1 rfl).trans (congrArg (1 + ·) xw_l0))))))) (by decide)) ((xw_a1 rfl).trans (congrArg (List.cons _) ((xw_a1 rfl).trans (congrArg (List.cons _) ((xw_a1 rfl).trans (congrArg (List.cons _) xw_a0)))))) (fun E hE hl hG hm => ?_)
  subst hl; subst hG
  have hE : xw_ok E "CrossingWordsModel" cX2_more 4 (some (.int)) 8 := hE
  unfold pg_X2_more
  refine x_aload_n 1 hE dX2_more_0 rfl 0 rfl ?_
  refine x_iload_n 2 hE dX2_more_1 rfl 1 rfl ?_
  refine x_calli 5 (xw_goM hE hac (xw_rV hE (ct_X2_isCase hac v1) xd_X2_isCase rfl q1648 q1650 qs52 q97 q1651 rfl ⟨Nat.le_of_ble_eq_true rfl, Nat.le_of_ble_eq_true rfl⟩ rfl rfl (by decide) dX2_more_2)) rfl (fun v3 => ?_)
  refine x_if_eq 20 8 hE dX2_more_5 (by decide) rfl ?_ ?_
  · refine x_bipush 22 hE dX2_more_20 rfl xc_b_m2 ?_
    exact x_iret hE dX2_more_22
  · refine x_iload_n 9 hE dX2_more_8 rfl 2 rfl ?_
    refine x_if_lt 20 12 hE dX2_more_9 (by decide) rfl ?_ ?_
    · refine x_bipush 22 hE dX2_more_20 rfl xc_b_m2 ?_
      exact x_iret hE dX2_more_22
    · refine x_iload_n 13 hE dX2_more_12 rfl 2 rfl ?_
      refine x_aload_n 14 hE dX2_more_13 rfl 0 rfl ?_
      refine y_g 17 hE hac (by decide) ymf_17 rfl xkf_CrossingWordsModel_148 dX2_more_14 rfl (fun v4 => ?_)
      refine x_icmp_le 23 20 hE dX2_more_17 (by decide) rfl ?_ ?_
      · refine x_aload_n 24 hE dX2_more_23 rfl 0 rfl ?_
        refine x_iload_n 25 hE dX2_more_24 rfl 2 rfl ?_
        refine x_callv 28 (xw_goM hE hac (xw_rV hE (ct_X2_begins hac v2) xd_X2_begins rfl q1538 q1540 qs33 q97 q1541 rfl ⟨Nat.le_of_ble_eq_true rfl, Nat.le_of_ble_eq_true rfl⟩ rfl rfl (by decide) dX2_more_25)) rfl ?_
        refine x_aload_n 29 hE dX2_more_28 rfl 0 rfl ?_
        refine x_iload_n 30 hE dX2_more_29 rfl 1 rfl ?_
        refine x_aload_n 31 hE dX2_more_30 rfl 0 rfl ?_
        refine y_ga 34 hE hac (by decide) ymf_3 rfl xkf_CrossingWordsModel_19 dX2_more_31 rfl ?_
        refine x_iload_n 35 hE dX2_more_34 rfl 1 rfl ?_
        refine y_ld 36 hE hac ⟨rfl, rfl⟩ dX2_more_35 rfl (fun v5 => ?_)
        refine x_calli 39 (xw_goM hE hac (xw_rV hE (ct_X2_readSayings hac v1 v5) xd_X2_readSayings rfl q1556 q1558 qs36 q97 q1559 rfl ⟨Nat.le_of_ble_eq_true rfl, Nat.le_of_ble_eq_true rfl⟩ rfl rfl (by decide) dX2_more_36)) rfl (fun v6 => ?_)
        refine x_istore_n 40 [(3, .int v6), (0, va_rf (some (xw_hm (xe_G E)))), (1, .int v1), (2, .int v2)] hE dX2_more_39 rfl rfl (Nat.le_of_ble_eq_true rfl) rfl ?_
        refine x_iload_n 41 hE dX2_more_40 rfl 0 rfl ?_
        refine x_if_ge 46 44 hE dX2_more_41 (by decide) rfl ?_ ?_
        · refine x_aload_n 47 hE dX2_more_46 rfl 1 rfl ?_
          refine y_ga 50 hE hac (by decide) ymf_3 rfl xkf_CrossingWordsModel_19 dX2_more_47 rfl ?_
          refine x_iload_n 51 hE dX2_more_50 rfl 2 rfl ?_
          refine x_iload_n 52 hE dX2_more_51 rfl 0 rfl ?_
          refine y_st 53 hE hac ⟨rfl, rfl⟩ dX2_more_52 rfl ?_
          refine x_iload_n 54 hE dX2_more_53 rfl 0 rfl ?_
          exact x_iret hE dX2_more_54
        · refine x_iconst 45 hE dX2_more_44 rfl xc_i_m1 ?_
          exact x_iret hE dX2_more_45
      · refine x_bipush 22 hE dX2_more_20 rfl xc_b_m2 ?_
        exact x_iret hE dX2_more_22

set_option maxHeartbeats 4000000 in
theorem ct_X2_whenHere {l : Launch} {G : xw_G} {σ0 : xw_St} (hac : xw_ac G = true)  : xw_Ct l G (xw_hr G σ0) xw_oi yX2_whenHere cX2_whenHere 2 (some (.int)) 3 [va_rf (some (xw_hm G))] (pg_X2_whenHere) := by
  refine xw_metL [(0, va_rf (some (xw_hm G)))] (by decide) (Nat.le_trans (Nat.le_of_eq ((xw_l1 rfl).trans (congrArg (1 + ·) xw_l0))) (by decide)) ((xw_a1 rfl).trans (congrArg (List.cons _) xw_a0)) (fun E hE hl hG hm => ?_)
  subst hl; subst hG
  have hE : xw_ok E "CrossingWordsModel" cX2_whenHere 2 (some (.int)) 3 := hE
  unfold pg_X2_whenHere
  refine x_aload_n 1 hE dX2_whenHere_0 rfl 0 rfl ?_
  refine x_ldc2 4 hE q1673 dX2_whenHere_1 rfl ?_
  refine x_calli 7 (xw_goM hE hac (xw_rV hE (ct_X2_is hac 378020) xd_X2_is rfl q1610 q1612 qs46 q97 q1613 rfl ⟨Nat.le_of_ble_eq_true rfl, Nat.le_of_ble_eq_true rfl⟩ rfl rfl (by decide) dX2_whenHere_4)) rfl (fun v1 => ?_)
  refine x_sq 43 (fun (v2 : Int32) => [(0, va_rf (some (xw_hm (xe_G E))))]) (fun (v2 : Int32) => [.int v2]) (fun v2 => ?_) (fun J1 hJ1 => ?_)
  · refine x_istore_n 44 [(1, .int v2), (0, va_rf (some (xw_hm (xe_G E))))] hE dX2_whenHere_43 rfl rfl (Nat.le_of_ble_eq_true rfl) rfl ?_
    refine x_iload_n 45 hE dX2_whenHere_44 rfl 0 rfl ?_
    refine x_if_ge 55 48 hE dX2_whenHere_45 (by decide) rfl ?_ ?_
    · refine x_aload_n 56 hE dX2_whenHere_55 rfl 1 rfl ?_
      refine x_callv 59 (xw_goM hE hac (xw_rV hE (ct_X2_next hac ) xd_X2_next rfl q1542 q1544 qs34 q97 q1545 rfl ⟨Nat.le_of_ble_eq_true rfl, Nat.le_of_ble_eq_true rfl⟩ rfl rfl (by decide) dX2_whenHere_56)) rfl ?_
      refine x_iload_n 60 hE dX2_whenHere_59 rfl 0 rfl ?_
      exact x_iret hE dX2_whenHere_60
    · refine x_aload_n 49 hE dX2_whenHere_48 rfl 1 rfl ?_
      refine x_callv 52 (xw_goM hE hac (xw_rV hE (ct_X2_errs hac ) xd_X2_errs rfl q1560 q1562 qs37 q97 q1563 rfl ⟨Nat.le_of_ble_eq_true rfl, Nat.le_of_ble_eq_true rfl⟩ rfl rfl (by decide) dX2_whenHere_49)) rfl ?_
      refine x_goto 59 hE dX2_whenHere_52 (by decide) ?_
      refine x_iload_n 60 hE dX2_whenHere_59 rfl 0 rfl ?_
      exact x_iret hE dX2_whenHere_60
  · refine x_if_eq 14 10 hE dX2_whenHere_7 (by decide) rfl ?_ ?_
    · refine x_aload_n 15 hE dX2_whenHere_14 rfl 0 rfl ?_
      refine x_ldc2 18 hE q1674 dX2_whenHere_15 rfl ?_
      refine x_calli 21 (xw_goM hE hac (xw_rV hE (ct_X2_is hac 70340) xd_X2_is rfl q1610 q1612 qs46 q97 q1613 rfl ⟨Nat.le_of_ble_eq_true rfl, Nat.le_of_ble_eq_true rfl⟩ rfl rfl (by decide) dX2_whenHere_18)) rfl (fun v3 => ?_)
      refine x_if_eq 28 24 hE dX2_whenHere_21 (by decide) rfl ?_ ?_
      · refine x_aload_n 29 hE dX2_whenHere_28 rfl 0 rfl ?_
        refine x_ldc2 32 hE q1638 dX2_whenHere_29 rfl ?_
        refine x_calli 35 (xw_goM hE hac (xw_rV hE (ct_X2_is hac 357970) xd_X2_is rfl q1610 q1612 qs46 q97 q1613 rfl ⟨Nat.le_of_ble_eq_true rfl, Nat.le_of_ble_eq_true rfl⟩ rfl rfl (by decide) dX2_whenHere_32)) rfl (fun v4 => ?_)
        refine x_if_eq 42 38 hE dX2_whenHere_35 (by decide) rfl ?_ ?_
        · refine x_iconst 43 hE dX2_whenHere_42 rfl xc_i_m1 ?_
          refine x_sub [(0, va_rf (some (xw_hm (xe_G E))))] [0] rfl ?_
          exact hJ1 (-1)
        · refine x_iconst 39 hE dX2_whenHere_38 rfl xc_i_2 ?_
          refine x_goto 43 hE dX2_whenHere_39 (by decide) ?_
          refine x_sub [(0, va_rf (some (xw_hm (xe_G E))))] [0] rfl ?_
          exact hJ1 2
      · refine x_iconst 25 hE dX2_whenHere_24 rfl xc_i_1 ?_
        refine x_goto 43 hE dX2_whenHere_25 (by decide) ?_
        refine x_sub [(0, va_rf (some (xw_hm (xe_G E))))] [0] rfl ?_
        exact hJ1 1
    · refine x_iconst 11 hE dX2_whenHere_10 rfl xc_i_0 ?_
      refine x_goto 43 hE dX2_whenHere_11 (by decide) ?_
      refine x_sub [(0, va_rf (some (xw_hm (xe_G E))))] [0] rfl ?_
      exact hJ1 0

set_option maxHeartbeats 4000000 in
theorem ct_X2_one {l : Launch} {G : xw_G} {σ0 : xw_St} (hac : xw_ac G = true) (v1 : Int64) (v2 : Int64) (v3 : Int64) : xw_Ct l G (xw_hr G σ0) xw_oi yX2_one cX2_one 8 (some (.int)) 3 [va_rf (some (xw_hm G)), .long v1, .long v2, .long v3] (pg_X2_one v1 v2 v3) := by
  refine xw_metL [(0, va_rf (some (xw_hm G))), (1, .long v1), (3, .long v2), (5, .long v3)] (by decide) (Nat.le_trans (Nat.le_of_eq ((xw_l1 rfl).trans (congrArg (1 + ·) (xw_l2.trans (congrArg (2 + ·) (xw_l2.trans (congrArg (2 + ·) (xw_l2.trans (congrArg (2 + ·) xw_l0))))))))) (by decide)) ((xw_a1 rfl).trans (congrArg (List.cons _) (xw_a2.trans (congrArg (List.cons _) (xw_a2.trans (congrArg (List.cons _) (xw_a2.trans (congrArg (List.cons _) xw_a0)))))))) (fun E hE hl hG hm => ?_)
  subst hl; subst hG
  have hE : xw_ok E "CrossingWordsModel" cX2_one 8 (some (.int)) 3 := hE
  unfold pg_X2_one
  refine x_aload_n 1 hE dX2_one_0 rfl 0 rfl ?_
  refine x_lload_n 2 hE dX2_one_1 rfl 1 rfl ?_
  refine x_calli 5 (xw_goM hE hac (xw_rV hE (ct_X2_is hac v1) xd_X2_is rfl q1610 q1612 qs46 q97 q1613 rfl ⟨Nat.le_of_ble_eq_true rfl, Nat.le_of_ble_eq_true rfl⟩ rfl rfl (by decide) dX2_one_2)) rfl (fun v4 => ?_)
  refine x_sq 38 (fun (v5 : Int32) => [(0, va_rf (some (xw_hm (xe_G E))))]) (fun (v5 : Int32) => [.int v5]) (fun v5 => ?_) (fun J1 hJ1 => ?_)
  · refine x_istore 40 [(7, .int v5), (0, va_rf (some (xw_hm (xe_G E))))] hE dX2_one_38 rfl (Nat.le_of_ble_eq_true rfl) rfl ?_
    refine x_iload 42 hE dX2_one_40 rfl 0 rfl ?_
    refine x_if_ge 52 45 hE dX2_one_42 (by decide) rfl ?_ ?_
    · refine x_aload_n 53 hE dX2_one_52 rfl 1 rfl ?_
      refine x_callv 56 (xw_goM hE hac (xw_rV hE (ct_X2_next hac ) xd_X2_next rfl q1542 q1544 qs34 q97 q1545 rfl ⟨Nat.le_of_ble_eq_true rfl, Nat.le_of_ble_eq_true rfl⟩ rfl rfl (by decide) dX2_one_53)) rfl ?_
      refine x_iload 58 hE dX2_one_56 rfl 0 rfl ?_
      exact x_iret hE dX2_one_58
    · refine x_aload_n 46 hE dX2_one_45 rfl 1 rfl ?_
      refine x_callv 49 (xw_goM hE hac (xw_rV hE (ct_X2_errs hac ) xd_X2_errs rfl q1560 q1562 qs37 q97 q1563 rfl ⟨Nat.le_of_ble_eq_true rfl, Nat.le_of_ble_eq_true rfl⟩ rfl rfl (by decide) dX2_one_46)) rfl ?_
      refine x_goto 56 hE dX2_one_49 (by decide) ?_
      refine x_iload 58 hE dX2_one_56 rfl 0 rfl ?_
      exact x_iret hE dX2_one_58
  · refine x_if_eq 12 8 hE dX2_one_5 (by decide) rfl ?_ ?_
    · refine x_aload_n 13 hE dX2_one_12 rfl 0 rfl ?_
      refine x_lload_n 14 hE dX2_one_13 rfl 2 rfl ?_
      refine x_calli 17 (xw_goM hE hac (xw_rV hE (ct_X2_is hac v2) xd_X2_is rfl q1610 q1612 qs46 q97 q1613 rfl ⟨Nat.le_of_ble_eq_true rfl, Nat.le_of_ble_eq_true rfl⟩ rfl rfl (by decide) dX2_one_14)) rfl (fun v6 => ?_)
      refine x_if_eq 24 20 hE dX2_one_17 (by decide) rfl ?_ ?_
      · refine x_aload_n 25 hE dX2_one_24 rfl 0 rfl ?_
        refine x_lload 27 hE dX2_one_25 rfl 3 rfl ?_
        refine x_calli 30 (xw_goM hE hac (xw_rV hE (ct_X2_is hac v3) xd_X2_is rfl q1610 q1612 qs46 q97 q1613 rfl ⟨Nat.le_of_ble_eq_true rfl, Nat.le_of_ble_eq_true rfl⟩ rfl rfl (by decide) dX2_one_27)) rfl (fun v7 => ?_)
        refine x_if_eq 37 33 hE dX2_one_30 (by decide) rfl ?_ ?_
        · refine x_iconst 38 hE dX2_one_37 rfl xc_i_m1 ?_
          refine x_sub [(0, va_rf (some (xw_hm (xe_G E))))] [0] rfl ?_
          exact hJ1 (-1)
        · refine x_iconst 34 hE dX2_one_33 rfl xc_i_2 ?_
          refine x_goto 38 hE dX2_one_34 (by decide) ?_
          refine x_sub [(0, va_rf (some (xw_hm (xe_G E))))] [0] rfl ?_
          exact hJ1 2
      · refine x_iconst 21 hE dX2_one_20 rfl xc_i_1 ?_
        refine x_goto 38 hE dX2_one_21 (by decide) ?_
        refine x_sub [(0, va_rf (some (xw_hm (xe_G E))))] [0] rfl ?_
        exact hJ1 1
    · refine x_iconst 9 hE dX2_one_8 rfl xc_i_0 ?_
      refine x_goto 38 hE dX2_one_9 (by decide) ?_
      refine x_sub [(0, va_rf (some (xw_hm (xe_G E))))] [0] rfl ?_
      exact hJ1 0

set_option maxHeartbeats 4000000 in
theorem ct_X2_readRule {l : Launch} {G : xw_G} {σ0 : xw_St} (hac : xw_ac G = true) (v1 : Int32) : xw_Ct l G (xw_hr G σ0) xw_ov yX2_readRule cX2_readRule 5 none 4 [va_rf (some (xw_hm G)), .int v1] (pg_X2_readRule v1) := by
  refine xw_metL [(0, va_rf (some (xw_hm G))), (1, .int v1)] (by decide) (Nat.le_trans (Nat.le_of_eq ((xw_l1 rfl).trans (congrArg (1 + ·) ((xw_l1 rfl).trans (congrArg (1 + ·) xw_l0))))) (by decide)) ((xw_a1 rfl).trans (congrArg (List.cons _) ((xw_a1 rfl).trans (congrArg (List.cons _) xw_a0)))) (fun E hE hl hG hm => ?_)
  subst hl; subst hG
  have hE : xw_ok E "CrossingWordsModel" cX2_readRule 5 none 4 := hE
  unfold pg_X2_readRule
  refine x_aload_n 1 hE dX2_readRule_0 rfl 0 rfl ?_
  refine x_ldc2 4 hE q1574 dX2_readRule_1 rfl ?_
  refine x_calli 7 (xw_goM hE hac (xw_rV hE (ct_X2_is hac 18379) xd_X2_is rfl q1610 q1612 qs46 q97 q1613 rfl ⟨Nat.le_of_ble_eq_true rfl, Nat.le_of_ble_eq_true rfl⟩ rfl rfl (by decide) dX2_readRule_4)) rfl (fun v2 => ?_)
  refine x_sq 454 (fun (v3 : Unit) => [(0, va_rf (some (xw_hm (xe_G E))))]) (fun (v3 : Unit) => []) (fun v3 => ?_) (fun J1 hJ1 => ?_)
  · refine x_aload_n 455 hE dX2_readRule_454 rfl 0 rfl ?_
    refine x_callv 458 (xw_goM hE hac (xw_rV hE (ct_X2_ends hac ) xd_X2_ends rfl q1640 q1642 qs51 q97 q1643 rfl ⟨Nat.le_of_ble_eq_true rfl, Nat.le_of_ble_eq_true rfl⟩ rfl rfl (by decide) dX2_readRule_455)) rfl ?_
    exact x_vret hE dX2_readRule_458
  · refine x_if_eq 100 10 hE dX2_readRule_7 (by decide) rfl ?_ ?_
    · refine x_aload_n 101 hE dX2_readRule_100 rfl 0 rfl ?_
      refine x_ldc2 104 hE q1572 dX2_readRule_101 rfl ?_
      refine x_calli 107 (xw_goM hE hac (xw_rV hE (ct_X2_is hac 8094240) xd_X2_is rfl q1610 q1612 qs46 q97 q1613 rfl ⟨Nat.le_of_ble_eq_true rfl, Nat.le_of_ble_eq_true rfl⟩ rfl rfl (by decide) dX2_readRule_104)) rfl (fun v4 => ?_)
      refine x_if_eq 129 110 hE dX2_readRule_107 (by decide) rfl ?_ ?_
      · refine x_aload_n 130 hE dX2_readRule_129 rfl 0 rfl ?_
        refine x_ldc2 133 hE q1576 dX2_readRule_130 rfl ?_
        refine x_calli 136 (xw_goM hE hac (xw_rV hE (ct_X2_is hac 40187) xd_X2_is rfl q1610 q1612 qs46 q97 q1613 rfl ⟨Nat.le_of_ble_eq_true rfl, Nat.le_of_ble_eq_true rfl⟩ rfl rfl (by decide) dX2_readRule_133)) rfl (fun v5 => ?_)
        refine x_if_eq 158 139 hE dX2_readRule_136 (by decide) rfl ?_ ?_
        · refine x_aload_n 159 hE dX2_readRule_158 rfl 0 rfl ?_
          refine x_ldc2 162 hE q1575 dX2_readRule_159 rfl ?_
          refine x_calli 165 (xw_goM hE hac (xw_rV hE (ct_X2_is hac 393) xd_X2_is rfl q1610 q1612 qs46 q97 q1613 rfl ⟨Nat.le_of_ble_eq_true rfl, Nat.le_of_ble_eq_true rfl⟩ rfl rfl (by decide) dX2_readRule_162)) rfl (fun v6 => ?_)
          refine x_if_eq 187 168 hE dX2_readRule_165 (by decide) rfl ?_ ?_
          · refine x_aload_n 188 hE dX2_readRule_187 rfl 0 rfl ?_
            refine x_ldc2 191 hE q1609 dX2_readRule_188 rfl ?_
            refine x_calli 194 (xw_goM hE hac (xw_rV hE (ct_X2_is hac 168727) xd_X2_is rfl q1610 q1612 qs46 q97 q1613 rfl ⟨Nat.le_of_ble_eq_true rfl, Nat.le_of_ble_eq_true rfl⟩ rfl rfl (by decide) dX2_readRule_191)) rfl (fun v7 => ?_)
            refine x_if_eq 226 197 hE dX2_readRule_194 (by decide) rfl ?_ ?_
            · refine x_aload_n 227 hE dX2_readRule_226 rfl 0 rfl ?_
              refine x_ldc2 230 hE q1678 dX2_readRule_227 rfl ?_
              refine x_calli 233 (xw_goM hE hac (xw_rV hE (ct_X2_is hac 6409157) xd_X2_is rfl q1610 q1612 qs46 q97 q1613 rfl ⟨Nat.le_of_ble_eq_true rfl, Nat.le_of_ble_eq_true rfl⟩ rfl rfl (by decide) dX2_readRule_230)) rfl (fun v8 => ?_)
              refine x_if_eq 260 236 hE dX2_readRule_233 (by decide) rfl ?_ ?_
              · refine x_aload_n 261 hE dX2_readRule_260 rfl 0 rfl ?_
                refine x_ldc2 264 hE q1679 dX2_readRule_261 rfl ?_
                refine x_calli 267 (xw_goM hE hac (xw_rV hE (ct_X2_is hac 7496615453) xd_X2_is rfl q1610 q1612 qs46 q97 q1613 rfl ⟨Nat.le_of_ble_eq_true rfl, Nat.le_of_ble_eq_true rfl⟩ rfl rfl (by decide) dX2_readRule_264)) rfl (fun v9 => ?_)
                refine x_if_eq 294 270 hE dX2_readRule_267 (by decide) rfl ?_ ?_
                · refine x_aload_n 295 hE dX2_readRule_294 rfl 0 rfl ?_
                  refine x_ldc2 298 hE q1615 dX2_readRule_295 rfl ?_
                  refine x_calli 301 (xw_goM hE hac (xw_rV hE (ct_X2_is hac 2045) xd_X2_is rfl q1610 q1612 qs46 q97 q1613 rfl ⟨Nat.le_of_ble_eq_true rfl, Nat.le_of_ble_eq_true rfl⟩ rfl rfl (by decide) dX2_readRule_298)) rfl (fun v10 => ?_)
                  refine x_if_eq 333 304 hE dX2_readRule_301 (by decide) rfl ?_ ?_
                  · refine x_aload_n 334 hE dX2_readRule_333 rfl 0 rfl ?_
                    refine x_ldc2 337 hE q1681 dX2_readRule_334 rfl ?_
                    refine x_calli 340 (xw_goM hE hac (xw_rV hE (ct_X2_is hac 129532) xd_X2_is rfl q1610 q1612 qs46 q97 q1613 rfl ⟨Nat.le_of_ble_eq_true rfl, Nat.le_of_ble_eq_true rfl⟩ rfl rfl (by decide) dX2_readRule_337)) rfl (fun v11 => ?_)
                    refine x_if_eq 372 343 hE dX2_readRule_340 (by decide) rfl ?_ ?_
                    · refine x_aload_n 373 hE dX2_readRule_372 rfl 0 rfl ?_
                      refine x_ldc2 376 hE q1577 dX2_readRule_373 rfl ?_
                      refine x_calli 379 (xw_goM hE hac (xw_rV hE (ct_X2_is hac 82516) xd_X2_is rfl q1610 q1612 qs46 q97 q1613 rfl ⟨Nat.le_of_ble_eq_true rfl, Nat.le_of_ble_eq_true rfl⟩ rfl rfl (by decide) dX2_readRule_376)) rfl (fun v12 => ?_)
                      refine x_if_eq 411 382 hE dX2_readRule_379 (by decide) rfl ?_ ?_
                      · refine x_aload_n 412 hE dX2_readRule_411 rfl 0 rfl ?_
                        refine x_ldc2 415 hE q1685 dX2_readRule_412 rfl ?_
                        refine x_calli 418 (xw_goM hE hac (xw_rV hE (ct_X2_is hac 361379) xd_X2_is rfl q1610 q1612 qs46 q97 q1613 rfl ⟨Nat.le_of_ble_eq_true rfl, Nat.le_of_ble_eq_true rfl⟩ rfl rfl (by decide) dX2_readRule_415)) rfl (fun v13 => ?_)
                        refine x_if_eq 450 421 hE dX2_readRule_418 (by decide) rfl ?_ ?_
                        · refine x_aload_n 451 hE dX2_readRule_450 rfl 0 rfl ?_
                          refine x_callv 454 (xw_goM hE hac (xw_rV hE (ct_X2_errs hac ) xd_X2_errs rfl q1560 q1562 qs37 q97 q1563 rfl ⟨Nat.le_of_ble_eq_true rfl, Nat.le_of_ble_eq_true rfl⟩ rfl rfl (by decide) dX2_readRule_451)) rfl ?_
                          refine x_sub [(0, va_rf (some (xw_hm (xe_G E))))] [0] rfl ?_
                          exact hJ1 ()
                        · refine x_aload_n 422 hE dX2_readRule_421 rfl 0 rfl ?_
                          refine x_callv 425 (xw_goM hE hac (xw_rV hE (ct_X2_next hac ) xd_X2_next rfl q1542 q1544 qs34 q97 q1545 rfl ⟨Nat.le_of_ble_eq_true rfl, Nat.le_of_ble_eq_true rfl⟩ rfl rfl (by decide) dX2_readRule_422)) rfl ?_
                          refine x_aload_n 426 hE dX2_readRule_425 rfl 0 rfl ?_
                          refine y_ga 429 hE hac (by decide) ymf_15 rfl xkf_CrossingWordsModel_55 dX2_readRule_426 rfl ?_
                          refine x_iload_n 430 hE dX2_readRule_429 rfl 1 rfl ?_
                          refine x_bipush 432 hE dX2_readRule_430 rfl xc_b_12 ?_
                          refine x_iadd 433 hE dX2_readRule_432 rfl ?_
                          refine x_aload_n 434 hE dX2_readRule_433 rfl 0 rfl ?_
                          refine x_ldc2 437 hE q1686 dX2_readRule_434 rfl ?_
                          refine x_ldc2 440 hE q1673 dX2_readRule_437 rfl ?_
                          refine x_ldc2 443 hE q1674 dX2_readRule_440 rfl ?_
                          refine x_calli 446 (xw_goM hE hac (xw_rV hE (ct_X2_one hac 798894590 378020 70340) xd_X2_one rfl q1665 q1667 qs55 q97 q1668 rfl ⟨Nat.le_of_ble_eq_true rfl, Nat.le_of_ble_eq_true rfl⟩ rfl rfl (Nat.le_trans (xw_sm1 rfl (xw_sm1 rfl xw_sm0)) (by decide)) dX2_readRule_443)) rfl (fun v14 => ?_)
                          refine y_st 447 hE hac ⟨rfl, rfl⟩ dX2_readRule_446 rfl ?_
                          refine x_goto 454 hE dX2_readRule_447 (by decide) ?_
                          refine x_sub [(0, va_rf (some (xw_hm (xe_G E))))] [0] rfl ?_
                          exact hJ1 ()
                      · refine x_aload_n 383 hE dX2_readRule_382 rfl 0 rfl ?_
                        refine x_callv 386 (xw_goM hE hac (xw_rV hE (ct_X2_next hac ) xd_X2_next rfl q1542 q1544 qs34 q97 q1545 rfl ⟨Nat.le_of_ble_eq_true rfl, Nat.le_of_ble_eq_true rfl⟩ rfl rfl (by decide) dX2_readRule_383)) rfl ?_
                        refine x_aload_n 387 hE dX2_readRule_386 rfl 0 rfl ?_
                        refine y_ga 390 hE hac (by decide) ymf_15 rfl xkf_CrossingWordsModel_55 dX2_readRule_387 rfl ?_
                        refine x_iload_n 391 hE dX2_readRule_390 rfl 1 rfl ?_
                        refine x_bipush 393 hE dX2_readRule_391 rfl xc_b_11 ?_
                        refine x_iadd 394 hE dX2_readRule_393 rfl ?_
                        refine x_aload_n 395 hE dX2_readRule_394 rfl 0 rfl ?_
                        refine x_ldc2 398 hE q1684 dX2_readRule_395 rfl ?_
                        refine x_ldc2 401 hE q1574 dX2_readRule_398 rfl ?_
                        refine x_ldc2 404 hE q1677 dX2_readRule_401 rfl ?_
                        refine x_calli 407 (xw_goM hE hac (xw_rV hE (ct_X2_one hac 286880 18379 (-9)) xd_X2_one rfl q1665 q1667 qs55 q97 q1668 rfl ⟨Nat.le_of_ble_eq_true rfl, Nat.le_of_ble_eq_true rfl⟩ rfl rfl (Nat.le_trans (xw_sm1 rfl (xw_sm1 rfl xw_sm0)) (by decide)) dX2_readRule_404)) rfl (fun v15 => ?_)
                        refine y_st 408 hE hac ⟨rfl, rfl⟩ dX2_readRule_407 rfl ?_
                        refine x_goto 454 hE dX2_readRule_408 (by decide) ?_
                        refine x_sub [(0, va_rf (some (xw_hm (xe_G E))))] [0] rfl ?_
                        exact hJ1 ()
                    · refine x_aload_n 344 hE dX2_readRule_343 rfl 0 rfl ?_
                      refine x_callv 347 (xw_goM hE hac (xw_rV hE (ct_X2_next hac ) xd_X2_next rfl q1542 q1544 qs34 q97 q1545 rfl ⟨Nat.le_of_ble_eq_true rfl, Nat.le_of_ble_eq_true rfl⟩ rfl rfl (by decide) dX2_readRule_344)) rfl ?_
                      refine x_aload_n 348 hE dX2_readRule_347 rfl 0 rfl ?_
                      refine y_ga 351 hE hac (by decide) ymf_15 rfl xkf_CrossingWordsModel_55 dX2_readRule_348 rfl ?_
                      refine x_iload_n 352 hE dX2_readRule_351 rfl 1 rfl ?_
                      refine x_bipush 354 hE dX2_readRule_352 rfl xc_b_10 ?_
                      refine x_iadd 355 hE dX2_readRule_354 rfl ?_
                      refine x_aload_n 356 hE dX2_readRule_355 rfl 0 rfl ?_
                      refine x_ldc2 359 hE q1682 dX2_readRule_356 rfl ?_
                      refine x_ldc2 362 hE q1683 dX2_readRule_359 rfl ?_
                      refine x_ldc2 365 hE q1684 dX2_readRule_362 rfl ?_
                      refine x_calli 368 (xw_goM hE hac (xw_rV hE (ct_X2_one hac 3379448 237458 286880) xd_X2_one rfl q1665 q1667 qs55 q97 q1668 rfl ⟨Nat.le_of_ble_eq_true rfl, Nat.le_of_ble_eq_true rfl⟩ rfl rfl (Nat.le_trans (xw_sm1 rfl (xw_sm1 rfl xw_sm0)) (by decide)) dX2_readRule_365)) rfl (fun v16 => ?_)
                      refine y_st 369 hE hac ⟨rfl, rfl⟩ dX2_readRule_368 rfl ?_
                      refine x_goto 454 hE dX2_readRule_369 (by decide) ?_
                      refine x_sub [(0, va_rf (some (xw_hm (xe_G E))))] [0] rfl ?_
                      exact hJ1 ()
                  · refine x_aload_n 305 hE dX2_readRule_304 rfl 0 rfl ?_
                    refine x_callv 308 (xw_goM hE hac (xw_rV hE (ct_X2_next hac ) xd_X2_next rfl q1542 q1544 qs34 q97 q1545 rfl ⟨Nat.le_of_ble_eq_true rfl, Nat.le_of_ble_eq_true rfl⟩ rfl rfl (by decide) dX2_readRule_305)) rfl ?_
                    refine x_aload_n 309 hE dX2_readRule_308 rfl 0 rfl ?_
                    refine y_ga 312 hE hac (by decide) ymf_15 rfl xkf_CrossingWordsModel_55 dX2_readRule_309 rfl ?_
                    refine x_iload_n 313 hE dX2_readRule_312 rfl 1 rfl ?_
                    refine x_bipush 315 hE dX2_readRule_313 rfl xc_b_9 ?_
                    refine x_iadd 316 hE dX2_readRule_315 rfl ?_
                    refine x_aload_n 317 hE dX2_readRule_316 rfl 0 rfl ?_
                    refine x_ldc2 320 hE q1575 dX2_readRule_317 rfl ?_
                    refine x_ldc2 323 hE q1680 dX2_readRule_320 rfl ?_
                    refine x_ldc2 326 hE q1677 dX2_readRule_323 rfl ?_
                    refine x_calli 329 (xw_goM hE hac (xw_rV hE (ct_X2_one hac 393 10354323 (-9)) xd_X2_one rfl q1665 q1667 qs55 q97 q1668 rfl ⟨Nat.le_of_ble_eq_true rfl, Nat.le_of_ble_eq_true rfl⟩ rfl rfl (Nat.le_trans (xw_sm1 rfl (xw_sm1 rfl xw_sm0)) (by decide)) dX2_readRule_326)) rfl (fun v17 => ?_)
                    refine y_st 330 hE hac ⟨rfl, rfl⟩ dX2_readRule_329 rfl ?_
                    refine x_goto 454 hE dX2_readRule_330 (by decide) ?_
                    refine x_sub [(0, va_rf (some (xw_hm (xe_G E))))] [0] rfl ?_
                    exact hJ1 ()
                · refine x_aload_n 271 hE dX2_readRule_270 rfl 0 rfl ?_
                  refine x_callv 274 (xw_goM hE hac (xw_rV hE (ct_X2_next hac ) xd_X2_next rfl q1542 q1544 qs34 q97 q1545 rfl ⟨Nat.le_of_ble_eq_true rfl, Nat.le_of_ble_eq_true rfl⟩ rfl rfl (by decide) dX2_readRule_271)) rfl ?_
                  refine x_aload_n 275 hE dX2_readRule_274 rfl 0 rfl ?_
                  refine y_ga 278 hE hac (by decide) ymf_15 rfl xkf_CrossingWordsModel_55 dX2_readRule_275 rfl ?_
                  refine x_iload_n 279 hE dX2_readRule_278 rfl 1 rfl ?_
                  refine x_bipush 281 hE dX2_readRule_279 rfl xc_b_8 ?_
                  refine x_iadd 282 hE dX2_readRule_281 rfl ?_
                  refine x_aload_n 283 hE dX2_readRule_282 rfl 0 rfl ?_
                  refine x_iconst 284 hE dX2_readRule_283 rfl xc_i_0 ?_
                  refine x_sipush 287 hE dX2_readRule_284 rfl xc_s_999 ?_
                  refine x_calli 290 (xw_goM hE hac (xw_rV hE (ct_X2_numeral hac 0 999) xd_X2_numeral rfl q1605 q1607 qs45 q97 q1608 rfl ⟨Nat.le_of_ble_eq_true rfl, Nat.le_of_ble_eq_true rfl⟩ rfl rfl (Nat.le_trans (xw_sm1 rfl (xw_sm1 rfl xw_sm0)) (by decide)) dX2_readRule_287)) rfl (fun v18 => ?_)
                  refine y_st 291 hE hac ⟨rfl, rfl⟩ dX2_readRule_290 rfl ?_
                  refine x_goto 454 hE dX2_readRule_291 (by decide) ?_
                  refine x_sub [(0, va_rf (some (xw_hm (xe_G E))))] [0] rfl ?_
                  exact hJ1 ()
              · refine x_aload_n 237 hE dX2_readRule_236 rfl 0 rfl ?_
                refine x_callv 240 (xw_goM hE hac (xw_rV hE (ct_X2_next hac ) xd_X2_next rfl q1542 q1544 qs34 q97 q1545 rfl ⟨Nat.le_of_ble_eq_true rfl, Nat.le_of_ble_eq_true rfl⟩ rfl rfl (by decide) dX2_readRule_237)) rfl ?_
                refine x_aload_n 241 hE dX2_readRule_240 rfl 0 rfl ?_
                refine y_ga 244 hE hac (by decide) ymf_15 rfl xkf_CrossingWordsModel_55 dX2_readRule_241 rfl ?_
                refine x_iload_n 245 hE dX2_readRule_244 rfl 1 rfl ?_
                refine x_bipush 247 hE dX2_readRule_245 rfl xc_b_7 ?_
                refine x_iadd 248 hE dX2_readRule_247 rfl ?_
                refine x_aload_n 249 hE dX2_readRule_248 rfl 0 rfl ?_
                refine x_iconst 250 hE dX2_readRule_249 rfl xc_i_0 ?_
                refine x_sipush 253 hE dX2_readRule_250 rfl xc_s_999 ?_
                refine x_calli 256 (xw_goM hE hac (xw_rV hE (ct_X2_numeral hac 0 999) xd_X2_numeral rfl q1605 q1607 qs45 q97 q1608 rfl ⟨Nat.le_of_ble_eq_true rfl, Nat.le_of_ble_eq_true rfl⟩ rfl rfl (Nat.le_trans (xw_sm1 rfl (xw_sm1 rfl xw_sm0)) (by decide)) dX2_readRule_253)) rfl (fun v19 => ?_)
                refine y_st 257 hE hac ⟨rfl, rfl⟩ dX2_readRule_256 rfl ?_
                refine x_goto 454 hE dX2_readRule_257 (by decide) ?_
                refine x_sub [(0, va_rf (some (xw_hm (xe_G E))))] [0] rfl ?_
                exact hJ1 ()
            · refine x_aload_n 198 hE dX2_readRule_197 rfl 0 rfl ?_
              refine x_callv 201 (xw_goM hE hac (xw_rV hE (ct_X2_next hac ) xd_X2_next rfl q1542 q1544 qs34 q97 q1545 rfl ⟨Nat.le_of_ble_eq_true rfl, Nat.le_of_ble_eq_true rfl⟩ rfl rfl (by decide) dX2_readRule_198)) rfl ?_
              refine x_aload_n 202 hE dX2_readRule_201 rfl 0 rfl ?_
              refine y_ga 205 hE hac (by decide) ymf_15 rfl xkf_CrossingWordsModel_55 dX2_readRule_202 rfl ?_
              refine x_iload_n 206 hE dX2_readRule_205 rfl 1 rfl ?_
              refine x_bipush 208 hE dX2_readRule_206 rfl xc_b_6 ?_
              refine x_iadd 209 hE dX2_readRule_208 rfl ?_
              refine x_aload_n 210 hE dX2_readRule_209 rfl 0 rfl ?_
              refine x_ldc2 213 hE q1675 dX2_readRule_210 rfl ?_
              refine x_ldc2 216 hE q1676 dX2_readRule_213 rfl ?_
              refine x_ldc2 219 hE q1677 dX2_readRule_216 rfl ?_
              refine x_calli 222 (xw_goM hE hac (xw_rV hE (ct_X2_one hac 131360 1250362 (-9)) xd_X2_one rfl q1665 q1667 qs55 q97 q1668 rfl ⟨Nat.le_of_ble_eq_true rfl, Nat.le_of_ble_eq_true rfl⟩ rfl rfl (Nat.le_trans (xw_sm1 rfl (xw_sm1 rfl xw_sm0)) (by decide)) dX2_readRule_219)) rfl (fun v20 => ?_)
              refine y_st 223 hE hac ⟨rfl, rfl⟩ dX2_readRule_222 rfl ?_
              refine x_goto 454 hE dX2_readRule_223 (by decide) ?_
              refine x_sub [(0, va_rf (some (xw_hm (xe_G E))))] [0] rfl ?_
              exact hJ1 ()
          · refine x_aload_n 169 hE dX2_readRule_168 rfl 0 rfl ?_
            refine x_callv 172 (xw_goM hE hac (xw_rV hE (ct_X2_next hac ) xd_X2_next rfl q1542 q1544 qs34 q97 q1545 rfl ⟨Nat.le_of_ble_eq_true rfl, Nat.le_of_ble_eq_true rfl⟩ rfl rfl (by decide) dX2_readRule_169)) rfl ?_
            refine x_aload_n 173 hE dX2_readRule_172 rfl 0 rfl ?_
            refine y_ga 176 hE hac (by decide) ymf_15 rfl xkf_CrossingWordsModel_55 dX2_readRule_173 rfl ?_
            refine x_iload_n 177 hE dX2_readRule_176 rfl 1 rfl ?_
            refine x_iconst 178 hE dX2_readRule_177 rfl xc_i_5 ?_
            refine x_iadd 179 hE dX2_readRule_178 rfl ?_
            refine x_aload_n 180 hE dX2_readRule_179 rfl 0 rfl ?_
            refine x_calli 183 (xw_goM hE hac (xw_rV hE (ct_X2_whenHere hac ) xd_X2_whenHere rfl q1669 q1671 qs56 q97 q1672 rfl ⟨Nat.le_of_ble_eq_true rfl, Nat.le_of_ble_eq_true rfl⟩ rfl rfl (Nat.le_trans (xw_sm1 rfl (xw_sm1 rfl xw_sm0)) (by decide)) dX2_readRule_180)) rfl (fun v21 => ?_)
            refine y_st 184 hE hac ⟨rfl, rfl⟩ dX2_readRule_183 rfl ?_
            refine x_goto 454 hE dX2_readRule_184 (by decide) ?_
            refine x_sub [(0, va_rf (some (xw_hm (xe_G E))))] [0] rfl ?_
            exact hJ1 ()
        · refine x_aload_n 140 hE dX2_readRule_139 rfl 0 rfl ?_
          refine x_callv 143 (xw_goM hE hac (xw_rV hE (ct_X2_next hac ) xd_X2_next rfl q1542 q1544 qs34 q97 q1545 rfl ⟨Nat.le_of_ble_eq_true rfl, Nat.le_of_ble_eq_true rfl⟩ rfl rfl (by decide) dX2_readRule_140)) rfl ?_
          refine x_aload_n 144 hE dX2_readRule_143 rfl 0 rfl ?_
          refine y_ga 147 hE hac (by decide) ymf_15 rfl xkf_CrossingWordsModel_55 dX2_readRule_144 rfl ?_
          refine x_iload_n 148 hE dX2_readRule_147 rfl 1 rfl ?_
          refine x_iconst 149 hE dX2_readRule_148 rfl xc_i_4 ?_
          refine x_iadd 150 hE dX2_readRule_149 rfl ?_
          refine x_aload_n 151 hE dX2_readRule_150 rfl 0 rfl ?_
          refine x_calli 154 (xw_goM hE hac (xw_rV hE (ct_X2_whenHere hac ) xd_X2_whenHere rfl q1669 q1671 qs56 q97 q1672 rfl ⟨Nat.le_of_ble_eq_true rfl, Nat.le_of_ble_eq_true rfl⟩ rfl rfl (Nat.le_trans (xw_sm1 rfl (xw_sm1 rfl xw_sm0)) (by decide)) dX2_readRule_151)) rfl (fun v22 => ?_)
          refine y_st 155 hE hac ⟨rfl, rfl⟩ dX2_readRule_154 rfl ?_
          refine x_goto 454 hE dX2_readRule_155 (by decide) ?_
          refine x_sub [(0, va_rf (some (xw_hm (xe_G E))))] [0] rfl ?_
          exact hJ1 ()
      · refine x_aload_n 111 hE dX2_readRule_110 rfl 0 rfl ?_
        refine x_callv 114 (xw_goM hE hac (xw_rV hE (ct_X2_next hac ) xd_X2_next rfl q1542 q1544 qs34 q97 q1545 rfl ⟨Nat.le_of_ble_eq_true rfl, Nat.le_of_ble_eq_true rfl⟩ rfl rfl (by decide) dX2_readRule_111)) rfl ?_
        refine x_aload_n 115 hE dX2_readRule_114 rfl 0 rfl ?_
        refine y_ga 118 hE hac (by decide) ymf_15 rfl xkf_CrossingWordsModel_55 dX2_readRule_115 rfl ?_
        refine x_iload_n 119 hE dX2_readRule_118 rfl 1 rfl ?_
        refine x_iconst 120 hE dX2_readRule_119 rfl xc_i_3 ?_
        refine x_iadd 121 hE dX2_readRule_120 rfl ?_
        refine x_aload_n 122 hE dX2_readRule_121 rfl 0 rfl ?_
        refine x_calli 125 (xw_goM hE hac (xw_rV hE (ct_X2_whenHere hac ) xd_X2_whenHere rfl q1669 q1671 qs56 q97 q1672 rfl ⟨Nat.le_of_ble_eq_true rfl, Nat.le_of_ble_eq_true rfl⟩ rfl rfl (Nat.le_trans (xw_sm1 rfl (xw_sm1 rfl xw_sm0)) (by decide)) dX2_readRule_122)) rfl (fun v23 => ?_)
        refine y_st 126 hE hac ⟨rfl, rfl⟩ dX2_readRule_125 rfl ?_
        refine x_goto 454 hE dX2_readRule_126 (by decide) ?_
        refine x_sub [(0, va_rf (some (xw_hm (xe_G E))))] [0] rfl ?_
        exact hJ1 ()
    · refine x_aload_n 11 hE dX2_readRule_10 rfl 0 rfl ?_
      refine x_callv 14 (xw_goM hE hac (xw_rV hE (ct_X2_next hac ) xd_X2_next rfl q1542 q1544 qs34 q97 q1545 rfl ⟨Nat.le_of_ble_eq_true rfl, Nat.le_of_ble_eq_true rfl⟩ rfl rfl (by decide) dX2_readRule_11)) rfl ?_
      refine x_aload_n 15 hE dX2_readRule_14 rfl 0 rfl ?_
      refine x_ldc2 18 hE q1664 dX2_readRule_15 rfl ?_
      refine x_calli 21 (xw_goM hE hac (xw_rV hE (ct_X2_is hac 1065) xd_X2_is rfl q1610 q1612 qs46 q97 q1613 rfl ⟨Nat.le_of_ble_eq_true rfl, Nat.le_of_ble_eq_true rfl⟩ rfl rfl (by decide) dX2_readRule_18)) rfl (fun v24 => ?_)
      refine x_sq 29 (fun (v25 : Int32) => [(0, va_rf (some (xw_hm (xe_G E)))), (1, .int v1)]) (fun (v25 : Int32) => [.int v25]) (fun v25 => ?_) (fun J2 hJ2 => ?_)
      · refine x_istore_n 30 [(2, .int v25), (0, va_rf (some (xw_hm (xe_G E)))), (1, .int v1)] hE dX2_readRule_29 rfl rfl (Nat.le_of_ble_eq_true rfl) rfl ?_
        refine x_iload_n 31 hE dX2_readRule_30 rfl 0 rfl ?_
        refine x_iconst 32 hE dX2_readRule_31 rfl xc_i_3 ?_
        refine x_sq 56 (fun (v26 : Int32) => [(0, va_rf (some (xw_hm (xe_G E)))), (1, .int v1), (2, .int v26)]) (fun (v26 : Int32) => []) (fun v26 => ?_) (fun J3 hJ3 => ?_)
        · refine x_aload_n 57 hE dX2_readRule_56 rfl 0 rfl ?_
          refine x_calli 60 (xw_goM hE hac (xw_rV hE (ct_X2_whenHere hac ) xd_X2_whenHere rfl q1669 q1671 qs56 q97 q1672 rfl ⟨Nat.le_of_ble_eq_true rfl, Nat.le_of_ble_eq_true rfl⟩ rfl rfl (by decide) dX2_readRule_57)) rfl (fun v27 => ?_)
          refine x_istore_n 61 [(3, .int v27), (0, va_rf (some (xw_hm (xe_G E)))), (1, .int v1), (2, .int v26)] hE dX2_readRule_60 rfl rfl (Nat.le_of_ble_eq_true rfl) rfl ?_
          refine x_iconst 62 hE dX2_readRule_61 rfl xc_i_0 ?_
          refine x_istore 64 [(4, .int 0), (3, .int v27), (0, va_rf (some (xw_hm (xe_G E)))), (1, .int v1), (2, .int v26)] hE dX2_readRule_62 rfl (Nat.le_of_ble_eq_true rfl) rfl ?_
          refine x_sub [(0, va_rf (some (xw_hm (xe_G E)))), (1, .int v1), (2, .int v26), (3, .int v27), (4, .int 0)] [2, 3, 4, 1, 0] rfl ?_
          refine x_sq 97 (fun (v29 : Unit) => [(0, va_rf (some (xw_hm (xe_G E))))]) (fun _ => []) (fun v29 => ?_) (fun J5 hJ5 => ?_)
          · refine x_goto 454 hE dX2_readRule_97 (by decide) ?_
            refine x_sub [(0, va_rf (some (xw_hm (xe_G E))))] [0] rfl ?_
            exact hJ1 ()
          · refine x_loop (fun (v28 : Int32) => [(0, va_rf (some (xw_hm (xe_G E)))), (1, .int v1), (2, .int v26), (3, .int v27), (4, .int v28)]) (fun JL4 hc4 hx4 v28 => ?_) _ _
            refine x_iload 66 hE dX2_readRule_64 rfl 4 rfl ?_
            refine x_iconst 67 hE dX2_readRule_66 rfl xc_i_3 ?_
            refine x_icmp_ge 97 70 hE dX2_readRule_67 (by decide) rfl ?_ ?_
            · refine x_sub [(0, va_rf (some (xw_hm (xe_G E))))] [0] rfl ?_
              refine hx4 _ _ _ _ ?_
              exact hJ5 ()
            · refine x_iload_n 71 hE dX2_readRule_70 rfl 2 rfl ?_
              refine x_iconst 72 hE dX2_readRule_71 rfl xc_i_3 ?_
              refine x_icmp_eq 81 75 hE dX2_readRule_72 (by decide) rfl ?_ ?_
              · refine x_aload_n 82 hE dX2_readRule_81 rfl 0 rfl ?_
                refine y_ga 85 hE hac (by decide) ymf_15 rfl xkf_CrossingWordsModel_55 dX2_readRule_82 rfl ?_
                refine x_iload_n 86 hE dX2_readRule_85 rfl 1 rfl ?_
                refine x_iload 88 hE dX2_readRule_86 rfl 4 rfl ?_
                refine x_iadd 89 hE dX2_readRule_88 rfl ?_
                refine x_iload_n 90 hE dX2_readRule_89 rfl 3 rfl ?_
                refine y_st 91 hE hac ⟨rfl, rfl⟩ dX2_readRule_90 rfl ?_
                refine x_iinc 94 [(4, .int (v28 + 1)), (0, va_rf (some (xw_hm (xe_G E)))), (1, .int v1), (2, .int v26), (3, .int v27)] hE dX2_readRule_91 rfl 4 rfl xc_i_1 (Nat.le_of_ble_eq_true rfl) rfl ?_
                refine x_goto 64 hE dX2_readRule_94 (by decide) ?_
                refine x_sub [(0, va_rf (some (xw_hm (xe_G E)))), (1, .int v1), (2, .int v26), (3, .int v27), (4, .int (v28 + 1))] [1, 2, 3, 4, 0] rfl ?_
                exact hc4 (v28 + 1)
              · refine x_iload_n 76 hE dX2_readRule_75 rfl 2 rfl ?_
                refine x_iload 78 hE dX2_readRule_76 rfl 4 rfl ?_
                refine x_icmp_ne 91 81 hE dX2_readRule_78 (by decide) rfl ?_ ?_
                · refine x_aload_n 82 hE dX2_readRule_81 rfl 0 rfl ?_
                  refine y_ga 85 hE hac (by decide) ymf_15 rfl xkf_CrossingWordsModel_55 dX2_readRule_82 rfl ?_
                  refine x_iload_n 86 hE dX2_readRule_85 rfl 1 rfl ?_
                  refine x_iload 88 hE dX2_readRule_86 rfl 4 rfl ?_
                  refine x_iadd 89 hE dX2_readRule_88 rfl ?_
                  refine x_iload_n 90 hE dX2_readRule_89 rfl 3 rfl ?_
                  refine y_st 91 hE hac ⟨rfl, rfl⟩ dX2_readRule_90 rfl ?_
                  refine x_iinc 94 [(4, .int (v28 + 1)), (0, va_rf (some (xw_hm (xe_G E)))), (1, .int v1), (2, .int v26), (3, .int v27)] hE dX2_readRule_91 rfl 4 rfl xc_i_1 (Nat.le_of_ble_eq_true rfl) rfl ?_
                  refine x_goto 64 hE dX2_readRule_94 (by decide) ?_
                  refine x_sub [(0, va_rf (some (xw_hm (xe_G E)))), (1, .int v1), (2, .int v26), (3, .int v27), (4, .int (v28 + 1))] [1, 2, 3, 4, 0] rfl ?_
                  exact hc4 (v28 + 1)
                · refine x_iinc 94 [(4, .int (v28 + 1)), (0, va_rf (some (xw_hm (xe_G E)))), (1, .int v1), (2, .int v26), (3, .int v27)] hE dX2_readRule_91 rfl 4 rfl xc_i_1 (Nat.le_of_ble_eq_true rfl) rfl ?_
                  refine x_goto 64 hE dX2_readRule_94 (by decide) ?_
                  refine x_sub [(0, va_rf (some (xw_hm (xe_G E)))), (1, .int v1), (2, .int v26), (3, .int v27), (4, .int (v28 + 1))] [1, 2, 3, 4, 0] rfl ?_
                  exact hc4 (v28 + 1)
        · refine x_icmp_ne 42 35 hE dX2_readRule_32 (by decide) rfl ?_ ?_
          · refine x_aload_n 36 hE dX2_readRule_35 rfl 1 rfl ?_
            refine x_callv 39 (xw_goM hE hac (xw_rV hE (ct_X2_next hac ) xd_X2_next rfl q1542 q1544 qs34 q97 q1545 rfl ⟨Nat.le_of_ble_eq_true rfl, Nat.le_of_ble_eq_true rfl⟩ rfl rfl (by decide) dX2_readRule_36)) rfl ?_
            refine x_goto 56 hE dX2_readRule_39 (by decide) ?_
            refine x_sub [(0, va_rf (some (xw_hm (xe_G E)))), (1, .int v1), (2, .int v25)] [1, 2, 0] rfl ?_
            exact hJ3 v25
          · refine x_aload_n 43 hE dX2_readRule_42 rfl 1 rfl ?_
            refine x_ldc2 46 hE q1624 dX2_readRule_43 rfl ?_
            refine x_ldc2 49 hE q1625 dX2_readRule_46 rfl ?_
            refine x_ldc2 52 hE q1626 dX2_readRule_49 rfl ?_
            refine x_calli 55 (xw_goM hE hac (xw_rV hE (ct_X2_one hac 326396 459761 7219835) xd_X2_one rfl q1665 q1667 qs55 q97 q1668 rfl ⟨Nat.le_of_ble_eq_true rfl, Nat.le_of_ble_eq_true rfl⟩ rfl rfl (by decide) dX2_readRule_52)) rfl (fun v30 => ?_)
            refine x_istore_n 56 [(2, .int v30), (0, va_rf (some (xw_hm (xe_G E)))), (1, .int v1)] hE dX2_readRule_55 rfl rfl (Nat.le_of_ble_eq_true rfl) rfl ?_
            refine x_sub [(0, va_rf (some (xw_hm (xe_G E)))), (1, .int v1), (2, .int v30)] [1, 2, 0] rfl ?_
            exact hJ3 v30
      · refine x_if_eq 28 24 hE dX2_readRule_21 (by decide) rfl ?_ ?_
        · refine x_iconst 29 hE dX2_readRule_28 rfl xc_i_m1 ?_
          refine x_sub [(0, va_rf (some (xw_hm (xe_G E)))), (1, .int v1)] [0, 1] rfl ?_
          exact hJ2 (-1)
        · refine x_iconst 25 hE dX2_readRule_24 rfl xc_i_3 ?_
          refine x_goto 29 hE dX2_readRule_25 (by decide) ?_
          refine x_sub [(0, va_rf (some (xw_hm (xe_G E)))), (1, .int v1)] [0, 1] rfl ?_
          exact hJ2 3

set_option maxHeartbeats 4000000 in
theorem ct_X2_readRules {l : Launch} {G : xw_G} {σ0 : xw_St} (hac : xw_ac G = true) (v1 : Int32) : xw_Ct l G (xw_hr G σ0) xw_oi yX2_readRules cX2_readRules 3 (some (.boolean)) 5 [va_rf (some (xw_hm G)), .int v1] (pg_X2_readRules v1) := by
  refine xw_metL [(0, va_rf (some (xw_hm G))), (1, .int v1)] (by decide) (Nat.le_trans (Nat.le_of_eq ((xw_l1 rfl).trans (congrArg (1 + ·) ((xw_l1 rfl).trans (congrArg (1 + ·) xw_l0))))) (by decide)) ((xw_a1 rfl).trans (congrArg (List.cons _) ((xw_a1 rfl).trans (congrArg (List.cons _) xw_a0)))) (fun E hE hl hG hm => ?_)
  subst hl; subst hG
  have hE : xw_ok E "CrossingWordsModel" cX2_readRules 3 (some (.boolean)) 5 := hE
  unfold pg_X2_readRules
  refine x_iconst 1 hE dX2_readRules_0 rfl xc_i_0 ?_
  refine x_istore_n 2 [(2, .int 0), (0, va_rf (some (xw_hm (xe_G E)))), (1, .int v1)] hE dX2_readRules_1 rfl rfl (Nat.le_of_ble_eq_true rfl) rfl ?_
  refine x_sub [(0, va_rf (some (xw_hm (xe_G E)))), (1, .int v1), (2, .int 0)] [1, 2, 0] rfl ?_
  refine x_sq 24 (fun (v3 : Unit) => [(0, va_rf (some (xw_hm (xe_G E)))), (1, .int v1)]) (fun _ => []) (fun v3 => ?_) (fun J2 hJ2 => ?_)
  · refine x_iconst 25 hE dX2_readRules_24 rfl xc_i_0 ?_
    refine x_istore_n 26 [(2, .int 0), (0, va_rf (some (xw_hm (xe_G E)))), (1, .int v1)] hE dX2_readRules_25 rfl rfl (Nat.le_of_ble_eq_true rfl) rfl ?_
    refine x_sub [(0, va_rf (some (xw_hm (xe_G E)))), (1, .int v1), (2, .int 0)] [1, 2, 0] rfl ?_
    refine x_sq 64 (fun (v5 : Int32) => [(0, va_rf (some (xw_hm (xe_G E)))), (1, .int v1), (2, .int v5)]) (fun _ => []) (fun v5 => ?_) (fun J4 hJ4 => ?_)
    · refine x_aload_n 65 hE dX2_readRules_64 rfl 0 rfl ?_
      refine y_ga 68 hE hac (by decide) ymf_15 rfl xkf_CrossingWordsModel_55 dX2_readRules_65 rfl ?_
      refine x_iload_n 69 hE dX2_readRules_68 rfl 1 rfl ?_
      refine x_bipush 71 hE dX2_readRules_69 rfl xc_b_13 ?_
      refine x_iadd 72 hE dX2_readRules_71 rfl ?_
      refine x_iload_n 73 hE dX2_readRules_72 rfl 2 rfl ?_
      refine y_st 74 hE hac ⟨rfl, rfl⟩ dX2_readRules_73 rfl ?_
      refine x_aload_n 75 hE dX2_readRules_74 rfl 0 rfl ?_
      refine y_g 78 hE hac (by decide) ymf_25 rfl xkf_CrossingWordsModel_183 dX2_readRules_75 rfl (fun v6 => ?_)
      refine x_if_ne 85 81 hE dX2_readRules_78 (by decide) rfl ?_ ?_
      · refine x_iconst 82 hE dX2_readRules_81 rfl xc_i_1 ?_
        refine x_goto 86 hE dX2_readRules_82 (by decide) ?_
        exact x_zretw hE (by decide) dX2_readRules_86
      · refine x_iconst 86 hE dX2_readRules_85 rfl xc_i_0 ?_
        exact x_zretw hE (by decide) dX2_readRules_86
    · refine x_loop (fun (v4 : Int32) => [(0, va_rf (some (xw_hm (xe_G E)))), (1, .int v1), (2, .int v4)]) (fun JL3 hc3 hx3 v4 => ?_) _ _
      refine x_aload_n 27 hE dX2_readRules_26 rfl 0 rfl ?_
      refine y_g 30 hE hac (by decide) ymf_22 rfl xkf_CrossingWordsModel_173 dX2_readRules_27 rfl (fun v7 => ?_)
      refine x_if_eq 64 33 hE dX2_readRules_30 (by decide) rfl ?_ ?_
      · refine x_sub [(0, va_rf (some (xw_hm (xe_G E)))), (1, .int v1), (2, .int v4)] [0, 1, 2] rfl ?_
        refine hx3 _ _ _ _ ?_
        exact hJ4 v4
      · refine x_aload_n 34 hE dX2_readRules_33 rfl 0 rfl ?_
        refine y_g 37 hE hac (by decide) ymf_25 rfl xkf_CrossingWordsModel_183 dX2_readRules_34 rfl (fun v8 => ?_)
        refine x_if_ne 64 40 hE dX2_readRules_37 (by decide) rfl ?_ ?_
        · refine x_iload_n 41 hE dX2_readRules_40 rfl 2 rfl ?_
          refine x_bipush 43 hE dX2_readRules_41 rfl xc_b_20 ?_
          refine x_icmp_ne 53 46 hE dX2_readRules_43 (by decide) rfl ?_ ?_
          · refine x_aload_n 47 hE dX2_readRules_46 rfl 0 rfl ?_
            refine x_callv 50 (xw_goM hE hac (xw_rV hE (ct_X2_errs hac ) xd_X2_errs rfl q1560 q1562 qs37 q97 q1563 rfl ⟨Nat.le_of_ble_eq_true rfl, Nat.le_of_ble_eq_true rfl⟩ rfl rfl (by decide) dX2_readRules_47)) rfl ?_
            refine x_goto 58 hE dX2_readRules_50 (by decide) ?_
            refine x_iinc 61 [(2, .int (v4 + 1)), (0, va_rf (some (xw_hm (xe_G E)))), (1, .int v1)] hE dX2_readRules_58 rfl 2 rfl xc_i_1 (Nat.le_of_ble_eq_true rfl) rfl ?_
            refine x_goto 26 hE dX2_readRules_61 (by decide) ?_
            refine x_sub [(0, va_rf (some (xw_hm (xe_G E)))), (1, .int v1), (2, .int (v4 + 1))] [1, 2, 0] rfl ?_
            exact hc3 (v4 + 1)
          · refine x_aload_n 54 hE dX2_readRules_53 rfl 0 rfl ?_
            refine x_iload_n 55 hE dX2_readRules_54 rfl 1 rfl ?_
            refine x_callv 58 (xw_goM hE hac (xw_rV hE (ct_X2_readRule hac v1) xd_X2_readRule rfl q1660 q1662 qs54 q97 q1663 rfl ⟨Nat.le_of_ble_eq_true rfl, Nat.le_of_ble_eq_true rfl⟩ rfl rfl (by decide) dX2_readRules_55)) rfl ?_
            refine x_iinc 61 [(2, .int (v4 + 1)), (0, va_rf (some (xw_hm (xe_G E)))), (1, .int v1)] hE dX2_readRules_58 rfl 2 rfl xc_i_1 (Nat.le_of_ble_eq_true rfl) rfl ?_
            refine x_goto 26 hE dX2_readRules_61 (by decide) ?_
            refine x_sub [(0, va_rf (some (xw_hm (xe_G E)))), (1, .int v1), (2, .int (v4 + 1))] [1, 2, 0] rfl ?_
            exact hc3 (v4 + 1)
        · refine x_sub [(0, va_rf (some (xw_hm (xe_G E)))), (1, .int v1), (2, .int v4)] [0, 1, 2] rfl ?_
          refine hx3 _ _ _ _ ?_
          exact hJ4 v4
  · refine x_loop (fun (v2 : Int32) => [(0, va_rf (some (xw_hm (xe_G E)))), (1, .int v1), (2, .int v2)]) (fun JL1 hc1 hx1 v2 => ?_) _ _
    refine x_iload_n 3 hE dX2_readRules_2 rfl 2 rfl ?_
    refine x_bipush 5 hE dX2_readRules_3 rfl xc_b_13 ?_
    refine x_icmp_ge 24 8 hE dX2_readRules_5 (by decide) rfl ?_ ?_
    · refine x_sub [(0, va_rf (some (xw_hm (xe_G E)))), (1, .int v1)] [0, 1] rfl ?_
      refine hx1 _ _ _ _ ?_
      exact hJ2 ()
    · refine x_aload_n 9 hE dX2_readRules_8 rfl 0 rfl ?_
      refine y_ga 12 hE hac (by decide) ymf_15 rfl xkf_CrossingWordsModel_55 dX2_readRules_9 rfl ?_
      refine x_iload_n 13 hE dX2_readRules_12 rfl 1 rfl ?_
      refine x_iload_n 14 hE dX2_readRules_13 rfl 2 rfl ?_
      refine x_iadd 15 hE dX2_readRules_14 rfl ?_
      refine x_bipush 17 hE dX2_readRules_15 rfl xc_b_m2 ?_
      refine y_st 18 hE hac ⟨rfl, rfl⟩ dX2_readRules_17 rfl ?_
      refine x_iinc 21 [(2, .int (v2 + 1)), (0, va_rf (some (xw_hm (xe_G E)))), (1, .int v1)] hE dX2_readRules_18 rfl 2 rfl xc_i_1 (Nat.le_of_ble_eq_true rfl) rfl ?_
      refine x_goto 2 hE dX2_readRules_21 (by decide) ?_
      refine x_sub [(0, va_rf (some (xw_hm (xe_G E)))), (1, .int v1), (2, .int (v2 + 1))] [1, 2, 0] rfl ?_
      exact hc1 (v2 + 1)

set_option maxHeartbeats 4000000 in
theorem ct_X2_law {l : Launch} {G : xw_G} {σ0 : xw_St} (hac : xw_ac G = true) (v1 : Int32) : xw_Ct l G (xw_hr G σ0) xw_oi yX2_law cX2_law 2 (some (.int)) 6 [va_rf (some (xw_hm G)), .int v1] (pg_X2_law v1) := by
  refine xw_metL [(0, va_rf (some (xw_hm G))), (1, .int v1)] (by decide) (Nat.le_trans (Nat.le_of_eq ((xw_l1 rfl).trans (congrArg (1 + ·) ((xw_l1 rfl).trans (congrArg (1 + ·) xw_l0))))) (by decide)) ((xw_a1 rfl).trans (congrArg (List.cons _) ((xw_a1 rfl).trans (congrArg (List.cons _) xw_a0)))) (fun E hE hl hG hm => ?_)
  subst hl; subst hG
  have hE : xw_ok E "CrossingWordsModel" cX2_law 2 (some (.int)) 6 := hE
  unfold pg_X2_law
  refine x_iload_n 1 hE dX2_law_0 rfl 1 rfl ?_
  refine x_if_lt 12 4 hE dX2_law_1 (by decide) rfl ?_ ?_
  · refine x_bipush 14 hE dX2_law_12 rfl xc_b_m2 ?_
    exact x_iret hE dX2_law_14
  · refine x_iload_n 5 hE dX2_law_4 rfl 1 rfl ?_
    refine x_aload_n 6 hE dX2_law_5 rfl 0 rfl ?_
    refine y_g 9 hE hac (by decide) ymf_17 rfl xkf_CrossingWordsModel_148 dX2_law_6 rfl (fun v2 => ?_)
    refine x_icmp_le 15 12 hE dX2_law_9 (by decide) rfl ?_ ?_
    · refine x_aload_n 16 hE dX2_law_15 rfl 0 rfl ?_
      refine y_ga 19 hE hac (by decide) ymf_1 rfl xkf_CrossingWordsModel_13 dX2_law_16 rfl ?_
      refine x_iconst 20 hE dX2_law_19 rfl xc_i_0 ?_
      refine y_ld 21 hE hac ⟨rfl, rfl⟩ dX2_law_20 rfl (fun v3 => ?_)
      refine x_bipush 23 hE dX2_law_21 rfl xc_b_8 ?_
      refine x_icmp_ne 29 26 hE dX2_law_23 (by decide) rfl ?_ ?_
      · refine x_bipush 28 hE dX2_law_26 rfl xc_b_m3 ?_
        exact x_iret hE dX2_law_28
      · refine x_aload_n 30 hE dX2_law_29 rfl 0 rfl ?_
        refine x_iload_n 31 hE dX2_law_30 rfl 1 rfl ?_
        refine x_callv 34 (xw_goM hE hac (xw_rV hE (ct_X2_begins hac v1) xd_X2_begins rfl q1538 q1540 qs33 q97 q1541 rfl ⟨Nat.le_of_ble_eq_true rfl, Nat.le_of_ble_eq_true rfl⟩ rfl rfl (by decide) dX2_law_31)) rfl ?_
        refine x_aload_n 35 hE dX2_law_34 rfl 0 rfl ?_
        refine x_bipush 37 hE dX2_law_35 rfl xc_b_14 ?_
        refine x_aload_n 38 hE dX2_law_37 rfl 0 rfl ?_
        refine y_ga 41 hE hac (by decide) ymf_1 rfl xkf_CrossingWordsModel_13 dX2_law_38 rfl ?_
        refine x_iconst 42 hE dX2_law_41 rfl xc_i_0 ?_
        refine y_ld 43 hE hac ⟨rfl, rfl⟩ dX2_law_42 rfl (fun v4 => ?_)
        refine x_imul 44 hE dX2_law_43 rfl ?_
        refine x_calli 47 (xw_goM hE hac (xw_rV hE (ct_X2_readRules hac (14 * v4)) xd_X2_readRules rfl q1656 q1658 qs53 q97 q1659 rfl ⟨Nat.le_of_ble_eq_true rfl, Nat.le_of_ble_eq_true rfl⟩ rfl rfl (by decide) dX2_law_44)) rfl (fun v5 => ?_)
        refine x_if_ne 52 50 hE dX2_law_47 (by decide) rfl ?_ ?_
        · refine x_iconst 51 hE dX2_law_50 rfl xc_i_m1 ?_
          exact x_iret hE dX2_law_51
        · refine x_aload_n 53 hE dX2_law_52 rfl 0 rfl ?_
          refine y_ga 56 hE hac (by decide) ymf_1 rfl xkf_CrossingWordsModel_13 dX2_law_53 rfl ?_
          refine x_iconst 57 hE dX2_law_56 rfl xc_i_0 ?_
          refine x_dup2 58 hE dX2_law_57 rfl rfl rfl ?_
          refine y_ld 59 hE hac ⟨rfl, rfl⟩ dX2_law_58 rfl (fun v6 => ?_)
          refine x_iconst 60 hE dX2_law_59 rfl xc_i_1 ?_
          refine x_iadd 61 hE dX2_law_60 rfl ?_
          refine y_st 62 hE hac ⟨rfl, rfl⟩ dX2_law_61 rfl ?_
          refine x_aload_n 63 hE dX2_law_62 rfl 0 rfl ?_
          refine y_ga 66 hE hac (by decide) ymf_1 rfl xkf_CrossingWordsModel_13 dX2_law_63 rfl ?_
          refine x_iconst 67 hE dX2_law_66 rfl xc_i_0 ?_
          refine y_ld 68 hE hac ⟨rfl, rfl⟩ dX2_law_67 rfl (fun v7 => ?_)
          refine x_iconst 69 hE dX2_law_68 rfl xc_i_1 ?_
          refine x_isub 70 hE dX2_law_69 rfl ?_
          exact x_iret hE dX2_law_70
    · refine x_bipush 14 hE dX2_law_12 rfl xc_b_m2 ?_
      exact x_iret hE dX2_law_14

set_option maxHeartbeats 4000000 in
theorem ct_X2_clause {l : Launch} {G : xw_G} {σ0 : xw_St} (hac : xw_ac G = true) (v1 : Int32) : xw_Ct l G (xw_hr G σ0) xw_oi yX2_clause cX2_clause 2 (some (.int)) 6 [va_rf (some (xw_hm G)), .int v1] (pg_X2_clause v1) := by
  refine xw_metL [(0, va_rf (some (xw_hm G))), (1, .int v1)] (by decide) (Nat.le_trans (Nat.le_of_eq ((xw_l1 rfl).trans (congrArg (1 + ·) ((xw_l1 rfl).trans (congrArg (1 + ·) xw_l0))))) (by decide)) ((xw_a1 rfl).trans (congrArg (List.cons _) ((xw_a1 rfl).trans (congrArg (List.cons _) xw_a0)))) (fun E hE hl hG hm => ?_)
  subst hl; subst hG
  have hE : xw_ok E "CrossingWordsModel" cX2_clause 2 (some (.int)) 6 := hE
  unfold pg_X2_clause
  refine x_iload_n 1 hE dX2_clause_0 rfl 1 rfl ?_
  refine x_if_lt 12 4 hE dX2_clause_1 (by decide) rfl ?_ ?_
  · refine x_bipush 14 hE dX2_clause_12 rfl xc_b_m2 ?_
    exact x_iret hE dX2_clause_14
  · refine x_iload_n 5 hE dX2_clause_4 rfl 1 rfl ?_
    refine x_aload_n 6 hE dX2_clause_5 rfl 0 rfl ?_
    refine y_g 9 hE hac (by decide) ymf_17 rfl xkf_CrossingWordsModel_148 dX2_clause_6 rfl (fun v2 => ?_)
    refine x_icmp_le 15 12 hE dX2_clause_9 (by decide) rfl ?_ ?_
    · refine x_aload_n 16 hE dX2_clause_15 rfl 0 rfl ?_
      refine y_ga 19 hE hac (by decide) ymf_2 rfl xkf_CrossingWordsModel_16 dX2_clause_16 rfl ?_
      refine x_iconst 20 hE dX2_clause_19 rfl xc_i_0 ?_
      refine y_ld 21 hE hac ⟨rfl, rfl⟩ dX2_clause_20 rfl (fun v3 => ?_)
      refine x_bipush 23 hE dX2_clause_21 rfl xc_b_6 ?_
      refine x_icmp_ne 29 26 hE dX2_clause_23 (by decide) rfl ?_ ?_
      · refine x_bipush 28 hE dX2_clause_26 rfl xc_b_m3 ?_
        exact x_iret hE dX2_clause_28
      · refine x_aload_n 30 hE dX2_clause_29 rfl 0 rfl ?_
        refine x_iload_n 31 hE dX2_clause_30 rfl 1 rfl ?_
        refine x_callv 34 (xw_goM hE hac (xw_rV hE (ct_X2_begins hac v1) xd_X2_begins rfl q1538 q1540 qs33 q97 q1541 rfl ⟨Nat.le_of_ble_eq_true rfl, Nat.le_of_ble_eq_true rfl⟩ rfl rfl (by decide) dX2_clause_31)) rfl ?_
        refine x_aload_n 35 hE dX2_clause_34 rfl 0 rfl ?_
        refine y_g 38 hE hac (by decide) ymf_22 rfl xkf_CrossingWordsModel_173 dX2_clause_35 rfl (fun v4 => ?_)
        refine x_sq 45 (fun (v5 : Unit) => [(0, va_rf (some (xw_hm (xe_G E))))]) (fun (v5 : Unit) => []) (fun v5 => ?_) (fun J1 hJ1 => ?_)
        · refine x_aload_n 46 hE dX2_clause_45 rfl 0 rfl ?_
          refine x_bipush 48 hE dX2_clause_46 rfl xc_b_112 ?_
          refine x_bipush 50 hE dX2_clause_48 rfl xc_b_14 ?_
          refine x_aload_n 51 hE dX2_clause_50 rfl 0 rfl ?_
          refine y_ga 54 hE hac (by decide) ymf_2 rfl xkf_CrossingWordsModel_16 dX2_clause_51 rfl ?_
          refine x_iconst 55 hE dX2_clause_54 rfl xc_i_0 ?_
          refine y_ld 56 hE hac ⟨rfl, rfl⟩ dX2_clause_55 rfl (fun v6 => ?_)
          refine x_imul 57 hE dX2_clause_56 rfl ?_
          refine x_iadd 58 hE dX2_clause_57 rfl ?_
          refine x_calli 61 (xw_goM hE hac (xw_rV hE (ct_X2_readRules hac (112 + (14 * v6))) xd_X2_readRules rfl q1656 q1658 qs53 q97 q1659 rfl ⟨Nat.le_of_ble_eq_true rfl, Nat.le_of_ble_eq_true rfl⟩ rfl rfl (by decide) dX2_clause_58)) rfl (fun v7 => ?_)
          refine x_if_ne 66 64 hE dX2_clause_61 (by decide) rfl ?_ ?_
          · refine x_iconst 65 hE dX2_clause_64 rfl xc_i_m1 ?_
            exact x_iret hE dX2_clause_65
          · refine x_aload_n 67 hE dX2_clause_66 rfl 0 rfl ?_
            refine y_ga 70 hE hac (by decide) ymf_2 rfl xkf_CrossingWordsModel_16 dX2_clause_67 rfl ?_
            refine x_iconst 71 hE dX2_clause_70 rfl xc_i_0 ?_
            refine x_dup2 72 hE dX2_clause_71 rfl rfl rfl ?_
            refine y_ld 73 hE hac ⟨rfl, rfl⟩ dX2_clause_72 rfl (fun v8 => ?_)
            refine x_iconst 74 hE dX2_clause_73 rfl xc_i_1 ?_
            refine x_iadd 75 hE dX2_clause_74 rfl ?_
            refine y_st 76 hE hac ⟨rfl, rfl⟩ dX2_clause_75 rfl ?_
            refine x_aload_n 77 hE dX2_clause_76 rfl 0 rfl ?_
            refine y_ga 80 hE hac (by decide) ymf_2 rfl xkf_CrossingWordsModel_16 dX2_clause_77 rfl ?_
            refine x_iconst 81 hE dX2_clause_80 rfl xc_i_0 ?_
            refine y_ld 82 hE hac ⟨rfl, rfl⟩ dX2_clause_81 rfl (fun v9 => ?_)
            refine x_iconst 83 hE dX2_clause_82 rfl xc_i_1 ?_
            refine x_isub 84 hE dX2_clause_83 rfl ?_
            exact x_iret hE dX2_clause_84
        · refine x_if_ne 45 41 hE dX2_clause_38 (by decide) rfl ?_ ?_
          · refine x_aload_n 42 hE dX2_clause_41 rfl 0 rfl ?_
            refine x_callv 45 (xw_goM hE hac (xw_rV hE (ct_X2_errs hac ) xd_X2_errs rfl q1560 q1562 qs37 q97 q1563 rfl ⟨Nat.le_of_ble_eq_true rfl, Nat.le_of_ble_eq_true rfl⟩ rfl rfl (by decide) dX2_clause_42)) rfl ?_
            refine x_sub [(0, va_rf (some (xw_hm (xe_G E))))] [0] rfl ?_
            exact hJ1 ()
          · refine x_sub [(0, va_rf (some (xw_hm (xe_G E))))] [0] rfl ?_
            exact hJ1 ()
    · refine x_bipush 14 hE dX2_clause_12 rfl xc_b_m2 ?_
      exact x_iret hE dX2_clause_14

set_option maxHeartbeats 4000000 in
theorem ct_X2_fault {l : Launch} {G : xw_G} {σ0 : xw_St} (hac : xw_ac G = true)  : xw_Ct l G (xw_hr G σ0) xw_oi yX2_fault cX2_fault 1 (some (.int)) 1 [va_rf (some (xw_hm G))] (pg_X2_fault) := by
  refine xw_metL [(0, va_rf (some (xw_hm G)))] (by decide) (Nat.le_trans (Nat.le_of_eq ((xw_l1 rfl).trans (congrArg (1 + ·) xw_l0))) (by decide)) ((xw_a1 rfl).trans (congrArg (List.cons _) xw_a0)) (fun E hE hl hG hm => ?_)
  subst hl; subst hG
  have hE : xw_ok E "CrossingWordsModel" cX2_fault 1 (some (.int)) 1 := hE
  unfold pg_X2_fault
  refine x_aload_n 1 hE dX2_fault_0 rfl 0 rfl ?_
  refine y_g 4 hE hac (by decide) ymf_18 rfl xkf_CrossingWordsModel_62 dX2_fault_1 rfl (fun v1 => ?_)
  exact x_iret hE dX2_fault_4

set_option maxHeartbeats 4000000 in
theorem ct_X2_lays {l : Launch} {G : xw_G} {σ0 : xw_St} (hac : xw_ac G = true) (v1 : Int32) (v2 : Int32) : xw_Ct l G (xw_hr G σ0) xw_ov yX2_lays cX2_lays 5 none 2 [va_rf (some (xw_hm G)), .int v1, .int v2] (pg_X2_lays v1 v2) := by
  refine xw_metL [(0, va_rf (some (xw_hm G))), (1, .int v1), (2, .int v2)] (by decide) (Nat.le_trans (Nat.le_of_eq ((xw_l1 rfl).trans (congrArg (1 + ·) ((xw_l1 rfl).trans (congrArg (1 + ·) ((xw_l1 rfl).trans (congrArg (1 + ·) xw_l0))))))) (by decide)) ((xw_a1 rfl).trans (congrArg (List.cons _) ((xw_a1 rfl).trans (congrArg (List.cons _) ((xw_a1 rfl).trans (congrArg (List.cons _) xw_a0)))))) (fun E hE hl hG hm => ?_)
  subst hl; subst hG
  have hE : xw_ok E "CrossingWordsModel" cX2_lays 5 none 2 := hE
  unfold pg_X2_lays
  refine x_iconst 1 hE dX2_lays_0 rfl xc_i_0 ?_
  refine x_istore_n 2 [(3, .int 0), (0, va_rf (some (xw_hm (xe_G E)))), (1, .int v1), (2, .int v2)] hE dX2_lays_1 rfl rfl (Nat.le_of_ble_eq_true rfl) rfl ?_
  refine x_sub [(0, va_rf (some (xw_hm (xe_G E)))), (1, .int v1), (2, .int v2), (3, .int 0)] [1, 2, 3, 0] rfl ?_
  refine x_sq 46 (fun (v4 : Unit) => [(0, va_rf (some (xw_hm (xe_G E)))), (1, .int v1), (2, .int v2)]) (fun _ => []) (fun v4 => ?_) (fun J2 hJ2 => ?_)
  · refine x_iconst 47 hE dX2_lays_46 rfl xc_i_0 ?_
    refine x_istore_n 48 [(3, .int 0), (0, va_rf (some (xw_hm (xe_G E)))), (1, .int v1), (2, .int v2)] hE dX2_lays_47 rfl rfl (Nat.le_of_ble_eq_true rfl) rfl ?_
    refine x_sub [(0, va_rf (some (xw_hm (xe_G E)))), (1, .int v1), (2, .int v2), (3, .int 0)] [1, 2, 3, 0] rfl ?_
    refine x_sq 93 (fun (v6 : Unit) => [(0, va_rf (some (xw_hm (xe_G E)))), (2, .int v2)]) (fun _ => []) (fun v6 => ?_) (fun J4 hJ4 => ?_)
    · refine x_iconst 94 hE dX2_lays_93 rfl xc_i_0 ?_
      refine x_istore_n 95 [(3, .int 0), (0, va_rf (some (xw_hm (xe_G E)))), (2, .int v2)] hE dX2_lays_94 rfl rfl (Nat.le_of_ble_eq_true rfl) rfl ?_
      refine x_sub [(0, va_rf (some (xw_hm (xe_G E)))), (2, .int v2), (3, .int 0)] [1, 2, 0] rfl ?_
      refine x_sq 178 (fun (v8 : Unit) => []) (fun _ => []) (fun v8 => ?_) (fun J6 hJ6 => ?_)
      · exact x_vret hE dX2_lays_178
      · refine x_loop (fun (v7 : Int32) => [(0, va_rf (some (xw_hm (xe_G E)))), (2, .int v2), (3, .int v7)]) (fun JL5 hc5 hx5 v7 => ?_) _ _
        refine x_iload_n 96 hE dX2_lays_95 rfl 2 rfl ?_
        refine x_aload_n 97 hE dX2_lays_96 rfl 0 rfl ?_
        refine y_ga 100 hE hac (by decide) ymf_2 rfl xkf_CrossingWordsModel_16 dX2_lays_97 rfl ?_
        refine x_iconst 101 hE dX2_lays_100 rfl xc_i_0 ?_
        refine y_ld 102 hE hac ⟨rfl, rfl⟩ dX2_lays_101 rfl (fun v9 => ?_)
        refine x_icmp_ge 178 105 hE dX2_lays_102 (by decide) rfl ?_ ?_
        · refine x_sub [] [] rfl ?_
          refine hx5 _ _ _ _ ?_
          exact hJ6 ()
        · refine x_iconst 106 hE dX2_lays_105 rfl xc_i_0 ?_
          refine x_istore 108 [(4, .int 0), (0, va_rf (some (xw_hm (xe_G E)))), (2, .int v2), (3, .int v7)] hE dX2_lays_106 rfl (Nat.le_of_ble_eq_true rfl) rfl ?_
          refine x_sub [(0, va_rf (some (xw_hm (xe_G E)))), (2, .int v2), (3, .int v7), (4, .int 0)] [1, 2, 3, 0] rfl ?_
          refine x_sq 172 (fun (v11 : Unit) => [(0, va_rf (some (xw_hm (xe_G E)))), (2, .int v2), (3, .int v7)]) (fun _ => []) (fun v11 => ?_) (fun J8 hJ8 => ?_)
          · refine x_iinc 175 [(3, .int (v7 + 1)), (0, va_rf (some (xw_hm (xe_G E)))), (2, .int v2)] hE dX2_lays_172 rfl 2 rfl xc_i_1 (Nat.le_of_ble_eq_true rfl) rfl ?_
            refine x_goto 95 hE dX2_lays_175 (by decide) ?_
            refine x_sub [(0, va_rf (some (xw_hm (xe_G E)))), (2, .int v2), (3, .int (v7 + 1))] [1, 2, 0] rfl ?_
            exact hc5 (v7 + 1)
          · refine x_loop (fun (v10 : Int32) => [(0, va_rf (some (xw_hm (xe_G E)))), (2, .int v2), (3, .int v7), (4, .int v10)]) (fun JL7 hc7 hx7 v10 => ?_) _ _
            refine x_iload 110 hE dX2_lays_108 rfl 3 rfl ?_
            refine x_bipush 112 hE dX2_lays_110 rfl xc_b_13 ?_
            refine x_icmp_ge 172 115 hE dX2_lays_112 (by decide) rfl ?_ ?_
            · refine x_sub [(0, va_rf (some (xw_hm (xe_G E)))), (2, .int v2), (3, .int v7)] [0, 1, 2] rfl ?_
              refine hx7 _ _ _ _ ?_
              exact hJ8 ()
            · refine x_iload_n 116 hE dX2_lays_115 rfl 1 rfl ?_
              refine x_iload_n 117 hE dX2_lays_116 rfl 2 rfl ?_
              refine x_ishr 118 hE dX2_lays_117 rfl ?_
              refine x_iconst 119 hE dX2_lays_118 rfl xc_i_1 ?_
              refine x_iand 120 hE dX2_lays_119 rfl ?_
              refine x_iconst 121 hE dX2_lays_120 rfl xc_i_1 ?_
              refine x_icmp_ne 166 124 hE dX2_lays_121 (by decide) rfl ?_ ?_
              · refine x_aload_n 125 hE dX2_lays_124 rfl 0 rfl ?_
                refine y_ga 128 hE hac (by decide) ymf_15 rfl xkf_CrossingWordsModel_55 dX2_lays_125 rfl ?_
                refine x_bipush 130 hE dX2_lays_128 rfl xc_b_112 ?_
                refine x_bipush 132 hE dX2_lays_130 rfl xc_b_14 ?_
                refine x_iload_n 133 hE dX2_lays_132 rfl 2 rfl ?_
                refine x_imul 134 hE dX2_lays_133 rfl ?_
                refine x_iadd 135 hE dX2_lays_134 rfl ?_
                refine x_iload 137 hE dX2_lays_135 rfl 3 rfl ?_
                refine x_iadd 138 hE dX2_lays_137 rfl ?_
                refine y_ld 139 hE hac ⟨rfl, rfl⟩ dX2_lays_138 rfl (fun v12 => ?_)
                refine x_bipush 141 hE dX2_lays_139 rfl xc_b_m2 ?_
                refine x_icmp_eq 166 144 hE dX2_lays_141 (by decide) rfl ?_ ?_
                · refine x_iinc 169 [(4, .int (v10 + 1)), (0, va_rf (some (xw_hm (xe_G E)))), (2, .int v2), (3, .int v7)] hE dX2_lays_166 rfl 3 rfl xc_i_1 (Nat.le_of_ble_eq_true rfl) rfl ?_
                  refine x_goto 108 hE dX2_lays_169 (by decide) ?_
                  refine x_sub [(0, va_rf (some (xw_hm (xe_G E)))), (2, .int v2), (3, .int v7), (4, .int (v10 + 1))] [1, 2, 3, 0] rfl ?_
                  exact hc7 (v10 + 1)
                · refine x_aload_n 145 hE dX2_lays_144 rfl 0 rfl ?_
                  refine y_ga 148 hE hac (by decide) ymf_26 rfl xkf_CrossingWordsModel_66 dX2_lays_145 rfl ?_
                  refine x_iload 150 hE dX2_lays_148 rfl 3 rfl ?_
                  refine x_aload_n 151 hE dX2_lays_150 rfl 0 rfl ?_
                  refine y_ga 154 hE hac (by decide) ymf_15 rfl xkf_CrossingWordsModel_55 dX2_lays_151 rfl ?_
                  refine x_bipush 156 hE dX2_lays_154 rfl xc_b_112 ?_
                  refine x_bipush 158 hE dX2_lays_156 rfl xc_b_14 ?_
                  refine x_iload_n 159 hE dX2_lays_158 rfl 2 rfl ?_
                  refine x_imul 160 hE dX2_lays_159 rfl ?_
                  refine x_iadd 161 hE dX2_lays_160 rfl ?_
                  refine x_iload 163 hE dX2_lays_161 rfl 3 rfl ?_
                  refine x_iadd 164 hE dX2_lays_163 rfl ?_
                  refine y_ld 165 hE hac ⟨rfl, rfl⟩ dX2_lays_164 rfl (fun v13 => ?_)
                  refine y_st 166 hE hac ⟨rfl, rfl⟩ dX2_lays_165 rfl ?_
                  refine x_iinc 169 [(4, .int (v10 + 1)), (0, va_rf (some (xw_hm (xe_G E)))), (2, .int v2), (3, .int v7)] hE dX2_lays_166 rfl 3 rfl xc_i_1 (Nat.le_of_ble_eq_true rfl) rfl ?_
                  refine x_goto 108 hE dX2_lays_169 (by decide) ?_
                  refine x_sub [(0, va_rf (some (xw_hm (xe_G E)))), (2, .int v2), (3, .int v7), (4, .int (v10 + 1))] [1, 2, 3, 0] rfl ?_
                  exact hc7 (v10 + 1)
              · refine x_iinc 169 [(4, .int (v10 + 1)), (0, va_rf (some (xw_hm (xe_G E)))), (2, .int v2), (3, .int v7)] hE dX2_lays_166 rfl 3 rfl xc_i_1 (Nat.le_of_ble_eq_true rfl) rfl ?_
                refine x_goto 108 hE dX2_lays_169 (by decide) ?_
                refine x_sub [(0, va_rf (some (xw_hm (xe_G E)))), (2, .int v2), (3, .int v7), (4, .int (v10 + 1))] [1, 2, 3, 0] rfl ?_
                exact hc7 (v10 + 1)
    · refine x_loop (fun (v5 : Int32) => [(0, va_rf (some (xw_hm (xe_G E)))), (1, .int v1), (2, .int v2), (3, .int v5)]) (fun JL3 hc3 hx3 v5 => ?_) _ _
      refine x_iload_n 49 hE dX2_lays_48 rfl 3 rfl ?_
      refine x_bipush 51 hE dX2_lays_49 rfl xc_b_13 ?_
      refine x_icmp_ge 93 54 hE dX2_lays_51 (by decide) rfl ?_ ?_
      · refine x_sub [(0, va_rf (some (xw_hm (xe_G E)))), (2, .int v2)] [0, 2] rfl ?_
        refine hx3 _ _ _ _ ?_
        exact hJ4 ()
      · refine x_aload_n 55 hE dX2_lays_54 rfl 0 rfl ?_
        refine y_ga 58 hE hac (by decide) ymf_15 rfl xkf_CrossingWordsModel_55 dX2_lays_55 rfl ?_
        refine x_bipush 60 hE dX2_lays_58 rfl xc_b_14 ?_
        refine x_iload_n 61 hE dX2_lays_60 rfl 1 rfl ?_
        refine x_imul 62 hE dX2_lays_61 rfl ?_
        refine x_iload_n 63 hE dX2_lays_62 rfl 3 rfl ?_
        refine x_iadd 64 hE dX2_lays_63 rfl ?_
        refine y_ld 65 hE hac ⟨rfl, rfl⟩ dX2_lays_64 rfl (fun v14 => ?_)
        refine x_bipush 67 hE dX2_lays_65 rfl xc_b_m2 ?_
        refine x_icmp_eq 87 70 hE dX2_lays_67 (by decide) rfl ?_ ?_
        · refine x_iinc 90 [(3, .int (v5 + 1)), (0, va_rf (some (xw_hm (xe_G E)))), (1, .int v1), (2, .int v2)] hE dX2_lays_87 rfl 3 rfl xc_i_1 (Nat.le_of_ble_eq_true rfl) rfl ?_
          refine x_goto 48 hE dX2_lays_90 (by decide) ?_
          refine x_sub [(0, va_rf (some (xw_hm (xe_G E)))), (1, .int v1), (2, .int v2), (3, .int (v5 + 1))] [1, 2, 3, 0] rfl ?_
          exact hc3 (v5 + 1)
        · refine x_aload_n 71 hE dX2_lays_70 rfl 0 rfl ?_
          refine y_ga 74 hE hac (by decide) ymf_26 rfl xkf_CrossingWordsModel_66 dX2_lays_71 rfl ?_
          refine x_iload_n 75 hE dX2_lays_74 rfl 3 rfl ?_
          refine x_aload_n 76 hE dX2_lays_75 rfl 0 rfl ?_
          refine y_ga 79 hE hac (by decide) ymf_15 rfl xkf_CrossingWordsModel_55 dX2_lays_76 rfl ?_
          refine x_bipush 81 hE dX2_lays_79 rfl xc_b_14 ?_
          refine x_iload_n 82 hE dX2_lays_81 rfl 1 rfl ?_
          refine x_imul 83 hE dX2_lays_82 rfl ?_
          refine x_iload_n 84 hE dX2_lays_83 rfl 3 rfl ?_
          refine x_iadd 85 hE dX2_lays_84 rfl ?_
          refine y_ld 86 hE hac ⟨rfl, rfl⟩ dX2_lays_85 rfl (fun v15 => ?_)
          refine y_st 87 hE hac ⟨rfl, rfl⟩ dX2_lays_86 rfl ?_
          refine x_iinc 90 [(3, .int (v5 + 1)), (0, va_rf (some (xw_hm (xe_G E)))), (1, .int v1), (2, .int v2)] hE dX2_lays_87 rfl 3 rfl xc_i_1 (Nat.le_of_ble_eq_true rfl) rfl ?_
          refine x_goto 48 hE dX2_lays_90 (by decide) ?_
          refine x_sub [(0, va_rf (some (xw_hm (xe_G E)))), (1, .int v1), (2, .int v2), (3, .int (v5 + 1))] [1, 2, 3, 0] rfl ?_
          exact hc3 (v5 + 1)
  · refine x_loop (fun (v3 : Int32) => [(0, va_rf (some (xw_hm (xe_G E)))), (1, .int v1), (2, .int v2), (3, .int v3)]) (fun JL1 hc1 hx1 v3 => ?_) _ _
    refine x_iload_n 3 hE dX2_lays_2 rfl 3 rfl ?_
    refine x_bipush 5 hE dX2_lays_3 rfl xc_b_13 ?_
    refine x_icmp_ge 46 8 hE dX2_lays_5 (by decide) rfl ?_ ?_
    · refine x_sub [(0, va_rf (some (xw_hm (xe_G E)))), (1, .int v1), (2, .int v2)] [0, 1, 2] rfl ?_
      refine hx1 _ _ _ _ ?_
      exact hJ2 ()
    · refine x_aload_n 9 hE dX2_lays_8 rfl 0 rfl ?_
      refine y_ga 12 hE hac (by decide) ymf_26 rfl xkf_CrossingWordsModel_66 dX2_lays_9 rfl ?_
      refine x_iload_n 13 hE dX2_lays_12 rfl 3 rfl ?_
      refine x_iload_n 14 hE dX2_lays_13 rfl 3 rfl ?_
      refine x_bipush 16 hE dX2_lays_14 rfl xc_b_6 ?_
      refine x_sq 39 (fun (v16 : Int32) => [(0, va_rf (some (xw_hm (xe_G E)))), (1, .int v1), (2, .int v2), (3, .int v3)]) (fun (v16 : Int32) => [.int v16, .int v3, va_rf (some (xw_am (xe_G E) 26))]) (fun v16 => ?_) (fun J9 hJ9 => ?_)
      · refine y_st 40 hE hac ⟨rfl, rfl⟩ dX2_lays_39 rfl ?_
        refine x_iinc 43 [(3, .int (v3 + 1)), (0, va_rf (some (xw_hm (xe_G E)))), (1, .int v1), (2, .int v2)] hE dX2_lays_40 rfl 3 rfl xc_i_1 (Nat.le_of_ble_eq_true rfl) rfl ?_
        refine x_goto 2 hE dX2_lays_43 (by decide) ?_
        refine x_sub [(0, va_rf (some (xw_hm (xe_G E)))), (1, .int v1), (2, .int v2), (3, .int (v3 + 1))] [1, 2, 3, 0] rfl ?_
        exact hc1 (v3 + 1)
      · refine x_icmp_ge 23 19 hE dX2_lays_16 (by decide) rfl ?_ ?_
        · refine x_iload_n 24 hE dX2_lays_23 rfl 3 rfl ?_
          refine x_bipush 26 hE dX2_lays_24 rfl xc_b_7 ?_
          refine x_bipush 28 hE dX2_lays_26 rfl xc_b_8 ?_
          refine x_calli 31 (xw_goS hE (ct_X2_within v3 7 8) xd_X2_within q1551 q1552 q97 q1553 rfl ⟨Nat.le_of_ble_eq_true rfl, Nat.le_of_ble_eq_true rfl⟩ rfl (Nat.le_trans (xw_sm1 rfl (xw_sm1 rfl xw_sm0)) (by decide)) dX2_lays_28) rfl (fun v17 => ?_)
          refine x_if_eq 38 34 hE dX2_lays_31 (by decide) rfl ?_ ?_
          · refine x_iconst 39 hE dX2_lays_38 rfl xc_i_0 ?_
            refine x_sub [(0, va_rf (some (xw_hm (xe_G E)))), (1, .int v1), (2, .int v2), (3, .int v3)] [0, 1, 2, 3] rfl ?_
            exact hJ9 0
          · refine x_iconst 35 hE dX2_lays_34 rfl xc_i_m1 ?_
            refine x_goto 39 hE dX2_lays_35 (by decide) ?_
            refine x_sub [(0, va_rf (some (xw_hm (xe_G E)))), (1, .int v1), (2, .int v2), (3, .int v3)] [0, 1, 2, 3] rfl ?_
            exact hJ9 (-1)
        · refine x_iconst 20 hE dX2_lays_19 rfl xc_i_1 ?_
          refine x_goto 39 hE dX2_lays_20 (by decide) ?_
          refine x_sub [(0, va_rf (some (xw_hm (xe_G E)))), (1, .int v1), (2, .int v2), (3, .int v3)] [0, 1, 2, 3] rfl ?_
          exact hJ9 1
