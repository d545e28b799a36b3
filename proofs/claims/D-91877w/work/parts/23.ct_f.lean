set_option maxRecDepth 100000
/-! the walks: printed by wip/D-91877w/gen/gen2.py -/
set_option maxHeartbeats 4000000 in
theorem ct_X2_sure {l : Launch} {G : xw_G} {σ0 : xw_St} (hac : xw_ac G = true) (v1 : Int32) (v2 : Int32) (v3 : Int32) : xw_Ct l G (xw_hr G σ0) xw_oi yX2_sure cX2_sure 10 (some (.int)) 9 [va_rf (some (xw_hm G)), .int v1, .int v2, .int v3] (pg_X2_sure v1 v2 v3) := by
  refine xw_metL [(0, va_rf (some (xw_hm G))), (1, .int v1), (2, .int v2), (3, .int v3)] (by decide) (Nat.le_trans (Nat.le_of_eq ((xw_l1 rfl).trans (congrArg (1 + ·) ((xw_l1 rfl).trans (congrArg (1 + ·) ((xw_l1 rfl).trans (congrArg (1 + ·) ((xw_l1 rfl).trans (congrArg (1 + ·) xw_l0))))))))) (by decide)) ((xw_a1 rfl).trans (congrArg (List.cons _) ((xw_a1 rfl).trans (congrArg (List.cons _) ((xw_a1 rfl).trans (congrArg (List.cons _) ((xw_a1 rfl).trans (congrArg (List.cons _) xw_a0)))))))) (fun E hE hl hG hm => ?_)
  subst hl; subst hG
  have hE : xw_ok E "CrossingWordsModel" cX2_sure 10 (some (.int)) 9 := hE
  unfold pg_X2_sure
  refine x_iload_n 1 hE dX2_sure_0 rfl 3 rfl ?_
  refine x_iconst 2 hE dX2_sure_1 rfl xc_i_0 ?_
  refine x_iconst 3 hE dX2_sure_2 rfl xc_i_4 ?_
  refine x_calli 6 (xw_goS hE (ct_X2_within v3 0 4) xd_X2_within q1551 q1552 q97 q1553 rfl ⟨Nat.le_of_ble_eq_true rfl, Nat.le_of_ble_eq_true rfl⟩ rfl (by decide) dX2_sure_3) rfl (fun v4 => ?_)
  refine x_if_eq 19 9 hE dX2_sure_6 (by decide) rfl ?_ ?_
  · refine x_bipush 21 hE dX2_sure_19 rfl xc_b_m2 ?_
    exact x_iret hE dX2_sure_21
  · refine x_aload_n 10 hE dX2_sure_9 rfl 0 rfl ?_
    refine x_iload_n 11 hE dX2_sure_10 rfl 1 rfl ?_
    refine x_iload_n 12 hE dX2_sure_11 rfl 2 rfl ?_
    refine x_iconst 13 hE dX2_sure_12 rfl xc_i_0 ?_
    refine x_calli 16 (xw_goM hE hac (xw_rV hE (ct_X2_looksAt hac v1 v2 0) xd_X2_looksAt rfl q1747 q1749 qs65 q97 q1750 rfl ⟨Nat.le_of_ble_eq_true rfl, Nat.le_of_ble_eq_true rfl⟩ rfl rfl (by decide) dX2_sure_13)) rfl (fun v5 => ?_)
    refine x_if_ne 22 19 hE dX2_sure_16 (by decide) rfl ?_ ?_
    · refine x_bipush 21 hE dX2_sure_19 rfl xc_b_m2 ?_
      exact x_iret hE dX2_sure_21
    · refine x_iconst 23 hE dX2_sure_22 rfl xc_i_0 ?_
      refine x_istore 25 [(4, .int 0), (0, va_rf (some (xw_hm (xe_G E)))), (1, .int v1), (2, .int v2), (3, .int v3)] hE dX2_sure_23 rfl (Nat.le_of_ble_eq_true rfl) rfl ?_
      refine x_iconst 26 hE dX2_sure_25 rfl xc_i_m1 ?_
      refine x_istore 28 [(5, .int (-1)), (4, .int 0), (0, va_rf (some (xw_hm (xe_G E)))), (1, .int v1), (2, .int v2), (3, .int v3)] hE dX2_sure_26 rfl (Nat.le_of_ble_eq_true rfl) rfl ?_
      refine x_iconst 29 hE dX2_sure_28 rfl xc_i_m1 ?_
      refine x_istore 31 [(6, .int (-1)), (5, .int (-1)), (4, .int 0), (0, va_rf (some (xw_hm (xe_G E)))), (1, .int v1), (2, .int v2), (3, .int v3)] hE dX2_sure_29 rfl (Nat.le_of_ble_eq_true rfl) rfl ?_
      refine x_iconst 32 hE dX2_sure_31 rfl xc_i_m1 ?_
      refine x_istore 34 [(7, .int (-1)), (6, .int (-1)), (5, .int (-1)), (4, .int 0), (0, va_rf (some (xw_hm (xe_G E)))), (1, .int v1), (2, .int v2), (3, .int v3)] hE dX2_sure_32 rfl (Nat.le_of_ble_eq_true rfl) rfl ?_
      refine x_iconst 35 hE dX2_sure_34 rfl xc_i_m1 ?_
      refine x_istore 37 [(8, .int (-1)), (7, .int (-1)), (6, .int (-1)), (5, .int (-1)), (4, .int 0), (0, va_rf (some (xw_hm (xe_G E)))), (1, .int v1), (2, .int v2), (3, .int v3)] hE dX2_sure_35 rfl (Nat.le_of_ble_eq_true rfl) rfl ?_
      refine x_iconst 38 hE dX2_sure_37 rfl xc_i_0 ?_
      refine x_istore 40 [(9, .int 0), (8, .int (-1)), (7, .int (-1)), (6, .int (-1)), (5, .int (-1)), (4, .int 0), (0, va_rf (some (xw_hm (xe_G E)))), (1, .int v1), (2, .int v2), (3, .int v3)] hE dX2_sure_38 rfl (Nat.le_of_ble_eq_true rfl) rfl ?_
      refine x_sub [(0, va_rf (some (xw_hm (xe_G E)))), (3, .int v3), (4, .int 0), (5, .int (-1)), (6, .int (-1)), (7, .int (-1)), (8, .int (-1)), (9, .int 0)] [6, 9, 5, 4, 3, 2, 1, 0] rfl ?_
      refine x_sq 127 (fun (v7 : Int32 × Int32 × Int32 × Int32 × Int32) => [(3, .int v3), (4, .int v7.1), (5, .int v7.2.1), (6, .int v7.2.2.1), (7, .int v7.2.2.2.1), (8, .int v7.2.2.2.2)]) (fun _ => []) (fun v7 => ?_) (fun J2 hJ2 => ?_)
      · refine x_iload_n 128 hE dX2_sure_127 rfl 0 rfl ?_
        refine x_if_ne 136 131 hE dX2_sure_128 (by decide) rfl ?_ ?_
        · refine x_iload 133 hE dX2_sure_131 rfl 1 rfl ?_
          refine x_goto 168 hE dX2_sure_133 (by decide) ?_
          exact x_iret hE dX2_sure_168
        · refine x_iload_n 137 hE dX2_sure_136 rfl 0 rfl ?_
          refine x_iconst 138 hE dX2_sure_137 rfl xc_i_1 ?_
          refine x_icmp_ne 146 141 hE dX2_sure_138 (by decide) rfl ?_ ?_
          · refine x_iload 143 hE dX2_sure_141 rfl 2 rfl ?_
            refine x_goto 168 hE dX2_sure_143 (by decide) ?_
            exact x_iret hE dX2_sure_168
          · refine x_iload_n 147 hE dX2_sure_146 rfl 0 rfl ?_
            refine x_iconst 148 hE dX2_sure_147 rfl xc_i_2 ?_
            refine x_icmp_ne 156 151 hE dX2_sure_148 (by decide) rfl ?_ ?_
            · refine x_iload 153 hE dX2_sure_151 rfl 3 rfl ?_
              refine x_goto 168 hE dX2_sure_153 (by decide) ?_
              exact x_iret hE dX2_sure_168
            · refine x_iload_n 157 hE dX2_sure_156 rfl 0 rfl ?_
              refine x_iconst 158 hE dX2_sure_157 rfl xc_i_3 ?_
              refine x_icmp_ne 166 161 hE dX2_sure_158 (by decide) rfl ?_ ?_
              · refine x_iload 163 hE dX2_sure_161 rfl 4 rfl ?_
                refine x_goto 168 hE dX2_sure_163 (by decide) ?_
                exact x_iret hE dX2_sure_168
              · refine x_iload 168 hE dX2_sure_166 rfl 5 rfl ?_
                exact x_iret hE dX2_sure_168
      · refine x_loop (fun (v6 : Int32 × Int32 × Int32 × Int32 × Int32 × Int32) => [(0, va_rf (some (xw_hm (xe_G E)))), (3, .int v3), (4, .int v6.1), (5, .int v6.2.1), (6, .int v6.2.2.1), (7, .int v6.2.2.2.1), (8, .int v6.2.2.2.2.1), (9, .int v6.2.2.2.2.2)]) (fun JL1 hc1 hx1 v6 => ?_) _ _
        refine x_iload 42 hE dX2_sure_40 rfl 7 rfl ?_
        refine x_aload_n 43 hE dX2_sure_42 rfl 0 rfl ?_
        refine y_g 46 hE hac (by decide) ymf_29 rfl xkf_CrossingWordsModel_357 dX2_sure_43 rfl (fun v8 => ?_)
        refine x_icmp_ge 127 49 hE dX2_sure_46 (by decide) rfl ?_ ?_
        · refine x_sub [(3, .int v3), (4, .int v6.1), (5, .int v6.2.1), (6, .int v6.2.2.1), (7, .int v6.2.2.2.1), (8, .int v6.2.2.2.2.1)] [1, 2, 3, 4, 5, 6] rfl ?_
          refine hx1 _ _ _ _ ?_
          exact hJ2 (v6.1, v6.2.1, v6.2.2.1, v6.2.2.2.1, v6.2.2.2.2.1)
        · refine x_aload_n 50 hE dX2_sure_49 rfl 0 rfl ?_
          refine x_iload 52 hE dX2_sure_50 rfl 7 rfl ?_
          refine x_callv 55 (xw_goM hE hac (xw_rV hE (ct_X2_looks hac v6.2.2.2.2.2) xd_X2_looks rfl q1759 q1761 qs68 q97 q1762 rfl ⟨Nat.le_of_ble_eq_true rfl, Nat.le_of_ble_eq_true rfl⟩ rfl rfl (by decide) dX2_sure_52)) rfl ?_
          refine x_aload_n 56 hE dX2_sure_55 rfl 0 rfl ?_
          refine y_g 59 hE hac (by decide) ymf_50 rfl xkf_CrossingWordsModel_381 dX2_sure_56 rfl (fun v9 => ?_)
          refine x_if_ne 74 62 hE dX2_sure_59 (by decide) rfl ?_ ?_
          · refine x_iload 64 hE dX2_sure_62 rfl 4 rfl ?_
            refine x_if_ge 121 67 hE dX2_sure_64 (by decide) rfl ?_ ?_
            · refine x_iinc 124 [(9, .int (v6.2.2.2.2.2 + 1)), (0, va_rf (some (xw_hm (xe_G E)))), (3, .int v3), (4, .int v6.1), (5, .int v6.2.1), (6, .int v6.2.2.1), (7, .int v6.2.2.2.1), (8, .int v6.2.2.2.2.1)] hE dX2_sure_121 rfl 7 rfl xc_i_1 (Nat.le_of_ble_eq_true rfl) rfl ?_
              refine x_goto 40 hE dX2_sure_124 (by decide) ?_
              refine x_sub [(0, va_rf (some (xw_hm (xe_G E)))), (3, .int v3), (4, .int v6.1), (5, .int v6.2.1), (6, .int v6.2.2.1), (7, .int v6.2.2.2.1), (8, .int v6.2.2.2.2.1), (9, .int (v6.2.2.2.2.2 + 1))] [1, 2, 3, 4, 5, 6, 7, 0] rfl ?_
              exact hc1 (v6.1, v6.2.1, v6.2.2.1, v6.2.2.2.1, v6.2.2.2.2.1, v6.2.2.2.2.2 + 1)
            · refine x_iload 69 hE dX2_sure_67 rfl 7 rfl ?_
              refine x_istore 71 [(6, .int v6.2.2.2.2.2), (0, va_rf (some (xw_hm (xe_G E)))), (3, .int v3), (4, .int v6.1), (5, .int v6.2.1), (7, .int v6.2.2.2.1), (8, .int v6.2.2.2.2.1), (9, .int v6.2.2.2.2.2)] hE dX2_sure_69 rfl (Nat.le_of_ble_eq_true rfl) rfl ?_
              refine x_goto 121 hE dX2_sure_71 (by decide) ?_
              refine x_iinc 124 [(9, .int (v6.2.2.2.2.2 + 1)), (6, .int v6.2.2.2.2.2), (0, va_rf (some (xw_hm (xe_G E)))), (3, .int v3), (4, .int v6.1), (5, .int v6.2.1), (7, .int v6.2.2.2.1), (8, .int v6.2.2.2.2.1)] hE dX2_sure_121 rfl 7 rfl xc_i_1 (Nat.le_of_ble_eq_true rfl) rfl ?_
              refine x_goto 40 hE dX2_sure_124 (by decide) ?_
              refine x_sub [(0, va_rf (some (xw_hm (xe_G E)))), (3, .int v3), (4, .int v6.1), (5, .int v6.2.1), (6, .int v6.2.2.2.2.2), (7, .int v6.2.2.2.1), (8, .int v6.2.2.2.2.1), (9, .int (v6.2.2.2.2.2 + 1))] [2, 3, 4, 5, 1, 6, 7, 0] rfl ?_
              exact hc1 (v6.1, v6.2.1, v6.2.2.2.2.2, v6.2.2.2.1, v6.2.2.2.2.1, v6.2.2.2.2.2 + 1)
          · refine x_iinc 77 [(4, .int (v6.1 + 1)), (0, va_rf (some (xw_hm (xe_G E)))), (3, .int v3), (5, .int v6.2.1), (6, .int v6.2.2.1), (7, .int v6.2.2.2.1), (8, .int v6.2.2.2.2.1), (9, .int v6.2.2.2.2.2)] hE dX2_sure_74 rfl 2 rfl xc_i_1 (Nat.le_of_ble_eq_true rfl) rfl ?_
            refine x_iload 79 hE dX2_sure_77 rfl 3 rfl ?_
            refine x_sq 86 (fun (v10 : Int32) => [(0, va_rf (some (xw_hm (xe_G E)))), (3, .int v3), (4, .int (v6.1 + 1)), (5, .int v10), (6, .int v6.2.2.1), (7, .int v6.2.2.2.1), (8, .int v6.2.2.2.2.1), (9, .int v6.2.2.2.2.2)]) (fun (v10 : Int32) => []) (fun v10 => ?_) (fun J3 hJ3 => ?_)
            · refine x_iload 88 hE dX2_sure_86 rfl 5 rfl ?_
              refine x_sq 106 (fun (v11 : Int32) => [(0, va_rf (some (xw_hm (xe_G E)))), (3, .int v3), (4, .int (v6.1 + 1)), (5, .int v10), (6, .int v6.2.2.1), (7, .int v11), (8, .int v6.2.2.2.2.1), (9, .int v6.2.2.2.2.2)]) (fun (v11 : Int32) => []) (fun v11 => ?_) (fun J4 hJ4 => ?_)
              · refine x_aload_n 107 hE dX2_sure_106 rfl 0 rfl ?_
                refine y_g 110 hE hac (by decide) ymf_53 rfl xkf_CrossingWordsModel_384 dX2_sure_107 rfl (fun v12 => ?_)
                refine x_iload 112 hE dX2_sure_110 rfl 6 rfl ?_
                refine x_icmp_le 121 115 hE dX2_sure_112 (by decide) rfl ?_ ?_
                · refine x_iinc 124 [(9, .int (v6.2.2.2.2.2 + 1)), (0, va_rf (some (xw_hm (xe_G E)))), (3, .int v3), (4, .int (v6.1 + 1)), (5, .int v10), (6, .int v6.2.2.1), (7, .int v11), (8, .int v6.2.2.2.2.1)] hE dX2_sure_121 rfl 7 rfl xc_i_1 (Nat.le_of_ble_eq_true rfl) rfl ?_
                  refine x_goto 40 hE dX2_sure_124 (by decide) ?_
                  refine x_sub [(0, va_rf (some (xw_hm (xe_G E)))), (3, .int v3), (4, .int (v6.1 + 1)), (5, .int v10), (6, .int v6.2.2.1), (7, .int v11), (8, .int v6.2.2.2.2.1), (9, .int (v6.2.2.2.2.2 + 1))] [1, 2, 3, 4, 5, 6, 7, 0] rfl ?_
                  exact hc1 (v6.1 + 1, v10, v6.2.2.1, v11, v6.2.2.2.2.1, v6.2.2.2.2.2 + 1)
                · refine x_aload_n 116 hE dX2_sure_115 rfl 0 rfl ?_
                  refine y_g 119 hE hac (by decide) ymf_53 rfl xkf_CrossingWordsModel_384 dX2_sure_116 rfl (fun v13 => ?_)
                  refine x_istore 121 [(8, .int v13), (0, va_rf (some (xw_hm (xe_G E)))), (3, .int v3), (4, .int (v6.1 + 1)), (5, .int v10), (6, .int v6.2.2.1), (7, .int v11), (9, .int v6.2.2.2.2.2)] hE dX2_sure_119 rfl (Nat.le_of_ble_eq_true rfl) rfl ?_
                  refine x_iinc 124 [(9, .int (v6.2.2.2.2.2 + 1)), (8, .int v13), (0, va_rf (some (xw_hm (xe_G E)))), (3, .int v3), (4, .int (v6.1 + 1)), (5, .int v10), (6, .int v6.2.2.1), (7, .int v11)] hE dX2_sure_121 rfl 7 rfl xc_i_1 (Nat.le_of_ble_eq_true rfl) rfl ?_
                  refine x_goto 40 hE dX2_sure_124 (by decide) ?_
                  refine x_sub [(0, va_rf (some (xw_hm (xe_G E)))), (3, .int v3), (4, .int (v6.1 + 1)), (5, .int v10), (6, .int v6.2.2.1), (7, .int v11), (8, .int v13), (9, .int (v6.2.2.2.2.2 + 1))] [2, 3, 4, 5, 6, 7, 1, 0] rfl ?_
                  exact hc1 (v6.1 + 1, v10, v6.2.2.1, v11, v13, v6.2.2.2.2.2 + 1)
              · refine x_jn 100 (fun (v14 : Unit) => [(0, va_rf (some (xw_hm (xe_G E)))), (3, .int v3), (4, .int (v6.1 + 1)), (5, .int v10), (6, .int v6.2.2.1), (8, .int v6.2.2.2.2.1), (9, .int v6.2.2.2.2.2)]) (fun (v14 : Unit) => []) (fun v14 => ?_) (fun J5 hJ5 => ?_)
                · refine x_aload_n 101 hE dX2_sure_100 rfl 0 rfl ?_
                  refine y_g 104 hE hac (by decide) ymf_53 rfl xkf_CrossingWordsModel_384 dX2_sure_101 rfl (fun v15 => ?_)
                  refine x_istore 106 [(7, .int v15), (0, va_rf (some (xw_hm (xe_G E)))), (3, .int v3), (4, .int (v6.1 + 1)), (5, .int v10), (6, .int v6.2.2.1), (8, .int v6.2.2.2.2.1), (9, .int v6.2.2.2.2.2)] hE dX2_sure_104 rfl (Nat.le_of_ble_eq_true rfl) rfl ?_
                  refine x_sub [(0, va_rf (some (xw_hm (xe_G E)))), (3, .int v3), (4, .int (v6.1 + 1)), (5, .int v10), (6, .int v6.2.2.1), (7, .int v15), (8, .int v6.2.2.2.2.1), (9, .int v6.2.2.2.2.2)] [1, 2, 3, 4, 5, 0, 6, 7] rfl ?_
                  exact hJ4 v15
                · refine x_if_lt 100 91 hE dX2_sure_88 (by decide) rfl ?_ ?_
                  · refine x_sub [(0, va_rf (some (xw_hm (xe_G E)))), (3, .int v3), (4, .int (v6.1 + 1)), (5, .int v10), (6, .int v6.2.2.1), (8, .int v6.2.2.2.2.1), (9, .int v6.2.2.2.2.2)] [0, 1, 2, 3, 4, 6, 7] rfl ?_
                    exact hJ5 ()
                  · refine x_aload_n 92 hE dX2_sure_91 rfl 0 rfl ?_
                    refine y_g 95 hE hac (by decide) ymf_53 rfl xkf_CrossingWordsModel_384 dX2_sure_92 rfl (fun v16 => ?_)
                    refine x_iload 97 hE dX2_sure_95 rfl 5 rfl ?_
                    refine x_icmp_ge 106 100 hE dX2_sure_97 (by decide) rfl ?_ ?_
                    · refine x_sub [(0, va_rf (some (xw_hm (xe_G E)))), (3, .int v3), (4, .int (v6.1 + 1)), (5, .int v10), (6, .int v6.2.2.1), (7, .int v6.2.2.2.1), (8, .int v6.2.2.2.2.1), (9, .int v6.2.2.2.2.2)] [0, 1, 2, 3, 4, 5, 6, 7] rfl ?_
                      exact hJ4 (v6.2.2.2.1)
                    · refine x_sub [(0, va_rf (some (xw_hm (xe_G E)))), (3, .int v3), (4, .int (v6.1 + 1)), (5, .int v10), (6, .int v6.2.2.1), (8, .int v6.2.2.2.2.1), (9, .int v6.2.2.2.2.2)] [0, 1, 2, 3, 4, 6, 7] rfl ?_
                      exact hJ5 ()
            · refine x_if_ge 86 82 hE dX2_sure_79 (by decide) rfl ?_ ?_
              · refine x_sub [(0, va_rf (some (xw_hm (xe_G E)))), (3, .int v3), (4, .int (v6.1 + 1)), (5, .int v6.2.1), (6, .int v6.2.2.1), (7, .int v6.2.2.2.1), (8, .int v6.2.2.2.2.1), (9, .int v6.2.2.2.2.2)] [1, 2, 0, 3, 4, 5, 6, 7] rfl ?_
                exact hJ3 (v6.2.1)
              · refine x_iload 84 hE dX2_sure_82 rfl 7 rfl ?_
                refine x_istore 86 [(5, .int v6.2.2.2.2.2), (4, .int (v6.1 + 1)), (0, va_rf (some (xw_hm (xe_G E)))), (3, .int v3), (6, .int v6.2.2.1), (7, .int v6.2.2.2.1), (8, .int v6.2.2.2.2.1), (9, .int v6.2.2.2.2.2)] hE dX2_sure_84 rfl (Nat.le_of_ble_eq_true rfl) rfl ?_
                refine x_sub [(0, va_rf (some (xw_hm (xe_G E)))), (3, .int v3), (4, .int (v6.1 + 1)), (5, .int v6.2.2.2.2.2), (6, .int v6.2.2.1), (7, .int v6.2.2.2.1), (8, .int v6.2.2.2.2.1), (9, .int v6.2.2.2.2.2)] [2, 3, 1, 0, 4, 5, 6, 7] rfl ?_
                exact hJ3 (v6.2.2.2.2.2)

set_option maxHeartbeats 4000000 in
theorem ct_X2_bitsOf {l : Launch} {G : xw_G} {σ0 : xw_St} (v1 : Int32) : xw_Ct l G (xw_hr G σ0) xw_oi yX2_bitsOf cX2_bitsOf 3 (some (.int)) 1 [.int v1] (pg_X2_bitsOf v1) := by
  refine xw_metL [(0, .int v1)] (by decide) (Nat.le_trans (Nat.le_of_eq ((xw_l1 rfl).trans (congrArg (1 + ·) xw_l0))) (by decide)) ((xw_a1 rfl).trans (congrArg (List.cons _) xw_a0)) (fun E hE hl hG hm => ?_)
  subst hl; subst hG
  have hE : xw_ok E "CrossingWordsModel" cX2_bitsOf 3 (some (.int)) 1 := hE
  unfold pg_X2_bitsOf
  refine x_iconst 1 hE dX2_bitsOf_0 rfl xc_i_0 ?_
  refine x_istore_n 2 [(1, .int 0), (0, .int v1)] hE dX2_bitsOf_1 rfl rfl (Nat.le_of_ble_eq_true rfl) rfl ?_
  refine x_iconst 3 hE dX2_bitsOf_2 rfl xc_i_0 ?_
  refine x_istore_n 4 [(2, .int 0), (1, .int 0), (0, .int v1)] hE dX2_bitsOf_3 rfl rfl (Nat.le_of_ble_eq_true rfl) rfl ?_
  refine x_sub [(0, .int v1), (1, .int 0), (2, .int 0)] [2, 1, 0] rfl ?_
  refine x_sq 24 (fun (v3 : Int32) => [(1, .int v3)]) (fun _ => []) (fun v3 => ?_) (fun J2 hJ2 => ?_)
  · refine x_iload_n 25 hE dX2_bitsOf_24 rfl 0 rfl ?_
    exact x_iret hE dX2_bitsOf_25
  · refine x_loop (fun (v2 : Int32 × Int32) => [(0, .int v1), (1, .int v2.1), (2, .int v2.2)]) (fun JL1 hc1 hx1 v2 => ?_) _ _
    refine x_iload_n 5 hE dX2_bitsOf_4 rfl 2 rfl ?_
    refine x_bipush 7 hE dX2_bitsOf_5 rfl xc_b_16 ?_
    refine x_icmp_ge 24 10 hE dX2_bitsOf_7 (by decide) rfl ?_ ?_
    · refine x_sub [(1, .int v2.1)] [1] rfl ?_
      refine hx1 _ _ _ _ ?_
      exact hJ2 (v2.1)
    · refine x_iload_n 11 hE dX2_bitsOf_10 rfl 1 rfl ?_
      refine x_iload_n 12 hE dX2_bitsOf_11 rfl 0 rfl ?_
      refine x_iload_n 13 hE dX2_bitsOf_12 rfl 2 rfl ?_
      refine x_ishr 14 hE dX2_bitsOf_13 rfl ?_
      refine x_iconst 15 hE dX2_bitsOf_14 rfl xc_i_1 ?_
      refine x_iand 16 hE dX2_bitsOf_15 rfl ?_
      refine x_iadd 17 hE dX2_bitsOf_16 rfl ?_
      refine x_lti (fun v4 => ?_)
      refine x_istore_n 18 [(1, .int v4), (0, .int v1), (2, .int v2.2)] hE dX2_bitsOf_17 rfl rfl (Nat.le_of_ble_eq_true rfl) rfl ?_
      refine x_iinc 21 [(2, .int (v2.2 + 1)), (1, .int v4), (0, .int v1)] hE dX2_bitsOf_18 rfl 2 rfl xc_i_1 (Nat.le_of_ble_eq_true rfl) rfl ?_
      refine x_goto 4 hE dX2_bitsOf_21 (by decide) ?_
      refine x_sub [(0, .int v1), (1, .int v4), (2, .int (v2.2 + 1))] [2, 1, 0] rfl ?_
      exact hc1 (v4, v2.2 + 1)

set_option maxHeartbeats 4000000 in
theorem ct_X2_known {l : Launch} {G : xw_G} {σ0 : xw_St} (hac : xw_ac G = true) (v1 : Int32) (v2 : Int32) : xw_Ct l G (xw_hr G σ0) xw_oi yX2_known cX2_known 7 (some (.int)) 1 [va_rf (some (xw_hm G)), .int v1, .int v2] (pg_X2_known v1 v2) := by
  refine xw_metL [(0, va_rf (some (xw_hm G))), (1, .int v1), (2, .int v2)] (by decide) (Nat.le_trans (Nat.le_of_eq ((xw_l1 rfl).trans (congrArg (1 + ·) ((xw_l1 rfl).trans (congrArg (1 + ·) ((xw_l1 rfl).trans (congrArg (1 + ·) xw_l0))))))) (by decide)) ((xw_a1 rfl).trans (congrArg (List.cons _) ((xw_a1 rfl).trans (congrArg (List.cons _) ((xw_a1 rfl).trans (congrArg (List.cons _) xw_a0)))))) (fun E hE hl hG hm => ?_)
  subst hl; subst hG
  have hE : xw_ok E "CrossingWordsModel" cX2_known 7 (some (.int)) 1 := hE
  unfold pg_X2_known
  refine x_iload_n 1 hE dX2_known_0 rfl 1 rfl ?_
  refine x_istore_n 2 [(3, .int v1), (0, va_rf (some (xw_hm (xe_G E)))), (1, .int v1), (2, .int v2)] hE dX2_known_1 rfl rfl (Nat.le_of_ble_eq_true rfl) rfl ?_
  refine x_iconst 3 hE dX2_known_2 rfl xc_i_0 ?_
  refine x_istore 5 [(4, .int 0), (3, .int v1), (0, va_rf (some (xw_hm (xe_G E)))), (1, .int v1), (2, .int v2)] hE dX2_known_3 rfl (Nat.le_of_ble_eq_true rfl) rfl ?_
  refine x_iconst 6 hE dX2_known_5 rfl xc_i_1 ?_
  refine x_istore 8 [(5, .int 1), (4, .int 0), (3, .int v1), (0, va_rf (some (xw_hm (xe_G E)))), (1, .int v1), (2, .int v2)] hE dX2_known_6 rfl (Nat.le_of_ble_eq_true rfl) rfl ?_
  refine x_iconst 9 hE dX2_known_8 rfl xc_i_0 ?_
  refine x_istore 11 [(6, .int 0), (5, .int 1), (4, .int 0), (3, .int v1), (0, va_rf (some (xw_hm (xe_G E)))), (1, .int v1), (2, .int v2)] hE dX2_known_9 rfl (Nat.le_of_ble_eq_true rfl) rfl ?_
  refine x_sub [(0, va_rf (some (xw_hm (xe_G E)))), (2, .int v2), (3, .int v1), (4, .int 0), (5, .int 1), (6, .int 0)] [4, 6, 3, 2, 1, 0] rfl ?_
  refine x_sq 75 (fun (v4 : Int32) => [(4, .int v4)]) (fun _ => []) (fun v4 => ?_) (fun J2 hJ2 => ?_)
  · refine x_iload 77 hE dX2_known_75 rfl 0 rfl ?_
    exact x_iret hE dX2_known_77
  · refine x_loop (fun (v3 : Int32 × Int32 × Int32 × Int32) => [(0, va_rf (some (xw_hm (xe_G E)))), (2, .int v2), (3, .int v3.1), (4, .int v3.2.1), (5, .int v3.2.2.1), (6, .int v3.2.2.2)]) (fun JL1 hc1 hx1 v3 => ?_) _ _
    refine x_iload 13 hE dX2_known_11 rfl 5 rfl ?_
    refine x_aload_n 14 hE dX2_known_13 rfl 0 rfl ?_
    refine y_g 17 hE hac (by decide) ymf_28 rfl xkf_CrossingWordsModel_354 dX2_known_14 rfl (fun v5 => ?_)
    refine x_icmp_ge 75 20 hE dX2_known_17 (by decide) rfl ?_ ?_
    · refine x_sub [(4, .int v3.2.1)] [3] rfl ?_
      refine hx1 _ _ _ _ ?_
      exact hJ2 (v3.2.1)
    · refine x_iload_n 21 hE dX2_known_20 rfl 1 rfl ?_
      refine x_iload 23 hE dX2_known_21 rfl 5 rfl ?_
      refine x_ishr 24 hE dX2_known_23 rfl ?_
      refine x_iconst 25 hE dX2_known_24 rfl xc_i_1 ?_
      refine x_iand 26 hE dX2_known_25 rfl ?_
      refine x_iconst 27 hE dX2_known_26 rfl xc_i_1 ?_
      refine x_sq 59 (fun (v6 : Int32 × Int32) => [(0, va_rf (some (xw_hm (xe_G E)))), (2, .int v2), (3, .int v3.1), (4, .int v6.1), (5, .int v6.2), (6, .int v3.2.2.2)]) (fun (v6 : Int32 × Int32) => []) (fun v6 => ?_) (fun J3 hJ3 => ?_)
      · refine x_iload_n 60 hE dX2_known_59 rfl 2 rfl ?_
        refine x_aload_n 61 hE dX2_known_60 rfl 0 rfl ?_
        refine y_ga 64 hE hac (by decide) ymf_42 rfl xkf_CrossingWordsModel_106 dX2_known_61 rfl ?_
        refine x_iload 66 hE dX2_known_64 rfl 5 rfl ?_
        refine y_ld 67 hE hac ⟨rfl, rfl⟩ dX2_known_66 rfl (fun v7 => ?_)
        refine x_div 68 hE dX2_known_67 rfl (fun v8 => ?_)
        refine x_istore_n 69 [(3, .int v8), (0, va_rf (some (xw_hm (xe_G E)))), (2, .int v2), (4, .int v6.1), (5, .int v6.2), (6, .int v3.2.2.2)] hE dX2_known_68 rfl rfl (Nat.le_of_ble_eq_true rfl) rfl ?_
        refine x_iinc 72 [(6, .int (v3.2.2.2 + 1)), (3, .int v8), (0, va_rf (some (xw_hm (xe_G E)))), (2, .int v2), (4, .int v6.1), (5, .int v6.2)] hE dX2_known_69 rfl 5 rfl xc_i_1 (Nat.le_of_ble_eq_true rfl) rfl ?_
        refine x_goto 11 hE dX2_known_72 (by decide) ?_
        refine x_sub [(0, va_rf (some (xw_hm (xe_G E)))), (2, .int v2), (3, .int v8), (4, .int v6.1), (5, .int v6.2), (6, .int (v3.2.2.2 + 1))] [2, 3, 1, 4, 5, 0] rfl ?_
        exact hc1 (v8, v6.1, v6.2, v3.2.2.2 + 1)
      · refine x_icmp_ne 59 30 hE dX2_known_27 (by decide) rfl ?_ ?_
        · refine x_iload 32 hE dX2_known_30 rfl 3 rfl ?_
          refine x_iload 34 hE dX2_known_32 rfl 4 rfl ?_
          refine x_iload_n 35 hE dX2_known_34 rfl 2 rfl ?_
          refine x_aload_n 36 hE dX2_known_35 rfl 0 rfl ?_
          refine y_ga 39 hE hac (by decide) ymf_42 rfl xkf_CrossingWordsModel_106 dX2_known_36 rfl ?_
          refine x_iload 41 hE dX2_known_39 rfl 5 rfl ?_
          refine y_ld 42 hE hac ⟨rfl, rfl⟩ dX2_known_41 rfl (fun v9 => ?_)
          refine x_rem 43 hE dX2_known_42 rfl (fun v10 => ?_)
          refine x_imul 44 hE dX2_known_43 rfl ?_
          refine x_iadd 45 hE dX2_known_44 rfl ?_
          refine x_lti (fun v11 => ?_)
          refine x_istore 47 [(4, .int v11), (0, va_rf (some (xw_hm (xe_G E)))), (2, .int v2), (3, .int v3.1), (5, .int v3.2.2.1), (6, .int v3.2.2.2)] hE dX2_known_45 rfl (Nat.le_of_ble_eq_true rfl) rfl ?_
          refine x_iload 49 hE dX2_known_47 rfl 4 rfl ?_
          refine x_aload_n 50 hE dX2_known_49 rfl 1 rfl ?_
          refine y_ga 53 hE hac (by decide) ymf_42 rfl xkf_CrossingWordsModel_106 dX2_known_50 rfl ?_
          refine x_iload 55 hE dX2_known_53 rfl 5 rfl ?_
          refine y_ld 56 hE hac ⟨rfl, rfl⟩ dX2_known_55 rfl (fun v12 => ?_)
          refine x_imul 57 hE dX2_known_56 rfl ?_
          refine x_lti (fun v13 => ?_)
          refine x_istore 59 [(5, .int v13), (4, .int v11), (0, va_rf (some (xw_hm (xe_G E)))), (2, .int v2), (3, .int v3.1), (6, .int v3.2.2.2)] hE dX2_known_57 rfl (Nat.le_of_ble_eq_true rfl) rfl ?_
          refine x_sub [(0, va_rf (some (xw_hm (xe_G E)))), (2, .int v2), (3, .int v3.1), (4, .int v11), (5, .int v13), (6, .int v3.2.2.2)] [2, 3, 4, 1, 0, 5] rfl ?_
          exact hJ3 (v11, v13)
        · refine x_sub [(0, va_rf (some (xw_hm (xe_G E)))), (2, .int v2), (3, .int v3.1), (4, .int v3.2.1), (5, .int v3.2.2.1), (6, .int v3.2.2.2)] [0, 1, 2, 3, 4, 5] rfl ?_
          exact hJ3 (v3.2.1, v3.2.2.1)

set_option maxHeartbeats 4000000 in
theorem ct_X2_tells {l : Launch} {G : xw_G} {σ0 : xw_St} (hac : xw_ac G = true) (v1 : Int32) : xw_Ct l G (xw_hr G σ0) xw_oi yX2_tells cX2_tells 5 (some (.boolean)) 2 [va_rf (some (xw_hm G)), .int v1] (pg_X2_tells v1) := by
  refine xw_metL [(0, va_rf (some (xw_hm G))), (1, .int v1)] (by decide) (Nat.le_trans (Nat.le_of_eq ((xw_l1 rfl).trans (congrArg (1 + ·) ((xw_l1 rfl).trans (congrArg (1 + ·) xw_l0))))) (by decide)) ((xw_a1 rfl).trans (congrArg (List.cons _) ((xw_a1 rfl).trans (congrArg (List.cons _) xw_a0)))) (fun E hE hl hG hm => ?_)
  subst hl; subst hG
  have hE : xw_ok E "CrossingWordsModel" cX2_tells 5 (some (.boolean)) 2 := hE
  unfold pg_X2_tells
  refine x_iconst 1 hE dX2_tells_0 rfl xc_i_0 ?_
  refine x_istore_n 2 [(2, .int 0), (0, va_rf (some (xw_hm (xe_G E)))), (1, .int v1)] hE dX2_tells_1 rfl rfl (Nat.le_of_ble_eq_true rfl) rfl ?_
  refine x_sub [(0, va_rf (some (xw_hm (xe_G E)))), (1, .int v1), (2, .int 0)] [1, 2, 0] rfl ?_
  refine x_sq 22 (fun (v3 : Unit) => [(0, va_rf (some (xw_hm (xe_G E)))), (1, .int v1)]) (fun _ => []) (fun v3 => ?_) (fun J2 hJ2 => ?_)
  · refine x_iconst 23 hE dX2_tells_22 rfl xc_i_0 ?_
    refine x_istore_n 24 [(2, .int 0), (0, va_rf (some (xw_hm (xe_G E)))), (1, .int v1)] hE dX2_tells_23 rfl rfl (Nat.le_of_ble_eq_true rfl) rfl ?_
    refine x_sub [(0, va_rf (some (xw_hm (xe_G E)))), (1, .int v1), (2, .int 0)] [1, 2, 0] rfl ?_
    refine x_loop (fun (v4 : Int32) => [(0, va_rf (some (xw_hm (xe_G E)))), (1, .int v1), (2, .int v4)]) (fun JL3 hc3 hx3 v4 => ?_) _ _
    refine x_iload_n 25 hE dX2_tells_24 rfl 2 rfl ?_
    refine x_aload_n 26 hE dX2_tells_25 rfl 0 rfl ?_
    refine y_g 29 hE hac (by decide) ymf_29 rfl xkf_CrossingWordsModel_357 dX2_tells_26 rfl (fun v5 => ?_)
    refine x_icmp_ge 91 32 hE dX2_tells_29 (by decide) rfl ?_ ?_
    · refine x_iconst 92 hE dX2_tells_91 rfl xc_i_1 ?_
      refine hx3 _ _ _ _ ?_
      exact x_zretw hE (by decide) dX2_tells_92
    · refine x_aload_n 33 hE dX2_tells_32 rfl 0 rfl ?_
      refine x_iload_n 34 hE dX2_tells_33 rfl 2 rfl ?_
      refine x_iload_n 35 hE dX2_tells_34 rfl 1 rfl ?_
      refine x_calli 38 (xw_goM hE hac (xw_rV hE (ct_X2_known hac v4 v1) xd_X2_known rfl q1850 q1852 qs86 q97 q1853 rfl ⟨Nat.le_of_ble_eq_true rfl, Nat.le_of_ble_eq_true rfl⟩ rfl rfl (by decide) dX2_tells_35)) rfl (fun v6 => ?_)
      refine x_istore_n 39 [(3, .int v6), (0, va_rf (some (xw_hm (xe_G E)))), (1, .int v1), (2, .int v4)] hE dX2_tells_38 rfl rfl (Nat.le_of_ble_eq_true rfl) rfl ?_
      refine x_aload_n 40 hE dX2_tells_39 rfl 1 rfl ?_
      refine y_ga 43 hE hac (by decide) ymf_56 rfl xkf_CrossingWordsModel_136 dX2_tells_40 rfl ?_
      refine x_iload_n 44 hE dX2_tells_43 rfl 3 rfl ?_
      refine y_ldB 45 hE hac ⟨rfl, Or.inl rfl⟩ dX2_tells_44 rfl (fun v7 => ?_)
      refine x_sq 53 (fun (v8 : Int32) => [(0, va_rf (some (xw_hm (xe_G E)))), (1, .int v1), (2, .int v4), (3, .int v6)]) (fun (v8 : Int32) => [.int v8]) (fun v8 => ?_) (fun J4 hJ4 => ?_)
      · refine x_istore 55 [(4, .int v8), (0, va_rf (some (xw_hm (xe_G E)))), (1, .int v1), (2, .int v4), (3, .int v6)] hE dX2_tells_53 rfl (Nat.le_of_ble_eq_true rfl) rfl ?_
        refine x_aload_n 56 hE dX2_tells_55 rfl 1 rfl ?_
        refine y_ga 59 hE hac (by decide) ymf_57 rfl xkf_CrossingWordsModel_139 dX2_tells_56 rfl ?_
        refine x_iload_n 60 hE dX2_tells_59 rfl 4 rfl ?_
        refine y_ld 61 hE hac ⟨rfl, rfl⟩ dX2_tells_60 rfl (fun v9 => ?_)
        refine x_jn 77 (fun (v10 : Unit) => [(0, va_rf (some (xw_hm (xe_G E)))), (1, .int v1), (2, .int v4), (3, .int v6), (4, .int v8)]) (fun (v10 : Unit) => []) (fun v10 => ?_) (fun J5 hJ5 => ?_)
        · refine x_aload_n 78 hE dX2_tells_77 rfl 0 rfl ?_
          refine y_ga 81 hE hac (by decide) ymf_57 rfl xkf_CrossingWordsModel_139 dX2_tells_78 rfl ?_
          refine x_iload_n 82 hE dX2_tells_81 rfl 3 rfl ?_
          refine x_iload 84 hE dX2_tells_82 rfl 4 rfl ?_
          refine y_st 85 hE hac ⟨rfl, rfl⟩ dX2_tells_84 rfl ?_
          refine x_iinc 88 [(2, .int (v4 + 1)), (0, va_rf (some (xw_hm (xe_G E)))), (1, .int v1), (3, .int v6), (4, .int v8)] hE dX2_tells_85 rfl 2 rfl xc_i_1 (Nat.le_of_ble_eq_true rfl) rfl ?_
          refine x_goto 24 hE dX2_tells_88 (by decide) ?_
          refine x_sub [(0, va_rf (some (xw_hm (xe_G E)))), (1, .int v1), (2, .int (v4 + 1))] [1, 2, 0] rfl ?_
          exact hc3 (v4 + 1)
        · refine x_if_le 77 64 hE dX2_tells_61 (by decide) rfl ?_ ?_
          · refine x_sub [(0, va_rf (some (xw_hm (xe_G E)))), (1, .int v1), (2, .int v4), (3, .int v6), (4, .int v8)] [1, 2, 3, 4, 0] rfl ?_
            exact hJ5 ()
          · refine x_aload_n 65 hE dX2_tells_64 rfl 1 rfl ?_
            refine y_ga 68 hE hac (by decide) ymf_57 rfl xkf_CrossingWordsModel_139 dX2_tells_65 rfl ?_
            refine x_iload_n 69 hE dX2_tells_68 rfl 4 rfl ?_
            refine y_ld 70 hE hac ⟨rfl, rfl⟩ dX2_tells_69 rfl (fun v11 => ?_)
            refine x_iload 72 hE dX2_tells_70 rfl 0 rfl ?_
            refine x_icmp_eq 77 75 hE dX2_tells_72 (by decide) rfl ?_ ?_
            · refine x_sub [(0, va_rf (some (xw_hm (xe_G E)))), (1, .int v1), (2, .int v4), (3, .int v6), (4, .int v8)] [1, 2, 3, 4, 0] rfl ?_
              exact hJ5 ()
            · refine x_iconst 76 hE dX2_tells_75 rfl xc_i_0 ?_
              refine hx3 _ _ _ _ ?_
              exact x_zretw hE (by decide) dX2_tells_76
      · refine x_if_eq 52 48 hE dX2_tells_45 (by decide) rfl ?_ ?_
        · refine x_iconst 53 hE dX2_tells_52 rfl xc_i_1 ?_
          refine x_sub [(0, va_rf (some (xw_hm (xe_G E)))), (1, .int v1), (2, .int v4), (3, .int v6)] [1, 2, 3, 0] rfl ?_
          exact hJ4 1
        · refine x_iconst 49 hE dX2_tells_48 rfl xc_i_2 ?_
          refine x_goto 53 hE dX2_tells_49 (by decide) ?_
          refine x_sub [(0, va_rf (some (xw_hm (xe_G E)))), (1, .int v1), (2, .int v4), (3, .int v6)] [1, 2, 3, 0] rfl ?_
          exact hJ4 2
  · refine x_loop (fun (v2 : Int32) => [(0, va_rf (some (xw_hm (xe_G E)))), (1, .int v1), (2, .int v2)]) (fun JL1 hc1 hx1 v2 => ?_) _ _
    refine x_iload_n 3 hE dX2_tells_2 rfl 2 rfl ?_
    refine x_sipush 6 hE dX2_tells_3 rfl xc_s_1024 ?_
    refine x_icmp_ge 22 9 hE dX2_tells_6 (by decide) rfl ?_ ?_
    · refine x_sub [(0, va_rf (some (xw_hm (xe_G E)))), (1, .int v1)] [0, 1] rfl ?_
      refine hx1 _ _ _ _ ?_
      exact hJ2 ()
    · refine x_aload_n 10 hE dX2_tells_9 rfl 0 rfl ?_
      refine y_ga 13 hE hac (by decide) ymf_57 rfl xkf_CrossingWordsModel_139 dX2_tells_10 rfl ?_
      refine x_iload_n 14 hE dX2_tells_13 rfl 2 rfl ?_
      refine x_iconst 15 hE dX2_tells_14 rfl xc_i_0 ?_
      refine y_st 16 hE hac ⟨rfl, rfl⟩ dX2_tells_15 rfl ?_
      refine x_iinc 19 [(2, .int (v2 + 1)), (0, va_rf (some (xw_hm (xe_G E)))), (1, .int v1)] hE dX2_tells_16 rfl 2 rfl xc_i_1 (Nat.le_of_ble_eq_true rfl) rfl ?_
      refine x_goto 2 hE dX2_tells_19 (by decide) ?_
      refine x_sub [(0, va_rf (some (xw_hm (xe_G E)))), (1, .int v1), (2, .int (v2 + 1))] [1, 2, 0] rfl ?_
      exact hc1 (v2 + 1)

set_option maxHeartbeats 4000000 in
theorem ct_X2_hang {l : Launch} {G : xw_G} {σ0 : xw_St} (hac : xw_ac G = true) (v1 : Int32) (v2 : Int32) : xw_Ct l G (xw_hr G σ0) xw_oi yX2_hang cX2_hang 5 (some (.int)) 9 [va_rf (some (xw_hm G)), .int v1, .int v2] (pg_X2_hang v1 v2) := by
  refine xw_metL [(0, va_rf (some (xw_hm G))), (1, .int v1), (2, .int v2)] (by decide) (Nat.le_trans (Nat.le_of_eq ((xw_l1 rfl).trans (congrArg (1 + ·) ((xw_l1 rfl).trans (congrArg (1 + ·) ((xw_l1 rfl).trans (congrArg (1 + ·) xw_l0))))))) (by decide)) ((xw_a1 rfl).trans (congrArg (List.cons _) ((xw_a1 rfl).trans (congrArg (List.cons _) ((xw_a1 rfl).trans (congrArg (List.cons _) xw_a0)))))) (fun E hE hl hG hm => ?_)
  subst hl; subst hG
  have hE : xw_ok E "CrossingWordsModel" cX2_hang 5 (some (.int)) 9 := hE
  unfold pg_X2_hang
  refine x_aload_n 1 hE dX2_hang_0 rfl 0 rfl ?_
  refine x_iload_n 2 hE dX2_hang_1 rfl 1 rfl ?_
  refine x_iload_n 3 hE dX2_hang_2 rfl 2 rfl ?_
  refine x_iconst 4 hE dX2_hang_3 rfl xc_i_0 ?_
  refine x_calli 7 (xw_goM hE hac (xw_rV hE (ct_X2_looksAt hac v1 v2 0) xd_X2_looksAt rfl q1747 q1749 qs65 q97 q1750 rfl ⟨Nat.le_of_ble_eq_true rfl, Nat.le_of_ble_eq_true rfl⟩ rfl rfl (by decide) dX2_hang_4)) rfl (fun v3 => ?_)
  refine x_if_eq 19 10 hE dX2_hang_7 (by decide) rfl ?_ ?_
  · refine x_bipush 21 hE dX2_hang_19 rfl xc_b_m2 ?_
    exact x_iret hE dX2_hang_21
  · refine x_aload_n 11 hE dX2_hang_10 rfl 0 rfl ?_
    refine y_g 14 hE hac (by decide) ymf_28 rfl xkf_CrossingWordsModel_354 dX2_hang_11 rfl (fun v4 => ?_)
    refine x_bipush 16 hE dX2_hang_14 rfl xc_b_12 ?_
    refine x_icmp_le 22 19 hE dX2_hang_16 (by decide) rfl ?_ ?_
    · refine x_iconst 23 hE dX2_hang_22 rfl xc_i_0 ?_
      refine x_istore_n 24 [(3, .int 0), (0, va_rf (some (xw_hm (xe_G E)))), (1, .int v1), (2, .int v2)] hE dX2_hang_23 rfl rfl (Nat.le_of_ble_eq_true rfl) rfl ?_
      refine x_sub [(0, va_rf (some (xw_hm (xe_G E)))), (3, .int 0)] [1, 0] rfl ?_
      refine x_sq 53 (fun (v6 : Unit) => [(0, va_rf (some (xw_hm (xe_G E))))]) (fun _ => []) (fun v6 => ?_) (fun J2 hJ2 => ?_)
      · refine x_iconst 54 hE dX2_hang_53 rfl xc_i_m1 ?_
        refine x_istore_n 55 [(3, .int (-1)), (0, va_rf (some (xw_hm (xe_G E))))] hE dX2_hang_54 rfl rfl (Nat.le_of_ble_eq_true rfl) rfl ?_
        refine x_iconst 56 hE dX2_hang_55 rfl xc_i_0 ?_
        refine x_istore 58 [(4, .int 0), (3, .int (-1)), (0, va_rf (some (xw_hm (xe_G E))))] hE dX2_hang_56 rfl (Nat.le_of_ble_eq_true rfl) rfl ?_
        refine x_sub [(0, va_rf (some (xw_hm (xe_G E)))), (3, .int (-1)), (4, .int 0)] [2, 1, 0] rfl ?_
        refine x_sq 103 (fun (v8 : Int32) => [(3, .int v8)]) (fun _ => []) (fun v8 => ?_) (fun J4 hJ4 => ?_)
        · refine x_iload_n 104 hE dX2_hang_103 rfl 0 rfl ?_
          exact x_iret hE dX2_hang_104
        · refine x_loop (fun (v7 : Int32 × Int32) => [(0, va_rf (some (xw_hm (xe_G E)))), (3, .int v7.1), (4, .int v7.2)]) (fun JL3 hc3 hx3 v7 => ?_) _ _
          refine x_iload 60 hE dX2_hang_58 rfl 2 rfl ?_
          refine x_iconst 61 hE dX2_hang_60 rfl xc_i_1 ?_
          refine x_aload_n 62 hE dX2_hang_61 rfl 0 rfl ?_
          refine y_g 65 hE hac (by decide) ymf_28 rfl xkf_CrossingWordsModel_354 dX2_hang_62 rfl (fun v9 => ?_)
          refine x_ishl 66 hE dX2_hang_65 rfl ?_
          refine x_icmp_ge 103 69 hE dX2_hang_66 (by decide) rfl ?_ ?_
          · refine x_sub [(3, .int v7.1)] [1] rfl ?_
            refine hx3 _ _ _ _ ?_
            exact hJ4 (v7.1)
          · refine x_iload_n 70 hE dX2_hang_69 rfl 1 rfl ?_
            refine x_if_lt 85 73 hE dX2_hang_70 (by decide) rfl ?_ ?_
            · refine x_aload_n 86 hE dX2_hang_85 rfl 0 rfl ?_
              refine x_iload 88 hE dX2_hang_86 rfl 2 rfl ?_
              refine x_calli 91 (xw_goM hE hac (xw_rV hE (ct_X2_tells hac v7.2) xd_X2_tells rfl q1846 q1848 qs85 q97 q1849 rfl ⟨Nat.le_of_ble_eq_true rfl, Nat.le_of_ble_eq_true rfl⟩ rfl rfl (by decide) dX2_hang_88)) rfl (fun v10 => ?_)
              refine x_if_eq 97 94 hE dX2_hang_91 (by decide) rfl ?_ ?_
              · refine x_iinc 100 [(4, .int (v7.2 + 1)), (0, va_rf (some (xw_hm (xe_G E)))), (3, .int v7.1)] hE dX2_hang_97 rfl 2 rfl xc_i_1 (Nat.le_of_ble_eq_true rfl) rfl ?_
                refine x_goto 58 hE dX2_hang_100 (by decide) ?_
                refine x_sub [(0, va_rf (some (xw_hm (xe_G E)))), (3, .int v7.1), (4, .int (v7.2 + 1))] [1, 2, 0] rfl ?_
                exact hc3 (v7.1, v7.2 + 1)
              · refine x_iload 96 hE dX2_hang_94 rfl 2 rfl ?_
                refine x_istore_n 97 [(3, .int v7.2), (0, va_rf (some (xw_hm (xe_G E)))), (4, .int v7.2)] hE dX2_hang_96 rfl rfl (Nat.le_of_ble_eq_true rfl) rfl ?_
                refine x_iinc 100 [(4, .int (v7.2 + 1)), (3, .int v7.2), (0, va_rf (some (xw_hm (xe_G E))))] hE dX2_hang_97 rfl 2 rfl xc_i_1 (Nat.le_of_ble_eq_true rfl) rfl ?_
                refine x_goto 58 hE dX2_hang_100 (by decide) ?_
                refine x_sub [(0, va_rf (some (xw_hm (xe_G E)))), (3, .int v7.2), (4, .int (v7.2 + 1))] [2, 1, 0] rfl ?_
                exact hc3 (v7.2, v7.2 + 1)
            · refine x_iload 75 hE dX2_hang_73 rfl 2 rfl ?_
              refine x_calli 78 (xw_goS hE (ct_X2_bitsOf v7.2) xd_X2_bitsOf q1843 q1844 q97 q1845 rfl ⟨Nat.le_of_ble_eq_true rfl, Nat.le_of_ble_eq_true rfl⟩ rfl (by decide) dX2_hang_75) rfl (fun v11 => ?_)
              refine x_iload_n 79 hE dX2_hang_78 rfl 1 rfl ?_
              refine x_calli 82 (xw_goS hE (ct_X2_bitsOf v7.1) xd_X2_bitsOf q1843 q1844 q97 q1845 rfl ⟨Nat.le_of_ble_eq_true rfl, Nat.le_of_ble_eq_true rfl⟩ rfl (Nat.le_trans (xw_sm1 rfl xw_sm0) (by decide)) dX2_hang_79) rfl (fun v12 => ?_)
              refine x_icmp_ge 97 85 hE dX2_hang_82 (by decide) rfl ?_ ?_
              · refine x_iinc 100 [(4, .int (v7.2 + 1)), (0, va_rf (some (xw_hm (xe_G E)))), (3, .int v7.1)] hE dX2_hang_97 rfl 2 rfl xc_i_1 (Nat.le_of_ble_eq_true rfl) rfl ?_
                refine x_goto 58 hE dX2_hang_100 (by decide) ?_
                refine x_sub [(0, va_rf (some (xw_hm (xe_G E)))), (3, .int v7.1), (4, .int (v7.2 + 1))] [1, 2, 0] rfl ?_
                exact hc3 (v7.1, v7.2 + 1)
              · refine x_aload_n 86 hE dX2_hang_85 rfl 0 rfl ?_
                refine x_iload 88 hE dX2_hang_86 rfl 2 rfl ?_
                refine x_calli 91 (xw_goM hE hac (xw_rV hE (ct_X2_tells hac v7.2) xd_X2_tells rfl q1846 q1848 qs85 q97 q1849 rfl ⟨Nat.le_of_ble_eq_true rfl, Nat.le_of_ble_eq_true rfl⟩ rfl rfl (by decide) dX2_hang_88)) rfl (fun v13 => ?_)
                refine x_if_eq 97 94 hE dX2_hang_91 (by decide) rfl ?_ ?_
                · refine x_iinc 100 [(4, .int (v7.2 + 1)), (0, va_rf (some (xw_hm (xe_G E)))), (3, .int v7.1)] hE dX2_hang_97 rfl 2 rfl xc_i_1 (Nat.le_of_ble_eq_true rfl) rfl ?_
                  refine x_goto 58 hE dX2_hang_100 (by decide) ?_
                  refine x_sub [(0, va_rf (some (xw_hm (xe_G E)))), (3, .int v7.1), (4, .int (v7.2 + 1))] [1, 2, 0] rfl ?_
                  exact hc3 (v7.1, v7.2 + 1)
                · refine x_iload 96 hE dX2_hang_94 rfl 2 rfl ?_
                  refine x_istore_n 97 [(3, .int v7.2), (0, va_rf (some (xw_hm (xe_G E)))), (4, .int v7.2)] hE dX2_hang_96 rfl rfl (Nat.le_of_ble_eq_true rfl) rfl ?_
                  refine x_iinc 100 [(4, .int (v7.2 + 1)), (3, .int v7.2), (0, va_rf (some (xw_hm (xe_G E))))] hE dX2_hang_97 rfl 2 rfl xc_i_1 (Nat.le_of_ble_eq_true rfl) rfl ?_
                  refine x_goto 58 hE dX2_hang_100 (by decide) ?_
                  refine x_sub [(0, va_rf (some (xw_hm (xe_G E)))), (3, .int v7.2), (4, .int (v7.2 + 1))] [2, 1, 0] rfl ?_
                  exact hc3 (v7.2, v7.2 + 1)
      · refine x_loop (fun (v5 : Int32) => [(0, va_rf (some (xw_hm (xe_G E)))), (3, .int v5)]) (fun JL1 hc1 hx1 v5 => ?_) _ _
        refine x_iload_n 25 hE dX2_hang_24 rfl 1 rfl ?_
        refine x_aload_n 26 hE dX2_hang_25 rfl 0 rfl ?_
        refine y_g 29 hE hac (by decide) ymf_29 rfl xkf_CrossingWordsModel_357 dX2_hang_26 rfl (fun v14 => ?_)
        refine x_icmp_ge 53 32 hE dX2_hang_29 (by decide) rfl ?_ ?_
        · refine x_sub [(0, va_rf (some (xw_hm (xe_G E))))] [0] rfl ?_
          refine hx1 _ _ _ _ ?_
          exact hJ2 ()
        · refine x_aload_n 33 hE dX2_hang_32 rfl 0 rfl ?_
          refine x_iload_n 34 hE dX2_hang_33 rfl 1 rfl ?_
          refine x_callv 37 (xw_goM hE hac (xw_rV hE (ct_X2_looks hac v5) xd_X2_looks rfl q1759 q1761 qs68 q97 q1762 rfl ⟨Nat.le_of_ble_eq_true rfl, Nat.le_of_ble_eq_true rfl⟩ rfl rfl (by decide) dX2_hang_34)) rfl ?_
          refine x_aload_n 38 hE dX2_hang_37 rfl 0 rfl ?_
          refine y_ga 41 hE hac (by decide) ymf_56 rfl xkf_CrossingWordsModel_136 dX2_hang_38 rfl ?_
          refine x_iload_n 42 hE dX2_hang_41 rfl 1 rfl ?_
          refine x_aload_n 43 hE dX2_hang_42 rfl 0 rfl ?_
          refine y_g 46 hE hac (by decide) ymf_50 rfl xkf_CrossingWordsModel_381 dX2_hang_43 rfl (fun v15 => ?_)
          refine y_stZ 47 hE hac ⟨rfl, rfl⟩ dX2_hang_46 rfl ?_
          refine x_iinc 50 [(3, .int (v5 + 1)), (0, va_rf (some (xw_hm (xe_G E))))] hE dX2_hang_47 rfl 1 rfl xc_i_1 (Nat.le_of_ble_eq_true rfl) rfl ?_
          refine x_goto 24 hE dX2_hang_50 (by decide) ?_
          refine x_sub [(0, va_rf (some (xw_hm (xe_G E)))), (3, .int (v5 + 1))] [1, 0] rfl ?_
          exact hc1 (v5 + 1)
    · refine x_bipush 21 hE dX2_hang_19 rfl xc_b_m2 ?_
      exact x_iret hE dX2_hang_21

set_option maxHeartbeats 4000000 in
theorem ct_X2_bears {l : Launch} {G : xw_G} {σ0 : xw_St} (hac : xw_ac G = true) (v1 : Int32) (v2 : Int32) (v3 : Int32) (v4 : Int32) : xw_Ct l G (xw_hr G σ0) xw_oi yX2_bears cX2_bears 8 (some (.int)) 9 [va_rf (some (xw_hm G)), .int v1, .int v2, .int v3, .int v4] (pg_X2_bears v1 v2 v3 v4) := by
  refine xw_metL [(0, va_rf (some (xw_hm G))), (1, .int v1), (2, .int v2), (3, .int v3), (4, .int v4)] (by decide) (Nat.le_trans (Nat.le_of_eq ((xw_l1 rfl).trans (congrArg (1 + ·) ((xw_l1 rfl).trans (congrArg (1 + ·) ((xw_l1 rfl).trans (congrArg (1 + ·) ((xw_l1 rfl).trans (congrArg (1 + ·) ((xw_l1 rfl).trans (congrArg (1 + ·) xw_l0))))))))))) (by decide)) ((xw_a1 rfl).trans (congrArg (List.cons _) ((xw_a1 rfl).trans (congrArg (List.cons _) ((xw_a1 rfl).trans (congrArg (List.cons _) ((xw_a1 rfl).trans (congrArg (List.cons _) ((xw_a1 rfl).trans (congrArg (List.cons _) xw_a0)))))))))) (fun E hE hl hG hm => ?_)
  subst hl; subst hG
  have hE : xw_ok E "CrossingWordsModel" cX2_bears 8 (some (.int)) 9 := hE
  unfold pg_X2_bears
  refine x_iload 2 hE dX2_bears_0 rfl 4 rfl ?_
  refine x_if_lt 15 5 hE dX2_bears_2 (by decide) rfl ?_ ?_
  · refine x_bipush 17 hE dX2_bears_15 rfl xc_b_m2 ?_
    exact x_iret hE dX2_bears_17
  · refine x_aload_n 6 hE dX2_bears_5 rfl 0 rfl ?_
    refine x_iload_n 7 hE dX2_bears_6 rfl 1 rfl ?_
    refine x_iload_n 8 hE dX2_bears_7 rfl 2 rfl ?_
    refine x_iload_n 9 hE dX2_bears_8 rfl 3 rfl ?_
    refine x_calli 12 (xw_goM hE hac (xw_rV hE (ct_X2_looksAt hac v1 v2 v3) xd_X2_looksAt rfl q1747 q1749 qs65 q97 q1750 rfl ⟨Nat.le_of_ble_eq_true rfl, Nat.le_of_ble_eq_true rfl⟩ rfl rfl (by decide) dX2_bears_9)) rfl (fun v5 => ?_)
    refine x_if_ne 18 15 hE dX2_bears_12 (by decide) rfl ?_ ?_
    · refine x_bipush 17 hE dX2_bears_15 rfl xc_b_m2 ?_
      exact x_iret hE dX2_bears_17
    · refine x_aload_n 19 hE dX2_bears_18 rfl 0 rfl ?_
      refine y_g 22 hE hac (by decide) ymf_50 rfl xkf_CrossingWordsModel_381 dX2_bears_19 rfl (fun v6 => ?_)
      refine x_if_ne 27 25 hE dX2_bears_22 (by decide) rfl ?_ ?_
      · refine x_iconst 26 hE dX2_bears_25 rfl xc_i_m1 ?_
        exact x_iret hE dX2_bears_26
      · refine x_aload_n 28 hE dX2_bears_27 rfl 0 rfl ?_
        refine y_ga 31 hE hac (by decide) ymf_26 rfl xkf_CrossingWordsModel_66 dX2_bears_28 rfl ?_
        refine x_bipush 33 hE dX2_bears_31 rfl xc_b_12 ?_
        refine y_ld 34 hE hac ⟨rfl, rfl⟩ dX2_bears_33 rfl (fun v7 => ?_)
        refine x_sq 45 (fun (v8 : Int32) => [(0, va_rf (some (xw_hm (xe_G E)))), (4, .int v4)]) (fun (v8 : Int32) => [.int v8]) (fun v8 => ?_) (fun J1 hJ1 => ?_)
        · refine x_istore 47 [(5, .int v8), (0, va_rf (some (xw_hm (xe_G E)))), (4, .int v4)] hE dX2_bears_45 rfl (Nat.le_of_ble_eq_true rfl) rfl ?_
          refine x_iconst 48 hE dX2_bears_47 rfl xc_i_0 ?_
          refine x_istore 50 [(6, .int 0), (5, .int v8), (0, va_rf (some (xw_hm (xe_G E)))), (4, .int v4)] hE dX2_bears_48 rfl (Nat.le_of_ble_eq_true rfl) rfl ?_
          refine x_sub [(0, va_rf (some (xw_hm (xe_G E)))), (4, .int v4), (5, .int v8), (6, .int 0)] [2, 3, 1, 0] rfl ?_
          refine x_sq 143 (fun (v10 : Int32) => [(0, va_rf (some (xw_hm (xe_G E)))), (4, .int v4), (5, .int v10)]) (fun _ => []) (fun v10 => ?_) (fun J3 hJ3 => ?_)
          · refine x_iload 145 hE dX2_bears_143 rfl 2 rfl ?_
            refine x_sq 163 (fun (v11 : Int32) => [(0, va_rf (some (xw_hm (xe_G E)))), (4, .int v4), (5, .int v11)]) (fun (v11 : Int32) => []) (fun v11 => ?_) (fun J4 hJ4 => ?_)
            · refine x_iload 165 hE dX2_bears_163 rfl 2 rfl ?_
              refine x_if_lt 187 168 hE dX2_bears_165 (by decide) rfl ?_ ?_
              · refine x_aload_n 188 hE dX2_bears_187 rfl 0 rfl ?_
                refine y_ga 191 hE hac (by decide) ymf_35 rfl xkf_CrossingWordsModel_84 dX2_bears_188 rfl ?_
                refine x_aload_n 192 hE dX2_bears_191 rfl 0 rfl ?_
                refine y_g 195 hE hac (by decide) ymf_52 rfl xkf_CrossingWordsModel_390 dX2_bears_192 rfl (fun v12 => ?_)
                refine y_ld 196 hE hac ⟨rfl, rfl⟩ dX2_bears_195 rfl (fun v13 => ?_)
                exact x_iret hE dX2_bears_196
              · refine x_iload 170 hE dX2_bears_168 rfl 1 rfl ?_
                refine x_iload 172 hE dX2_bears_170 rfl 2 rfl ?_
                refine x_icmp_lt 187 175 hE dX2_bears_172 (by decide) rfl ?_ ?_
                · refine x_aload_n 188 hE dX2_bears_187 rfl 0 rfl ?_
                  refine y_ga 191 hE hac (by decide) ymf_35 rfl xkf_CrossingWordsModel_84 dX2_bears_188 rfl ?_
                  refine x_aload_n 192 hE dX2_bears_191 rfl 0 rfl ?_
                  refine y_g 195 hE hac (by decide) ymf_52 rfl xkf_CrossingWordsModel_390 dX2_bears_192 rfl (fun v14 => ?_)
                  refine y_ld 196 hE hac ⟨rfl, rfl⟩ dX2_bears_195 rfl (fun v15 => ?_)
                  exact x_iret hE dX2_bears_196
                · refine x_aload_n 176 hE dX2_bears_175 rfl 0 rfl ?_
                  refine y_ga 179 hE hac (by decide) ymf_36 rfl xkf_CrossingWordsModel_87 dX2_bears_176 rfl ?_
                  refine x_aload_n 180 hE dX2_bears_179 rfl 0 rfl ?_
                  refine y_g 183 hE hac (by decide) ymf_52 rfl xkf_CrossingWordsModel_390 dX2_bears_180 rfl (fun v16 => ?_)
                  refine y_ld 184 hE hac ⟨rfl, rfl⟩ dX2_bears_183 rfl (fun v17 => ?_)
                  refine x_goto 196 hE dX2_bears_184 (by decide) ?_
                  exact x_iret hE dX2_bears_196
            · refine x_if_lt 163 148 hE dX2_bears_145 (by decide) rfl ?_ ?_
              · refine x_sub [(0, va_rf (some (xw_hm (xe_G E)))), (4, .int v4), (5, .int v10)] [0, 1, 2] rfl ?_
                exact hJ4 v10
              · refine x_iload 150 hE dX2_bears_148 rfl 2 rfl ?_
                refine x_aload_n 151 hE dX2_bears_150 rfl 0 rfl ?_
                refine y_g 154 hE hac (by decide) ymf_53 rfl xkf_CrossingWordsModel_384 dX2_bears_151 rfl (fun v18 => ?_)
                refine x_icmp_ge 163 157 hE dX2_bears_154 (by decide) rfl ?_ ?_
                · refine x_sub [(0, va_rf (some (xw_hm (xe_G E)))), (4, .int v4), (5, .int v10)] [0, 1, 2] rfl ?_
                  exact hJ4 v10
                · refine x_aload_n 158 hE dX2_bears_157 rfl 0 rfl ?_
                  refine y_g 161 hE hac (by decide) ymf_53 rfl xkf_CrossingWordsModel_384 dX2_bears_158 rfl (fun v19 => ?_)
                  refine x_istore 163 [(5, .int v19), (0, va_rf (some (xw_hm (xe_G E)))), (4, .int v4)] hE dX2_bears_161 rfl (Nat.le_of_ble_eq_true rfl) rfl ?_
                  refine x_sub [(0, va_rf (some (xw_hm (xe_G E)))), (4, .int v4), (5, .int v19)] [1, 2, 0] rfl ?_
                  exact hJ4 v19
          · refine x_loop (fun (v9 : Int32 × Int32) => [(0, va_rf (some (xw_hm (xe_G E)))), (4, .int v4), (5, .int v9.1), (6, .int v9.2)]) (fun JL2 hc2 hx2 v9 => ?_) _ _
            refine x_iload 52 hE dX2_bears_50 rfl 3 rfl ?_
            refine x_aload_n 53 hE dX2_bears_52 rfl 0 rfl ?_
            refine y_g 56 hE hac (by decide) ymf_27 rfl xkf_CrossingWordsModel_351 dX2_bears_53 rfl (fun v20 => ?_)
            refine x_icmp_ge 143 59 hE dX2_bears_56 (by decide) rfl ?_ ?_
            · refine x_sub [(0, va_rf (some (xw_hm (xe_G E)))), (4, .int v4), (5, .int v9.1)] [0, 1, 2] rfl ?_
              refine hx2 _ _ _ _ ?_
              exact hJ3 (v9.1)
            · refine x_aload_n 60 hE dX2_bears_59 rfl 0 rfl ?_
              refine y_ga 63 hE hac (by decide) ymf_26 rfl xkf_CrossingWordsModel_66 dX2_bears_60 rfl ?_
              refine x_bipush 65 hE dX2_bears_63 rfl xc_b_12 ?_
              refine y_ld 66 hE hac ⟨rfl, rfl⟩ dX2_bears_65 rfl (fun v21 => ?_)
              refine x_if_le 143 69 hE dX2_bears_66 (by decide) rfl ?_ ?_
              · refine x_sub [(0, va_rf (some (xw_hm (xe_G E)))), (4, .int v4), (5, .int v9.1)] [0, 1, 2] rfl ?_
                refine hx2 _ _ _ _ ?_
                exact hJ3 (v9.1)
              · refine x_aload_n 70 hE dX2_bears_69 rfl 0 rfl ?_
                refine y_ga 73 hE hac (by decide) ymf_30 rfl xkf_CrossingWordsModel_69 dX2_bears_70 rfl ?_
                refine x_iload 75 hE dX2_bears_73 rfl 3 rfl ?_
                refine y_ld 76 hE hac ⟨rfl, rfl⟩ dX2_bears_75 rfl (fun v22 => ?_)
                refine x_bipush 78 hE dX2_bears_76 rfl xc_b_7 ?_
                refine x_sq 114 (fun (v23 : Int32) => [(0, va_rf (some (xw_hm (xe_G E)))), (4, .int v4), (5, .int v9.1), (6, .int v9.2)]) (fun (v23 : Int32) => [.int v23]) (fun v23 => ?_) (fun J5 hJ5 => ?_)
                · refine x_istore 116 [(7, .int v23), (0, va_rf (some (xw_hm (xe_G E)))), (4, .int v4), (5, .int v9.1), (6, .int v9.2)] hE dX2_bears_114 rfl (Nat.le_of_ble_eq_true rfl) rfl ?_
                  refine x_iload 118 hE dX2_bears_116 rfl 0 rfl ?_
                  refine x_if_lt 137 121 hE dX2_bears_118 (by decide) rfl ?_ ?_
                  · refine x_iinc 140 [(6, .int (v9.2 + 1)), (7, .int v23), (0, va_rf (some (xw_hm (xe_G E)))), (4, .int v4), (5, .int v9.1)] hE dX2_bears_137 rfl 4 rfl xc_i_1 (Nat.le_of_ble_eq_true rfl) rfl ?_
                    refine x_goto 50 hE dX2_bears_140 (by decide) ?_
                    refine x_sub [(0, va_rf (some (xw_hm (xe_G E)))), (4, .int v4), (5, .int v9.1), (6, .int (v9.2 + 1))] [2, 3, 4, 0] rfl ?_
                    exact hc2 (v9.1, v9.2 + 1)
                  · refine x_iload 123 hE dX2_bears_121 rfl 3 rfl ?_
                    refine x_if_lt 133 126 hE dX2_bears_123 (by decide) rfl ?_ ?_
                    · refine x_iload 135 hE dX2_bears_133 rfl 0 rfl ?_
                      refine x_istore 137 [(5, .int v23), (7, .int v23), (0, va_rf (some (xw_hm (xe_G E)))), (4, .int v4), (6, .int v9.2)] hE dX2_bears_135 rfl (Nat.le_of_ble_eq_true rfl) rfl ?_
                      refine x_iinc 140 [(6, .int (v9.2 + 1)), (5, .int v23), (7, .int v23), (0, va_rf (some (xw_hm (xe_G E)))), (4, .int v4)] hE dX2_bears_137 rfl 4 rfl xc_i_1 (Nat.le_of_ble_eq_true rfl) rfl ?_
                      refine x_goto 50 hE dX2_bears_140 (by decide) ?_
                      refine x_sub [(0, va_rf (some (xw_hm (xe_G E)))), (4, .int v4), (5, .int v23), (6, .int (v9.2 + 1))] [3, 4, 1, 0] rfl ?_
                      exact hc2 (v23, v9.2 + 1)
                    · refine x_iload 128 hE dX2_bears_126 rfl 0 rfl ?_
                      refine x_iload 130 hE dX2_bears_128 rfl 3 rfl ?_
                      refine x_icmp_ge 137 133 hE dX2_bears_130 (by decide) rfl ?_ ?_
                      · refine x_iinc 140 [(6, .int (v9.2 + 1)), (7, .int v23), (0, va_rf (some (xw_hm (xe_G E)))), (4, .int v4), (5, .int v9.1)] hE dX2_bears_137 rfl 4 rfl xc_i_1 (Nat.le_of_ble_eq_true rfl) rfl ?_
                        refine x_goto 50 hE dX2_bears_140 (by decide) ?_
                        refine x_sub [(0, va_rf (some (xw_hm (xe_G E)))), (4, .int v4), (5, .int v9.1), (6, .int (v9.2 + 1))] [2, 3, 4, 0] rfl ?_
                        exact hc2 (v9.1, v9.2 + 1)
                      · refine x_iload 135 hE dX2_bears_133 rfl 0 rfl ?_
                        refine x_istore 137 [(5, .int v23), (7, .int v23), (0, va_rf (some (xw_hm (xe_G E)))), (4, .int v4), (6, .int v9.2)] hE dX2_bears_135 rfl (Nat.le_of_ble_eq_true rfl) rfl ?_
                        refine x_iinc 140 [(6, .int (v9.2 + 1)), (5, .int v23), (7, .int v23), (0, va_rf (some (xw_hm (xe_G E)))), (4, .int v4)] hE dX2_bears_137 rfl 4 rfl xc_i_1 (Nat.le_of_ble_eq_true rfl) rfl ?_
                        refine x_goto 50 hE dX2_bears_140 (by decide) ?_
                        refine x_sub [(0, va_rf (some (xw_hm (xe_G E)))), (4, .int v4), (5, .int v23), (6, .int (v9.2 + 1))] [3, 4, 1, 0] rfl ?_
                        exact hc2 (v23, v9.2 + 1)
                · refine x_icmp_ne 113 81 hE dX2_bears_78 (by decide) rfl ?_ ?_
                  · refine x_aload_n 82 hE dX2_bears_81 rfl 0 rfl ?_
                    refine y_ga 85 hE hac (by decide) ymf_34 rfl xkf_CrossingWordsModel_81 dX2_bears_82 rfl ?_
                    refine x_iload 87 hE dX2_bears_85 rfl 3 rfl ?_
                    refine y_ld 88 hE hac ⟨rfl, rfl⟩ dX2_bears_87 rfl (fun v24 => ?_)
                    refine x_aload_n 89 hE dX2_bears_88 rfl 0 rfl ?_
                    refine y_g 92 hE hac (by decide) ymf_52 rfl xkf_CrossingWordsModel_390 dX2_bears_89 rfl (fun v25 => ?_)
                    refine x_icmp_ne 113 95 hE dX2_bears_92 (by decide) rfl ?_ ?_
                    · refine x_aload_n 96 hE dX2_bears_95 rfl 0 rfl ?_
                      refine x_iload 98 hE dX2_bears_96 rfl 3 rfl ?_
                      refine x_aload_n 99 hE dX2_bears_98 rfl 0 rfl ?_
                      refine y_ga 102 hE hac (by decide) ymf_26 rfl xkf_CrossingWordsModel_66 dX2_bears_99 rfl ?_
                      refine x_bipush 104 hE dX2_bears_102 rfl xc_b_12 ?_
                      refine y_ld 105 hE hac ⟨rfl, rfl⟩ dX2_bears_104 rfl (fun v26 => ?_)
                      refine x_iconst 106 hE dX2_bears_105 rfl xc_i_1 ?_
                      refine x_isub 107 hE dX2_bears_106 rfl ?_
                      refine x_calli 110 (xw_goM hE hac (xw_rV hE (ct_X2_when hac v9.2 (v26 - 1)) xd_X2_when rfl q1739 q1741 qs64 q97 q1742 rfl ⟨Nat.le_of_ble_eq_true rfl, Nat.le_of_ble_eq_true rfl⟩ rfl rfl (by decide) dX2_bears_107)) rfl (fun v27 => ?_)
                      refine x_goto 114 hE dX2_bears_110 (by decide) ?_
                      refine x_sub [(0, va_rf (some (xw_hm (xe_G E)))), (4, .int v4), (5, .int v9.1), (6, .int v9.2)] [0, 1, 2, 3] rfl ?_
                      exact hJ5 v27
                    · refine x_iconst 114 hE dX2_bears_113 rfl xc_i_m1 ?_
                      refine x_sub [(0, va_rf (some (xw_hm (xe_G E)))), (4, .int v4), (5, .int v9.1), (6, .int v9.2)] [0, 1, 2, 3] rfl ?_
                      exact hJ5 (-1)
                  · refine x_iconst 114 hE dX2_bears_113 rfl xc_i_m1 ?_
                    refine x_sub [(0, va_rf (some (xw_hm (xe_G E)))), (4, .int v4), (5, .int v9.1), (6, .int v9.2)] [0, 1, 2, 3] rfl ?_
                    exact hJ5 (-1)
        · refine x_if_ne 44 37 hE dX2_bears_34 (by decide) rfl ?_ ?_
          · refine x_aload_n 38 hE dX2_bears_37 rfl 0 rfl ?_
            refine y_g 41 hE hac (by decide) ymf_53 rfl xkf_CrossingWordsModel_384 dX2_bears_38 rfl (fun v28 => ?_)
            refine x_goto 45 hE dX2_bears_41 (by decide) ?_
            refine x_sub [(0, va_rf (some (xw_hm (xe_G E)))), (4, .int v4)] [0, 4] rfl ?_
            exact hJ1 v28
          · refine x_iconst 45 hE dX2_bears_44 rfl xc_i_m1 ?_
            refine x_sub [(0, va_rf (some (xw_hm (xe_G E)))), (4, .int v4)] [0, 4] rfl ?_
            exact hJ1 (-1)

set_option maxHeartbeats 4000000 in
theorem ct_X2_judge {l : Launch} {G : xw_G} {σ0 : xw_St} (hac : xw_ac G = true) (v1 : Int32) (v2 : Int32) (v3 : Int32) (v4 : Int32) (v5 : Int32) : xw_Ct l G (xw_hr G σ0) xw_oi yX2_judge cX2_judge 6 (some (.int)) 9 [va_rf (some (xw_hm G)), .int v1, .int v2, .int v3, .int v4, .int v5] (pg_X2_judge v1 v2 v3 v4 v5) := by
  refine xw_metL [(0, va_rf (some (xw_hm G))), (1, .int v1), (2, .int v2), (3, .int v3), (4, .int v4), (5, .int v5)] (by decide) (Nat.le_trans (Nat.le_of_eq ((xw_l1 rfl).trans (congrArg (1 + ·) ((xw_l1 rfl).trans (congrArg (1 + ·) ((xw_l1 rfl).trans (congrArg (1 + ·) ((xw_l1 rfl).trans (congrArg (1 + ·) ((xw_l1 rfl).trans (congrArg (1 + ·) ((xw_l1 rfl).trans (congrArg (1 + ·) xw_l0))))))))))))) (by decide)) ((xw_a1 rfl).trans (congrArg (List.cons _) ((xw_a1 rfl).trans (congrArg (List.cons _) ((xw_a1 rfl).trans (congrArg (List.cons _) ((xw_a1 rfl).trans (congrArg (List.cons _) ((xw_a1 rfl).trans (congrArg (List.cons _) ((xw_a1 rfl).trans (congrArg (List.cons _) xw_a0)))))))))))) (fun E hE hl hG hm => ?_)
  subst hl; subst hG
  have hE : xw_ok E "CrossingWordsModel" cX2_judge 6 (some (.int)) 9 := hE
  unfold pg_X2_judge
  refine x_aload_n 1 hE dX2_judge_0 rfl 0 rfl ?_
  refine x_iload_n 2 hE dX2_judge_1 rfl 1 rfl ?_
  refine x_iload_n 3 hE dX2_judge_2 rfl 2 rfl ?_
  refine x_iload_n 4 hE dX2_judge_3 rfl 3 rfl ?_
  refine x_calli 7 (xw_goM hE hac (xw_rV hE (ct_X2_looksAt hac v1 v2 v3) xd_X2_looksAt rfl q1747 q1749 qs65 q97 q1750 rfl ⟨Nat.le_of_ble_eq_true rfl, Nat.le_of_ble_eq_true rfl⟩ rfl rfl (by decide) dX2_judge_4)) rfl (fun v6 => ?_)
  refine x_if_ne 13 10 hE dX2_judge_7 (by decide) rfl ?_ ?_
  · refine x_bipush 12 hE dX2_judge_10 rfl xc_b_m2 ?_
    exact x_iret hE dX2_judge_12
  · refine x_iload 15 hE dX2_judge_13 rfl 4 rfl ?_
    refine x_bipush 17 hE dX2_judge_15 rfl xc_b_m2 ?_
    refine x_sq 25 (fun (v7 : Int32) => [(0, va_rf (some (xw_hm (xe_G E)))), (4, .int v4), (5, .int v5)]) (fun (v7 : Int32) => [.int v7]) (fun v7 => ?_) (fun J1 hJ1 => ?_)
    · refine x_aload_n 26 hE dX2_judge_25 rfl 0 rfl ?_
      refine y_g 29 hE hac (by decide) ymf_50 rfl xkf_CrossingWordsModel_381 dX2_judge_26 rfl (fun v8 => ?_)
      refine x_icmp_eq 34 32 hE dX2_judge_29 (by decide) rfl ?_ ?_
      · refine x_aload_n 35 hE dX2_judge_34 rfl 0 rfl ?_
        refine y_g 38 hE hac (by decide) ymf_50 rfl xkf_CrossingWordsModel_381 dX2_judge_35 rfl (fun v9 => ?_)
        refine x_if_ne 43 41 hE dX2_judge_38 (by decide) rfl ?_ ?_
        · refine x_iconst 42 hE dX2_judge_41 rfl xc_i_m1 ?_
          exact x_iret hE dX2_judge_42
        · refine x_iload 45 hE dX2_judge_43 rfl 1 rfl ?_
          refine x_aload_n 46 hE dX2_judge_45 rfl 0 rfl ?_
          refine y_g 49 hE hac (by decide) ymf_51 rfl xkf_CrossingWordsModel_387 dX2_judge_46 rfl (fun v10 => ?_)
          refine x_icmp_eq 56 52 hE dX2_judge_49 (by decide) rfl ?_ ?_
          · refine x_iload 58 hE dX2_judge_56 rfl 2 rfl ?_
            refine x_aload_n 59 hE dX2_judge_58 rfl 0 rfl ?_
            refine y_g 62 hE hac (by decide) ymf_53 rfl xkf_CrossingWordsModel_384 dX2_judge_59 rfl (fun v11 => ?_)
            refine x_icmp_eq 69 65 hE dX2_judge_62 (by decide) rfl ?_ ?_
            · refine x_iconst 70 hE dX2_judge_69 rfl xc_i_m1 ?_
              exact x_iret hE dX2_judge_70
            · refine x_iconst 66 hE dX2_judge_65 rfl xc_i_2 ?_
              refine x_goto 70 hE dX2_judge_66 (by decide) ?_
              exact x_iret hE dX2_judge_70
          · refine x_iconst 53 hE dX2_judge_52 rfl xc_i_1 ?_
            refine x_goto 70 hE dX2_judge_53 (by decide) ?_
            exact x_iret hE dX2_judge_70
      · refine x_iconst 33 hE dX2_judge_32 rfl xc_i_0 ?_
        exact x_iret hE dX2_judge_33
    · refine x_icmp_eq 24 20 hE dX2_judge_17 (by decide) rfl ?_ ?_
      · refine x_iconst 25 hE dX2_judge_24 rfl xc_i_0 ?_
        refine x_sub [(0, va_rf (some (xw_hm (xe_G E)))), (4, .int v4), (5, .int v5)] [0, 4, 5] rfl ?_
        exact hJ1 0
      · refine x_iconst 21 hE dX2_judge_20 rfl xc_i_1 ?_
        refine x_goto 25 hE dX2_judge_21 (by decide) ?_
        refine x_sub [(0, va_rf (some (xw_hm (xe_G E)))), (4, .int v4), (5, .int v5)] [0, 4, 5] rfl ?_
        exact hJ1 1

set_option maxHeartbeats 4000000 in
theorem ct_X2_findApart {l : Launch} {G : xw_G} {σ0 : xw_St} (hac : xw_ac G = true) (v1 : Int32) (v2 : Int32) (v3 : Int32) : xw_Ct l G (xw_hr G σ0) xw_oi yX2_findApart cX2_findApart 7 (some (.boolean)) 9 [va_rf (some (xw_hm G)), .int v1, .int v2, .int v3] (pg_X2_findApart v1 v2 v3) := by
  refine xw_metL [(0, va_rf (some (xw_hm G))), (1, .int v1), (2, .int v2), (3, .int v3)] (by decide) (Nat.le_trans (Nat.le_of_eq ((xw_l1 rfl).trans (congrArg (1 + ·) ((xw_l1 rfl).trans (congrArg (1 + ·) ((xw_l1 rfl).trans (congrArg (1 + ·) ((xw_l1 rfl).trans (congrArg (1 + ·) xw_l0))))))))) (by decide)) ((xw_a1 rfl).trans (congrArg (List.cons _) ((xw_a1 rfl).trans (congrArg (List.cons _) ((xw_a1 rfl).trans (congrArg (List.cons _) ((xw_a1 rfl).trans (congrArg (List.cons _) xw_a0)))))))) (fun E hE hl hG hm => ?_)
  subst hl; subst hG
  have hE : xw_ok E "CrossingWordsModel" cX2_findApart 7 (some (.boolean)) 9 := hE
  unfold pg_X2_findApart
  refine x_aload_n 1 hE dX2_findApart_0 rfl 0 rfl ?_
  refine x_iload_n 2 hE dX2_findApart_1 rfl 1 rfl ?_
  refine x_iload_n 3 hE dX2_findApart_2 rfl 2 rfl ?_
  refine x_iconst 4 hE dX2_findApart_3 rfl xc_i_0 ?_
  refine x_calli 7 (xw_goM hE hac (xw_rV hE (ct_X2_looksAt hac v1 v2 0) xd_X2_looksAt rfl q1747 q1749 qs65 q97 q1750 rfl ⟨Nat.le_of_ble_eq_true rfl, Nat.le_of_ble_eq_true rfl⟩ rfl rfl (by decide) dX2_findApart_4)) rfl (fun v4 => ?_)
  refine x_if_ne 12 10 hE dX2_findApart_7 (by decide) rfl ?_ ?_
  · refine x_iconst 11 hE dX2_findApart_10 rfl xc_i_0 ?_
    exact x_zretw hE (by decide) dX2_findApart_11
  · refine x_aload_n 13 hE dX2_findApart_12 rfl 0 rfl ?_
    refine x_iconst 14 hE dX2_findApart_13 rfl xc_i_0 ?_
    refine y_p 17 hE hac (by decide) ymf_60 (Or.inl ⟨rfl, rfl⟩) rfl xkf_CrossingWordsModel_461 dX2_findApart_14 rfl ?_
    refine x_aload_n 18 hE dX2_findApart_17 rfl 0 rfl ?_
    refine x_iconst 19 hE dX2_findApart_18 rfl xc_i_m1 ?_
    refine y_p 22 hE hac (by decide) ymf_61 (Or.inl ⟨rfl, rfl⟩) rfl xkf_CrossingWordsModel_464 dX2_findApart_19 rfl ?_
    refine x_iconst 23 hE dX2_findApart_22 rfl xc_i_0 ?_
    refine x_istore 25 [(4, .int 0), (0, va_rf (some (xw_hm (xe_G E)))), (1, .int v1), (2, .int v2), (3, .int v3)] hE dX2_findApart_23 rfl (Nat.le_of_ble_eq_true rfl) rfl ?_
    refine x_sub [(0, va_rf (some (xw_hm (xe_G E)))), (1, .int v1), (3, .int v3), (4, .int 0)] [1, 2, 4, 0] rfl ?_
    refine x_sq 112 (fun (v6 : Unit) => [(0, va_rf (some (xw_hm (xe_G E)))), (1, .int v1), (3, .int v3)]) (fun _ => []) (fun v6 => ?_) (fun J2 hJ2 => ?_)
    · refine x_aload_n 113 hE dX2_findApart_112 rfl 0 rfl ?_
      refine x_iload_n 114 hE dX2_findApart_113 rfl 2 rfl ?_
      refine x_iconst 115 hE dX2_findApart_114 rfl xc_i_0 ?_
      refine x_callv 118 (xw_goM hE hac (xw_rV hE (ct_X2_lays hac v3 0) xd_X2_lays rfl q1703 q1705 qs58 q97 q1706 rfl ⟨Nat.le_of_ble_eq_true rfl, Nat.le_of_ble_eq_true rfl⟩ rfl rfl (by decide) dX2_findApart_115)) rfl ?_
      refine x_aload_n 119 hE dX2_findApart_118 rfl 0 rfl ?_
      refine x_iload_n 120 hE dX2_findApart_119 rfl 1 rfl ?_
      refine x_callv 123 (xw_goM hE hac (xw_rV hE (ct_X2_takes hac v1) xd_X2_takes rfl q1751 q1753 qs66 q97 q1754 rfl ⟨Nat.le_of_ble_eq_true rfl, Nat.le_of_ble_eq_true rfl⟩ rfl rfl (by decide) dX2_findApart_120)) rfl ?_
      refine x_iconst 124 hE dX2_findApart_123 rfl xc_i_0 ?_
      refine x_istore 126 [(4, .int 0), (0, va_rf (some (xw_hm (xe_G E)))), (1, .int v1), (3, .int v3)] hE dX2_findApart_124 rfl (Nat.le_of_ble_eq_true rfl) rfl ?_
      refine x_sub [(0, va_rf (some (xw_hm (xe_G E)))), (4, .int 0)] [1, 0] rfl ?_
      refine x_sq 265 (fun (v8 : Unit) => []) (fun _ => []) (fun v8 => ?_) (fun J4 hJ4 => ?_)
      · refine x_iconst 266 hE dX2_findApart_265 rfl xc_i_1 ?_
        exact x_zretw hE (by decide) dX2_findApart_266
      · refine x_loop (fun (v7 : Int32) => [(0, va_rf (some (xw_hm (xe_G E)))), (4, .int v7)]) (fun JL3 hc3 hx3 v7 => ?_) _ _
        refine x_iload 128 hE dX2_findApart_126 rfl 1 rfl ?_
        refine x_aload_n 129 hE dX2_findApart_128 rfl 0 rfl ?_
        refine y_g 132 hE hac (by decide) ymf_29 rfl xkf_CrossingWordsModel_357 dX2_findApart_129 rfl (fun v9 => ?_)
        refine x_icmp_ge 265 135 hE dX2_findApart_132 (by decide) rfl ?_ ?_
        · refine x_sub [] [] rfl ?_
          refine hx3 _ _ _ _ ?_
          exact hJ4 ()
        · refine x_aload_n 136 hE dX2_findApart_135 rfl 0 rfl ?_
          refine x_iload 138 hE dX2_findApart_136 rfl 1 rfl ?_
          refine x_callv 141 (xw_goM hE hac (xw_rV hE (ct_X2_looks hac v7) xd_X2_looks rfl q1759 q1761 qs68 q97 q1762 rfl ⟨Nat.le_of_ble_eq_true rfl, Nat.le_of_ble_eq_true rfl⟩ rfl rfl (by decide) dX2_findApart_138)) rfl ?_
          refine x_aload_n 142 hE dX2_findApart_141 rfl 0 rfl ?_
          refine y_ga 145 hE hac (by decide) ymf_58 rfl xkf_CrossingWordsModel_142 dX2_findApart_142 rfl ?_
          refine x_iload 147 hE dX2_findApart_145 rfl 1 rfl ?_
          refine y_ld 148 hE hac ⟨rfl, rfl⟩ dX2_findApart_147 rfl (fun v10 => ?_)
          refine x_aload_n 149 hE dX2_findApart_148 rfl 0 rfl ?_
          refine y_g 152 hE hac (by decide) ymf_50 rfl xkf_CrossingWordsModel_381 dX2_findApart_149 rfl (fun v11 => ?_)
          refine x_sq 163 (fun (v12 : Int32) => [(0, va_rf (some (xw_hm (xe_G E)))), (4, .int v7)]) (fun (v12 : Int32) => [.int v12, .int v10]) (fun v12 => ?_) (fun J5 hJ5 => ?_)
          · refine x_sq 171 (fun (v13 : Int32) => [(0, va_rf (some (xw_hm (xe_G E)))), (4, .int v7)]) (fun (v13 : Int32) => [.int v13]) (fun v13 => ?_) (fun J6 hJ6 => ?_)
            · refine x_istore 173 [(5, .int v13), (0, va_rf (some (xw_hm (xe_G E)))), (4, .int v7)] hE dX2_findApart_171 rfl (Nat.le_of_ble_eq_true rfl) rfl ?_
              refine x_iconst 174 hE dX2_findApart_173 rfl xc_i_0 ?_
              refine x_istore 176 [(6, .int 0), (5, .int v13), (0, va_rf (some (xw_hm (xe_G E)))), (4, .int v7)] hE dX2_findApart_174 rfl (Nat.le_of_ble_eq_true rfl) rfl ?_
              refine x_sub [(0, va_rf (some (xw_hm (xe_G E)))), (4, .int v7), (5, .int v13), (6, .int 0)] [2, 3, 1, 0] rfl ?_
              refine x_sq 228 (fun (v15 : Int32) => [(0, va_rf (some (xw_hm (xe_G E)))), (4, .int v7), (5, .int v15)]) (fun _ => []) (fun v15 => ?_) (fun J8 hJ8 => ?_)
              · refine x_iload 230 hE dX2_findApart_228 rfl 2 rfl ?_
                refine x_if_ne 236 233 hE dX2_findApart_230 (by decide) rfl ?_ ?_
                · refine x_goto 259 hE dX2_findApart_233 (by decide) ?_
                  refine x_iinc 262 [(4, .int (v7 + 1)), (0, va_rf (some (xw_hm (xe_G E)))), (5, .int v15)] hE dX2_findApart_259 rfl 1 rfl xc_i_1 (Nat.le_of_ble_eq_true rfl) rfl ?_
                  refine x_goto 126 hE dX2_findApart_262 (by decide) ?_
                  refine x_sub [(0, va_rf (some (xw_hm (xe_G E)))), (4, .int (v7 + 1))] [1, 0] rfl ?_
                  exact hc3 (v7 + 1)
                · refine x_aload_n 237 hE dX2_findApart_236 rfl 0 rfl ?_
                  refine x_dup 238 hE dX2_findApart_237 rfl rfl ?_
                  refine y_g 241 hE hac (by decide) ymf_60 rfl xkf_CrossingWordsModel_461 dX2_findApart_238 rfl (fun v16 => ?_)
                  refine x_iconst 242 hE dX2_findApart_241 rfl xc_i_1 ?_
                  refine x_iadd 243 hE dX2_findApart_242 rfl ?_
                  refine y_p 246 hE hac (by decide) ymf_60 (Or.inl ⟨rfl, rfl⟩) rfl xkf_CrossingWordsModel_461 dX2_findApart_243 rfl ?_
                  refine x_aload_n 247 hE dX2_findApart_246 rfl 0 rfl ?_
                  refine y_g 250 hE hac (by decide) ymf_61 rfl xkf_CrossingWordsModel_464 dX2_findApart_247 rfl (fun v17 => ?_)
                  refine x_if_ge 259 253 hE dX2_findApart_250 (by decide) rfl ?_ ?_
                  · refine x_iinc 262 [(4, .int (v7 + 1)), (0, va_rf (some (xw_hm (xe_G E)))), (5, .int v15)] hE dX2_findApart_259 rfl 1 rfl xc_i_1 (Nat.le_of_ble_eq_true rfl) rfl ?_
                    refine x_goto 126 hE dX2_findApart_262 (by decide) ?_
                    refine x_sub [(0, va_rf (some (xw_hm (xe_G E)))), (4, .int (v7 + 1))] [1, 0] rfl ?_
                    exact hc3 (v7 + 1)
                  · refine x_aload_n 254 hE dX2_findApart_253 rfl 0 rfl ?_
                    refine x_iload 256 hE dX2_findApart_254 rfl 1 rfl ?_
                    refine y_p 259 hE hac (by decide) ymf_61 (Or.inl ⟨rfl, rfl⟩) rfl xkf_CrossingWordsModel_464 dX2_findApart_256 rfl ?_
                    refine x_iinc 262 [(4, .int (v7 + 1)), (0, va_rf (some (xw_hm (xe_G E)))), (5, .int v15)] hE dX2_findApart_259 rfl 1 rfl xc_i_1 (Nat.le_of_ble_eq_true rfl) rfl ?_
                    refine x_goto 126 hE dX2_findApart_262 (by decide) ?_
                    refine x_sub [(0, va_rf (some (xw_hm (xe_G E)))), (4, .int (v7 + 1))] [1, 0] rfl ?_
                    exact hc3 (v7 + 1)
              · refine x_loop (fun (v14 : Int32 × Int32) => [(0, va_rf (some (xw_hm (xe_G E)))), (4, .int v7), (5, .int v14.1), (6, .int v14.2)]) (fun JL7 hc7 hx7 v14 => ?_) _ _
                refine x_iload 178 hE dX2_findApart_176 rfl 3 rfl ?_
                refine x_iconst 179 hE dX2_findApart_178 rfl xc_i_5 ?_
                refine x_icmp_ge 228 182 hE dX2_findApart_179 (by decide) rfl ?_ ?_
                · refine x_sub [(0, va_rf (some (xw_hm (xe_G E)))), (4, .int v7), (5, .int v14.1)] [0, 1, 2] rfl ?_
                  refine hx7 _ _ _ _ ?_
                  exact hJ8 (v14.1)
                · refine x_aload_n 183 hE dX2_findApart_182 rfl 0 rfl ?_
                  refine y_g 186 hE hac (by decide) ymf_50 rfl xkf_CrossingWordsModel_381 dX2_findApart_183 rfl (fun v18 => ?_)
                  refine x_if_eq 228 189 hE dX2_findApart_186 (by decide) rfl ?_ ?_
                  · refine x_sub [(0, va_rf (some (xw_hm (xe_G E)))), (4, .int v7), (5, .int v14.1)] [0, 1, 2] rfl ?_
                    refine hx7 _ _ _ _ ?_
                    exact hJ8 (v14.1)
                  · refine x_iload 191 hE dX2_findApart_189 rfl 2 rfl ?_
                    refine x_if_ne 215 194 hE dX2_findApart_191 (by decide) rfl ?_ ?_
                    · refine x_aload_n 195 hE dX2_findApart_194 rfl 0 rfl ?_
                      refine y_ga 198 hE hac (by decide) ymf_59 rfl xkf_CrossingWordsModel_145 dX2_findApart_195 rfl ?_
                      refine x_iconst 199 hE dX2_findApart_198 rfl xc_i_5 ?_
                      refine x_iload 201 hE dX2_findApart_199 rfl 1 rfl ?_
                      refine x_imul 202 hE dX2_findApart_201 rfl ?_
                      refine x_iload 204 hE dX2_findApart_202 rfl 3 rfl ?_
                      refine x_iadd 205 hE dX2_findApart_204 rfl ?_
                      refine y_ld 206 hE hac ⟨rfl, rfl⟩ dX2_findApart_205 rfl (fun v19 => ?_)
                      refine x_aload_n 207 hE dX2_findApart_206 rfl 0 rfl ?_
                      refine x_iload 209 hE dX2_findApart_207 rfl 3 rfl ?_
                      refine x_calli 212 (xw_goM hE hac (xw_rV hE (ct_X2_bargainWord hac v14.2) xd_X2_bargainWord rfl q1819 q1821 qs83 q97 q1822 rfl ⟨Nat.le_of_ble_eq_true rfl, Nat.le_of_ble_eq_true rfl⟩ rfl rfl (Nat.le_trans (xw_sm1 rfl xw_sm0) (by decide)) dX2_findApart_209)) rfl (fun v20 => ?_)
                      refine x_icmp_eq 219 215 hE dX2_findApart_212 (by decide) rfl ?_ ?_
                      · refine x_iconst 220 hE dX2_findApart_219 rfl xc_i_0 ?_
                        refine x_istore 222 [(5, .int 0), (0, va_rf (some (xw_hm (xe_G E)))), (4, .int v7), (6, .int v14.2)] hE dX2_findApart_220 rfl (Nat.le_of_ble_eq_true rfl) rfl ?_
                        refine x_iinc 225 [(6, .int (v14.2 + 1)), (5, .int 0), (0, va_rf (some (xw_hm (xe_G E)))), (4, .int v7)] hE dX2_findApart_222 rfl 3 rfl xc_i_1 (Nat.le_of_ble_eq_true rfl) rfl ?_
                        refine x_goto 176 hE dX2_findApart_225 (by decide) ?_
                        refine x_sub [(0, va_rf (some (xw_hm (xe_G E)))), (4, .int v7), (5, .int 0), (6, .int (v14.2 + 1))] [2, 3, 1, 0] rfl ?_
                        exact hc7 (0, v14.2 + 1)
                      · refine x_iconst 216 hE dX2_findApart_215 rfl xc_i_1 ?_
                        refine x_goto 220 hE dX2_findApart_216 (by decide) ?_
                        refine x_istore 222 [(5, .int 1), (0, va_rf (some (xw_hm (xe_G E)))), (4, .int v7), (6, .int v14.2)] hE dX2_findApart_220 rfl (Nat.le_of_ble_eq_true rfl) rfl ?_
                        refine x_iinc 225 [(6, .int (v14.2 + 1)), (5, .int 1), (0, va_rf (some (xw_hm (xe_G E)))), (4, .int v7)] hE dX2_findApart_222 rfl 3 rfl xc_i_1 (Nat.le_of_ble_eq_true rfl) rfl ?_
                        refine x_goto 176 hE dX2_findApart_225 (by decide) ?_
                        refine x_sub [(0, va_rf (some (xw_hm (xe_G E)))), (4, .int v7), (5, .int 1), (6, .int (v14.2 + 1))] [2, 3, 1, 0] rfl ?_
                        exact hc7 (1, v14.2 + 1)
                    · refine x_iconst 216 hE dX2_findApart_215 rfl xc_i_1 ?_
                      refine x_goto 220 hE dX2_findApart_216 (by decide) ?_
                      refine x_istore 222 [(5, .int 1), (0, va_rf (some (xw_hm (xe_G E)))), (4, .int v7), (6, .int v14.2)] hE dX2_findApart_220 rfl (Nat.le_of_ble_eq_true rfl) rfl ?_
                      refine x_iinc 225 [(6, .int (v14.2 + 1)), (5, .int 1), (0, va_rf (some (xw_hm (xe_G E)))), (4, .int v7)] hE dX2_findApart_222 rfl 3 rfl xc_i_1 (Nat.le_of_ble_eq_true rfl) rfl ?_
                      refine x_goto 176 hE dX2_findApart_225 (by decide) ?_
                      refine x_sub [(0, va_rf (some (xw_hm (xe_G E)))), (4, .int v7), (5, .int 1), (6, .int (v14.2 + 1))] [2, 3, 1, 0] rfl ?_
                      exact hc7 (1, v14.2 + 1)
            · refine x_icmp_eq 170 166 hE dX2_findApart_163 (by decide) rfl ?_ ?_
              · refine x_iconst 171 hE dX2_findApart_170 rfl xc_i_0 ?_
                refine x_sub [(0, va_rf (some (xw_hm (xe_G E)))), (4, .int v7)] [0, 1] rfl ?_
                exact hJ6 0
              · refine x_iconst 167 hE dX2_findApart_166 rfl xc_i_1 ?_
                refine x_goto 171 hE dX2_findApart_167 (by decide) ?_
                refine x_sub [(0, va_rf (some (xw_hm (xe_G E)))), (4, .int v7)] [0, 1] rfl ?_
                exact hJ6 1
          · refine x_if_eq 162 155 hE dX2_findApart_152 (by decide) rfl ?_ ?_
            · refine x_iconst 163 hE dX2_findApart_162 rfl xc_i_m1 ?_
              refine x_sub [(0, va_rf (some (xw_hm (xe_G E)))), (4, .int v7)] [0, 1] rfl ?_
              exact hJ5 (-1)
            · refine x_aload_n 156 hE dX2_findApart_155 rfl 0 rfl ?_
              refine y_g 159 hE hac (by decide) ymf_53 rfl xkf_CrossingWordsModel_384 dX2_findApart_156 rfl (fun v21 => ?_)
              refine x_goto 163 hE dX2_findApart_159 (by decide) ?_
              refine x_sub [(0, va_rf (some (xw_hm (xe_G E)))), (4, .int v7)] [0, 1] rfl ?_
              exact hJ5 v21
    · refine x_loop (fun (v5 : Int32) => [(0, va_rf (some (xw_hm (xe_G E)))), (1, .int v1), (3, .int v3), (4, .int v5)]) (fun JL1 hc1 hx1 v5 => ?_) _ _
      refine x_iload 27 hE dX2_findApart_25 rfl 3 rfl ?_
      refine x_aload_n 28 hE dX2_findApart_27 rfl 0 rfl ?_
      refine y_g 31 hE hac (by decide) ymf_29 rfl xkf_CrossingWordsModel_357 dX2_findApart_28 rfl (fun v22 => ?_)
      refine x_icmp_ge 112 34 hE dX2_findApart_31 (by decide) rfl ?_ ?_
      · refine x_sub [(0, va_rf (some (xw_hm (xe_G E)))), (1, .int v1), (3, .int v3)] [0, 1, 2] rfl ?_
        refine hx1 _ _ _ _ ?_
        exact hJ2 ()
      · refine x_aload_n 35 hE dX2_findApart_34 rfl 0 rfl ?_
        refine x_iload 37 hE dX2_findApart_35 rfl 3 rfl ?_
        refine x_callv 40 (xw_goM hE hac (xw_rV hE (ct_X2_looks hac v5) xd_X2_looks rfl q1759 q1761 qs68 q97 q1762 rfl ⟨Nat.le_of_ble_eq_true rfl, Nat.le_of_ble_eq_true rfl⟩ rfl rfl (by decide) dX2_findApart_37)) rfl ?_
        refine x_aload_n 41 hE dX2_findApart_40 rfl 0 rfl ?_
        refine y_ga 44 hE hac (by decide) ymf_58 rfl xkf_CrossingWordsModel_142 dX2_findApart_41 rfl ?_
        refine x_iload 46 hE dX2_findApart_44 rfl 3 rfl ?_
        refine x_aload_n 47 hE dX2_findApart_46 rfl 0 rfl ?_
        refine y_g 50 hE hac (by decide) ymf_50 rfl xkf_CrossingWordsModel_381 dX2_findApart_47 rfl (fun v23 => ?_)
        refine x_sq 61 (fun (v24 : Int32) => [(0, va_rf (some (xw_hm (xe_G E)))), (1, .int v1), (3, .int v3), (4, .int v5)]) (fun (v24 : Int32) => [.int v24, .int v5, va_rf (some (xw_am (xe_G E) 58))]) (fun v24 => ?_) (fun J9 hJ9 => ?_)
        · refine y_st 62 hE hac ⟨rfl, rfl⟩ dX2_findApart_61 rfl ?_
          refine x_iconst 63 hE dX2_findApart_62 rfl xc_i_0 ?_
          refine x_istore 65 [(5, .int 0), (0, va_rf (some (xw_hm (xe_G E)))), (1, .int v1), (3, .int v3), (4, .int v5)] hE dX2_findApart_63 rfl (Nat.le_of_ble_eq_true rfl) rfl ?_
          refine x_sub [(0, va_rf (some (xw_hm (xe_G E)))), (1, .int v1), (3, .int v3), (4, .int v5), (5, .int 0)] [1, 2, 3, 4, 0] rfl ?_
          refine x_sq 106 (fun (v26 : Unit) => [(0, va_rf (some (xw_hm (xe_G E)))), (1, .int v1), (3, .int v3), (4, .int v5)]) (fun _ => []) (fun v26 => ?_) (fun J11 hJ11 => ?_)
          · refine x_iinc 109 [(4, .int (v5 + 1)), (0, va_rf (some (xw_hm (xe_G E)))), (1, .int v1), (3, .int v3)] hE dX2_findApart_106 rfl 3 rfl xc_i_1 (Nat.le_of_ble_eq_true rfl) rfl ?_
            refine x_goto 25 hE dX2_findApart_109 (by decide) ?_
            refine x_sub [(0, va_rf (some (xw_hm (xe_G E)))), (1, .int v1), (3, .int v3), (4, .int (v5 + 1))] [1, 2, 3, 0] rfl ?_
            exact hc1 (v5 + 1)
          · refine x_loop (fun (v25 : Int32) => [(0, va_rf (some (xw_hm (xe_G E)))), (1, .int v1), (3, .int v3), (4, .int v5), (5, .int v25)]) (fun JL10 hc10 hx10 v25 => ?_) _ _
            refine x_iload 67 hE dX2_findApart_65 rfl 4 rfl ?_
            refine x_iconst 68 hE dX2_findApart_67 rfl xc_i_5 ?_
            refine x_icmp_ge 106 71 hE dX2_findApart_68 (by decide) rfl ?_ ?_
            · refine x_sub [(0, va_rf (some (xw_hm (xe_G E)))), (1, .int v1), (3, .int v3), (4, .int v5)] [0, 1, 2, 3] rfl ?_
              refine hx10 _ _ _ _ ?_
              exact hJ11 ()
            · refine x_aload_n 72 hE dX2_findApart_71 rfl 0 rfl ?_
              refine y_ga 75 hE hac (by decide) ymf_59 rfl xkf_CrossingWordsModel_145 dX2_findApart_72 rfl ?_
              refine x_iconst 76 hE dX2_findApart_75 rfl xc_i_5 ?_
              refine x_iload 78 hE dX2_findApart_76 rfl 3 rfl ?_
              refine x_imul 79 hE dX2_findApart_78 rfl ?_
              refine x_iload 81 hE dX2_findApart_79 rfl 4 rfl ?_
              refine x_iadd 82 hE dX2_findApart_81 rfl ?_
              refine x_aload_n 83 hE dX2_findApart_82 rfl 0 rfl ?_
              refine y_g 86 hE hac (by decide) ymf_50 rfl xkf_CrossingWordsModel_381 dX2_findApart_83 rfl (fun v27 => ?_)
              refine x_sq 99 (fun (v28 : Int32) => [(0, va_rf (some (xw_hm (xe_G E)))), (1, .int v1), (3, .int v3), (4, .int v5), (5, .int v25)]) (fun (v28 : Int32) => [.int v28, .int ((5 * v5) + v25), va_rf (some (xw_am (xe_G E) 59))]) (fun v28 => ?_) (fun J12 hJ12 => ?_)
              · refine y_st 100 hE hac ⟨rfl, rfl⟩ dX2_findApart_99 rfl ?_
                refine x_iinc 103 [(5, .int (v25 + 1)), (0, va_rf (some (xw_hm (xe_G E)))), (1, .int v1), (3, .int v3), (4, .int v5)] hE dX2_findApart_100 rfl 4 rfl xc_i_1 (Nat.le_of_ble_eq_true rfl) rfl ?_
                refine x_goto 65 hE dX2_findApart_103 (by decide) ?_
                refine x_sub [(0, va_rf (some (xw_hm (xe_G E)))), (1, .int v1), (3, .int v3), (4, .int v5), (5, .int (v25 + 1))] [1, 2, 3, 4, 0] rfl ?_
                exact hc10 (v25 + 1)
              · refine x_if_eq 98 89 hE dX2_findApart_86 (by decide) rfl ?_ ?_
                · refine x_iconst 99 hE dX2_findApart_98 rfl xc_i_m1 ?_
                  refine x_sub [(0, va_rf (some (xw_hm (xe_G E)))), (1, .int v1), (3, .int v3), (4, .int v5), (5, .int v25)] [0, 1, 2, 3, 4] rfl ?_
                  exact hJ12 (-1)
                · refine x_aload_n 90 hE dX2_findApart_89 rfl 0 rfl ?_
                  refine x_iload 92 hE dX2_findApart_90 rfl 4 rfl ?_
                  refine x_calli 95 (xw_goM hE hac (xw_rV hE (ct_X2_bargainWord hac v25) xd_X2_bargainWord rfl q1819 q1821 qs83 q97 q1822 rfl ⟨Nat.le_of_ble_eq_true rfl, Nat.le_of_ble_eq_true rfl⟩ rfl rfl (Nat.le_trans (xw_sm1 rfl (xw_sm1 rfl xw_sm0)) (by decide)) dX2_findApart_92)) rfl (fun v29 => ?_)
                  refine x_goto 99 hE dX2_findApart_95 (by decide) ?_
                  refine x_sub [(0, va_rf (some (xw_hm (xe_G E)))), (1, .int v1), (3, .int v3), (4, .int v5), (5, .int v25)] [0, 1, 2, 3, 4] rfl ?_
                  exact hJ12 v29
        · refine x_if_eq 60 53 hE dX2_findApart_50 (by decide) rfl ?_ ?_
          · refine x_iconst 61 hE dX2_findApart_60 rfl xc_i_m1 ?_
            refine x_sub [(0, va_rf (some (xw_hm (xe_G E)))), (1, .int v1), (3, .int v3), (4, .int v5)] [0, 1, 2, 3] rfl ?_
            exact hJ9 (-1)
          · refine x_aload_n 54 hE dX2_findApart_53 rfl 0 rfl ?_
            refine y_g 57 hE hac (by decide) ymf_53 rfl xkf_CrossingWordsModel_384 dX2_findApart_54 rfl (fun v30 => ?_)
            refine x_goto 61 hE dX2_findApart_57 (by decide) ?_
            refine x_sub [(0, va_rf (some (xw_hm (xe_G E)))), (1, .int v1), (3, .int v3), (4, .int v5)] [0, 1, 2, 3] rfl ?_
            exact hJ9 v30

set_option maxHeartbeats 4000000 in
theorem ct_X2_apart {l : Launch} {G : xw_G} {σ0 : xw_St} (hac : xw_ac G = true) (v1 : Int32) (v2 : Int32) (v3 : Int32) (v4 : Int32) : xw_Ct l G (xw_hr G σ0) xw_oi yX2_apart cX2_apart 5 (some (.int)) 10 [va_rf (some (xw_hm G)), .int v1, .int v2, .int v3, .int v4] (pg_X2_apart v1 v2 v3 v4) := by
  refine xw_metL [(0, va_rf (some (xw_hm G))), (1, .int v1), (2, .int v2), (3, .int v3), (4, .int v4)] (by decide) (Nat.le_trans (Nat.le_of_eq ((xw_l1 rfl).trans (congrArg (1 + ·) ((xw_l1 rfl).trans (congrArg (1 + ·) ((xw_l1 rfl).trans (congrArg (1 + ·) ((xw_l1 rfl).trans (congrArg (1 + ·) ((xw_l1 rfl).trans (congrArg (1 + ·) xw_l0))))))))))) (by decide)) ((xw_a1 rfl).trans (congrArg (List.cons _) ((xw_a1 rfl).trans (congrArg (List.cons _) ((xw_a1 rfl).trans (congrArg (List.cons _) ((xw_a1 rfl).trans (congrArg (List.cons _) ((xw_a1 rfl).trans (congrArg (List.cons _) xw_a0)))))))))) (fun E hE hl hG hm => ?_)
  subst hl; subst hG
  have hE : xw_ok E "CrossingWordsModel" cX2_apart 5 (some (.int)) 10 := hE
  unfold pg_X2_apart
  refine x_aload_n 1 hE dX2_apart_0 rfl 0 rfl ?_
  refine x_iload_n 2 hE dX2_apart_1 rfl 3 rfl ?_
  refine x_calli 5 (xw_goM hE hac (xw_rV hE (ct_X2_isLaw hac v3) xd_X2_isLaw rfl q1699 q1701 qs57 q97 q1702 rfl ⟨Nat.le_of_ble_eq_true rfl, Nat.le_of_ble_eq_true rfl⟩ rfl rfl (by decide) dX2_apart_2)) rfl (fun v5 => ?_)
  refine x_if_eq 28 8 hE dX2_apart_5 (by decide) rfl ?_ ?_
  · refine x_bipush 30 hE dX2_apart_28 rfl xc_b_m2 ?_
    exact x_iret hE dX2_apart_30
  · refine x_iload 10 hE dX2_apart_8 rfl 4 rfl ?_
    refine x_iconst 11 hE dX2_apart_10 rfl xc_i_0 ?_
    refine x_iconst 12 hE dX2_apart_11 rfl xc_i_1 ?_
    refine x_calli 15 (xw_goS hE (ct_X2_within v4 0 1) xd_X2_within q1551 q1552 q97 q1553 rfl ⟨Nat.le_of_ble_eq_true rfl, Nat.le_of_ble_eq_true rfl⟩ rfl (by decide) dX2_apart_12) rfl (fun v6 => ?_)
    refine x_if_eq 28 18 hE dX2_apart_15 (by decide) rfl ?_ ?_
    · refine x_bipush 30 hE dX2_apart_28 rfl xc_b_m2 ?_
      exact x_iret hE dX2_apart_30
    · refine x_aload_n 19 hE dX2_apart_18 rfl 0 rfl ?_
      refine x_iload_n 20 hE dX2_apart_19 rfl 1 rfl ?_
      refine x_iload_n 21 hE dX2_apart_20 rfl 2 rfl ?_
      refine x_iload_n 22 hE dX2_apart_21 rfl 3 rfl ?_
      refine x_calli 25 (xw_goM hE hac (xw_rV hE (ct_X2_findApart hac v1 v2 v3) xd_X2_findApart rfl q1866 q1868 qs87 q97 q1869 rfl ⟨Nat.le_of_ble_eq_true rfl, Nat.le_of_ble_eq_true rfl⟩ rfl rfl (by decide) dX2_apart_22)) rfl (fun v7 => ?_)
      refine x_if_ne 31 28 hE dX2_apart_25 (by decide) rfl ?_ ?_
      · refine x_bipush 30 hE dX2_apart_28 rfl xc_b_m2 ?_
        exact x_iret hE dX2_apart_30
      · refine x_iload 33 hE dX2_apart_31 rfl 4 rfl ?_
        refine x_if_ne 43 36 hE dX2_apart_33 (by decide) rfl ?_ ?_
        · refine x_aload_n 37 hE dX2_apart_36 rfl 0 rfl ?_
          refine y_g 40 hE hac (by decide) ymf_60 rfl xkf_CrossingWordsModel_461 dX2_apart_37 rfl (fun v9 => ?_)
          refine x_goto 47 hE dX2_apart_40 (by decide) ?_
          exact x_iret hE dX2_apart_47
        · refine x_aload_n 44 hE dX2_apart_43 rfl 0 rfl ?_
          refine y_g 47 hE hac (by decide) ymf_61 rfl xkf_CrossingWordsModel_464 dX2_apart_44 rfl (fun v8 => ?_)
          exact x_iret hE dX2_apart_47

set_option maxHeartbeats 4000000 in
theorem ct_X2_part {l : Launch} {G : xw_G} {σ0 : xw_St} (hac : xw_ac G = true) (v1 : Int32) (v2 : Int32) : xw_Ct l G (xw_hr G σ0) xw_oi yX2_part cX2_part 5 (some (.int)) 10 [va_rf (some (xw_hm G)), .int v1, .int v2] (pg_X2_part v1 v2) := by
  refine xw_metL [(0, va_rf (some (xw_hm G))), (1, .int v1), (2, .int v2)] (by decide) (Nat.le_trans (Nat.le_of_eq ((xw_l1 rfl).trans (congrArg (1 + ·) ((xw_l1 rfl).trans (congrArg (1 + ·) ((xw_l1 rfl).trans (congrArg (1 + ·) xw_l0))))))) (by decide)) ((xw_a1 rfl).trans (congrArg (List.cons _) ((xw_a1 rfl).trans (congrArg (List.cons _) ((xw_a1 rfl).trans (congrArg (List.cons _) xw_a0)))))) (fun E hE hl hG hm => ?_)
  subst hl; subst hG
  have hE : xw_ok E "CrossingWordsModel" cX2_part 5 (some (.int)) 10 := hE
  unfold pg_X2_part
  refine x_aload_n 1 hE dX2_part_0 rfl 0 rfl ?_
  refine x_iload_n 2 hE dX2_part_1 rfl 1 rfl ?_
  refine x_calli 5 (xw_goM hE hac (xw_rV hE (ct_X2_isLaw hac v1) xd_X2_isLaw rfl q1699 q1701 qs57 q97 q1702 rfl ⟨Nat.le_of_ble_eq_true rfl, Nat.le_of_ble_eq_true rfl⟩ rfl rfl (by decide) dX2_part_2)) rfl (fun v3 => ?_)
  refine x_if_eq 16 8 hE dX2_part_5 (by decide) rfl ?_ ?_
  · refine x_bipush 18 hE dX2_part_16 rfl xc_b_m2 ?_
    exact x_iret hE dX2_part_18
  · refine x_aload_n 9 hE dX2_part_8 rfl 0 rfl ?_
    refine x_iload_n 10 hE dX2_part_9 rfl 2 rfl ?_
    refine x_calli 13 (xw_goM hE hac (xw_rV hE (ct_X2_isLaw hac v2) xd_X2_isLaw rfl q1699 q1701 qs57 q97 q1702 rfl ⟨Nat.le_of_ble_eq_true rfl, Nat.le_of_ble_eq_true rfl⟩ rfl rfl (by decide) dX2_part_10)) rfl (fun v4 => ?_)
    refine x_if_ne 19 16 hE dX2_part_13 (by decide) rfl ?_ ?_
    · refine x_bipush 18 hE dX2_part_16 rfl xc_b_m2 ?_
      exact x_iret hE dX2_part_18
    · refine x_iconst 20 hE dX2_part_19 rfl xc_i_m1 ?_
      refine x_istore_n 21 [(3, .int (-1)), (0, va_rf (some (xw_hm (xe_G E)))), (1, .int v1), (2, .int v2)] hE dX2_part_20 rfl rfl (Nat.le_of_ble_eq_true rfl) rfl ?_
      refine x_iconst 22 hE dX2_part_21 rfl xc_i_0 ?_
      refine x_istore 24 [(4, .int 0), (3, .int (-1)), (0, va_rf (some (xw_hm (xe_G E)))), (1, .int v1), (2, .int v2)] hE dX2_part_22 rfl (Nat.le_of_ble_eq_true rfl) rfl ?_
      refine x_sub [(0, va_rf (some (xw_hm (xe_G E)))), (1, .int v1), (2, .int v2), (3, .int (-1)), (4, .int 0)] [2, 3, 4, 1, 0] rfl ?_
      refine x_sq 82 (fun (v6 : Int32) => [(3, .int v6)]) (fun _ => []) (fun v6 => ?_) (fun J2 hJ2 => ?_)
      · refine x_iload_n 83 hE dX2_part_82 rfl 0 rfl ?_
        exact x_iret hE dX2_part_83
      · refine x_loop (fun (v5 : Int32 × Int32) => [(0, va_rf (some (xw_hm (xe_G E)))), (1, .int v1), (2, .int v2), (3, .int v5.1), (4, .int v5.2)]) (fun JL1 hc1 hx1 v5 => ?_) _ _
        refine x_iload 26 hE dX2_part_24 rfl 4 rfl ?_
        refine x_aload_n 27 hE dX2_part_26 rfl 0 rfl ?_
        refine y_ga 30 hE hac (by decide) ymf_0 rfl xkf_CrossingWordsModel_7 dX2_part_27 rfl ?_
        refine x_iconst 31 hE dX2_part_30 rfl xc_i_0 ?_
        refine y_ld 32 hE hac ⟨rfl, rfl⟩ dX2_part_31 rfl (fun v7 => ?_)
        refine x_icmp_ge 82 35 hE dX2_part_32 (by decide) rfl ?_ ?_
        · refine x_sub [(3, .int v5.1)] [3] rfl ?_
          refine hx1 _ _ _ _ ?_
          exact hJ2 (v5.1)
        · refine x_iload_n 36 hE dX2_part_35 rfl 3 rfl ?_
          refine x_if_lt 55 39 hE dX2_part_36 (by decide) rfl ?_ ?_
          · refine x_aload_n 56 hE dX2_part_55 rfl 0 rfl ?_
            refine x_iload 58 hE dX2_part_56 rfl 4 rfl ?_
            refine x_iload_n 59 hE dX2_part_58 rfl 1 rfl ?_
            refine x_iload_n 60 hE dX2_part_59 rfl 2 rfl ?_
            refine x_calli 63 (xw_goM hE hac (xw_rV hE (ct_X2_findApart hac v5.2 v1 v2) xd_X2_findApart rfl q1866 q1868 qs87 q97 q1869 rfl ⟨Nat.le_of_ble_eq_true rfl, Nat.le_of_ble_eq_true rfl⟩ rfl rfl (by decide) dX2_part_60)) rfl (fun v8 => ?_)
            refine x_if_eq 76 66 hE dX2_part_63 (by decide) rfl ?_ ?_
            · refine x_iinc 79 [(4, .int (v5.2 + 1)), (0, va_rf (some (xw_hm (xe_G E)))), (1, .int v1), (2, .int v2), (3, .int v5.1)] hE dX2_part_76 rfl 4 rfl xc_i_1 (Nat.le_of_ble_eq_true rfl) rfl ?_
              refine x_goto 24 hE dX2_part_79 (by decide) ?_
              refine x_sub [(0, va_rf (some (xw_hm (xe_G E)))), (1, .int v1), (2, .int v2), (3, .int v5.1), (4, .int (v5.2 + 1))] [1, 2, 3, 4, 0] rfl ?_
              exact hc1 (v5.1, v5.2 + 1)
            · refine x_aload_n 67 hE dX2_part_66 rfl 0 rfl ?_
              refine y_g 70 hE hac (by decide) ymf_60 rfl xkf_CrossingWordsModel_461 dX2_part_67 rfl (fun v9 => ?_)
              refine x_if_le 76 73 hE dX2_part_70 (by decide) rfl ?_ ?_
              · refine x_iinc 79 [(4, .int (v5.2 + 1)), (0, va_rf (some (xw_hm (xe_G E)))), (1, .int v1), (2, .int v2), (3, .int v5.1)] hE dX2_part_76 rfl 4 rfl xc_i_1 (Nat.le_of_ble_eq_true rfl) rfl ?_
                refine x_goto 24 hE dX2_part_79 (by decide) ?_
                refine x_sub [(0, va_rf (some (xw_hm (xe_G E)))), (1, .int v1), (2, .int v2), (3, .int v5.1), (4, .int (v5.2 + 1))] [1, 2, 3, 4, 0] rfl ?_
                exact hc1 (v5.1, v5.2 + 1)
              · refine x_iload 75 hE dX2_part_73 rfl 4 rfl ?_
                refine x_istore_n 76 [(3, .int v5.2), (0, va_rf (some (xw_hm (xe_G E)))), (1, .int v1), (2, .int v2), (4, .int v5.2)] hE dX2_part_75 rfl rfl (Nat.le_of_ble_eq_true rfl) rfl ?_
                refine x_iinc 79 [(4, .int (v5.2 + 1)), (3, .int v5.2), (0, va_rf (some (xw_hm (xe_G E)))), (1, .int v1), (2, .int v2)] hE dX2_part_76 rfl 4 rfl xc_i_1 (Nat.le_of_ble_eq_true rfl) rfl ?_
                refine x_goto 24 hE dX2_part_79 (by decide) ?_
                refine x_sub [(0, va_rf (some (xw_hm (xe_G E)))), (1, .int v1), (2, .int v2), (3, .int v5.2), (4, .int (v5.2 + 1))] [2, 3, 4, 1, 0] rfl ?_
                exact hc1 (v5.2, v5.2 + 1)
          · refine x_aload_n 40 hE dX2_part_39 rfl 0 rfl ?_
            refine y_ga 43 hE hac (by decide) ymf_3 rfl xkf_CrossingWordsModel_19 dX2_part_40 rfl ?_
            refine x_iload 45 hE dX2_part_43 rfl 4 rfl ?_
            refine y_ld 46 hE hac ⟨rfl, rfl⟩ dX2_part_45 rfl (fun v10 => ?_)
            refine x_aload_n 47 hE dX2_part_46 rfl 0 rfl ?_
            refine y_ga 50 hE hac (by decide) ymf_3 rfl xkf_CrossingWordsModel_19 dX2_part_47 rfl ?_
            refine x_iload_n 51 hE dX2_part_50 rfl 3 rfl ?_
            refine y_ld 52 hE hac ⟨rfl, rfl⟩ dX2_part_51 rfl (fun v11 => ?_)
            refine x_icmp_ge 76 55 hE dX2_part_52 (by decide) rfl ?_ ?_
            · refine x_iinc 79 [(4, .int (v5.2 + 1)), (0, va_rf (some (xw_hm (xe_G E)))), (1, .int v1), (2, .int v2), (3, .int v5.1)] hE dX2_part_76 rfl 4 rfl xc_i_1 (Nat.le_of_ble_eq_true rfl) rfl ?_
              refine x_goto 24 hE dX2_part_79 (by decide) ?_
              refine x_sub [(0, va_rf (some (xw_hm (xe_G E)))), (1, .int v1), (2, .int v2), (3, .int v5.1), (4, .int (v5.2 + 1))] [1, 2, 3, 4, 0] rfl ?_
              exact hc1 (v5.1, v5.2 + 1)
            · refine x_aload_n 56 hE dX2_part_55 rfl 0 rfl ?_
              refine x_iload 58 hE dX2_part_56 rfl 4 rfl ?_
              refine x_iload_n 59 hE dX2_part_58 rfl 1 rfl ?_
              refine x_iload_n 60 hE dX2_part_59 rfl 2 rfl ?_
              refine x_calli 63 (xw_goM hE hac (xw_rV hE (ct_X2_findApart hac v5.2 v1 v2) xd_X2_findApart rfl q1866 q1868 qs87 q97 q1869 rfl ⟨Nat.le_of_ble_eq_true rfl, Nat.le_of_ble_eq_true rfl⟩ rfl rfl (by decide) dX2_part_60)) rfl (fun v12 => ?_)
              refine x_if_eq 76 66 hE dX2_part_63 (by decide) rfl ?_ ?_
              · refine x_iinc 79 [(4, .int (v5.2 + 1)), (0, va_rf (some (xw_hm (xe_G E)))), (1, .int v1), (2, .int v2), (3, .int v5.1)] hE dX2_part_76 rfl 4 rfl xc_i_1 (Nat.le_of_ble_eq_true rfl) rfl ?_
                refine x_goto 24 hE dX2_part_79 (by decide) ?_
                refine x_sub [(0, va_rf (some (xw_hm (xe_G E)))), (1, .int v1), (2, .int v2), (3, .int v5.1), (4, .int (v5.2 + 1))] [1, 2, 3, 4, 0] rfl ?_
                exact hc1 (v5.1, v5.2 + 1)
              · refine x_aload_n 67 hE dX2_part_66 rfl 0 rfl ?_
                refine y_g 70 hE hac (by decide) ymf_60 rfl xkf_CrossingWordsModel_461 dX2_part_67 rfl (fun v13 => ?_)
                refine x_if_le 76 73 hE dX2_part_70 (by decide) rfl ?_ ?_
                · refine x_iinc 79 [(4, .int (v5.2 + 1)), (0, va_rf (some (xw_hm (xe_G E)))), (1, .int v1), (2, .int v2), (3, .int v5.1)] hE dX2_part_76 rfl 4 rfl xc_i_1 (Nat.le_of_ble_eq_true rfl) rfl ?_
                  refine x_goto 24 hE dX2_part_79 (by decide) ?_
                  refine x_sub [(0, va_rf (some (xw_hm (xe_G E)))), (1, .int v1), (2, .int v2), (3, .int v5.1), (4, .int (v5.2 + 1))] [1, 2, 3, 4, 0] rfl ?_
                  exact hc1 (v5.1, v5.2 + 1)
                · refine x_iload 75 hE dX2_part_73 rfl 4 rfl ?_
                  refine x_istore_n 76 [(3, .int v5.2), (0, va_rf (some (xw_hm (xe_G E)))), (1, .int v1), (2, .int v2), (4, .int v5.2)] hE dX2_part_75 rfl rfl (Nat.le_of_ble_eq_true rfl) rfl ?_
                  refine x_iinc 79 [(4, .int (v5.2 + 1)), (3, .int v5.2), (0, va_rf (some (xw_hm (xe_G E)))), (1, .int v1), (2, .int v2)] hE dX2_part_76 rfl 4 rfl xc_i_1 (Nat.le_of_ble_eq_true rfl) rfl ?_
                  refine x_goto 24 hE dX2_part_79 (by decide) ?_
                  refine x_sub [(0, va_rf (some (xw_hm (xe_G E)))), (1, .int v1), (2, .int v2), (3, .int v5.2), (4, .int (v5.2 + 1))] [2, 3, 4, 1, 0] rfl ?_
                  exact hc1 (v5.2, v5.2 + 1)

set_option maxHeartbeats 4000000 in
theorem ct_X2_isWritten {l : Launch} {G : xw_G} {σ0 : xw_St} (hac : xw_ac G = true) (v1 : Int32) (v2 : Int32) : xw_Ct l G (xw_hr G σ0) xw_oi yX2_isWritten cX2_isWritten 4 (some (.boolean)) 8 [va_rf (some (xw_hm G)), .int v1, .int v2] (pg_X2_isWritten v1 v2) := by
  refine xw_metL [(0, va_rf (some (xw_hm G))), (1, .int v1), (2, .int v2)] (by decide) (Nat.le_trans (Nat.le_of_eq ((xw_l1 rfl).trans (congrArg (1 + ·) ((xw_l1 rfl).trans (congrArg (1 + ·) ((xw_l1 rfl).trans (congrArg (1 + ·) xw_l0))))))) (by decide)) ((xw_a1 rfl).trans (congrArg (List.cons _) ((xw_a1 rfl).trans (congrArg (List.cons _) ((xw_a1 rfl).trans (congrArg (List.cons _) xw_a0)))))) (fun E hE hl hG hm => ?_)
  subst hl; subst hG
  have hE : xw_ok E "CrossingWordsModel" cX2_isWritten 4 (some (.boolean)) 8 := hE
  unfold pg_X2_isWritten
  refine x_iconst 1 hE dX2_isWritten_0 rfl xc_i_0 ?_
  refine x_istore_n 2 [(3, .int 0), (0, va_rf (some (xw_hm (xe_G E)))), (1, .int v1), (2, .int v2)] hE dX2_isWritten_1 rfl rfl (Nat.le_of_ble_eq_true rfl) rfl ?_
  refine x_sub [(0, va_rf (some (xw_hm (xe_G E)))), (1, .int v1), (2, .int v2), (3, .int 0)] [1, 2, 3, 0] rfl ?_
  refine x_loop (fun (v3 : Int32) => [(0, va_rf (some (xw_hm (xe_G E)))), (1, .int v1), (2, .int v2), (3, .int v3)]) (fun JL1 hc1 hx1 v3 => ?_) _ _
  refine x_iload_n 3 hE dX2_isWritten_2 rfl 3 rfl ?_
  refine x_aload_n 4 hE dX2_isWritten_3 rfl 0 rfl ?_
  refine y_ga 7 hE hac (by decide) ymf_1 rfl xkf_CrossingWordsModel_13 dX2_isWritten_4 rfl ?_
  refine x_iconst 8 hE dX2_isWritten_7 rfl xc_i_0 ?_
  refine y_ld 9 hE hac ⟨rfl, rfl⟩ dX2_isWritten_8 rfl (fun v4 => ?_)
  refine x_icmp_ge 38 12 hE dX2_isWritten_9 (by decide) rfl ?_ ?_
  · refine x_iconst 39 hE dX2_isWritten_38 rfl xc_i_1 ?_
    refine hx1 _ _ _ _ ?_
    exact x_zretw hE (by decide) dX2_isWritten_39
  · refine x_aload_n 13 hE dX2_isWritten_12 rfl 0 rfl ?_
    refine x_iload_n 14 hE dX2_isWritten_13 rfl 3 rfl ?_
    refine x_iload_n 15 hE dX2_isWritten_14 rfl 2 rfl ?_
    refine x_callv 18 (xw_goM hE hac (xw_rV hE (ct_X2_lays hac v3 v2) xd_X2_lays rfl q1703 q1705 qs58 q97 q1706 rfl ⟨Nat.le_of_ble_eq_true rfl, Nat.le_of_ble_eq_true rfl⟩ rfl rfl (by decide) dX2_isWritten_15)) rfl ?_
    refine x_aload_n 19 hE dX2_isWritten_18 rfl 0 rfl ?_
    refine x_iload_n 20 hE dX2_isWritten_19 rfl 1 rfl ?_
    refine x_callv 23 (xw_goM hE hac (xw_rV hE (ct_X2_takes hac v1) xd_X2_takes rfl q1751 q1753 qs66 q97 q1754 rfl ⟨Nat.le_of_ble_eq_true rfl, Nat.le_of_ble_eq_true rfl⟩ rfl rfl (by decide) dX2_isWritten_20)) rfl ?_
    refine x_aload_n 24 hE dX2_isWritten_23 rfl 0 rfl ?_
    refine x_calli 27 (xw_goM hE hac (xw_rV hE (ct_X2_isSureNow hac ) xd_X2_isSureNow rfl q1755 q1757 qs67 q97 q1758 rfl ⟨Nat.le_of_ble_eq_true rfl, Nat.le_of_ble_eq_true rfl⟩ rfl rfl (by decide) dX2_isWritten_24)) rfl (fun v5 => ?_)
    refine x_if_ne 32 30 hE dX2_isWritten_27 (by decide) rfl ?_ ?_
    · refine x_iconst 31 hE dX2_isWritten_30 rfl xc_i_0 ?_
      refine hx1 _ _ _ _ ?_
      exact x_zretw hE (by decide) dX2_isWritten_31
    · refine x_iinc 35 [(3, .int (v3 + 1)), (0, va_rf (some (xw_hm (xe_G E)))), (1, .int v1), (2, .int v2)] hE dX2_isWritten_32 rfl 3 rfl xc_i_1 (Nat.le_of_ble_eq_true rfl) rfl ?_
      refine x_goto 2 hE dX2_isWritten_35 (by decide) ?_
      refine x_sub [(0, va_rf (some (xw_hm (xe_G E)))), (1, .int v1), (2, .int v2), (3, .int (v3 + 1))] [1, 2, 3, 0] rfl ?_
      exact hc1 (v3 + 1)

set_option maxHeartbeats 4000000 in
theorem ct_X2_write {l : Launch} {G : xw_G} {σ0 : xw_St} (hac : xw_ac G = true) (v1 : Int32) : xw_Ct l G (xw_hr G σ0) xw_oi yX2_write cX2_write 4 (some (.int)) 9 [va_rf (some (xw_hm G)), .int v1] (pg_X2_write v1) := by
  refine xw_metL [(0, va_rf (some (xw_hm G))), (1, .int v1)] (by decide) (Nat.le_trans (Nat.le_of_eq ((xw_l1 rfl).trans (congrArg (1 + ·) ((xw_l1 rfl).trans (congrArg (1 + ·) xw_l0))))) (by decide)) ((xw_a1 rfl).trans (congrArg (List.cons _) ((xw_a1 rfl).trans (congrArg (List.cons _) xw_a0)))) (fun E hE hl hG hm => ?_)
  subst hl; subst hG
  have hE : xw_ok E "CrossingWordsModel" cX2_write 4 (some (.int)) 9 := hE
  unfold pg_X2_write
  refine x_aload_n 1 hE dX2_write_0 rfl 0 rfl ?_
  refine y_ga 4 hE hac (by decide) ymf_1 rfl xkf_CrossingWordsModel_13 dX2_write_1 rfl ?_
  refine x_iconst 5 hE dX2_write_4 rfl xc_i_0 ?_
  refine y_ld 6 hE hac ⟨rfl, rfl⟩ dX2_write_5 rfl (fun v2 => ?_)
  refine x_if_eq 19 9 hE dX2_write_6 (by decide) rfl ?_ ?_
  · refine x_bipush 21 hE dX2_write_19 rfl xc_b_m2 ?_
    exact x_iret hE dX2_write_21
  · refine x_aload_n 10 hE dX2_write_9 rfl 0 rfl ?_
    refine x_iload_n 11 hE dX2_write_10 rfl 1 rfl ?_
    refine x_iconst 12 hE dX2_write_11 rfl xc_i_0 ?_
    refine x_iconst 13 hE dX2_write_12 rfl xc_i_0 ?_
    refine x_calli 16 (xw_goM hE hac (xw_rV hE (ct_X2_looksAt hac v1 0 0) xd_X2_looksAt rfl q1747 q1749 qs65 q97 q1750 rfl ⟨Nat.le_of_ble_eq_true rfl, Nat.le_of_ble_eq_true rfl⟩ rfl rfl (by decide) dX2_write_13)) rfl (fun v3 => ?_)
    refine x_if_ne 22 19 hE dX2_write_16 (by decide) rfl ?_ ?_
    · refine x_bipush 21 hE dX2_write_19 rfl xc_b_m2 ?_
      exact x_iret hE dX2_write_21
    · refine x_iconst 23 hE dX2_write_22 rfl xc_i_m1 ?_
      refine x_istore_n 24 [(2, .int (-1)), (0, va_rf (some (xw_hm (xe_G E)))), (1, .int v1)] hE dX2_write_23 rfl rfl (Nat.le_of_ble_eq_true rfl) rfl ?_
      refine x_iconst 25 hE dX2_write_24 rfl xc_i_0 ?_
      refine x_istore_n 26 [(3, .int 0), (2, .int (-1)), (0, va_rf (some (xw_hm (xe_G E)))), (1, .int v1)] hE dX2_write_25 rfl rfl (Nat.le_of_ble_eq_true rfl) rfl ?_
      refine x_sub [(0, va_rf (some (xw_hm (xe_G E)))), (1, .int v1), (2, .int (-1)), (3, .int 0)] [2, 3, 1, 0] rfl ?_
      refine x_sq 70 (fun (v5 : Int32) => [(2, .int v5)]) (fun _ => []) (fun v5 => ?_) (fun J2 hJ2 => ?_)
      · refine x_iload_n 71 hE dX2_write_70 rfl 0 rfl ?_
        exact x_iret hE dX2_write_71
      · refine x_loop (fun (v4 : Int32 × Int32) => [(0, va_rf (some (xw_hm (xe_G E)))), (1, .int v1), (2, .int v4.1), (3, .int v4.2)]) (fun JL1 hc1 hx1 v4 => ?_) _ _
        refine x_iload_n 27 hE dX2_write_26 rfl 3 rfl ?_
        refine x_iconst 28 hE dX2_write_27 rfl xc_i_1 ?_
        refine x_aload_n 29 hE dX2_write_28 rfl 0 rfl ?_
        refine y_ga 32 hE hac (by decide) ymf_2 rfl xkf_CrossingWordsModel_16 dX2_write_29 rfl ?_
        refine x_iconst 33 hE dX2_write_32 rfl xc_i_0 ?_
        refine y_ld 34 hE hac ⟨rfl, rfl⟩ dX2_write_33 rfl (fun v6 => ?_)
        refine x_ishl 35 hE dX2_write_34 rfl ?_
        refine x_icmp_ge 70 38 hE dX2_write_35 (by decide) rfl ?_ ?_
        · refine x_sub [(2, .int v4.1)] [2] rfl ?_
          refine hx1 _ _ _ _ ?_
          exact hJ2 (v4.1)
        · refine x_iload_n 39 hE dX2_write_38 rfl 2 rfl ?_
          refine x_if_lt 53 42 hE dX2_write_39 (by decide) rfl ?_ ?_
          · refine x_aload_n 54 hE dX2_write_53 rfl 0 rfl ?_
            refine x_iload_n 55 hE dX2_write_54 rfl 1 rfl ?_
            refine x_iload_n 56 hE dX2_write_55 rfl 3 rfl ?_
            refine x_calli 59 (xw_goM hE hac (xw_rV hE (ct_X2_isWritten hac v1 v4.2) xd_X2_isWritten rfl q1878 q1880 qs88 q97 q1881 rfl ⟨Nat.le_of_ble_eq_true rfl, Nat.le_of_ble_eq_true rfl⟩ rfl rfl (by decide) dX2_write_56)) rfl (fun v7 => ?_)
            refine x_if_eq 64 62 hE dX2_write_59 (by decide) rfl ?_ ?_
            · refine x_iinc 67 [(3, .int (v4.2 + 1)), (0, va_rf (some (xw_hm (xe_G E)))), (1, .int v1), (2, .int v4.1)] hE dX2_write_64 rfl 3 rfl xc_i_1 (Nat.le_of_ble_eq_true rfl) rfl ?_
              refine x_goto 26 hE dX2_write_67 (by decide) ?_
              refine x_sub [(0, va_rf (some (xw_hm (xe_G E)))), (1, .int v1), (2, .int v4.1), (3, .int (v4.2 + 1))] [1, 2, 3, 0] rfl ?_
              exact hc1 (v4.1, v4.2 + 1)
            · refine x_iload_n 63 hE dX2_write_62 rfl 3 rfl ?_
              refine x_istore_n 64 [(2, .int v4.2), (0, va_rf (some (xw_hm (xe_G E)))), (1, .int v1), (3, .int v4.2)] hE dX2_write_63 rfl rfl (Nat.le_of_ble_eq_true rfl) rfl ?_
              refine x_iinc 67 [(3, .int (v4.2 + 1)), (2, .int v4.2), (0, va_rf (some (xw_hm (xe_G E)))), (1, .int v1)] hE dX2_write_64 rfl 3 rfl xc_i_1 (Nat.le_of_ble_eq_true rfl) rfl ?_
              refine x_goto 26 hE dX2_write_67 (by decide) ?_
              refine x_sub [(0, va_rf (some (xw_hm (xe_G E)))), (1, .int v1), (2, .int v4.2), (3, .int (v4.2 + 1))] [2, 3, 1, 0] rfl ?_
              exact hc1 (v4.2, v4.2 + 1)
          · refine x_iload_n 43 hE dX2_write_42 rfl 3 rfl ?_
            refine x_calli 46 (xw_goS hE (ct_X2_bitsOf v4.2) xd_X2_bitsOf q1843 q1844 q97 q1845 rfl ⟨Nat.le_of_ble_eq_true rfl, Nat.le_of_ble_eq_true rfl⟩ rfl (by decide) dX2_write_43) rfl (fun v8 => ?_)
            refine x_iload_n 47 hE dX2_write_46 rfl 2 rfl ?_
            refine x_calli 50 (xw_goS hE (ct_X2_bitsOf v4.1) xd_X2_bitsOf q1843 q1844 q97 q1845 rfl ⟨Nat.le_of_ble_eq_true rfl, Nat.le_of_ble_eq_true rfl⟩ rfl (Nat.le_trans (xw_sm1 rfl xw_sm0) (by decide)) dX2_write_47) rfl (fun v9 => ?_)
            refine x_icmp_ge 64 53 hE dX2_write_50 (by decide) rfl ?_ ?_
            · refine x_iinc 67 [(3, .int (v4.2 + 1)), (0, va_rf (some (xw_hm (xe_G E)))), (1, .int v1), (2, .int v4.1)] hE dX2_write_64 rfl 3 rfl xc_i_1 (Nat.le_of_ble_eq_true rfl) rfl ?_
              refine x_goto 26 hE dX2_write_67 (by decide) ?_
              refine x_sub [(0, va_rf (some (xw_hm (xe_G E)))), (1, .int v1), (2, .int v4.1), (3, .int (v4.2 + 1))] [1, 2, 3, 0] rfl ?_
              exact hc1 (v4.1, v4.2 + 1)
            · refine x_aload_n 54 hE dX2_write_53 rfl 0 rfl ?_
              refine x_iload_n 55 hE dX2_write_54 rfl 1 rfl ?_
              refine x_iload_n 56 hE dX2_write_55 rfl 3 rfl ?_
              refine x_calli 59 (xw_goM hE hac (xw_rV hE (ct_X2_isWritten hac v1 v4.2) xd_X2_isWritten rfl q1878 q1880 qs88 q97 q1881 rfl ⟨Nat.le_of_ble_eq_true rfl, Nat.le_of_ble_eq_true rfl⟩ rfl rfl (by decide) dX2_write_56)) rfl (fun v10 => ?_)
              refine x_if_eq 64 62 hE dX2_write_59 (by decide) rfl ?_ ?_
              · refine x_iinc 67 [(3, .int (v4.2 + 1)), (0, va_rf (some (xw_hm (xe_G E)))), (1, .int v1), (2, .int v4.1)] hE dX2_write_64 rfl 3 rfl xc_i_1 (Nat.le_of_ble_eq_true rfl) rfl ?_
                refine x_goto 26 hE dX2_write_67 (by decide) ?_
                refine x_sub [(0, va_rf (some (xw_hm (xe_G E)))), (1, .int v1), (2, .int v4.1), (3, .int (v4.2 + 1))] [1, 2, 3, 0] rfl ?_
                exact hc1 (v4.1, v4.2 + 1)
              · refine x_iload_n 63 hE dX2_write_62 rfl 3 rfl ?_
                refine x_istore_n 64 [(2, .int v4.2), (0, va_rf (some (xw_hm (xe_G E)))), (1, .int v1), (3, .int v4.2)] hE dX2_write_63 rfl rfl (Nat.le_of_ble_eq_true rfl) rfl ?_
                refine x_iinc 67 [(3, .int (v4.2 + 1)), (2, .int v4.2), (0, va_rf (some (xw_hm (xe_G E)))), (1, .int v1)] hE dX2_write_64 rfl 3 rfl xc_i_1 (Nat.le_of_ble_eq_true rfl) rfl ?_
                refine x_goto 26 hE dX2_write_67 (by decide) ?_
                refine x_sub [(0, va_rf (some (xw_hm (xe_G E)))), (1, .int v1), (2, .int v4.2), (3, .int (v4.2 + 1))] [2, 3, 1, 0] rfl ?_
                exact hc1 (v4.2, v4.2 + 1)

set_option maxHeartbeats 4000000 in
theorem ct_X2_does {l : Launch} {G : xw_G} {σ0 : xw_St} (hac : xw_ac G = true) (v1 : Int32) (v2 : Int32) (v3 : Int32) (v4 : Int32) : xw_Ct l G (xw_hr G σ0) xw_oi yX2_does cX2_does 9 (some (.int)) 9 [va_rf (some (xw_hm G)), .int v1, .int v2, .int v3, .int v4] (pg_X2_does v1 v2 v3 v4) := by
  refine xw_metL [(0, va_rf (some (xw_hm G))), (1, .int v1), (2, .int v2), (3, .int v3), (4, .int v4)] (by decide) (Nat.le_trans (Nat.le_of_eq ((xw_l1 rfl).trans (congrArg (1 + ·) ((xw_l1 rfl).trans (congrArg (1 + ·) ((xw_l1 rfl).trans (congrArg (1 + ·) ((xw_l1 rfl).trans (congrArg (1 + ·) ((xw_l1 rfl).trans (congrArg (1 + ·) xw_l0))))))))))) (by decide)) ((xw_a1 rfl).trans (congrArg (List.cons _) ((xw_a1 rfl).trans (congrArg (List.cons _) ((xw_a1 rfl).trans (congrArg (List.cons _) ((xw_a1 rfl).trans (congrArg (List.cons _) ((xw_a1 rfl).trans (congrArg (List.cons _) xw_a0)))))))))) (fun E hE hl hG hm => ?_)
  subst hl; subst hG
  have hE : xw_ok E "CrossingWordsModel" cX2_does 9 (some (.int)) 9 := hE
  unfold pg_X2_does
  refine x_aload_n 1 hE dX2_does_0 rfl 0 rfl ?_
  refine x_iload_n 2 hE dX2_does_1 rfl 1 rfl ?_
  refine x_iload_n 3 hE dX2_does_2 rfl 2 rfl ?_
  refine x_iload_n 4 hE dX2_does_3 rfl 3 rfl ?_
  refine x_calli 7 (xw_goM hE hac (xw_rV hE (ct_X2_looksAt hac v1 v2 v3) xd_X2_looksAt rfl q1747 q1749 qs65 q97 q1750 rfl ⟨Nat.le_of_ble_eq_true rfl, Nat.le_of_ble_eq_true rfl⟩ rfl rfl (by decide) dX2_does_4)) rfl (fun v5 => ?_)
  refine x_if_eq 24 10 hE dX2_does_7 (by decide) rfl ?_ ?_
  · refine x_bipush 26 hE dX2_does_24 rfl xc_b_m2 ?_
    exact x_iret hE dX2_does_26
  · refine x_iload 12 hE dX2_does_10 rfl 4 rfl ?_
    refine x_if_lt 24 15 hE dX2_does_12 (by decide) rfl ?_ ?_
    · refine x_bipush 26 hE dX2_does_24 rfl xc_b_m2 ?_
      exact x_iret hE dX2_does_26
    · refine x_iload 17 hE dX2_does_15 rfl 4 rfl ?_
      refine x_aload_n 18 hE dX2_does_17 rfl 0 rfl ?_
      refine y_g 21 hE hac (by decide) ymf_27 rfl xkf_CrossingWordsModel_351 dX2_does_18 rfl (fun v6 => ?_)
      refine x_icmp_lt 27 24 hE dX2_does_21 (by decide) rfl ?_ ?_
      · refine x_aload_n 28 hE dX2_does_27 rfl 0 rfl ?_
        refine x_iload 30 hE dX2_does_28 rfl 4 rfl ?_
        refine x_calli 33 (xw_goM hE hac (xw_rV hE (ct_X2_isOffering hac v4) xd_X2_isOffering rfl q1767 q1769 qs70 q97 q1770 rfl ⟨Nat.le_of_ble_eq_true rfl, Nat.le_of_ble_eq_true rfl⟩ rfl rfl (by decide) dX2_does_30)) rfl (fun v7 => ?_)
        refine x_sq 51 (fun (v8 : Int32) => [(0, va_rf (some (xw_hm (xe_G E)))), (4, .int v4)]) (fun (v8 : Int32) => [.int v8]) (fun v8 => ?_) (fun J1 hJ1 => ?_)
        · refine x_istore 53 [(5, .int v8), (0, va_rf (some (xw_hm (xe_G E)))), (4, .int v4)] hE dX2_does_51 rfl (Nat.le_of_ble_eq_true rfl) rfl ?_
          refine x_aload_n 54 hE dX2_does_53 rfl 1 rfl ?_
          refine y_ga 57 hE hac (by decide) ymf_34 rfl xkf_CrossingWordsModel_81 dX2_does_54 rfl ?_
          refine x_iload 59 hE dX2_does_57 rfl 2 rfl ?_
          refine y_ld 60 hE hac ⟨rfl, rfl⟩ dX2_does_59 rfl (fun v9 => ?_)
          refine x_istore 62 [(6, .int v9), (5, .int v8), (0, va_rf (some (xw_hm (xe_G E)))), (4, .int v4)] hE dX2_does_60 rfl (Nat.le_of_ble_eq_true rfl) rfl ?_
          refine x_iload 64 hE dX2_does_62 rfl 0 rfl ?_
          refine x_sq 182 (fun (v10 : Int32) => [(0, va_rf (some (xw_hm (xe_G E)))), (4, .int v4), (5, .int v10), (6, .int v9)]) (fun (v10 : Int32) => []) (fun v10 => ?_) (fun J2 hJ2 => ?_)
          · refine x_iload 184 hE dX2_does_182 rfl 2 rfl ?_
            refine x_aload_n 185 hE dX2_does_184 rfl 0 rfl ?_
            refine y_g 188 hE hac (by decide) ymf_50 rfl xkf_CrossingWordsModel_381 dX2_does_185 rfl (fun v11 => ?_)
            refine x_sq 205 (fun (v12 : Int32) => [(0, va_rf (some (xw_hm (xe_G E)))), (4, .int v4), (6, .int v9)]) (fun (v12 : Int32) => [.int v12, .int v10]) (fun v12 => ?_) (fun J3 hJ3 => ?_)
            · refine x_ior 206 hE dX2_does_205 rfl ?_
              refine x_lti (fun v13 => ?_)
              refine x_istore 208 [(5, .int v13), (0, va_rf (some (xw_hm (xe_G E)))), (4, .int v4), (6, .int v9)] hE dX2_does_206 rfl (Nat.le_of_ble_eq_true rfl) rfl ?_
              refine x_aload_n 209 hE dX2_does_208 rfl 1 rfl ?_
              refine y_ga 212 hE hac (by decide) ymf_30 rfl xkf_CrossingWordsModel_69 dX2_does_209 rfl ?_
              refine x_iload 214 hE dX2_does_212 rfl 2 rfl ?_
              refine y_ld 215 hE hac ⟨rfl, rfl⟩ dX2_does_214 rfl (fun v14 => ?_)
              refine x_iconst 216 hE dX2_does_215 rfl xc_i_5 ?_
              refine x_icmp_ne 269 219 hE dX2_does_216 (by decide) rfl ?_ ?_
              · refine x_aload_n 220 hE dX2_does_219 rfl 1 rfl ?_
                refine x_iload 222 hE dX2_does_220 rfl 3 rfl ?_
                refine x_calli 225 (xw_goM hE hac (xw_rV hE (ct_X2_isYes hac v9) xd_X2_isYes rfl q1795 q1797 qs77 q97 q1798 rfl ⟨Nat.le_of_ble_eq_true rfl, Nat.le_of_ble_eq_true rfl⟩ rfl rfl (by decide) dX2_does_222)) rfl (fun v15 => ?_)
                refine x_if_eq 269 228 hE dX2_does_225 (by decide) rfl ?_ ?_
                · refine x_iload 271 hE dX2_does_269 rfl 0 rfl ?_
                  exact x_iret hE dX2_does_271
                · refine x_aload_n 229 hE dX2_does_228 rfl 1 rfl ?_
                  refine x_iload 231 hE dX2_does_229 rfl 2 rfl ?_
                  refine x_aload_n 232 hE dX2_does_231 rfl 1 rfl ?_
                  refine y_ga 235 hE hac (by decide) ymf_26 rfl xkf_CrossingWordsModel_66 dX2_does_232 rfl ?_
                  refine x_iconst 236 hE dX2_does_235 rfl xc_i_4 ?_
                  refine y_ld 237 hE hac ⟨rfl, rfl⟩ dX2_does_236 rfl (fun v16 => ?_)
                  refine x_calli 240 (xw_goM hE hac (xw_rV hE (ct_X2_when hac v4 v16) xd_X2_when rfl q1739 q1741 qs64 q97 q1742 rfl ⟨Nat.le_of_ble_eq_true rfl, Nat.le_of_ble_eq_true rfl⟩ rfl rfl (by decide) dX2_does_237)) rfl (fun v17 => ?_)
                  refine x_istore 242 [(7, .int v17), (5, .int v13), (0, va_rf (some (xw_hm (xe_G E)))), (4, .int v4), (6, .int v9)] hE dX2_does_240 rfl (Nat.le_of_ble_eq_true rfl) rfl ?_
                  refine x_iload 244 hE dX2_does_242 rfl 1 rfl ?_
                  refine x_iload 246 hE dX2_does_244 rfl 0 rfl ?_
                  refine x_if_lt 265 249 hE dX2_does_246 (by decide) rfl ?_ ?_
                  · refine x_iconst 266 hE dX2_does_265 rfl xc_i_0 ?_
                    refine x_ior 267 hE dX2_does_266 rfl ?_
                    refine x_lti (fun v18 => ?_)
                    refine x_istore 269 [(5, .int v18), (7, .int v17), (0, va_rf (some (xw_hm (xe_G E)))), (4, .int v4), (6, .int v9)] hE dX2_does_267 rfl (Nat.le_of_ble_eq_true rfl) rfl ?_
                    refine x_iload 271 hE dX2_does_269 rfl 0 rfl ?_
                    exact x_iret hE dX2_does_271
                  · refine x_iload 251 hE dX2_does_249 rfl 0 rfl ?_
                    refine x_aload_n 252 hE dX2_does_251 rfl 2 rfl ?_
                    refine x_iload 254 hE dX2_does_252 rfl 4 rfl ?_
                    refine x_calli 257 (xw_goM hE hac (xw_rV hE (ct_X2_yesHour hac v9) xd_X2_yesHour rfl q1799 q1801 qs78 q97 q1802 rfl ⟨Nat.le_of_ble_eq_true rfl, Nat.le_of_ble_eq_true rfl⟩ rfl rfl (Nat.le_trans (xw_sm1 rfl (xw_sm1 rfl xw_sm0)) (by decide)) dX2_does_254)) rfl (fun v19 => ?_)
                    refine x_icmp_ge 265 260 hE dX2_does_257 (by decide) rfl ?_ ?_
                    · refine x_iconst 266 hE dX2_does_265 rfl xc_i_0 ?_
                      refine x_ior 267 hE dX2_does_266 rfl ?_
                      refine x_lti (fun v20 => ?_)
                      refine x_istore 269 [(5, .int v20), (7, .int v17), (0, va_rf (some (xw_hm (xe_G E)))), (4, .int v4), (6, .int v9)] hE dX2_does_267 rfl (Nat.le_of_ble_eq_true rfl) rfl ?_
                      refine x_iload 271 hE dX2_does_269 rfl 0 rfl ?_
                      exact x_iret hE dX2_does_271
                    · refine x_bipush 262 hE dX2_does_260 rfl xc_b_8 ?_
                      refine x_goto 266 hE dX2_does_262 (by decide) ?_
                      refine x_ior 267 hE dX2_does_266 rfl ?_
                      refine x_lti (fun v21 => ?_)
                      refine x_istore 269 [(5, .int v21), (7, .int v17), (0, va_rf (some (xw_hm (xe_G E)))), (4, .int v4), (6, .int v9)] hE dX2_does_267 rfl (Nat.le_of_ble_eq_true rfl) rfl ?_
                      refine x_iload 271 hE dX2_does_269 rfl 0 rfl ?_
                      exact x_iret hE dX2_does_271
              · refine x_iload 271 hE dX2_does_269 rfl 0 rfl ?_
                exact x_iret hE dX2_does_271
            · refine x_if_eq 204 191 hE dX2_does_188 (by decide) rfl ?_ ?_
              · refine x_iconst 205 hE dX2_does_204 rfl xc_i_0 ?_
                refine x_sub [(0, va_rf (some (xw_hm (xe_G E)))), (4, .int v4), (6, .int v9)] [0, 1, 3] rfl ?_
                exact hJ3 0
              · refine x_aload_n 192 hE dX2_does_191 rfl 0 rfl ?_
                refine y_g 195 hE hac (by decide) ymf_51 rfl xkf_CrossingWordsModel_387 dX2_does_192 rfl (fun v22 => ?_)
                refine x_iload 197 hE dX2_does_195 rfl 1 rfl ?_
                refine x_icmp_ne 204 200 hE dX2_does_197 (by decide) rfl ?_ ?_
                · refine x_iconst 201 hE dX2_does_200 rfl xc_i_4 ?_
                  refine x_goto 205 hE dX2_does_201 (by decide) ?_
                  refine x_sub [(0, va_rf (some (xw_hm (xe_G E)))), (4, .int v4), (6, .int v9)] [0, 1, 3] rfl ?_
                  exact hJ3 4
                · refine x_iconst 205 hE dX2_does_204 rfl xc_i_0 ?_
                  refine x_sub [(0, va_rf (some (xw_hm (xe_G E)))), (4, .int v4), (6, .int v9)] [0, 1, 3] rfl ?_
                  exact hJ3 0
          · refine x_if_lt 182 67 hE dX2_does_64 (by decide) rfl ?_ ?_
            · refine x_sub [(0, va_rf (some (xw_hm (xe_G E)))), (4, .int v4), (5, .int v8), (6, .int v9)] [2, 3, 1, 0] rfl ?_
              exact hJ2 v8
            · refine x_aload_n 68 hE dX2_does_67 rfl 2 rfl ?_
              refine x_iload 70 hE dX2_does_68 rfl 0 rfl ?_
              refine x_calli 73 (xw_goM hE hac (xw_rV hE (ct_X2_isOffering hac v9) xd_X2_isOffering rfl q1767 q1769 qs70 q97 q1770 rfl ⟨Nat.le_of_ble_eq_true rfl, Nat.le_of_ble_eq_true rfl⟩ rfl rfl (by decide) dX2_does_70)) rfl (fun v23 => ?_)
              refine x_if_eq 182 76 hE dX2_does_73 (by decide) rfl ?_ ?_
              · refine x_sub [(0, va_rf (some (xw_hm (xe_G E)))), (4, .int v4), (5, .int v8), (6, .int v9)] [2, 3, 1, 0] rfl ?_
                exact hJ2 v8
              · refine x_aload_n 77 hE dX2_does_76 rfl 2 rfl ?_
                refine y_ga 80 hE hac (by decide) ymf_49 rfl xkf_CrossingWordsModel_127 dX2_does_77 rfl ?_
                refine x_iload 82 hE dX2_does_80 rfl 0 rfl ?_
                refine y_ld 83 hE hac ⟨rfl, rfl⟩ dX2_does_82 rfl (fun v24 => ?_)
                refine x_if_le 182 86 hE dX2_does_83 (by decide) rfl ?_ ?_
                · refine x_sub [(0, va_rf (some (xw_hm (xe_G E)))), (4, .int v4), (5, .int v8), (6, .int v9)] [2, 3, 1, 0] rfl ?_
                  exact hJ2 v8
                · refine x_aload_n 87 hE dX2_does_86 rfl 2 rfl ?_
                  refine y_ga 90 hE hac (by decide) ymf_49 rfl xkf_CrossingWordsModel_127 dX2_does_87 rfl ?_
                  refine x_iload 92 hE dX2_does_90 rfl 0 rfl ?_
                  refine y_ld 93 hE hac ⟨rfl, rfl⟩ dX2_does_92 rfl (fun v25 => ?_)
                  refine x_iconst 94 hE dX2_does_93 rfl xc_i_3 ?_
                  refine x_icmp_ge 182 97 hE dX2_does_94 (by decide) rfl ?_ ?_
                  · refine x_sub [(0, va_rf (some (xw_hm (xe_G E)))), (4, .int v4), (5, .int v8), (6, .int v9)] [2, 3, 1, 0] rfl ?_
                    exact hJ2 v8
                  · refine x_iconst 98 hE dX2_does_97 rfl xc_i_m1 ?_
                    refine x_istore 100 [(7, .int (-1)), (6, .int v9), (5, .int v8), (0, va_rf (some (xw_hm (xe_G E)))), (4, .int v4)] hE dX2_does_98 rfl (Nat.le_of_ble_eq_true rfl) rfl ?_
                    refine x_aload_n 101 hE dX2_does_100 rfl 3 rfl ?_
                    refine y_g 104 hE hac (by decide) ymf_27 rfl xkf_CrossingWordsModel_351 dX2_does_101 rfl (fun v26 => ?_)
                    refine x_iconst 105 hE dX2_does_104 rfl xc_i_1 ?_
                    refine x_isub 106 hE dX2_does_105 rfl ?_
                    refine x_lti (fun v27 => ?_)
                    refine x_istore 108 [(8, .int v27), (7, .int (-1)), (6, .int v9), (5, .int v8), (0, va_rf (some (xw_hm (xe_G E)))), (4, .int v4)] hE dX2_does_106 rfl (Nat.le_of_ble_eq_true rfl) rfl ?_
                    refine x_sub [(0, va_rf (some (xw_hm (xe_G E)))), (4, .int v4), (5, .int v8), (6, .int v9), (7, .int (-1)), (8, .int v27)] [4, 5, 3, 2, 1, 0] rfl ?_
                    refine x_sq 165 (fun (v29 : Int32) => [(0, va_rf (some (xw_hm (xe_G E)))), (4, .int v4), (5, .int v8), (6, .int v9), (7, .int v29)]) (fun _ => []) (fun v29 => ?_) (fun J5 hJ5 => ?_)
                    · refine x_iload 167 hE dX2_does_165 rfl 2 rfl ?_
                      refine x_iload 169 hE dX2_does_167 rfl 4 rfl ?_
                      refine x_iload 171 hE dX2_does_169 rfl 1 rfl ?_
                      refine x_icmp_ne 178 174 hE dX2_does_171 (by decide) rfl ?_ ?_
                      · refine x_iconst 175 hE dX2_does_174 rfl xc_i_2 ?_
                        refine x_goto 179 hE dX2_does_175 (by decide) ?_
                        refine x_ior 180 hE dX2_does_179 rfl ?_
                        refine x_lti (fun v31 => ?_)
                        refine x_istore 182 [(5, .int v31), (0, va_rf (some (xw_hm (xe_G E)))), (4, .int v4), (6, .int v9), (7, .int v29)] hE dX2_does_180 rfl (Nat.le_of_ble_eq_true rfl) rfl ?_
                        refine x_sub [(0, va_rf (some (xw_hm (xe_G E)))), (4, .int v4), (5, .int v31), (6, .int v9)] [1, 2, 0, 3] rfl ?_
                        exact hJ2 v31
                      · refine x_iconst 179 hE dX2_does_178 rfl xc_i_0 ?_
                        refine x_ior 180 hE dX2_does_179 rfl ?_
                        refine x_lti (fun v30 => ?_)
                        refine x_istore 182 [(5, .int v30), (0, va_rf (some (xw_hm (xe_G E)))), (4, .int v4), (6, .int v9), (7, .int v29)] hE dX2_does_180 rfl (Nat.le_of_ble_eq_true rfl) rfl ?_
                        refine x_sub [(0, va_rf (some (xw_hm (xe_G E)))), (4, .int v4), (5, .int v30), (6, .int v9)] [1, 2, 0, 3] rfl ?_
                        exact hJ2 v30
                    · refine x_loop (fun (v28 : Int32 × Int32) => [(0, va_rf (some (xw_hm (xe_G E)))), (4, .int v4), (5, .int v8), (6, .int v9), (7, .int v28.1), (8, .int v28.2)]) (fun JL4 hc4 hx4 v28 => ?_) _ _
                      refine x_iload 110 hE dX2_does_108 rfl 5 rfl ?_
                      refine x_iload 112 hE dX2_does_110 rfl 3 rfl ?_
                      refine x_icmp_le 165 115 hE dX2_does_112 (by decide) rfl ?_ ?_
                      · refine x_sub [(0, va_rf (some (xw_hm (xe_G E)))), (4, .int v4), (5, .int v8), (6, .int v9), (7, .int v28.1)] [0, 1, 2, 3, 4] rfl ?_
                        refine hx4 _ _ _ _ ?_
                        exact hJ5 (v28.1)
                      · refine x_aload_n 116 hE dX2_does_115 rfl 0 rfl ?_
                        refine y_ga 119 hE hac (by decide) ymf_49 rfl xkf_CrossingWordsModel_127 dX2_does_116 rfl ?_
                        refine x_iload 121 hE dX2_does_119 rfl 3 rfl ?_
                        refine y_ld 122 hE hac ⟨rfl, rfl⟩ dX2_does_121 rfl (fun v32 => ?_)
                        refine x_iconst 123 hE dX2_does_122 rfl xc_i_1 ?_
                        refine x_sq 145 (fun (v33 : Int32) => [(0, va_rf (some (xw_hm (xe_G E)))), (4, .int v4), (5, .int v8), (6, .int v9), (7, .int v28.1), (8, .int v28.2)]) (fun (v33 : Int32) => [.int v33]) (fun v33 => ?_) (fun J6 hJ6 => ?_)
                        · refine x_aload_n 146 hE dX2_does_145 rfl 0 rfl ?_
                          refine y_ga 149 hE hac (by decide) ymf_48 rfl xkf_CrossingWordsModel_124 dX2_does_146 rfl ?_
                          refine x_iload 151 hE dX2_does_149 rfl 3 rfl ?_
                          refine y_ld 152 hE hac ⟨rfl, rfl⟩ dX2_does_151 rfl (fun v34 => ?_)
                          refine x_icmp_ne 159 155 hE dX2_does_152 (by decide) rfl ?_ ?_
                          · refine x_iload 157 hE dX2_does_155 rfl 5 rfl ?_
                            refine x_istore 159 [(7, .int v28.2), (0, va_rf (some (xw_hm (xe_G E)))), (4, .int v4), (5, .int v8), (6, .int v9), (8, .int v28.2)] hE dX2_does_157 rfl (Nat.le_of_ble_eq_true rfl) rfl ?_
                            refine x_iinc 162 [(8, .int (v28.2 + (-1))), (7, .int v28.2), (0, va_rf (some (xw_hm (xe_G E)))), (4, .int v4), (5, .int v8), (6, .int v9)] hE dX2_does_159 rfl 5 rfl xc_i_m1 (Nat.le_of_ble_eq_true rfl) rfl ?_
                            refine x_goto 108 hE dX2_does_162 (by decide) ?_
                            refine x_sub [(0, va_rf (some (xw_hm (xe_G E)))), (4, .int v4), (5, .int v8), (6, .int v9), (7, .int v28.2), (8, .int (v28.2 + (-1)))] [2, 3, 4, 5, 1, 0] rfl ?_
                            generalize v28.2 + (-1) = z8
                            exact hc4 (v28.2, z8)
                          · refine x_iinc 162 [(8, .int (v28.2 + (-1))), (0, va_rf (some (xw_hm (xe_G E)))), (4, .int v4), (5, .int v8), (6, .int v9), (7, .int v28.1)] hE dX2_does_159 rfl 5 rfl xc_i_m1 (Nat.le_of_ble_eq_true rfl) rfl ?_
                            refine x_goto 108 hE dX2_does_162 (by decide) ?_
                            refine x_sub [(0, va_rf (some (xw_hm (xe_G E)))), (4, .int v4), (5, .int v8), (6, .int v9), (7, .int v28.1), (8, .int (v28.2 + (-1)))] [1, 2, 3, 4, 5, 0] rfl ?_
                            generalize v28.2 + (-1) = z7
                            exact hc4 (v28.1, z7)
                        · refine x_icmp_ne 137 126 hE dX2_does_123 (by decide) rfl ?_ ?_
                          · refine x_aload_n 127 hE dX2_does_126 rfl 0 rfl ?_
                            refine x_iload 129 hE dX2_does_127 rfl 5 rfl ?_
                            refine x_iload 131 hE dX2_does_129 rfl 3 rfl ?_
                            refine x_calli 134 (xw_goM hE hac (xw_rV hE (ct_X2_backHour hac v28.2 v9) xd_X2_backHour rfl q1775 q1777 qs72 q97 q1778 rfl ⟨Nat.le_of_ble_eq_true rfl, Nat.le_of_ble_eq_true rfl⟩ rfl rfl (by decide) dX2_does_131)) rfl (fun v36 => ?_)
                            refine x_goto 145 hE dX2_does_134 (by decide) ?_
                            refine x_sub [(0, va_rf (some (xw_hm (xe_G E)))), (4, .int v4), (5, .int v8), (6, .int v9), (7, .int v28.1), (8, .int v28.2)] [0, 1, 2, 3, 4, 5] rfl ?_
                            exact hJ6 v36
                          · refine x_aload_n 138 hE dX2_does_137 rfl 0 rfl ?_
                            refine x_iload 140 hE dX2_does_138 rfl 5 rfl ?_
                            refine x_iload 142 hE dX2_does_140 rfl 3 rfl ?_
                            refine x_calli 145 (xw_goM hE hac (xw_rV hE (ct_X2_noHour hac v28.2 v9) xd_X2_noHour rfl q1783 q1785 qs74 q97 q1786 rfl ⟨Nat.le_of_ble_eq_true rfl, Nat.le_of_ble_eq_true rfl⟩ rfl rfl (by decide) dX2_does_142)) rfl (fun v35 => ?_)
                            refine x_sub [(0, va_rf (some (xw_hm (xe_G E)))), (4, .int v4), (5, .int v8), (6, .int v9), (7, .int v28.1), (8, .int v28.2)] [0, 1, 2, 3, 4, 5] rfl ?_
                            exact hJ6 v35
        · refine x_if_eq 50 36 hE dX2_does_33 (by decide) rfl ?_ ?_
          · refine x_iconst 51 hE dX2_does_50 rfl xc_i_0 ?_
            refine x_sub [(0, va_rf (some (xw_hm (xe_G E)))), (4, .int v4)] [0, 4] rfl ?_
            exact hJ1 0
          · refine x_aload_n 37 hE dX2_does_36 rfl 0 rfl ?_
            refine y_ga 40 hE hac (by decide) ymf_47 rfl xkf_CrossingWordsModel_121 dX2_does_37 rfl ?_
            refine x_iload 42 hE dX2_does_40 rfl 4 rfl ?_
            refine y_ld 43 hE hac ⟨rfl, rfl⟩ dX2_does_42 rfl (fun v37 => ?_)
            refine x_if_lt 50 46 hE dX2_does_43 (by decide) rfl ?_ ?_
            · refine x_iconst 51 hE dX2_does_50 rfl xc_i_0 ?_
              refine x_sub [(0, va_rf (some (xw_hm (xe_G E)))), (4, .int v4)] [0, 4] rfl ?_
              exact hJ1 0
            · refine x_iconst 47 hE dX2_does_46 rfl xc_i_1 ?_
              refine x_goto 51 hE dX2_does_47 (by decide) ?_
              refine x_sub [(0, va_rf (some (xw_hm (xe_G E)))), (4, .int v4)] [0, 4] rfl ?_
              exact hJ1 1
      · refine x_bipush 26 hE dX2_does_24 rfl xc_b_m2 ?_
        exact x_iret hE dX2_does_26

set_option maxHeartbeats 4000000 in
theorem ct_X2_canAt {l : Launch} {G : xw_G} {σ0 : xw_St} (hac : xw_ac G = true) (v1 : Int32) (v2 : Int32) : xw_Ct l G (xw_hr G σ0) xw_oi yX2_canAt cX2_canAt 5 (some (.int)) 3 [va_rf (some (xw_hm G)), .int v1, .int v2] (pg_X2_canAt v1 v2) := by
  refine xw_metL [(0, va_rf (some (xw_hm G))), (1, .int v1), (2, .int v2)] (by decide) (Nat.le_trans (Nat.le_of_eq ((xw_l1 rfl).trans (congrArg (1 + ·) ((xw_l1 rfl).trans (congrArg (1 + ·) ((xw_l1 rfl).trans (congrArg (1 + ·) xw_l0))))))) (by decide)) ((xw_a1 rfl).trans (congrArg (List.cons _) ((xw_a1 rfl).trans (congrArg (List.cons _) ((xw_a1 rfl).trans (congrArg (List.cons _) xw_a0)))))) (fun E hE hl hG hm => ?_)
  subst hl; subst hG
  have hE : xw_ok E "CrossingWordsModel" cX2_canAt 5 (some (.int)) 3 := hE
  unfold pg_X2_canAt
  refine x_aload_n 1 hE dX2_canAt_0 rfl 0 rfl ?_
  refine y_g 4 hE hac (by decide) ymf_50 rfl xkf_CrossingWordsModel_381 dX2_canAt_1 rfl (fun v3 => ?_)
  refine x_jn 17 (fun (v4 : Unit) => [(0, va_rf (some (xw_hm (xe_G E)))), (1, .int v1), (2, .int v2)]) (fun (v4 : Unit) => []) (fun v4 => ?_) (fun J1 hJ1 => ?_)
  · refine x_iconst 18 hE dX2_canAt_17 rfl xc_i_0 ?_
    refine x_istore_n 19 [(3, .int 0), (0, va_rf (some (xw_hm (xe_G E)))), (1, .int v1), (2, .int v2)] hE dX2_canAt_18 rfl rfl (Nat.le_of_ble_eq_true rfl) rfl ?_
    refine x_iconst 20 hE dX2_canAt_19 rfl xc_i_0 ?_
    refine x_istore 22 [(4, .int 0), (3, .int 0), (0, va_rf (some (xw_hm (xe_G E)))), (1, .int v1), (2, .int v2)] hE dX2_canAt_20 rfl (Nat.le_of_ble_eq_true rfl) rfl ?_
    refine x_sub [(0, va_rf (some (xw_hm (xe_G E)))), (1, .int v1), (2, .int v2), (3, .int 0), (4, .int 0)] [2, 3, 4, 1, 0] rfl ?_
    refine x_sq 141 (fun (v6 : Int32) => [(3, .int v6)]) (fun _ => []) (fun v6 => ?_) (fun J3 hJ3 => ?_)
    · refine x_iload_n 142 hE dX2_canAt_141 rfl 0 rfl ?_
      exact x_iret hE dX2_canAt_142
    · refine x_loop (fun (v5 : Int32 × Int32) => [(0, va_rf (some (xw_hm (xe_G E)))), (1, .int v1), (2, .int v2), (3, .int v5.1), (4, .int v5.2)]) (fun JL2 hc2 hx2 v5 => ?_) _ _
      refine x_iload 24 hE dX2_canAt_22 rfl 4 rfl ?_
      refine x_aload_n 25 hE dX2_canAt_24 rfl 0 rfl ?_
      refine y_g 28 hE hac (by decide) ymf_27 rfl xkf_CrossingWordsModel_351 dX2_canAt_25 rfl (fun v7 => ?_)
      refine x_icmp_ge 141 31 hE dX2_canAt_28 (by decide) rfl ?_ ?_
      · refine x_sub [(3, .int v5.1)] [3] rfl ?_
        refine hx2 _ _ _ _ ?_
        exact hJ3 (v5.1)
      · refine x_aload_n 32 hE dX2_canAt_31 rfl 0 rfl ?_
        refine x_iload 34 hE dX2_canAt_32 rfl 4 rfl ?_
        refine x_calli 37 (xw_goM hE hac (xw_rV hE (ct_X2_isOffering hac v5.2) xd_X2_isOffering rfl q1767 q1769 qs70 q97 q1770 rfl ⟨Nat.le_of_ble_eq_true rfl, Nat.le_of_ble_eq_true rfl⟩ rfl rfl (by decide) dX2_canAt_34)) rfl (fun v8 => ?_)
        refine x_if_eq 135 40 hE dX2_canAt_37 (by decide) rfl ?_ ?_
        · refine x_iinc 138 [(4, .int (v5.2 + 1)), (0, va_rf (some (xw_hm (xe_G E)))), (1, .int v1), (2, .int v2), (3, .int v5.1)] hE dX2_canAt_135 rfl 4 rfl xc_i_1 (Nat.le_of_ble_eq_true rfl) rfl ?_
          refine x_goto 22 hE dX2_canAt_138 (by decide) ?_
          refine x_sub [(0, va_rf (some (xw_hm (xe_G E)))), (1, .int v1), (2, .int v2), (3, .int v5.1), (4, .int (v5.2 + 1))] [1, 2, 3, 4, 0] rfl ?_
          exact hc2 (v5.1, v5.2 + 1)
        · refine x_aload_n 41 hE dX2_canAt_40 rfl 0 rfl ?_
          refine x_iload 43 hE dX2_canAt_41 rfl 4 rfl ?_
          refine x_iload_n 44 hE dX2_canAt_43 rfl 2 rfl ?_
          refine x_calli 47 (xw_goM hE hac (xw_rV hE (ct_X2_isOpenAt hac v5.2 v2) xd_X2_isOpenAt rfl q1807 q1809 qs80 q97 q1810 rfl ⟨Nat.le_of_ble_eq_true rfl, Nat.le_of_ble_eq_true rfl⟩ rfl rfl (by decide) dX2_canAt_44)) rfl (fun v9 => ?_)
          refine x_if_ne 53 50 hE dX2_canAt_47 (by decide) rfl ?_ ?_
          · refine x_goto 135 hE dX2_canAt_50 (by decide) ?_
            refine x_iinc 138 [(4, .int (v5.2 + 1)), (0, va_rf (some (xw_hm (xe_G E)))), (1, .int v1), (2, .int v2), (3, .int v5.1)] hE dX2_canAt_135 rfl 4 rfl xc_i_1 (Nat.le_of_ble_eq_true rfl) rfl ?_
            refine x_goto 22 hE dX2_canAt_138 (by decide) ?_
            refine x_sub [(0, va_rf (some (xw_hm (xe_G E)))), (1, .int v1), (2, .int v2), (3, .int v5.1), (4, .int (v5.2 + 1))] [1, 2, 3, 4, 0] rfl ?_
            exact hc2 (v5.1, v5.2 + 1)
          · refine x_aload_n 54 hE dX2_canAt_53 rfl 0 rfl ?_
            refine y_ga 57 hE hac (by decide) ymf_35 rfl xkf_CrossingWordsModel_84 dX2_canAt_54 rfl ?_
            refine x_iload 59 hE dX2_canAt_57 rfl 4 rfl ?_
            refine y_ld 60 hE hac ⟨rfl, rfl⟩ dX2_canAt_59 rfl (fun v10 => ?_)
            refine x_iload_n 61 hE dX2_canAt_60 rfl 1 rfl ?_
            refine x_sq 99 (fun (v11 : Int32) => [(0, va_rf (some (xw_hm (xe_G E)))), (1, .int v1), (2, .int v2), (3, .int v11), (4, .int v5.2)]) (fun (v11 : Int32) => []) (fun v11 => ?_) (fun J4 hJ4 => ?_)
            · refine x_aload_n 100 hE dX2_canAt_99 rfl 0 rfl ?_
              refine y_ga 103 hE hac (by decide) ymf_36 rfl xkf_CrossingWordsModel_87 dX2_canAt_100 rfl ?_
              refine x_iload 105 hE dX2_canAt_103 rfl 4 rfl ?_
              refine y_ld 106 hE hac ⟨rfl, rfl⟩ dX2_canAt_105 rfl (fun v12 => ?_)
              refine x_iload_n 107 hE dX2_canAt_106 rfl 1 rfl ?_
              refine x_icmp_ne 135 110 hE dX2_canAt_107 (by decide) rfl ?_ ?_
              · refine x_aload_n 111 hE dX2_canAt_110 rfl 0 rfl ?_
                refine y_ga 114 hE hac (by decide) ymf_44 rfl xkf_CrossingWordsModel_112 dX2_canAt_111 rfl ?_
                refine x_iload 116 hE dX2_canAt_114 rfl 4 rfl ?_
                refine y_ld 117 hE hac ⟨rfl, rfl⟩ dX2_canAt_116 rfl (fun v13 => ?_)
                refine x_if_lt 135 120 hE dX2_canAt_117 (by decide) rfl ?_ ?_
                · refine x_iinc 138 [(4, .int (v5.2 + 1)), (0, va_rf (some (xw_hm (xe_G E)))), (1, .int v1), (2, .int v2), (3, .int v11)] hE dX2_canAt_135 rfl 4 rfl xc_i_1 (Nat.le_of_ble_eq_true rfl) rfl ?_
                  refine x_goto 22 hE dX2_canAt_138 (by decide) ?_
                  refine x_sub [(0, va_rf (some (xw_hm (xe_G E)))), (1, .int v1), (2, .int v2), (3, .int v11), (4, .int (v5.2 + 1))] [1, 2, 3, 4, 0] rfl ?_
                  exact hc2 (v11, v5.2 + 1)
                · refine x_aload_n 121 hE dX2_canAt_120 rfl 0 rfl ?_
                  refine y_ga 124 hE hac (by decide) ymf_44 rfl xkf_CrossingWordsModel_112 dX2_canAt_121 rfl ?_
                  refine x_iload 126 hE dX2_canAt_124 rfl 4 rfl ?_
                  refine y_ld 127 hE hac ⟨rfl, rfl⟩ dX2_canAt_126 rfl (fun v14 => ?_)
                  refine x_iload_n 128 hE dX2_canAt_127 rfl 2 rfl ?_
                  refine x_icmp_gt 135 131 hE dX2_canAt_128 (by decide) rfl ?_ ?_
                  · refine x_iinc 138 [(4, .int (v5.2 + 1)), (0, va_rf (some (xw_hm (xe_G E)))), (1, .int v1), (2, .int v2), (3, .int v11)] hE dX2_canAt_135 rfl 4 rfl xc_i_1 (Nat.le_of_ble_eq_true rfl) rfl ?_
                    refine x_goto 22 hE dX2_canAt_138 (by decide) ?_
                    refine x_sub [(0, va_rf (some (xw_hm (xe_G E)))), (1, .int v1), (2, .int v2), (3, .int v11), (4, .int (v5.2 + 1))] [1, 2, 3, 4, 0] rfl ?_
                    exact hc2 (v11, v5.2 + 1)
                  · refine x_iload_n 132 hE dX2_canAt_131 rfl 3 rfl ?_
                    refine x_iconst 133 hE dX2_canAt_132 rfl xc_i_2 ?_
                    refine x_ior 134 hE dX2_canAt_133 rfl ?_
                    refine x_lti (fun v15 => ?_)
                    refine x_istore_n 135 [(3, .int v15), (0, va_rf (some (xw_hm (xe_G E)))), (1, .int v1), (2, .int v2), (4, .int v5.2)] hE dX2_canAt_134 rfl rfl (Nat.le_of_ble_eq_true rfl) rfl ?_
                    refine x_iinc 138 [(4, .int (v5.2 + 1)), (3, .int v15), (0, va_rf (some (xw_hm (xe_G E)))), (1, .int v1), (2, .int v2)] hE dX2_canAt_135 rfl 4 rfl xc_i_1 (Nat.le_of_ble_eq_true rfl) rfl ?_
                    refine x_goto 22 hE dX2_canAt_138 (by decide) ?_
                    refine x_sub [(0, va_rf (some (xw_hm (xe_G E)))), (1, .int v1), (2, .int v2), (3, .int v15), (4, .int (v5.2 + 1))] [2, 3, 4, 1, 0] rfl ?_
                    exact hc2 (v15, v5.2 + 1)
              · refine x_iinc 138 [(4, .int (v5.2 + 1)), (0, va_rf (some (xw_hm (xe_G E)))), (1, .int v1), (2, .int v2), (3, .int v11)] hE dX2_canAt_135 rfl 4 rfl xc_i_1 (Nat.le_of_ble_eq_true rfl) rfl ?_
                refine x_goto 22 hE dX2_canAt_138 (by decide) ?_
                refine x_sub [(0, va_rf (some (xw_hm (xe_G E)))), (1, .int v1), (2, .int v2), (3, .int v11), (4, .int (v5.2 + 1))] [1, 2, 3, 4, 0] rfl ?_
                exact hc2 (v11, v5.2 + 1)
            · refine x_icmp_ne 99 64 hE dX2_canAt_61 (by decide) rfl ?_ ?_
              · refine x_aload_n 65 hE dX2_canAt_64 rfl 0 rfl ?_
                refine y_ga 68 hE hac (by decide) ymf_33 rfl xkf_CrossingWordsModel_78 dX2_canAt_65 rfl ?_
                refine x_iload 70 hE dX2_canAt_68 rfl 4 rfl ?_
                refine y_ld 71 hE hac ⟨rfl, rfl⟩ dX2_canAt_70 rfl (fun v16 => ?_)
                refine x_if_lt 95 74 hE dX2_canAt_71 (by decide) rfl ?_ ?_
                · refine x_iload_n 96 hE dX2_canAt_95 rfl 3 rfl ?_
                  refine x_iconst 97 hE dX2_canAt_96 rfl xc_i_1 ?_
                  refine x_ior 98 hE dX2_canAt_97 rfl ?_
                  refine x_lti (fun v17 => ?_)
                  refine x_istore_n 99 [(3, .int v17), (0, va_rf (some (xw_hm (xe_G E)))), (1, .int v1), (2, .int v2), (4, .int v5.2)] hE dX2_canAt_98 rfl rfl (Nat.le_of_ble_eq_true rfl) rfl ?_
                  refine x_sub [(0, va_rf (some (xw_hm (xe_G E)))), (1, .int v1), (2, .int v2), (3, .int v17), (4, .int v5.2)] [1, 2, 3, 0, 4] rfl ?_
                  exact hJ4 v17
                · refine x_aload_n 75 hE dX2_canAt_74 rfl 0 rfl ?_
                  refine y_ga 78 hE hac (by decide) ymf_26 rfl xkf_CrossingWordsModel_66 dX2_canAt_75 rfl ?_
                  refine x_bipush 80 hE dX2_canAt_78 rfl xc_b_6 ?_
                  refine y_ld 81 hE hac ⟨rfl, rfl⟩ dX2_canAt_80 rfl (fun v18 => ?_)
                  refine x_if_eq 95 84 hE dX2_canAt_81 (by decide) rfl ?_ ?_
                  · refine x_iload_n 96 hE dX2_canAt_95 rfl 3 rfl ?_
                    refine x_iconst 97 hE dX2_canAt_96 rfl xc_i_1 ?_
                    refine x_ior 98 hE dX2_canAt_97 rfl ?_
                    refine x_lti (fun v19 => ?_)
                    refine x_istore_n 99 [(3, .int v19), (0, va_rf (some (xw_hm (xe_G E)))), (1, .int v1), (2, .int v2), (4, .int v5.2)] hE dX2_canAt_98 rfl rfl (Nat.le_of_ble_eq_true rfl) rfl ?_
                    refine x_sub [(0, va_rf (some (xw_hm (xe_G E)))), (1, .int v1), (2, .int v2), (3, .int v19), (4, .int v5.2)] [1, 2, 3, 0, 4] rfl ?_
                    exact hJ4 v19
                  · refine x_iload_n 85 hE dX2_canAt_84 rfl 2 rfl ?_
                    refine x_aload_n 86 hE dX2_canAt_85 rfl 0 rfl ?_
                    refine y_ga 89 hE hac (by decide) ymf_33 rfl xkf_CrossingWordsModel_78 dX2_canAt_86 rfl ?_
                    refine x_iload 91 hE dX2_canAt_89 rfl 4 rfl ?_
                    refine y_ld 92 hE hac ⟨rfl, rfl⟩ dX2_canAt_91 rfl (fun v20 => ?_)
                    refine x_icmp_le 99 95 hE dX2_canAt_92 (by decide) rfl ?_ ?_
                    · refine x_sub [(0, va_rf (some (xw_hm (xe_G E)))), (1, .int v1), (2, .int v2), (3, .int v5.1), (4, .int v5.2)] [0, 1, 2, 3, 4] rfl ?_
                      exact hJ4 (v5.1)
                    · refine x_iload_n 96 hE dX2_canAt_95 rfl 3 rfl ?_
                      refine x_iconst 97 hE dX2_canAt_96 rfl xc_i_1 ?_
                      refine x_ior 98 hE dX2_canAt_97 rfl ?_
                      refine x_lti (fun v21 => ?_)
                      refine x_istore_n 99 [(3, .int v21), (0, va_rf (some (xw_hm (xe_G E)))), (1, .int v1), (2, .int v2), (4, .int v5.2)] hE dX2_canAt_98 rfl rfl (Nat.le_of_ble_eq_true rfl) rfl ?_
                      refine x_sub [(0, va_rf (some (xw_hm (xe_G E)))), (1, .int v1), (2, .int v2), (3, .int v21), (4, .int v5.2)] [1, 2, 3, 0, 4] rfl ?_
                      exact hJ4 v21
              · refine x_sub [(0, va_rf (some (xw_hm (xe_G E)))), (1, .int v1), (2, .int v2), (3, .int v5.1), (4, .int v5.2)] [0, 1, 2, 3, 4] rfl ?_
                exact hJ4 (v5.1)
  · refine x_if_eq 17 7 hE dX2_canAt_4 (by decide) rfl ?_ ?_
    · refine x_sub [(0, va_rf (some (xw_hm (xe_G E)))), (1, .int v1), (2, .int v2)] [0, 1, 2] rfl ?_
      exact hJ1 ()
    · refine x_iload_n 8 hE dX2_canAt_7 rfl 2 rfl ?_
      refine x_aload_n 9 hE dX2_canAt_8 rfl 0 rfl ?_
      refine y_g 12 hE hac (by decide) ymf_53 rfl xkf_CrossingWordsModel_384 dX2_canAt_9 rfl (fun v22 => ?_)
      refine x_icmp_lt 17 15 hE dX2_canAt_12 (by decide) rfl ?_ ?_
      · refine x_sub [(0, va_rf (some (xw_hm (xe_G E)))), (1, .int v1), (2, .int v2)] [0, 1, 2] rfl ?_
        exact hJ1 ()
      · refine x_iconst 16 hE dX2_canAt_15 rfl xc_i_0 ?_
        exact x_iret hE dX2_canAt_16

set_option maxHeartbeats 4000000 in
theorem ct_X2_can {l : Launch} {G : xw_G} {σ0 : xw_St} (hac : xw_ac G = true) (v1 : Int32) (v2 : Int32) (v3 : Int32) (v4 : Int32) (v5 : Int32) : xw_Ct l G (xw_hr G σ0) xw_oi yX2_can cX2_can 6 (some (.int)) 9 [va_rf (some (xw_hm G)), .int v1, .int v2, .int v3, .int v4, .int v5] (pg_X2_can v1 v2 v3 v4 v5) := by
  refine xw_metL [(0, va_rf (some (xw_hm G))), (1, .int v1), (2, .int v2), (3, .int v3), (4, .int v4), (5, .int v5)] (by decide) (Nat.le_trans (Nat.le_of_eq ((xw_l1 rfl).trans (congrArg (1 + ·) ((xw_l1 rfl).trans (congrArg (1 + ·) ((xw_l1 rfl).trans (congrArg (1 + ·) ((xw_l1 rfl).trans (congrArg (1 + ·) ((xw_l1 rfl).trans (congrArg (1 + ·) ((xw_l1 rfl).trans (congrArg (1 + ·) xw_l0))))))))))))) (by decide)) ((xw_a1 rfl).trans (congrArg (List.cons _) ((xw_a1 rfl).trans (congrArg (List.cons _) ((xw_a1 rfl).trans (congrArg (List.cons _) ((xw_a1 rfl).trans (congrArg (List.cons _) ((xw_a1 rfl).trans (congrArg (List.cons _) ((xw_a1 rfl).trans (congrArg (List.cons _) xw_a0)))))))))))) (fun E hE hl hG hm => ?_)
  subst hl; subst hG
  have hE : xw_ok E "CrossingWordsModel" cX2_can 6 (some (.int)) 9 := hE
  unfold pg_X2_can
  refine x_iload 2 hE dX2_can_0 rfl 4 rfl ?_
  refine x_iconst 3 hE dX2_can_2 rfl xc_i_0 ?_
  refine x_iconst 4 hE dX2_can_3 rfl xc_i_2 ?_
  refine x_calli 7 (xw_goS hE (ct_X2_within v4 0 2) xd_X2_within q1551 q1552 q97 q1553 rfl ⟨Nat.le_of_ble_eq_true rfl, Nat.le_of_ble_eq_true rfl⟩ rfl (by decide) dX2_can_4) rfl (fun v6 => ?_)
  refine x_if_eq 32 10 hE dX2_can_7 (by decide) rfl ?_ ?_
  · refine x_bipush 34 hE dX2_can_32 rfl xc_b_m2 ?_
    exact x_iret hE dX2_can_34
  · refine x_iload 12 hE dX2_can_10 rfl 5 rfl ?_
    refine x_iconst 13 hE dX2_can_12 rfl xc_i_0 ?_
    refine x_sipush 16 hE dX2_can_13 rfl xc_s_9998 ?_
    refine x_calli 19 (xw_goS hE (ct_X2_within v5 0 9998) xd_X2_within q1551 q1552 q97 q1553 rfl ⟨Nat.le_of_ble_eq_true rfl, Nat.le_of_ble_eq_true rfl⟩ rfl (by decide) dX2_can_16) rfl (fun v7 => ?_)
    refine x_if_eq 32 22 hE dX2_can_19 (by decide) rfl ?_ ?_
    · refine x_bipush 34 hE dX2_can_32 rfl xc_b_m2 ?_
      exact x_iret hE dX2_can_34
    · refine x_aload_n 23 hE dX2_can_22 rfl 0 rfl ?_
      refine x_iload_n 24 hE dX2_can_23 rfl 1 rfl ?_
      refine x_iload_n 25 hE dX2_can_24 rfl 2 rfl ?_
      refine x_iload_n 26 hE dX2_can_25 rfl 3 rfl ?_
      refine x_calli 29 (xw_goM hE hac (xw_rV hE (ct_X2_looksAt hac v1 v2 v3) xd_X2_looksAt rfl q1747 q1749 qs65 q97 q1750 rfl ⟨Nat.le_of_ble_eq_true rfl, Nat.le_of_ble_eq_true rfl⟩ rfl rfl (by decide) dX2_can_26)) rfl (fun v8 => ?_)
      refine x_if_ne 35 32 hE dX2_can_29 (by decide) rfl ?_ ?_
      · refine x_bipush 34 hE dX2_can_32 rfl xc_b_m2 ?_
        exact x_iret hE dX2_can_34
      · refine x_aload_n 36 hE dX2_can_35 rfl 0 rfl ?_
        refine x_iload 38 hE dX2_can_36 rfl 4 rfl ?_
        refine x_iload 40 hE dX2_can_38 rfl 5 rfl ?_
        refine x_calli 43 (xw_goM hE hac (xw_rV hE (ct_X2_canAt hac v4 v5) xd_X2_canAt rfl q1890 q1892 qs89 q97 q1893 rfl ⟨Nat.le_of_ble_eq_true rfl, Nat.le_of_ble_eq_true rfl⟩ rfl rfl (by decide) dX2_can_40)) rfl (fun v9 => ?_)
        exact x_iret hE dX2_can_43

set_option maxHeartbeats 4000000 in
theorem ct_X2_until {l : Launch} {G : xw_G} {σ0 : xw_St} (hac : xw_ac G = true) (v1 : Int32) (v2 : Int32) (v3 : Int32) (v4 : Int32) (v5 : Int32) : xw_Ct l G (xw_hr G σ0) xw_oi yX2_until cX2_until 7 (some (.int)) 9 [va_rf (some (xw_hm G)), .int v1, .int v2, .int v3, .int v4, .int v5] (pg_X2_until v1 v2 v3 v4 v5) := by
  refine xw_metL [(0, va_rf (some (xw_hm G))), (1, .int v1), (2, .int v2), (3, .int v3), (4, .int v4), (5, .int v5)] (by decide) (Nat.le_trans (Nat.le_of_eq ((xw_l1 rfl).trans (congrArg (1 + ·) ((xw_l1 rfl).trans (congrArg (1 + ·) ((xw_l1 rfl).trans (congrArg (1 + ·) ((xw_l1 rfl).trans (congrArg (1 + ·) ((xw_l1 rfl).trans (congrArg (1 + ·) ((xw_l1 rfl).trans (congrArg (1 + ·) xw_l0))))))))))))) (by decide)) ((xw_a1 rfl).trans (congrArg (List.cons _) ((xw_a1 rfl).trans (congrArg (List.cons _) ((xw_a1 rfl).trans (congrArg (List.cons _) ((xw_a1 rfl).trans (congrArg (List.cons _) ((xw_a1 rfl).trans (congrArg (List.cons _) ((xw_a1 rfl).trans (congrArg (List.cons _) xw_a0)))))))))))) (fun E hE hl hG hm => ?_)
  subst hl; subst hG
  have hE : xw_ok E "CrossingWordsModel" cX2_until 7 (some (.int)) 9 := hE
  unfold pg_X2_until
  refine x_iload 2 hE dX2_until_0 rfl 4 rfl ?_
  refine x_iconst 3 hE dX2_until_2 rfl xc_i_0 ?_
  refine x_iconst 4 hE dX2_until_3 rfl xc_i_2 ?_
  refine x_calli 7 (xw_goS hE (ct_X2_within v4 0 2) xd_X2_within q1551 q1552 q97 q1553 rfl ⟨Nat.le_of_ble_eq_true rfl, Nat.le_of_ble_eq_true rfl⟩ rfl (by decide) dX2_until_4) rfl (fun v6 => ?_)
  refine x_if_eq 30 10 hE dX2_until_7 (by decide) rfl ?_ ?_
  · refine x_bipush 32 hE dX2_until_30 rfl xc_b_m2 ?_
    exact x_iret hE dX2_until_32
  · refine x_iload 12 hE dX2_until_10 rfl 5 rfl ?_
    refine x_iconst 13 hE dX2_until_12 rfl xc_i_1 ?_
    refine x_iconst 14 hE dX2_until_13 rfl xc_i_2 ?_
    refine x_calli 17 (xw_goS hE (ct_X2_within v5 1 2) xd_X2_within q1551 q1552 q97 q1553 rfl ⟨Nat.le_of_ble_eq_true rfl, Nat.le_of_ble_eq_true rfl⟩ rfl (by decide) dX2_until_14) rfl (fun v7 => ?_)
    refine x_if_eq 30 20 hE dX2_until_17 (by decide) rfl ?_ ?_
    · refine x_bipush 32 hE dX2_until_30 rfl xc_b_m2 ?_
      exact x_iret hE dX2_until_32
    · refine x_aload_n 21 hE dX2_until_20 rfl 0 rfl ?_
      refine x_iload_n 22 hE dX2_until_21 rfl 1 rfl ?_
      refine x_iload_n 23 hE dX2_until_22 rfl 2 rfl ?_
      refine x_iload_n 24 hE dX2_until_23 rfl 3 rfl ?_
      refine x_calli 27 (xw_goM hE hac (xw_rV hE (ct_X2_looksAt hac v1 v2 v3) xd_X2_looksAt rfl q1747 q1749 qs65 q97 q1750 rfl ⟨Nat.le_of_ble_eq_true rfl, Nat.le_of_ble_eq_true rfl⟩ rfl rfl (by decide) dX2_until_24)) rfl (fun v8 => ?_)
      refine x_if_ne 33 30 hE dX2_until_27 (by decide) rfl ?_ ?_
      · refine x_bipush 32 hE dX2_until_30 rfl xc_b_m2 ?_
        exact x_iret hE dX2_until_32
      · refine x_sipush 36 hE dX2_until_33 rfl xc_s_9998 ?_
        refine x_istore 38 [(6, .int 9998), (0, va_rf (some (xw_hm (xe_G E)))), (1, .int v1), (2, .int v2), (3, .int v3), (4, .int v4), (5, .int v5)] hE dX2_until_36 rfl (Nat.le_of_ble_eq_true rfl) rfl ?_
        refine x_sub [(0, va_rf (some (xw_hm (xe_G E)))), (4, .int v4), (5, .int v5), (6, .int 9998)] [1, 5, 6, 0] rfl ?_
        refine x_sq 63 (fun (v10 : Int32) => [(6, .int v10)]) (fun _ => []) (fun v10 => ?_) (fun J2 hJ2 => ?_)
        · refine x_iload 65 hE dX2_until_63 rfl 0 rfl ?_
          exact x_iret hE dX2_until_65
        · refine x_loop (fun (v9 : Int32) => [(0, va_rf (some (xw_hm (xe_G E)))), (4, .int v4), (5, .int v5), (6, .int v9)]) (fun JL1 hc1 hx1 v9 => ?_) _ _
          refine x_iload 40 hE dX2_until_38 rfl 3 rfl ?_
          refine x_if_lt 63 43 hE dX2_until_40 (by decide) rfl ?_ ?_
          · refine x_sub [(6, .int v9)] [3] rfl ?_
            refine hx1 _ _ _ _ ?_
            exact hJ2 v9
          · refine x_aload_n 44 hE dX2_until_43 rfl 0 rfl ?_
            refine x_iload 46 hE dX2_until_44 rfl 1 rfl ?_
            refine x_iload 48 hE dX2_until_46 rfl 3 rfl ?_
            refine x_calli 51 (xw_goM hE hac (xw_rV hE (ct_X2_canAt hac v4 v9) xd_X2_canAt rfl q1890 q1892 qs89 q97 q1893 rfl ⟨Nat.le_of_ble_eq_true rfl, Nat.le_of_ble_eq_true rfl⟩ rfl rfl (by decide) dX2_until_48)) rfl (fun v11 => ?_)
            refine x_iload 53 hE dX2_until_51 rfl 2 rfl ?_
            refine x_iand 54 hE dX2_until_53 rfl ?_
            refine x_if_ne 63 57 hE dX2_until_54 (by decide) rfl ?_ ?_
            · refine x_iinc 60 [(6, .int (v9 + (-1))), (0, va_rf (some (xw_hm (xe_G E)))), (4, .int v4), (5, .int v5)] hE dX2_until_57 rfl 3 rfl xc_i_m1 (Nat.le_of_ble_eq_true rfl) rfl ?_
              refine x_goto 38 hE dX2_until_60 (by decide) ?_
              refine x_sub [(0, va_rf (some (xw_hm (xe_G E)))), (4, .int v4), (5, .int v5), (6, .int (v9 + (-1)))] [1, 2, 3, 0] rfl ?_
              exact hc1 (v9 + (-1))
            · refine x_sub [(6, .int v9)] [3] rfl ?_
              refine hx1 _ _ _ _ ?_
              exact hJ2 v9

set_option maxHeartbeats 4000000 in
theorem ct_X2_withBargain {l : Launch} {G : xw_G} {σ0 : xw_St} (hac : xw_ac G = true)  : xw_Ct l G (xw_hr G σ0) xw_oi yX2_withBargain cX2_withBargain 3 (some (.int)) 6 [va_rf (some (xw_hm G))] (pg_X2_withBargain) := by
  refine xw_metL [(0, va_rf (some (xw_hm G)))] (by decide) (Nat.le_trans (Nat.le_of_eq ((xw_l1 rfl).trans (congrArg (1 + ·) xw_l0))) (by decide)) ((xw_a1 rfl).trans (congrArg (List.cons _) xw_a0)) (fun E hE hl hG hm => ?_)
  subst hl; subst hG
  have hE : xw_ok E "CrossingWordsModel" cX2_withBargain 3 (some (.int)) 6 := hE
  unfold pg_X2_withBargain
  refine x_aload_n 1 hE dX2_withBargain_0 rfl 0 rfl ?_
  refine x_callv 4 (xw_goM hE hac (xw_rV hE (ct_X2_findAsked hac ) xd_X2_findAsked rfl q1723 q1725 qs61 q97 q1726 rfl ⟨Nat.le_of_ble_eq_true rfl, Nat.le_of_ble_eq_true rfl⟩ rfl rfl (by decide) dX2_withBargain_1)) rfl ?_
  refine x_aload_n 5 hE dX2_withBargain_4 rfl 0 rfl ?_
  refine x_calli 8 (xw_goM hE hac (xw_rV hE (ct_X2_isLooked hac ) xd_X2_isLooked rfl q1727 q1729 qs62 q97 q1730 rfl ⟨Nat.le_of_ble_eq_true rfl, Nat.le_of_ble_eq_true rfl⟩ rfl rfl (by decide) dX2_withBargain_5)) rfl (fun v1 => ?_)
  refine x_if_ne 14 11 hE dX2_withBargain_8 (by decide) rfl ?_ ?_
  · refine x_bipush 13 hE dX2_withBargain_11 rfl xc_b_m2 ?_
    exact x_iret hE dX2_withBargain_13
  · refine x_iconst 15 hE dX2_withBargain_14 rfl xc_i_0 ?_
    refine x_istore_n 16 [(1, .int 0), (0, va_rf (some (xw_hm (xe_G E))))] hE dX2_withBargain_15 rfl rfl (Nat.le_of_ble_eq_true rfl) rfl ?_
    refine x_iconst 17 hE dX2_withBargain_16 rfl xc_i_0 ?_
    refine x_istore_n 18 [(2, .int 0), (1, .int 0), (0, va_rf (some (xw_hm (xe_G E))))] hE dX2_withBargain_17 rfl rfl (Nat.le_of_ble_eq_true rfl) rfl ?_
    refine x_sub [(0, va_rf (some (xw_hm (xe_G E)))), (1, .int 0), (2, .int 0)] [2, 1, 0] rfl ?_
    refine x_sq 52 (fun (v3 : Int32) => [(1, .int v3)]) (fun _ => []) (fun v3 => ?_) (fun J2 hJ2 => ?_)
    · refine x_iload_n 53 hE dX2_withBargain_52 rfl 0 rfl ?_
      exact x_iret hE dX2_withBargain_53
    · refine x_loop (fun (v2 : Int32 × Int32) => [(0, va_rf (some (xw_hm (xe_G E)))), (1, .int v2.1), (2, .int v2.2)]) (fun JL1 hc1 hx1 v2 => ?_) _ _
      refine x_iload_n 19 hE dX2_withBargain_18 rfl 2 rfl ?_
      refine x_aload_n 20 hE dX2_withBargain_19 rfl 0 rfl ?_
      refine y_g 23 hE hac (by decide) ymf_29 rfl xkf_CrossingWordsModel_357 dX2_withBargain_20 rfl (fun v4 => ?_)
      refine x_icmp_ge 52 26 hE dX2_withBargain_23 (by decide) rfl ?_ ?_
      · refine x_sub [(1, .int v2.1)] [1] rfl ?_
        refine hx1 _ _ _ _ ?_
        exact hJ2 (v2.1)
      · refine x_aload_n 27 hE dX2_withBargain_26 rfl 0 rfl ?_
        refine x_iload_n 28 hE dX2_withBargain_27 rfl 2 rfl ?_
        refine x_callv 31 (xw_goM hE hac (xw_rV hE (ct_X2_looks hac v2.2) xd_X2_looks rfl q1759 q1761 qs68 q97 q1762 rfl ⟨Nat.le_of_ble_eq_true rfl, Nat.le_of_ble_eq_true rfl⟩ rfl rfl (by decide) dX2_withBargain_28)) rfl ?_
        refine x_iload_n 32 hE dX2_withBargain_31 rfl 1 rfl ?_
        refine x_aload_n 33 hE dX2_withBargain_32 rfl 0 rfl ?_
        refine y_g 36 hE hac (by decide) ymf_50 rfl xkf_CrossingWordsModel_381 dX2_withBargain_33 rfl (fun v5 => ?_)
        refine x_if_eq 43 39 hE dX2_withBargain_36 (by decide) rfl ?_ ?_
        · refine x_iconst 44 hE dX2_withBargain_43 rfl xc_i_0 ?_
          refine x_iadd 45 hE dX2_withBargain_44 rfl ?_
          refine x_lti (fun v6 => ?_)
          refine x_istore_n 46 [(1, .int v6), (0, va_rf (some (xw_hm (xe_G E)))), (2, .int v2.2)] hE dX2_withBargain_45 rfl rfl (Nat.le_of_ble_eq_true rfl) rfl ?_
          refine x_iinc 49 [(2, .int (v2.2 + 1)), (1, .int v6), (0, va_rf (some (xw_hm (xe_G E))))] hE dX2_withBargain_46 rfl 2 rfl xc_i_1 (Nat.le_of_ble_eq_true rfl) rfl ?_
          refine x_goto 18 hE dX2_withBargain_49 (by decide) ?_
          refine x_sub [(0, va_rf (some (xw_hm (xe_G E)))), (1, .int v6), (2, .int (v2.2 + 1))] [2, 1, 0] rfl ?_
          exact hc1 (v6, v2.2 + 1)
        · refine x_iconst 40 hE dX2_withBargain_39 rfl xc_i_1 ?_
          refine x_goto 44 hE dX2_withBargain_40 (by decide) ?_
          refine x_iadd 45 hE dX2_withBargain_44 rfl ?_
          refine x_lti (fun v7 => ?_)
          refine x_istore_n 46 [(1, .int v7), (0, va_rf (some (xw_hm (xe_G E)))), (2, .int v2.2)] hE dX2_withBargain_45 rfl rfl (Nat.le_of_ble_eq_true rfl) rfl ?_
          refine x_iinc 49 [(2, .int (v2.2 + 1)), (1, .int v7), (0, va_rf (some (xw_hm (xe_G E))))] hE dX2_withBargain_46 rfl 2 rfl xc_i_1 (Nat.le_of_ble_eq_true rfl) rfl ?_
          refine x_goto 18 hE dX2_withBargain_49 (by decide) ?_
          refine x_sub [(0, va_rf (some (xw_hm (xe_G E)))), (1, .int v7), (2, .int (v2.2 + 1))] [2, 1, 0] rfl ?_
          exact hc1 (v7, v2.2 + 1)

set_option maxHeartbeats 4000000 in
theorem ct_X2_isSaid {l : Launch} {G : xw_G} {σ0 : xw_St} (hac : xw_ac G = true) (v1 : Int32) (v2 : Int32) (v3 : Int32) : xw_Ct l G (xw_hr G σ0) xw_oi yX2_isSaid cX2_isSaid 4 (some (.boolean)) 2 [va_rf (some (xw_hm G)), .int v1, .int v2, .int v3] (pg_X2_isSaid v1 v2 v3) := by
  refine xw_metL [(0, va_rf (some (xw_hm G))), (1, .int v1), (2, .int v2), (3, .int v3)] (by decide) (Nat.le_trans (Nat.le_of_eq ((xw_l1 rfl).trans (congrArg (1 + ·) ((xw_l1 rfl).trans (congrArg (1 + ·) ((xw_l1 rfl).trans (congrArg (1 + ·) ((xw_l1 rfl).trans (congrArg (1 + ·) xw_l0))))))))) (by decide)) ((xw_a1 rfl).trans (congrArg (List.cons _) ((xw_a1 rfl).trans (congrArg (List.cons _) ((xw_a1 rfl).trans (congrArg (List.cons _) ((xw_a1 rfl).trans (congrArg (List.cons _) xw_a0)))))))) (fun E hE hl hG hm => ?_)
  subst hl; subst hG
  have hE : xw_ok E "CrossingWordsModel" cX2_isSaid 4 (some (.boolean)) 2 := hE
  unfold pg_X2_isSaid
  refine x_aload_n 1 hE dX2_isSaid_0 rfl 0 rfl ?_
  refine x_iload_n 2 hE dX2_isSaid_1 rfl 1 rfl ?_
  refine x_calli 5 (xw_goM hE hac (xw_rV hE (ct_X2_isCase hac v1) xd_X2_isCase rfl q1648 q1650 qs52 q97 q1651 rfl ⟨Nat.le_of_ble_eq_true rfl, Nat.le_of_ble_eq_true rfl⟩ rfl rfl (by decide) dX2_isSaid_2)) rfl (fun v4 => ?_)
  refine x_if_eq 34 8 hE dX2_isSaid_5 (by decide) rfl ?_ ?_
  · refine x_iconst 35 hE dX2_isSaid_34 rfl xc_i_0 ?_
    exact x_zretw hE (by decide) dX2_isSaid_35
  · refine x_aload_n 9 hE dX2_isSaid_8 rfl 0 rfl ?_
    refine x_iload_n 10 hE dX2_isSaid_9 rfl 2 rfl ?_
    refine x_calli 13 (xw_goM hE hac (xw_rV hE (ct_X2_isLaw hac v2) xd_X2_isLaw rfl q1699 q1701 qs57 q97 q1702 rfl ⟨Nat.le_of_ble_eq_true rfl, Nat.le_of_ble_eq_true rfl⟩ rfl rfl (by decide) dX2_isSaid_10)) rfl (fun v5 => ?_)
    refine x_if_eq 34 16 hE dX2_isSaid_13 (by decide) rfl ?_ ?_
    · refine x_iconst 35 hE dX2_isSaid_34 rfl xc_i_0 ?_
      exact x_zretw hE (by decide) dX2_isSaid_35
    · refine x_iload_n 17 hE dX2_isSaid_16 rfl 3 rfl ?_
      refine x_if_lt 34 20 hE dX2_isSaid_17 (by decide) rfl ?_ ?_
      · refine x_iconst 35 hE dX2_isSaid_34 rfl xc_i_0 ?_
        exact x_zretw hE (by decide) dX2_isSaid_35
      · refine x_iload_n 21 hE dX2_isSaid_20 rfl 3 rfl ?_
        refine x_aload_n 22 hE dX2_isSaid_21 rfl 0 rfl ?_
        refine y_ga 25 hE hac (by decide) ymf_3 rfl xkf_CrossingWordsModel_19 dX2_isSaid_22 rfl ?_
        refine x_iload_n 26 hE dX2_isSaid_25 rfl 1 rfl ?_
        refine y_ld 27 hE hac ⟨rfl, rfl⟩ dX2_isSaid_26 rfl (fun v6 => ?_)
        refine x_icmp_ge 34 30 hE dX2_isSaid_27 (by decide) rfl ?_ ?_
        · refine x_iconst 35 hE dX2_isSaid_34 rfl xc_i_0 ?_
          exact x_zretw hE (by decide) dX2_isSaid_35
        · refine x_iconst 31 hE dX2_isSaid_30 rfl xc_i_1 ?_
          refine x_goto 35 hE dX2_isSaid_31 (by decide) ?_
          exact x_zretw hE (by decide) dX2_isSaid_35

set_option maxHeartbeats 4000000 in
theorem ct_X2_lost {l : Launch} {G : xw_G} {σ0 : xw_St} (hac : xw_ac G = true) (v1 : Int32) (v2 : Int32) (v3 : Int32) : xw_Ct l G (xw_hr G σ0) xw_oi yX2_lost cX2_lost 4 (some (.int)) 8 [va_rf (some (xw_hm G)), .int v1, .int v2, .int v3] (pg_X2_lost v1 v2 v3) := by
  refine xw_metL [(0, va_rf (some (xw_hm G))), (1, .int v1), (2, .int v2), (3, .int v3)] (by decide) (Nat.le_trans (Nat.le_of_eq ((xw_l1 rfl).trans (congrArg (1 + ·) ((xw_l1 rfl).trans (congrArg (1 + ·) ((xw_l1 rfl).trans (congrArg (1 + ·) ((xw_l1 rfl).trans (congrArg (1 + ·) xw_l0))))))))) (by decide)) ((xw_a1 rfl).trans (congrArg (List.cons _) ((xw_a1 rfl).trans (congrArg (List.cons _) ((xw_a1 rfl).trans (congrArg (List.cons _) ((xw_a1 rfl).trans (congrArg (List.cons _) xw_a0)))))))) (fun E hE hl hG hm => ?_)
  subst hl; subst hG
  have hE : xw_ok E "CrossingWordsModel" cX2_lost 4 (some (.int)) 8 := hE
  unfold pg_X2_lost
  refine x_aload_n 1 hE dX2_lost_0 rfl 0 rfl ?_
  refine x_iload_n 2 hE dX2_lost_1 rfl 1 rfl ?_
  refine x_iload_n 3 hE dX2_lost_2 rfl 2 rfl ?_
  refine x_iload_n 4 hE dX2_lost_3 rfl 3 rfl ?_
  refine x_calli 7 (xw_goM hE hac (xw_rV hE (ct_X2_isSaid hac v1 v2 v3) xd_X2_isSaid rfl q1902 q1904 qs90 q97 q1905 rfl ⟨Nat.le_of_ble_eq_true rfl, Nat.le_of_ble_eq_true rfl⟩ rfl rfl (by decide) dX2_lost_4)) rfl (fun v4 => ?_)
  refine x_if_eq 25 10 hE dX2_lost_7 (by decide) rfl ?_ ?_
  · refine x_bipush 27 hE dX2_lost_25 rfl xc_b_m2 ?_
    exact x_iret hE dX2_lost_27
  · refine x_aload_n 11 hE dX2_lost_10 rfl 0 rfl ?_
    refine y_ga 14 hE hac (by decide) ymf_8 rfl xkf_CrossingWordsModel_34 dX2_lost_11 rfl ?_
    refine x_bipush 16 hE dX2_lost_14 rfl xc_b_12 ?_
    refine x_iload_n 17 hE dX2_lost_16 rfl 1 rfl ?_
    refine x_imul 18 hE dX2_lost_17 rfl ?_
    refine x_iload_n 19 hE dX2_lost_18 rfl 3 rfl ?_
    refine x_iadd 20 hE dX2_lost_19 rfl ?_
    refine y_ld 21 hE hac ⟨rfl, rfl⟩ dX2_lost_20 rfl (fun v5 => ?_)
    refine x_iconst 22 hE dX2_lost_21 rfl xc_i_1 ?_
    refine x_icmp_le 28 25 hE dX2_lost_22 (by decide) rfl ?_ ?_
    · refine x_aload_n 29 hE dX2_lost_28 rfl 0 rfl ?_
      refine x_iload_n 30 hE dX2_lost_29 rfl 2 rfl ?_
      refine x_iconst 31 hE dX2_lost_30 rfl xc_i_0 ?_
      refine x_callv 34 (xw_goM hE hac (xw_rV hE (ct_X2_lays hac v2 0) xd_X2_lays rfl q1703 q1705 qs58 q97 q1706 rfl ⟨Nat.le_of_ble_eq_true rfl, Nat.le_of_ble_eq_true rfl⟩ rfl rfl (by decide) dX2_lost_31)) rfl ?_
      refine x_aload_n 35 hE dX2_lost_34 rfl 0 rfl ?_
      refine x_iload_n 36 hE dX2_lost_35 rfl 1 rfl ?_
      refine x_callv 39 (xw_goM hE hac (xw_rV hE (ct_X2_takes hac v1) xd_X2_takes rfl q1751 q1753 qs66 q97 q1754 rfl ⟨Nat.le_of_ble_eq_true rfl, Nat.le_of_ble_eq_true rfl⟩ rfl rfl (by decide) dX2_lost_36)) rfl ?_
      refine x_aload_n 40 hE dX2_lost_39 rfl 0 rfl ?_
      refine y_ga 43 hE hac (by decide) ymf_32 rfl xkf_CrossingWordsModel_75 dX2_lost_40 rfl ?_
      refine x_iload_n 44 hE dX2_lost_43 rfl 3 rfl ?_
      refine x_iconst 45 hE dX2_lost_44 rfl xc_i_2 ?_
      refine y_st 46 hE hac ⟨rfl, rfl⟩ dX2_lost_45 rfl ?_
      refine x_aload_n 47 hE dX2_lost_46 rfl 0 rfl ?_
      refine x_calli 50 (xw_goM hE hac (xw_rV hE (ct_X2_withBargain hac ) xd_X2_withBargain rfl q1906 q1908 qs91 q97 q1909 rfl ⟨Nat.le_of_ble_eq_true rfl, Nat.le_of_ble_eq_true rfl⟩ rfl rfl (by decide) dX2_lost_47)) rfl (fun v6 => ?_)
      exact x_iret hE dX2_lost_50
    · refine x_bipush 27 hE dX2_lost_25 rfl xc_b_m2 ?_
      exact x_iret hE dX2_lost_27

set_option maxHeartbeats 4000000 in
theorem ct_X2_wired {l : Launch} {G : xw_G} {σ0 : xw_St} (hac : xw_ac G = true) (v1 : Int32) (v2 : Int32) (v3 : Int32) : xw_Ct l G (xw_hr G σ0) xw_oi yX2_wired cX2_wired 5 (some (.int)) 8 [va_rf (some (xw_hm G)), .int v1, .int v2, .int v3] (pg_X2_wired v1 v2 v3) := by
  refine xw_metL [(0, va_rf (some (xw_hm G))), (1, .int v1), (2, .int v2), (3, .int v3)] (by decide) (Nat.le_trans (Nat.le_of_eq ((xw_l1 rfl).trans (congrArg (1 + ·) ((xw_l1 rfl).trans (congrArg (1 + ·) ((xw_l1 rfl).trans (congrArg (1 + ·) ((xw_l1 rfl).trans (congrArg (1 + ·) xw_l0))))))))) (by decide)) ((xw_a1 rfl).trans (congrArg (List.cons _) ((xw_a1 rfl).trans (congrArg (List.cons _) ((xw_a1 rfl).trans (congrArg (List.cons _) ((xw_a1 rfl).trans (congrArg (List.cons _) xw_a0)))))))) (fun E hE hl hG hm => ?_)
  subst hl; subst hG
  have hE : xw_ok E "CrossingWordsModel" cX2_wired 5 (some (.int)) 8 := hE
  unfold pg_X2_wired
  refine x_aload_n 1 hE dX2_wired_0 rfl 0 rfl ?_
  refine x_iload_n 2 hE dX2_wired_1 rfl 1 rfl ?_
  refine x_iload_n 3 hE dX2_wired_2 rfl 2 rfl ?_
  refine x_iload_n 4 hE dX2_wired_3 rfl 3 rfl ?_
  refine x_calli 7 (xw_goM hE hac (xw_rV hE (ct_X2_isSaid hac v1 v2 v3) xd_X2_isSaid rfl q1902 q1904 qs90 q97 q1905 rfl ⟨Nat.le_of_ble_eq_true rfl, Nat.le_of_ble_eq_true rfl⟩ rfl rfl (by decide) dX2_wired_4)) rfl (fun v4 => ?_)
  refine x_if_ne 13 10 hE dX2_wired_7 (by decide) rfl ?_ ?_
  · refine x_bipush 12 hE dX2_wired_10 rfl xc_b_m2 ?_
    exact x_iret hE dX2_wired_12
  · refine x_aload_n 14 hE dX2_wired_13 rfl 0 rfl ?_
    refine x_iload_n 15 hE dX2_wired_14 rfl 2 rfl ?_
    refine x_iconst 16 hE dX2_wired_15 rfl xc_i_0 ?_
    refine x_callv 19 (xw_goM hE hac (xw_rV hE (ct_X2_lays hac v2 0) xd_X2_lays rfl q1703 q1705 qs58 q97 q1706 rfl ⟨Nat.le_of_ble_eq_true rfl, Nat.le_of_ble_eq_true rfl⟩ rfl rfl (by decide) dX2_wired_16)) rfl ?_
    refine x_aload_n 20 hE dX2_wired_19 rfl 0 rfl ?_
    refine x_iload_n 21 hE dX2_wired_20 rfl 1 rfl ?_
    refine x_callv 24 (xw_goM hE hac (xw_rV hE (ct_X2_takes hac v1) xd_X2_takes rfl q1751 q1753 qs66 q97 q1754 rfl ⟨Nat.le_of_ble_eq_true rfl, Nat.le_of_ble_eq_true rfl⟩ rfl rfl (by decide) dX2_wired_21)) rfl ?_
    refine x_aload_n 25 hE dX2_wired_24 rfl 0 rfl ?_
    refine y_ga 28 hE hac (by decide) ymf_32 rfl xkf_CrossingWordsModel_75 dX2_wired_25 rfl ?_
    refine x_iload_n 29 hE dX2_wired_28 rfl 3 rfl ?_
    refine x_iconst 30 hE dX2_wired_29 rfl xc_i_0 ?_
    refine y_st 31 hE hac ⟨rfl, rfl⟩ dX2_wired_30 rfl ?_
    refine x_aload_n 32 hE dX2_wired_31 rfl 0 rfl ?_
    refine y_ga 35 hE hac (by decide) ymf_31 rfl xkf_CrossingWordsModel_72 dX2_wired_32 rfl ?_
    refine x_iload_n 36 hE dX2_wired_35 rfl 3 rfl ?_
    refine x_iconst 37 hE dX2_wired_36 rfl xc_i_1 ?_
    refine y_st 38 hE hac ⟨rfl, rfl⟩ dX2_wired_37 rfl ?_
    refine x_iconst 39 hE dX2_wired_38 rfl xc_i_1 ?_
    refine x_istore 41 [(4, .int 1), (0, va_rf (some (xw_hm (xe_G E)))), (1, .int v1), (2, .int v2), (3, .int v3)] hE dX2_wired_39 rfl (Nat.le_of_ble_eq_true rfl) rfl ?_
    refine x_sub [(0, va_rf (some (xw_hm (xe_G E)))), (3, .int v3), (4, .int 1)] [1, 4, 0] rfl ?_
    refine x_sq 77 (fun (v6 : Unit) => [(0, va_rf (some (xw_hm (xe_G E))))]) (fun _ => []) (fun v6 => ?_) (fun J2 hJ2 => ?_)
    · refine x_aload_n 78 hE dX2_wired_77 rfl 0 rfl ?_
      refine x_calli 81 (xw_goM hE hac (xw_rV hE (ct_X2_withBargain hac ) xd_X2_withBargain rfl q1906 q1908 qs91 q97 q1909 rfl ⟨Nat.le_of_ble_eq_true rfl, Nat.le_of_ble_eq_true rfl⟩ rfl rfl (by decide) dX2_wired_78)) rfl (fun v7 => ?_)
      exact x_iret hE dX2_wired_81
    · refine x_loop (fun (v5 : Int32) => [(0, va_rf (some (xw_hm (xe_G E)))), (3, .int v3), (4, .int v5)]) (fun JL1 hc1 hx1 v5 => ?_) _ _
      refine x_iload 43 hE dX2_wired_41 rfl 2 rfl ?_
      refine x_iconst 44 hE dX2_wired_43 rfl xc_i_3 ?_
      refine x_icmp_ge 77 47 hE dX2_wired_44 (by decide) rfl ?_ ?_
      · refine x_sub [(0, va_rf (some (xw_hm (xe_G E))))] [0] rfl ?_
        refine hx1 _ _ _ _ ?_
        exact hJ2 ()
      · refine x_aload_n 48 hE dX2_wired_47 rfl 0 rfl ?_
        refine y_ga 51 hE hac (by decide) ymf_39 rfl xkf_CrossingWordsModel_97 dX2_wired_48 rfl ?_
        refine x_iconst 52 hE dX2_wired_51 rfl xc_i_3 ?_
        refine x_iload_n 53 hE dX2_wired_52 rfl 1 rfl ?_
        refine x_imul 54 hE dX2_wired_53 rfl ?_
        refine x_iload 56 hE dX2_wired_54 rfl 2 rfl ?_
        refine x_iadd 57 hE dX2_wired_56 rfl ?_
        refine x_iconst 58 hE dX2_wired_57 rfl xc_i_0 ?_
        refine y_st 59 hE hac ⟨rfl, rfl⟩ dX2_wired_58 rfl ?_
        refine x_aload_n 60 hE dX2_wired_59 rfl 0 rfl ?_
        refine y_ga 63 hE hac (by decide) ymf_40 rfl xkf_CrossingWordsModel_100 dX2_wired_60 rfl ?_
        refine x_iconst 64 hE dX2_wired_63 rfl xc_i_3 ?_
        refine x_iload_n 65 hE dX2_wired_64 rfl 1 rfl ?_
        refine x_imul 66 hE dX2_wired_65 rfl ?_
        refine x_iload 68 hE dX2_wired_66 rfl 2 rfl ?_
        refine x_iadd 69 hE dX2_wired_68 rfl ?_
        refine x_iconst 70 hE dX2_wired_69 rfl xc_i_0 ?_
        refine y_st 71 hE hac ⟨rfl, rfl⟩ dX2_wired_70 rfl ?_
        refine x_iinc 74 [(4, .int (v5 + 1)), (0, va_rf (some (xw_hm (xe_G E)))), (3, .int v3)] hE dX2_wired_71 rfl 2 rfl xc_i_1 (Nat.le_of_ble_eq_true rfl) rfl ?_
        refine x_goto 41 hE dX2_wired_74 (by decide) ?_
        refine x_sub [(0, va_rf (some (xw_hm (xe_G E)))), (3, .int v3), (4, .int (v5 + 1))] [1, 2, 0] rfl ?_
        exact hc1 (v5 + 1)

set_option maxHeartbeats 4000000 in
theorem ct_X2_copies {l : Launch} {G : xw_G} {σ0 : xw_St} (hac : xw_ac G = true) (v1 : Int32) (v2 : Int32) : xw_Ct l G (xw_hr G σ0) xw_ov yX2_copies cX2_copies 4 none 1 [va_rf (some (xw_hm G)), .int v1, .int v2] (pg_X2_copies v1 v2) := by
  refine xw_metL [(0, va_rf (some (xw_hm G))), (1, .int v1), (2, .int v2)] (by decide) (Nat.le_trans (Nat.le_of_eq ((xw_l1 rfl).trans (congrArg (1 + ·) ((xw_l1 rfl).trans (congrArg (1 + ·) ((xw_l1 rfl).trans (congrArg (1 + ·) xw_l0))))))) (by decide)) ((xw_a1 rfl).trans (congrArg (List.cons _) ((xw_a1 rfl).trans (congrArg (List.cons _) ((xw_a1 rfl).trans (congrArg (List.cons _) xw_a0)))))) (fun E hE hl hG hm => ?_)
  subst hl; subst hG
  have hE : xw_ok E "CrossingWordsModel" cX2_copies 4 none 1 := hE
  unfold pg_X2_copies
  refine x_aload_n 1 hE dX2_copies_0 rfl 0 rfl ?_
  refine y_ga 4 hE hac (by decide) ymf_0 rfl xkf_CrossingWordsModel_7 dX2_copies_1 rfl ?_
  refine x_iload_n 5 hE dX2_copies_4 rfl 2 rfl ?_
  refine x_aload_n 6 hE dX2_copies_5 rfl 0 rfl ?_
  refine y_ga 9 hE hac (by decide) ymf_0 rfl xkf_CrossingWordsModel_7 dX2_copies_6 rfl ?_
  refine x_iload_n 10 hE dX2_copies_9 rfl 1 rfl ?_
  refine y_ld 11 hE hac ⟨rfl, rfl⟩ dX2_copies_10 rfl (fun v3 => ?_)
  refine y_st 12 hE hac ⟨rfl, rfl⟩ dX2_copies_11 rfl ?_
  refine x_aload_n 13 hE dX2_copies_12 rfl 0 rfl ?_
  refine y_ga 16 hE hac (by decide) ymf_1 rfl xkf_CrossingWordsModel_13 dX2_copies_13 rfl ?_
  refine x_iload_n 17 hE dX2_copies_16 rfl 2 rfl ?_
  refine x_aload_n 18 hE dX2_copies_17 rfl 0 rfl ?_
  refine y_ga 21 hE hac (by decide) ymf_1 rfl xkf_CrossingWordsModel_13 dX2_copies_18 rfl ?_
  refine x_iload_n 22 hE dX2_copies_21 rfl 1 rfl ?_
  refine y_ld 23 hE hac ⟨rfl, rfl⟩ dX2_copies_22 rfl (fun v4 => ?_)
  refine y_st 24 hE hac ⟨rfl, rfl⟩ dX2_copies_23 rfl ?_
  refine x_aload_n 25 hE dX2_copies_24 rfl 0 rfl ?_
  refine y_ga 28 hE hac (by decide) ymf_2 rfl xkf_CrossingWordsModel_16 dX2_copies_25 rfl ?_
  refine x_iload_n 29 hE dX2_copies_28 rfl 2 rfl ?_
  refine x_aload_n 30 hE dX2_copies_29 rfl 0 rfl ?_
  refine y_ga 33 hE hac (by decide) ymf_2 rfl xkf_CrossingWordsModel_16 dX2_copies_30 rfl ?_
  refine x_iload_n 34 hE dX2_copies_33 rfl 1 rfl ?_
  refine y_ld 35 hE hac ⟨rfl, rfl⟩ dX2_copies_34 rfl (fun v5 => ?_)
  refine y_st 36 hE hac ⟨rfl, rfl⟩ dX2_copies_35 rfl ?_
  refine x_iconst 37 hE dX2_copies_36 rfl xc_i_0 ?_
  refine x_istore_n 38 [(3, .int 0), (0, va_rf (some (xw_hm (xe_G E)))), (1, .int v1), (2, .int v2)] hE dX2_copies_37 rfl rfl (Nat.le_of_ble_eq_true rfl) rfl ?_
  refine x_sub [(0, va_rf (some (xw_hm (xe_G E)))), (1, .int v1), (2, .int v2), (3, .int 0)] [1, 2, 3, 0] rfl ?_
  refine x_sq 72 (fun (v7 : Unit) => [(0, va_rf (some (xw_hm (xe_G E)))), (1, .int v1), (2, .int v2)]) (fun _ => []) (fun v7 => ?_) (fun J2 hJ2 => ?_)
  · refine x_iconst 73 hE dX2_copies_72 rfl xc_i_0 ?_
    refine x_istore_n 74 [(3, .int 0), (0, va_rf (some (xw_hm (xe_G E)))), (1, .int v1), (2, .int v2)] hE dX2_copies_73 rfl rfl (Nat.le_of_ble_eq_true rfl) rfl ?_
    refine x_sub [(0, va_rf (some (xw_hm (xe_G E)))), (1, .int v1), (2, .int v2), (3, .int 0)] [1, 2, 3, 0] rfl ?_
    refine x_sq 279 (fun (v9 : Unit) => [(0, va_rf (some (xw_hm (xe_G E)))), (1, .int v1), (2, .int v2)]) (fun _ => []) (fun v9 => ?_) (fun J4 hJ4 => ?_)
    · refine x_iconst 280 hE dX2_copies_279 rfl xc_i_0 ?_
      refine x_istore_n 281 [(3, .int 0), (0, va_rf (some (xw_hm (xe_G E)))), (1, .int v1), (2, .int v2)] hE dX2_copies_280 rfl rfl (Nat.le_of_ble_eq_true rfl) rfl ?_
      refine x_sub [(0, va_rf (some (xw_hm (xe_G E)))), (1, .int v1), (2, .int v2), (3, .int 0)] [1, 2, 3, 0] rfl ?_
      refine x_sq 318 (fun (v11 : Unit) => [(0, va_rf (some (xw_hm (xe_G E)))), (1, .int v1), (2, .int v2)]) (fun _ => []) (fun v11 => ?_) (fun J6 hJ6 => ?_)
      · refine x_iconst 319 hE dX2_copies_318 rfl xc_i_0 ?_
        refine x_istore_n 320 [(3, .int 0), (0, va_rf (some (xw_hm (xe_G E)))), (1, .int v1), (2, .int v2)] hE dX2_copies_319 rfl rfl (Nat.le_of_ble_eq_true rfl) rfl ?_
        refine x_sub [(0, va_rf (some (xw_hm (xe_G E)))), (1, .int v1), (2, .int v2), (3, .int 0)] [1, 2, 3, 0] rfl ?_
        refine x_sq 381 (fun (v13 : Unit) => [(0, va_rf (some (xw_hm (xe_G E)))), (1, .int v1), (2, .int v2)]) (fun _ => []) (fun v13 => ?_) (fun J8 hJ8 => ?_)
        · refine x_iconst 382 hE dX2_copies_381 rfl xc_i_0 ?_
          refine x_istore_n 383 [(3, .int 0), (0, va_rf (some (xw_hm (xe_G E)))), (1, .int v1), (2, .int v2)] hE dX2_copies_382 rfl rfl (Nat.le_of_ble_eq_true rfl) rfl ?_
          refine x_sub [(0, va_rf (some (xw_hm (xe_G E)))), (1, .int v1), (2, .int v2), (3, .int 0)] [1, 2, 3, 0] rfl ?_
          refine x_sq 420 (fun (v15 : Unit) => []) (fun _ => []) (fun v15 => ?_) (fun J10 hJ10 => ?_)
          · exact x_vret hE dX2_copies_420
          · refine x_loop (fun (v14 : Int32) => [(0, va_rf (some (xw_hm (xe_G E)))), (1, .int v1), (2, .int v2), (3, .int v14)]) (fun JL9 hc9 hx9 v14 => ?_) _ _
            refine x_iload_n 384 hE dX2_copies_383 rfl 3 rfl ?_
            refine x_sipush 387 hE dX2_copies_384 rfl xc_s_196 ?_
            refine x_icmp_ge 420 390 hE dX2_copies_387 (by decide) rfl ?_ ?_
            · refine x_sub [] [] rfl ?_
              refine hx9 _ _ _ _ ?_
              exact hJ10 ()
            · refine x_aload_n 391 hE dX2_copies_390 rfl 0 rfl ?_
              refine y_ga 394 hE hac (by decide) ymf_15 rfl xkf_CrossingWordsModel_55 dX2_copies_391 rfl ?_
              refine x_sipush 397 hE dX2_copies_394 rfl xc_s_196 ?_
              refine x_iload_n 398 hE dX2_copies_397 rfl 2 rfl ?_
              refine x_imul 399 hE dX2_copies_398 rfl ?_
              refine x_iload_n 400 hE dX2_copies_399 rfl 3 rfl ?_
              refine x_iadd 401 hE dX2_copies_400 rfl ?_
              refine x_aload_n 402 hE dX2_copies_401 rfl 0 rfl ?_
              refine y_ga 405 hE hac (by decide) ymf_15 rfl xkf_CrossingWordsModel_55 dX2_copies_402 rfl ?_
              refine x_sipush 408 hE dX2_copies_405 rfl xc_s_196 ?_
              refine x_iload_n 409 hE dX2_copies_408 rfl 1 rfl ?_
              refine x_imul 410 hE dX2_copies_409 rfl ?_
              refine x_iload_n 411 hE dX2_copies_410 rfl 3 rfl ?_
              refine x_iadd 412 hE dX2_copies_411 rfl ?_
              refine y_ld 413 hE hac ⟨rfl, rfl⟩ dX2_copies_412 rfl (fun v16 => ?_)
              refine y_st 414 hE hac ⟨rfl, rfl⟩ dX2_copies_413 rfl ?_
              refine x_iinc 417 [(3, .int (v14 + 1)), (0, va_rf (some (xw_hm (xe_G E)))), (1, .int v1), (2, .int v2)] hE dX2_copies_414 rfl 3 rfl xc_i_1 (Nat.le_of_ble_eq_true rfl) rfl ?_
              refine x_goto 383 hE dX2_copies_417 (by decide) ?_
              refine x_sub [(0, va_rf (some (xw_hm (xe_G E)))), (1, .int v1), (2, .int v2), (3, .int (v14 + 1))] [1, 2, 3, 0] rfl ?_
              exact hc9 (v14 + 1)
        · refine x_loop (fun (v12 : Int32) => [(0, va_rf (some (xw_hm (xe_G E)))), (1, .int v1), (2, .int v2), (3, .int v12)]) (fun JL7 hc7 hx7 v12 => ?_) _ _
          refine x_iload_n 321 hE dX2_copies_320 rfl 3 rfl ?_
          refine x_sipush 324 hE dX2_copies_321 rfl xc_s_576 ?_
          refine x_icmp_ge 381 327 hE dX2_copies_324 (by decide) rfl ?_ ?_
          · refine x_sub [(0, va_rf (some (xw_hm (xe_G E)))), (1, .int v1), (2, .int v2)] [0, 1, 2] rfl ?_
            refine hx7 _ _ _ _ ?_
            exact hJ8 ()
          · refine x_aload_n 328 hE dX2_copies_327 rfl 0 rfl ?_
            refine y_ga 331 hE hac (by decide) ymf_13 rfl xkf_CrossingWordsModel_49 dX2_copies_328 rfl ?_
            refine x_sipush 334 hE dX2_copies_331 rfl xc_s_576 ?_
            refine x_iload_n 335 hE dX2_copies_334 rfl 2 rfl ?_
            refine x_imul 336 hE dX2_copies_335 rfl ?_
            refine x_iload_n 337 hE dX2_copies_336 rfl 3 rfl ?_
            refine x_iadd 338 hE dX2_copies_337 rfl ?_
            refine x_aload_n 339 hE dX2_copies_338 rfl 0 rfl ?_
            refine y_ga 342 hE hac (by decide) ymf_13 rfl xkf_CrossingWordsModel_49 dX2_copies_339 rfl ?_
            refine x_sipush 345 hE dX2_copies_342 rfl xc_s_576 ?_
            refine x_iload_n 346 hE dX2_copies_345 rfl 1 rfl ?_
            refine x_imul 347 hE dX2_copies_346 rfl ?_
            refine x_iload_n 348 hE dX2_copies_347 rfl 3 rfl ?_
            refine x_iadd 349 hE dX2_copies_348 rfl ?_
            refine y_ld 350 hE hac ⟨rfl, rfl⟩ dX2_copies_349 rfl (fun v17 => ?_)
            refine y_st 351 hE hac ⟨rfl, rfl⟩ dX2_copies_350 rfl ?_
            refine x_aload_n 352 hE dX2_copies_351 rfl 0 rfl ?_
            refine y_ga 355 hE hac (by decide) ymf_14 rfl xkf_CrossingWordsModel_52 dX2_copies_352 rfl ?_
            refine x_sipush 358 hE dX2_copies_355 rfl xc_s_576 ?_
            refine x_iload_n 359 hE dX2_copies_358 rfl 2 rfl ?_
            refine x_imul 360 hE dX2_copies_359 rfl ?_
            refine x_iload_n 361 hE dX2_copies_360 rfl 3 rfl ?_
            refine x_iadd 362 hE dX2_copies_361 rfl ?_
            refine x_aload_n 363 hE dX2_copies_362 rfl 0 rfl ?_
            refine y_ga 366 hE hac (by decide) ymf_14 rfl xkf_CrossingWordsModel_52 dX2_copies_363 rfl ?_
            refine x_sipush 369 hE dX2_copies_366 rfl xc_s_576 ?_
            refine x_iload_n 370 hE dX2_copies_369 rfl 1 rfl ?_
            refine x_imul 371 hE dX2_copies_370 rfl ?_
            refine x_iload_n 372 hE dX2_copies_371 rfl 3 rfl ?_
            refine x_iadd 373 hE dX2_copies_372 rfl ?_
            refine y_ld 374 hE hac ⟨rfl, rfl⟩ dX2_copies_373 rfl (fun v18 => ?_)
            refine y_st 375 hE hac ⟨rfl, rfl⟩ dX2_copies_374 rfl ?_
            refine x_iinc 378 [(3, .int (v12 + 1)), (0, va_rf (some (xw_hm (xe_G E)))), (1, .int v1), (2, .int v2)] hE dX2_copies_375 rfl 3 rfl xc_i_1 (Nat.le_of_ble_eq_true rfl) rfl ?_
            refine x_goto 320 hE dX2_copies_378 (by decide) ?_
            refine x_sub [(0, va_rf (some (xw_hm (xe_G E)))), (1, .int v1), (2, .int v2), (3, .int (v12 + 1))] [1, 2, 3, 0] rfl ?_
            exact hc7 (v12 + 1)
      · refine x_loop (fun (v10 : Int32) => [(0, va_rf (some (xw_hm (xe_G E)))), (1, .int v1), (2, .int v2), (3, .int v10)]) (fun JL5 hc5 hx5 v10 => ?_) _ _
        refine x_iload_n 282 hE dX2_copies_281 rfl 3 rfl ?_
        refine x_sipush 285 hE dX2_copies_282 rfl xc_s_960 ?_
        refine x_icmp_ge 318 288 hE dX2_copies_285 (by decide) rfl ?_ ?_
        · refine x_sub [(0, va_rf (some (xw_hm (xe_G E)))), (1, .int v1), (2, .int v2)] [0, 1, 2] rfl ?_
          refine hx5 _ _ _ _ ?_
          exact hJ6 ()
        · refine x_aload_n 289 hE dX2_copies_288 rfl 0 rfl ?_
          refine y_ga 292 hE hac (by decide) ymf_12 rfl xkf_CrossingWordsModel_46 dX2_copies_289 rfl ?_
          refine x_sipush 295 hE dX2_copies_292 rfl xc_s_960 ?_
          refine x_iload_n 296 hE dX2_copies_295 rfl 2 rfl ?_
          refine x_imul 297 hE dX2_copies_296 rfl ?_
          refine x_iload_n 298 hE dX2_copies_297 rfl 3 rfl ?_
          refine x_iadd 299 hE dX2_copies_298 rfl ?_
          refine x_aload_n 300 hE dX2_copies_299 rfl 0 rfl ?_
          refine y_ga 303 hE hac (by decide) ymf_12 rfl xkf_CrossingWordsModel_46 dX2_copies_300 rfl ?_
          refine x_sipush 306 hE dX2_copies_303 rfl xc_s_960 ?_
          refine x_iload_n 307 hE dX2_copies_306 rfl 1 rfl ?_
          refine x_imul 308 hE dX2_copies_307 rfl ?_
          refine x_iload_n 309 hE dX2_copies_308 rfl 3 rfl ?_
          refine x_iadd 310 hE dX2_copies_309 rfl ?_
          refine y_ld 311 hE hac ⟨rfl, rfl⟩ dX2_copies_310 rfl (fun v19 => ?_)
          refine y_st 312 hE hac ⟨rfl, rfl⟩ dX2_copies_311 rfl ?_
          refine x_iinc 315 [(3, .int (v10 + 1)), (0, va_rf (some (xw_hm (xe_G E)))), (1, .int v1), (2, .int v2)] hE dX2_copies_312 rfl 3 rfl xc_i_1 (Nat.le_of_ble_eq_true rfl) rfl ?_
          refine x_goto 281 hE dX2_copies_315 (by decide) ?_
          refine x_sub [(0, va_rf (some (xw_hm (xe_G E)))), (1, .int v1), (2, .int v2), (3, .int (v10 + 1))] [1, 2, 3, 0] rfl ?_
          exact hc5 (v10 + 1)
    · refine x_loop (fun (v8 : Int32) => [(0, va_rf (some (xw_hm (xe_G E)))), (1, .int v1), (2, .int v2), (3, .int v8)]) (fun JL3 hc3 hx3 v8 => ?_) _ _
      refine x_iload_n 75 hE dX2_copies_74 rfl 3 rfl ?_
      refine x_sipush 78 hE dX2_copies_75 rfl xc_s_192 ?_
      refine x_icmp_ge 279 81 hE dX2_copies_78 (by decide) rfl ?_ ?_
      · refine x_sub [(0, va_rf (some (xw_hm (xe_G E)))), (1, .int v1), (2, .int v2)] [0, 1, 2] rfl ?_
        refine hx3 _ _ _ _ ?_
        exact hJ4 ()
      · refine x_aload_n 82 hE dX2_copies_81 rfl 0 rfl ?_
        refine y_ga 85 hE hac (by decide) ymf_4 rfl xkf_CrossingWordsModel_22 dX2_copies_82 rfl ?_
        refine x_sipush 88 hE dX2_copies_85 rfl xc_s_192 ?_
        refine x_iload_n 89 hE dX2_copies_88 rfl 2 rfl ?_
        refine x_imul 90 hE dX2_copies_89 rfl ?_
        refine x_iload_n 91 hE dX2_copies_90 rfl 3 rfl ?_
        refine x_iadd 92 hE dX2_copies_91 rfl ?_
        refine x_aload_n 93 hE dX2_copies_92 rfl 0 rfl ?_
        refine y_ga 96 hE hac (by decide) ymf_4 rfl xkf_CrossingWordsModel_22 dX2_copies_93 rfl ?_
        refine x_sipush 99 hE dX2_copies_96 rfl xc_s_192 ?_
        refine x_iload_n 100 hE dX2_copies_99 rfl 1 rfl ?_
        refine x_imul 101 hE dX2_copies_100 rfl ?_
        refine x_iload_n 102 hE dX2_copies_101 rfl 3 rfl ?_
        refine x_iadd 103 hE dX2_copies_102 rfl ?_
        refine y_ld 104 hE hac ⟨rfl, rfl⟩ dX2_copies_103 rfl (fun v20 => ?_)
        refine y_st 105 hE hac ⟨rfl, rfl⟩ dX2_copies_104 rfl ?_
        refine x_aload_n 106 hE dX2_copies_105 rfl 0 rfl ?_
        refine y_ga 109 hE hac (by decide) ymf_5 rfl xkf_CrossingWordsModel_25 dX2_copies_106 rfl ?_
        refine x_sipush 112 hE dX2_copies_109 rfl xc_s_192 ?_
        refine x_iload_n 113 hE dX2_copies_112 rfl 2 rfl ?_
        refine x_imul 114 hE dX2_copies_113 rfl ?_
        refine x_iload_n 115 hE dX2_copies_114 rfl 3 rfl ?_
        refine x_iadd 116 hE dX2_copies_115 rfl ?_
        refine x_aload_n 117 hE dX2_copies_116 rfl 0 rfl ?_
        refine y_ga 120 hE hac (by decide) ymf_5 rfl xkf_CrossingWordsModel_25 dX2_copies_117 rfl ?_
        refine x_sipush 123 hE dX2_copies_120 rfl xc_s_192 ?_
        refine x_iload_n 124 hE dX2_copies_123 rfl 1 rfl ?_
        refine x_imul 125 hE dX2_copies_124 rfl ?_
        refine x_iload_n 126 hE dX2_copies_125 rfl 3 rfl ?_
        refine x_iadd 127 hE dX2_copies_126 rfl ?_
        refine y_ld 128 hE hac ⟨rfl, rfl⟩ dX2_copies_127 rfl (fun v21 => ?_)
        refine y_st 129 hE hac ⟨rfl, rfl⟩ dX2_copies_128 rfl ?_
        refine x_aload_n 130 hE dX2_copies_129 rfl 0 rfl ?_
        refine y_ga 133 hE hac (by decide) ymf_6 rfl xkf_CrossingWordsModel_28 dX2_copies_130 rfl ?_
        refine x_sipush 136 hE dX2_copies_133 rfl xc_s_192 ?_
        refine x_iload_n 137 hE dX2_copies_136 rfl 2 rfl ?_
        refine x_imul 138 hE dX2_copies_137 rfl ?_
        refine x_iload_n 139 hE dX2_copies_138 rfl 3 rfl ?_
        refine x_iadd 140 hE dX2_copies_139 rfl ?_
        refine x_aload_n 141 hE dX2_copies_140 rfl 0 rfl ?_
        refine y_ga 144 hE hac (by decide) ymf_6 rfl xkf_CrossingWordsModel_28 dX2_copies_141 rfl ?_
        refine x_sipush 147 hE dX2_copies_144 rfl xc_s_192 ?_
        refine x_iload_n 148 hE dX2_copies_147 rfl 1 rfl ?_
        refine x_imul 149 hE dX2_copies_148 rfl ?_
        refine x_iload_n 150 hE dX2_copies_149 rfl 3 rfl ?_
        refine x_iadd 151 hE dX2_copies_150 rfl ?_
        refine y_ld 152 hE hac ⟨rfl, rfl⟩ dX2_copies_151 rfl (fun v22 => ?_)
        refine y_st 153 hE hac ⟨rfl, rfl⟩ dX2_copies_152 rfl ?_
        refine x_aload_n 154 hE dX2_copies_153 rfl 0 rfl ?_
        refine y_ga 157 hE hac (by decide) ymf_7 rfl xkf_CrossingWordsModel_31 dX2_copies_154 rfl ?_
        refine x_sipush 160 hE dX2_copies_157 rfl xc_s_192 ?_
        refine x_iload_n 161 hE dX2_copies_160 rfl 2 rfl ?_
        refine x_imul 162 hE dX2_copies_161 rfl ?_
        refine x_iload_n 163 hE dX2_copies_162 rfl 3 rfl ?_
        refine x_iadd 164 hE dX2_copies_163 rfl ?_
        refine x_aload_n 165 hE dX2_copies_164 rfl 0 rfl ?_
        refine y_ga 168 hE hac (by decide) ymf_7 rfl xkf_CrossingWordsModel_31 dX2_copies_165 rfl ?_
        refine x_sipush 171 hE dX2_copies_168 rfl xc_s_192 ?_
        refine x_iload_n 172 hE dX2_copies_171 rfl 1 rfl ?_
        refine x_imul 173 hE dX2_copies_172 rfl ?_
        refine x_iload_n 174 hE dX2_copies_173 rfl 3 rfl ?_
        refine x_iadd 175 hE dX2_copies_174 rfl ?_
        refine y_ld 176 hE hac ⟨rfl, rfl⟩ dX2_copies_175 rfl (fun v23 => ?_)
        refine y_st 177 hE hac ⟨rfl, rfl⟩ dX2_copies_176 rfl ?_
        refine x_aload_n 178 hE dX2_copies_177 rfl 0 rfl ?_
        refine y_ga 181 hE hac (by decide) ymf_8 rfl xkf_CrossingWordsModel_34 dX2_copies_178 rfl ?_
        refine x_sipush 184 hE dX2_copies_181 rfl xc_s_192 ?_
        refine x_iload_n 185 hE dX2_copies_184 rfl 2 rfl ?_
        refine x_imul 186 hE dX2_copies_185 rfl ?_
        refine x_iload_n 187 hE dX2_copies_186 rfl 3 rfl ?_
        refine x_iadd 188 hE dX2_copies_187 rfl ?_
        refine x_aload_n 189 hE dX2_copies_188 rfl 0 rfl ?_
        refine y_ga 192 hE hac (by decide) ymf_8 rfl xkf_CrossingWordsModel_34 dX2_copies_189 rfl ?_
        refine x_sipush 195 hE dX2_copies_192 rfl xc_s_192 ?_
        refine x_iload_n 196 hE dX2_copies_195 rfl 1 rfl ?_
        refine x_imul 197 hE dX2_copies_196 rfl ?_
        refine x_iload_n 198 hE dX2_copies_197 rfl 3 rfl ?_
        refine x_iadd 199 hE dX2_copies_198 rfl ?_
        refine y_ld 200 hE hac ⟨rfl, rfl⟩ dX2_copies_199 rfl (fun v24 => ?_)
        refine y_st 201 hE hac ⟨rfl, rfl⟩ dX2_copies_200 rfl ?_
        refine x_aload_n 202 hE dX2_copies_201 rfl 0 rfl ?_
        refine y_ga 205 hE hac (by decide) ymf_9 rfl xkf_CrossingWordsModel_37 dX2_copies_202 rfl ?_
        refine x_sipush 208 hE dX2_copies_205 rfl xc_s_192 ?_
        refine x_iload_n 209 hE dX2_copies_208 rfl 2 rfl ?_
        refine x_imul 210 hE dX2_copies_209 rfl ?_
        refine x_iload_n 211 hE dX2_copies_210 rfl 3 rfl ?_
        refine x_iadd 212 hE dX2_copies_211 rfl ?_
        refine x_aload_n 213 hE dX2_copies_212 rfl 0 rfl ?_
        refine y_ga 216 hE hac (by decide) ymf_9 rfl xkf_CrossingWordsModel_37 dX2_copies_213 rfl ?_
        refine x_sipush 219 hE dX2_copies_216 rfl xc_s_192 ?_
        refine x_iload_n 220 hE dX2_copies_219 rfl 1 rfl ?_
        refine x_imul 221 hE dX2_copies_220 rfl ?_
        refine x_iload_n 222 hE dX2_copies_221 rfl 3 rfl ?_
        refine x_iadd 223 hE dX2_copies_222 rfl ?_
        refine y_ld 224 hE hac ⟨rfl, rfl⟩ dX2_copies_223 rfl (fun v25 => ?_)
        refine y_st 225 hE hac ⟨rfl, rfl⟩ dX2_copies_224 rfl ?_
        refine x_aload_n 226 hE dX2_copies_225 rfl 0 rfl ?_
        refine y_ga 229 hE hac (by decide) ymf_10 rfl xkf_CrossingWordsModel_40 dX2_copies_226 rfl ?_
        refine x_sipush 232 hE dX2_copies_229 rfl xc_s_192 ?_
        refine x_iload_n 233 hE dX2_copies_232 rfl 2 rfl ?_
        refine x_imul 234 hE dX2_copies_233 rfl ?_
        refine x_iload_n 235 hE dX2_copies_234 rfl 3 rfl ?_
        refine x_iadd 236 hE dX2_copies_235 rfl ?_
        refine x_aload_n 237 hE dX2_copies_236 rfl 0 rfl ?_
        refine y_ga 240 hE hac (by decide) ymf_10 rfl xkf_CrossingWordsModel_40 dX2_copies_237 rfl ?_
        refine x_sipush 243 hE dX2_copies_240 rfl xc_s_192 ?_
        refine x_iload_n 244 hE dX2_copies_243 rfl 1 rfl ?_
        refine x_imul 245 hE dX2_copies_244 rfl ?_
        refine x_iload_n 246 hE dX2_copies_245 rfl 3 rfl ?_
        refine x_iadd 247 hE dX2_copies_246 rfl ?_
        refine y_ld 248 hE hac ⟨rfl, rfl⟩ dX2_copies_247 rfl (fun v26 => ?_)
        refine y_st 249 hE hac ⟨rfl, rfl⟩ dX2_copies_248 rfl ?_
        refine x_aload_n 250 hE dX2_copies_249 rfl 0 rfl ?_
        refine y_ga 253 hE hac (by decide) ymf_11 rfl xkf_CrossingWordsModel_43 dX2_copies_250 rfl ?_
        refine x_sipush 256 hE dX2_copies_253 rfl xc_s_192 ?_
        refine x_iload_n 257 hE dX2_copies_256 rfl 2 rfl ?_
        refine x_imul 258 hE dX2_copies_257 rfl ?_
        refine x_iload_n 259 hE dX2_copies_258 rfl 3 rfl ?_
        refine x_iadd 260 hE dX2_copies_259 rfl ?_
        refine x_aload_n 261 hE dX2_copies_260 rfl 0 rfl ?_
        refine y_ga 264 hE hac (by decide) ymf_11 rfl xkf_CrossingWordsModel_43 dX2_copies_261 rfl ?_
        refine x_sipush 267 hE dX2_copies_264 rfl xc_s_192 ?_
        refine x_iload_n 268 hE dX2_copies_267 rfl 1 rfl ?_
        refine x_imul 269 hE dX2_copies_268 rfl ?_
        refine x_iload_n 270 hE dX2_copies_269 rfl 3 rfl ?_
        refine x_iadd 271 hE dX2_copies_270 rfl ?_
        refine y_ld 272 hE hac ⟨rfl, rfl⟩ dX2_copies_271 rfl (fun v27 => ?_)
        refine y_st 273 hE hac ⟨rfl, rfl⟩ dX2_copies_272 rfl ?_
        refine x_iinc 276 [(3, .int (v8 + 1)), (0, va_rf (some (xw_hm (xe_G E)))), (1, .int v1), (2, .int v2)] hE dX2_copies_273 rfl 3 rfl xc_i_1 (Nat.le_of_ble_eq_true rfl) rfl ?_
        refine x_goto 74 hE dX2_copies_276 (by decide) ?_
        refine x_sub [(0, va_rf (some (xw_hm (xe_G E)))), (1, .int v1), (2, .int v2), (3, .int (v8 + 1))] [1, 2, 3, 0] rfl ?_
        exact hc3 (v8 + 1)
  · refine x_loop (fun (v6 : Int32) => [(0, va_rf (some (xw_hm (xe_G E)))), (1, .int v1), (2, .int v2), (3, .int v6)]) (fun JL1 hc1 hx1 v6 => ?_) _ _
    refine x_iload_n 39 hE dX2_copies_38 rfl 3 rfl ?_
    refine x_bipush 41 hE dX2_copies_39 rfl xc_b_16 ?_
    refine x_icmp_ge 72 44 hE dX2_copies_41 (by decide) rfl ?_ ?_
    · refine x_sub [(0, va_rf (some (xw_hm (xe_G E)))), (1, .int v1), (2, .int v2)] [0, 1, 2] rfl ?_
      refine hx1 _ _ _ _ ?_
      exact hJ2 ()
    · refine x_aload_n 45 hE dX2_copies_44 rfl 0 rfl ?_
      refine y_ga 48 hE hac (by decide) ymf_3 rfl xkf_CrossingWordsModel_19 dX2_copies_45 rfl ?_
      refine x_bipush 50 hE dX2_copies_48 rfl xc_b_16 ?_
      refine x_iload_n 51 hE dX2_copies_50 rfl 2 rfl ?_
      refine x_imul 52 hE dX2_copies_51 rfl ?_
      refine x_iload_n 53 hE dX2_copies_52 rfl 3 rfl ?_
      refine x_iadd 54 hE dX2_copies_53 rfl ?_
      refine x_aload_n 55 hE dX2_copies_54 rfl 0 rfl ?_
      refine y_ga 58 hE hac (by decide) ymf_3 rfl xkf_CrossingWordsModel_19 dX2_copies_55 rfl ?_
      refine x_bipush 60 hE dX2_copies_58 rfl xc_b_16 ?_
      refine x_iload_n 61 hE dX2_copies_60 rfl 1 rfl ?_
      refine x_imul 62 hE dX2_copies_61 rfl ?_
      refine x_iload_n 63 hE dX2_copies_62 rfl 3 rfl ?_
      refine x_iadd 64 hE dX2_copies_63 rfl ?_
      refine y_ld 65 hE hac ⟨rfl, rfl⟩ dX2_copies_64 rfl (fun v28 => ?_)
      refine y_st 66 hE hac ⟨rfl, rfl⟩ dX2_copies_65 rfl ?_
      refine x_iinc 69 [(3, .int (v6 + 1)), (0, va_rf (some (xw_hm (xe_G E)))), (1, .int v1), (2, .int v2)] hE dX2_copies_66 rfl 3 rfl xc_i_1 (Nat.le_of_ble_eq_true rfl) rfl ?_
      refine x_goto 38 hE dX2_copies_69 (by decide) ?_
      refine x_sub [(0, va_rf (some (xw_hm (xe_G E)))), (1, .int v1), (2, .int v2), (3, .int (v6 + 1))] [1, 2, 3, 0] rfl ?_
      exact hc1 (v6 + 1)

set_option maxHeartbeats 4000000 in
theorem ct_X2_image {l : Launch} {G : xw_G} {σ0 : xw_St} (hac : xw_ac G = true)  : xw_Ct l G (xw_hr G σ0) xw_oi yX2_image cX2_image 1 (some (.int)) 2 [va_rf (some (xw_hm G))] (pg_X2_image) := by
  refine xw_metL [(0, va_rf (some (xw_hm G)))] (by decide) (Nat.le_trans (Nat.le_of_eq ((xw_l1 rfl).trans (congrArg (1 + ·) xw_l0))) (by decide)) ((xw_a1 rfl).trans (congrArg (List.cons _) xw_a0)) (fun E hE hl hG hm => ?_)
  subst hl; subst hG
  have hE : xw_ok E "CrossingWordsModel" cX2_image 1 (some (.int)) 2 := hE
  unfold pg_X2_image
  refine x_aload_n 1 hE dX2_image_0 rfl 0 rfl ?_
  refine y_g 4 hE hac (by decide) ymf_62 rfl xkf_CrossingWordsModel_482 dX2_image_1 rfl (fun v1 => ?_)
  refine x_iconst 5 hE dX2_image_4 rfl xc_i_4 ?_
  refine x_icmp_ne 10 8 hE dX2_image_5 (by decide) rfl ?_ ?_
  · refine x_iconst 9 hE dX2_image_8 rfl xc_i_m1 ?_
    exact x_iret hE dX2_image_9
  · refine x_aload_n 11 hE dX2_image_10 rfl 0 rfl ?_
    refine x_iconst 12 hE dX2_image_11 rfl xc_i_0 ?_
    refine x_aload_n 13 hE dX2_image_12 rfl 0 rfl ?_
    refine y_g 16 hE hac (by decide) ymf_62 rfl xkf_CrossingWordsModel_482 dX2_image_13 rfl (fun v2 => ?_)
    refine x_iconst 17 hE dX2_image_16 rfl xc_i_1 ?_
    refine x_iadd 18 hE dX2_image_17 rfl ?_
    refine x_callv 21 (xw_goM hE hac (xw_rV hE (ct_X2_copies hac 0 (v2 + 1)) xd_X2_copies rfl q1918 q1920 qs92 q97 q1921 rfl ⟨Nat.le_of_ble_eq_true rfl, Nat.le_of_ble_eq_true rfl⟩ rfl rfl (by decide) dX2_image_18)) rfl ?_
    refine x_aload_n 22 hE dX2_image_21 rfl 0 rfl ?_
    refine x_dup 23 hE dX2_image_22 rfl rfl ?_
    refine y_g 26 hE hac (by decide) ymf_62 rfl xkf_CrossingWordsModel_482 dX2_image_23 rfl (fun v3 => ?_)
    refine x_iconst 27 hE dX2_image_26 rfl xc_i_1 ?_
    refine x_iadd 28 hE dX2_image_27 rfl ?_
    refine y_p 31 hE hac (by decide) ymf_62 (Or.inl ⟨rfl, rfl⟩) rfl xkf_CrossingWordsModel_482 dX2_image_28 rfl ?_
    refine x_aload_n 32 hE dX2_image_31 rfl 0 rfl ?_
    refine y_g 35 hE hac (by decide) ymf_62 rfl xkf_CrossingWordsModel_482 dX2_image_32 rfl (fun v4 => ?_)
    refine x_iconst 36 hE dX2_image_35 rfl xc_i_1 ?_
    refine x_isub 37 hE dX2_image_36 rfl ?_
    exact x_iret hE dX2_image_37

set_option maxHeartbeats 4000000 in
theorem ct_X2_back {l : Launch} {G : xw_G} {σ0 : xw_St} (hac : xw_ac G = true) (v1 : Int32) : xw_Ct l G (xw_hr G σ0) xw_oi yX2_back cX2_back 2 (some (.boolean)) 2 [va_rf (some (xw_hm G)), .int v1] (pg_X2_back v1) := by
  refine xw_metL [(0, va_rf (some (xw_hm G))), (1, .int v1)] (by decide) (Nat.le_trans (Nat.le_of_eq ((xw_l1 rfl).trans (congrArg (1 + ·) ((xw_l1 rfl).trans (congrArg (1 + ·) xw_l0))))) (by decide)) ((xw_a1 rfl).trans (congrArg (List.cons _) ((xw_a1 rfl).trans (congrArg (List.cons _) xw_a0)))) (fun E hE hl hG hm => ?_)
  subst hl; subst hG
  have hE : xw_ok E "CrossingWordsModel" cX2_back 2 (some (.boolean)) 2 := hE
  unfold pg_X2_back
  refine x_iload_n 1 hE dX2_back_0 rfl 1 rfl ?_
  refine x_iconst 2 hE dX2_back_1 rfl xc_i_0 ?_
  refine x_aload_n 3 hE dX2_back_2 rfl 0 rfl ?_
  refine y_g 6 hE hac (by decide) ymf_62 rfl xkf_CrossingWordsModel_482 dX2_back_3 rfl (fun v2 => ?_)
  refine x_iconst 7 hE dX2_back_6 rfl xc_i_1 ?_
  refine x_isub 8 hE dX2_back_7 rfl ?_
  refine x_calli 11 (xw_goS hE (ct_X2_within v1 0 (v2 - 1)) xd_X2_within q1551 q1552 q97 q1553 rfl ⟨Nat.le_of_ble_eq_true rfl, Nat.le_of_ble_eq_true rfl⟩ rfl (by decide) dX2_back_8) rfl (fun v3 => ?_)
  refine x_if_ne 16 14 hE dX2_back_11 (by decide) rfl ?_ ?_
  · refine x_iconst 15 hE dX2_back_14 rfl xc_i_0 ?_
    exact x_zretw hE (by decide) dX2_back_15
  · refine x_aload_n 17 hE dX2_back_16 rfl 0 rfl ?_
    refine x_iload_n 18 hE dX2_back_17 rfl 1 rfl ?_
    refine x_iconst 19 hE dX2_back_18 rfl xc_i_1 ?_
    refine x_iadd 20 hE dX2_back_19 rfl ?_
    refine x_iconst 21 hE dX2_back_20 rfl xc_i_0 ?_
    refine x_callv 24 (xw_goM hE hac (xw_rV hE (ct_X2_copies hac (v1 + 1) 0) xd_X2_copies rfl q1918 q1920 qs92 q97 q1921 rfl ⟨Nat.le_of_ble_eq_true rfl, Nat.le_of_ble_eq_true rfl⟩ rfl rfl (by decide) dX2_back_21)) rfl ?_
    refine x_iconst 25 hE dX2_back_24 rfl xc_i_1 ?_
    exact x_zretw hE (by decide) dX2_back_25

set_option maxHeartbeats 4000000 in
theorem ct_X2_sayingsInAll {l : Launch} {G : xw_G} {σ0 : xw_St} (hac : xw_ac G = true)  : xw_Ct l G (xw_hr G σ0) xw_oi yX2_sayingsInAll cX2_sayingsInAll 3 (some (.int)) 1 [va_rf (some (xw_hm G))] (pg_X2_sayingsInAll) := by
  refine xw_metL [(0, va_rf (some (xw_hm G)))] (by decide) (Nat.le_trans (Nat.le_of_eq ((xw_l1 rfl).trans (congrArg (1 + ·) xw_l0))) (by decide)) ((xw_a1 rfl).trans (congrArg (List.cons _) xw_a0)) (fun E hE hl hG hm => ?_)
  subst hl; subst hG
  have hE : xw_ok E "CrossingWordsModel" cX2_sayingsInAll 3 (some (.int)) 1 := hE
  unfold pg_X2_sayingsInAll
  refine x_iconst 1 hE dX2_sayingsInAll_0 rfl xc_i_0 ?_
  refine x_istore_n 2 [(1, .int 0), (0, va_rf (some (xw_hm (xe_G E))))] hE dX2_sayingsInAll_1 rfl rfl (Nat.le_of_ble_eq_true rfl) rfl ?_
  refine x_iconst 3 hE dX2_sayingsInAll_2 rfl xc_i_0 ?_
  refine x_istore_n 4 [(2, .int 0), (1, .int 0), (0, va_rf (some (xw_hm (xe_G E))))] hE dX2_sayingsInAll_3 rfl rfl (Nat.le_of_ble_eq_true rfl) rfl ?_
  refine x_sub [(0, va_rf (some (xw_hm (xe_G E)))), (1, .int 0), (2, .int 0)] [2, 1, 0] rfl ?_
  refine x_sq 29 (fun (v2 : Int32) => [(1, .int v2)]) (fun _ => []) (fun v2 => ?_) (fun J2 hJ2 => ?_)
  · refine x_iload_n 30 hE dX2_sayingsInAll_29 rfl 0 rfl ?_
    exact x_iret hE dX2_sayingsInAll_30
  · refine x_loop (fun (v1 : Int32 × Int32) => [(0, va_rf (some (xw_hm (xe_G E)))), (1, .int v1.1), (2, .int v1.2)]) (fun JL1 hc1 hx1 v1 => ?_) _ _
    refine x_iload_n 5 hE dX2_sayingsInAll_4 rfl 2 rfl ?_
    refine x_aload_n 6 hE dX2_sayingsInAll_5 rfl 0 rfl ?_
    refine y_ga 9 hE hac (by decide) ymf_0 rfl xkf_CrossingWordsModel_7 dX2_sayingsInAll_6 rfl ?_
    refine x_iconst 10 hE dX2_sayingsInAll_9 rfl xc_i_0 ?_
    refine y_ld 11 hE hac ⟨rfl, rfl⟩ dX2_sayingsInAll_10 rfl (fun v3 => ?_)
    refine x_icmp_ge 29 14 hE dX2_sayingsInAll_11 (by decide) rfl ?_ ?_
    · refine x_sub [(1, .int v1.1)] [1] rfl ?_
      refine hx1 _ _ _ _ ?_
      exact hJ2 (v1.1)
    · refine x_iload_n 15 hE dX2_sayingsInAll_14 rfl 1 rfl ?_
      refine x_aload_n 16 hE dX2_sayingsInAll_15 rfl 0 rfl ?_
      refine y_ga 19 hE hac (by decide) ymf_3 rfl xkf_CrossingWordsModel_19 dX2_sayingsInAll_16 rfl ?_
      refine x_iload_n 20 hE dX2_sayingsInAll_19 rfl 2 rfl ?_
      refine y_ld 21 hE hac ⟨rfl, rfl⟩ dX2_sayingsInAll_20 rfl (fun v4 => ?_)
      refine x_iadd 22 hE dX2_sayingsInAll_21 rfl ?_
      refine x_lti (fun v5 => ?_)
      refine x_istore_n 23 [(1, .int v5), (0, va_rf (some (xw_hm (xe_G E)))), (2, .int v1.2)] hE dX2_sayingsInAll_22 rfl rfl (Nat.le_of_ble_eq_true rfl) rfl ?_
      refine x_iinc 26 [(2, .int (v1.2 + 1)), (1, .int v5), (0, va_rf (some (xw_hm (xe_G E))))] hE dX2_sayingsInAll_23 rfl 2 rfl xc_i_1 (Nat.le_of_ble_eq_true rfl) rfl ?_
      refine x_goto 4 hE dX2_sayingsInAll_26 (by decide) ?_
      refine x_sub [(0, va_rf (some (xw_hm (xe_G E)))), (1, .int v5), (2, .int (v1.2 + 1))] [2, 1, 0] rfl ?_
      exact hc1 (v5, v1.2 + 1)

set_option maxHeartbeats 4000000 in
theorem ct_X2_count {l : Launch} {G : xw_G} {σ0 : xw_St} (hac : xw_ac G = true) (v1 : Int32) : xw_Ct l G (xw_hr G σ0) xw_oi yX2_count cX2_count 2 (some (.int)) 2 [va_rf (some (xw_hm G)), .int v1] (pg_X2_count v1) := by
  refine xw_metL [(0, va_rf (some (xw_hm G))), (1, .int v1)] (by decide) (Nat.le_trans (Nat.le_of_eq ((xw_l1 rfl).trans (congrArg (1 + ·) ((xw_l1 rfl).trans (congrArg (1 + ·) xw_l0))))) (by decide)) ((xw_a1 rfl).trans (congrArg (List.cons _) ((xw_a1 rfl).trans (congrArg (List.cons _) xw_a0)))) (fun E hE hl hG hm => ?_)
  subst hl; subst hG
  have hE : xw_ok E "CrossingWordsModel" cX2_count 2 (some (.int)) 2 := hE
  unfold pg_X2_count
  refine x_iload_n 1 hE dX2_count_0 rfl 1 rfl ?_
  refine x_sw (fun hs1 => ?_) (fun hs1 => ?_)
  · refine x_swIn 40 hE dX2_count_1 hs1 ⟨by decide, by decide, rfl⟩ (by decide) ?_
    refine x_aload_n 41 hE dX2_count_40 rfl 0 rfl ?_
    refine y_ga 44 hE hac (by decide) ymf_0 rfl xkf_CrossingWordsModel_7 dX2_count_41 rfl ?_
    refine x_iconst 45 hE dX2_count_44 rfl xc_i_0 ?_
    refine y_ld 46 hE hac ⟨rfl, rfl⟩ dX2_count_45 rfl (fun v2 => ?_)
    exact x_iret hE dX2_count_46
  · refine x_sw (fun hs2 => ?_) (fun hs2 => ?_)
    · refine x_swIn 47 hE dX2_count_1 hs2 ⟨by decide, by decide, rfl⟩ (by decide) ?_
      refine x_aload_n 48 hE dX2_count_47 rfl 0 rfl ?_
      refine y_ga 51 hE hac (by decide) ymf_1 rfl xkf_CrossingWordsModel_13 dX2_count_48 rfl ?_
      refine x_iconst 52 hE dX2_count_51 rfl xc_i_0 ?_
      refine y_ld 53 hE hac ⟨rfl, rfl⟩ dX2_count_52 rfl (fun v3 => ?_)
      exact x_iret hE dX2_count_53
    · refine x_sw (fun hs3 => ?_) (fun hs3 => ?_)
      · refine x_swIn 54 hE dX2_count_1 hs3 ⟨by decide, by decide, rfl⟩ (by decide) ?_
        refine x_aload_n 55 hE dX2_count_54 rfl 0 rfl ?_
        refine y_ga 58 hE hac (by decide) ymf_2 rfl xkf_CrossingWordsModel_16 dX2_count_55 rfl ?_
        refine x_iconst 59 hE dX2_count_58 rfl xc_i_0 ?_
        refine y_ld 60 hE hac ⟨rfl, rfl⟩ dX2_count_59 rfl (fun v4 => ?_)
        exact x_iret hE dX2_count_60
      · refine x_sw (fun hs4 => ?_) (fun hs4 => ?_)
        · refine x_swIn 61 hE dX2_count_1 hs4 ⟨by decide, by decide, rfl⟩ (by decide) ?_
          refine x_aload_n 62 hE dX2_count_61 rfl 0 rfl ?_
          refine y_g 65 hE hac (by decide) ymf_17 rfl xkf_CrossingWordsModel_148 dX2_count_62 rfl (fun v5 => ?_)
          exact x_iret hE dX2_count_65
        · refine x_sw (fun hs5 => ?_) (fun hs5 => ?_)
          · refine x_swIn 66 hE dX2_count_1 hs5 ⟨by decide, by decide, rfl⟩ (by decide) ?_
            refine x_aload_n 67 hE dX2_count_66 rfl 0 rfl ?_
            refine x_calli 70 (xw_goM hE hac (xw_rV hE (ct_X2_sayingsInAll hac ) xd_X2_sayingsInAll rfl q1930 q1932 qs93 q97 q1933 rfl ⟨Nat.le_of_ble_eq_true rfl, Nat.le_of_ble_eq_true rfl⟩ rfl rfl (by decide) dX2_count_67)) rfl (fun v6 => ?_)
            exact x_iret hE dX2_count_70
          · refine x_sw (fun hs6 => ?_) (fun hs6 => ?_)
            · refine x_swIn 71 hE dX2_count_1 hs6 ⟨by decide, by decide, rfl⟩ (by decide) ?_
              refine x_aload_n 72 hE dX2_count_71 rfl 0 rfl ?_
              refine y_g 75 hE hac (by decide) ymf_62 rfl xkf_CrossingWordsModel_482 dX2_count_72 rfl (fun v7 => ?_)
              exact x_iret hE dX2_count_75
            · refine x_swOut 76 hE dX2_count_1 (xw_out0_5 hs1 hs2 hs3 hs4 hs5 hs6) (by decide) ?_
              refine x_iconst 77 hE dX2_count_76 rfl xc_i_m1 ?_
              exact x_iret hE dX2_count_77
