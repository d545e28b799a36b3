set_option maxRecDepth 100000
/-! the walks: printed by wip/D-91877w/gen/gen2.py -/
set_option maxHeartbeats 4000000 in
theorem ct_X2_rule {l : Launch} {G : xw_G} {σ0 : xw_St} (hac : xw_ac G = true) (v1 : Int32) (v2 : Int32) : xw_Ct l G (xw_hr G σ0) xw_oi yX2_rule cX2_rule 3 (some (.int)) 3 [va_rf (some (xw_hm G)), .int v1, .int v2] (pg_X2_rule v1 v2) := by
  refine xw_metL [(0, va_rf (some (xw_hm G))), (1, .int v1), (2, .int v2)] (by decide) (Nat.le_trans (Nat.le_of_eq ((xw_l1 rfl).trans (congrArg (1 + ·) ((xw_l1 rfl).trans (congrArg (1 + ·) ((xw_l1 rfl).trans (congrArg (1 + ·) xw_l0))))))) (by decide)) ((xw_a1 rfl).trans (congrArg (List.cons _) ((xw_a1 rfl).trans (congrArg (List.cons _) ((xw_a1 rfl).trans (congrArg (List.cons _) xw_a0)))))) (fun E hE hl hG hm => ?_)
  subst hl; subst hG
  have hE : xw_ok E "CrossingWordsModel" cX2_rule 3 (some (.int)) 3 := hE
  unfold pg_X2_rule
  refine x_aload_n 1 hE dX2_rule_0 rfl 0 rfl ?_
  refine x_iload_n 2 hE dX2_rule_1 rfl 1 rfl ?_
  refine x_calli 5 (xw_goM hE hac (xw_rV hE (ct_X2_isLaw hac v1) xd_X2_isLaw rfl q1699 q1701 qs57 q97 q1702 rfl ⟨Nat.le_of_ble_eq_true rfl, Nat.le_of_ble_eq_true rfl⟩ rfl rfl (by decide) dX2_rule_2)) rfl (fun v3 => ?_)
  refine x_if_eq 18 8 hE dX2_rule_5 (by decide) rfl ?_ ?_
  · refine x_bipush 20 hE dX2_rule_18 rfl xc_b_m2 ?_
    exact x_iret hE dX2_rule_20
  · refine x_iload_n 9 hE dX2_rule_8 rfl 2 rfl ?_
    refine x_iconst 10 hE dX2_rule_9 rfl xc_i_0 ?_
    refine x_bipush 12 hE dX2_rule_10 rfl xc_b_13 ?_
    refine x_calli 15 (xw_goS hE (ct_X2_within v2 0 13) xd_X2_within q1551 q1552 q97 q1553 rfl ⟨Nat.le_of_ble_eq_true rfl, Nat.le_of_ble_eq_true rfl⟩ rfl (by decide) dX2_rule_12) rfl (fun v4 => ?_)
    refine x_if_ne 21 18 hE dX2_rule_15 (by decide) rfl ?_ ?_
    · refine x_bipush 20 hE dX2_rule_18 rfl xc_b_m2 ?_
      exact x_iret hE dX2_rule_20
    · refine x_iload_n 22 hE dX2_rule_21 rfl 2 rfl ?_
      refine x_bipush 24 hE dX2_rule_22 rfl xc_b_13 ?_
      refine x_icmp_ne 40 27 hE dX2_rule_24 (by decide) rfl ?_ ?_
      · refine x_aload_n 28 hE dX2_rule_27 rfl 0 rfl ?_
        refine y_ga 31 hE hac (by decide) ymf_15 rfl xkf_CrossingWordsModel_55 dX2_rule_28 rfl ?_
        refine x_bipush 33 hE dX2_rule_31 rfl xc_b_14 ?_
        refine x_iload_n 34 hE dX2_rule_33 rfl 1 rfl ?_
        refine x_imul 35 hE dX2_rule_34 rfl ?_
        refine x_bipush 37 hE dX2_rule_35 rfl xc_b_13 ?_
        refine x_iadd 38 hE dX2_rule_37 rfl ?_
        refine y_ld 39 hE hac ⟨rfl, rfl⟩ dX2_rule_38 rfl (fun v6 => ?_)
        exact x_iret hE dX2_rule_39
      · refine x_aload_n 41 hE dX2_rule_40 rfl 0 rfl ?_
        refine x_iload_n 42 hE dX2_rule_41 rfl 1 rfl ?_
        refine x_iconst 43 hE dX2_rule_42 rfl xc_i_0 ?_
        refine x_callv 46 (xw_goM hE hac (xw_rV hE (ct_X2_lays hac v1 0) xd_X2_lays rfl q1703 q1705 qs58 q97 q1706 rfl ⟨Nat.le_of_ble_eq_true rfl, Nat.le_of_ble_eq_true rfl⟩ rfl rfl (by decide) dX2_rule_43)) rfl ?_
        refine x_aload_n 47 hE dX2_rule_46 rfl 0 rfl ?_
        refine y_ga 50 hE hac (by decide) ymf_26 rfl xkf_CrossingWordsModel_66 dX2_rule_47 rfl ?_
        refine x_iload_n 51 hE dX2_rule_50 rfl 2 rfl ?_
        refine y_ld 52 hE hac ⟨rfl, rfl⟩ dX2_rule_51 rfl (fun v5 => ?_)
        exact x_iret hE dX2_rule_52

set_option maxHeartbeats 4000000 in
theorem ct_X2_saying {l : Launch} {G : xw_G} {σ0 : xw_St} (hac : xw_ac G = true) (v1 : Int32) (v2 : Int32) (v3 : Int32) : xw_Ct l G (xw_hr G σ0) xw_oi yX2_saying cX2_saying 5 (some (.int)) 2 [va_rf (some (xw_hm G)), .int v1, .int v2, .int v3] (pg_X2_saying v1 v2 v3) := by
  refine xw_metL [(0, va_rf (some (xw_hm G))), (1, .int v1), (2, .int v2), (3, .int v3)] (by decide) (Nat.le_trans (Nat.le_of_eq ((xw_l1 rfl).trans (congrArg (1 + ·) ((xw_l1 rfl).trans (congrArg (1 + ·) ((xw_l1 rfl).trans (congrArg (1 + ·) ((xw_l1 rfl).trans (congrArg (1 + ·) xw_l0))))))))) (by decide)) ((xw_a1 rfl).trans (congrArg (List.cons _) ((xw_a1 rfl).trans (congrArg (List.cons _) ((xw_a1 rfl).trans (congrArg (List.cons _) ((xw_a1 rfl).trans (congrArg (List.cons _) xw_a0)))))))) (fun E hE hl hG hm => ?_)
  subst hl; subst hG
  have hE : xw_ok E "CrossingWordsModel" cX2_saying 5 (some (.int)) 2 := hE
  unfold pg_X2_saying
  refine x_aload_n 1 hE dX2_saying_0 rfl 0 rfl ?_
  refine x_iload_n 2 hE dX2_saying_1 rfl 1 rfl ?_
  refine x_calli 5 (xw_goM hE hac (xw_rV hE (ct_X2_isCase hac v1) xd_X2_isCase rfl q1648 q1650 qs52 q97 q1651 rfl ⟨Nat.le_of_ble_eq_true rfl, Nat.le_of_ble_eq_true rfl⟩ rfl rfl (by decide) dX2_saying_2)) rfl (fun v4 => ?_)
  refine x_if_eq 22 8 hE dX2_saying_5 (by decide) rfl ?_ ?_
  · refine x_bipush 24 hE dX2_saying_22 rfl xc_b_m2 ?_
    exact x_iret hE dX2_saying_24
  · refine x_iload_n 9 hE dX2_saying_8 rfl 2 rfl ?_
    refine x_if_lt 22 12 hE dX2_saying_9 (by decide) rfl ?_ ?_
    · refine x_bipush 24 hE dX2_saying_22 rfl xc_b_m2 ?_
      exact x_iret hE dX2_saying_24
    · refine x_iload_n 13 hE dX2_saying_12 rfl 2 rfl ?_
      refine x_aload_n 14 hE dX2_saying_13 rfl 0 rfl ?_
      refine y_ga 17 hE hac (by decide) ymf_3 rfl xkf_CrossingWordsModel_19 dX2_saying_14 rfl ?_
      refine x_iload_n 18 hE dX2_saying_17 rfl 1 rfl ?_
      refine y_ld 19 hE hac ⟨rfl, rfl⟩ dX2_saying_18 rfl (fun v5 => ?_)
      refine x_icmp_lt 25 22 hE dX2_saying_19 (by decide) rfl ?_ ?_
      · refine x_bipush 27 hE dX2_saying_25 rfl xc_b_12 ?_
        refine x_iload_n 28 hE dX2_saying_27 rfl 1 rfl ?_
        refine x_imul 29 hE dX2_saying_28 rfl ?_
        refine x_iload_n 30 hE dX2_saying_29 rfl 2 rfl ?_
        refine x_iadd 31 hE dX2_saying_30 rfl ?_
        refine x_lti (fun v6 => ?_)
        refine x_istore 33 [(4, .int v6), (0, va_rf (some (xw_hm (xe_G E)))), (1, .int v1), (2, .int v2), (3, .int v3)] hE dX2_saying_31 rfl (Nat.le_of_ble_eq_true rfl) rfl ?_
        refine x_iload_n 34 hE dX2_saying_33 rfl 4 rfl ?_
        refine x_bipush 36 hE dX2_saying_34 rfl xc_b_10 ?_
        refine x_bipush 38 hE dX2_saying_36 rfl xc_b_14 ?_
        refine x_calli 41 (xw_goS hE (ct_X2_within v3 10 14) xd_X2_within q1551 q1552 q97 q1553 rfl ⟨Nat.le_of_ble_eq_true rfl, Nat.le_of_ble_eq_true rfl⟩ rfl (by decide) dX2_saying_38) rfl (fun v7 => ?_)
        refine x_if_eq 59 44 hE dX2_saying_41 (by decide) rfl ?_ ?_
        · refine x_iload_n 60 hE dX2_saying_59 rfl 4 rfl ?_
          refine x_sw (fun hs1 => ?_) (fun hs1 => ?_)
          · refine x_swIn 104 hE dX2_saying_60 hs1 ⟨by decide, by decide, rfl⟩ (by decide) ?_
            refine x_aload_n 105 hE dX2_saying_104 rfl 1 rfl ?_
            refine y_ga 108 hE hac (by decide) ymf_4 rfl xkf_CrossingWordsModel_22 dX2_saying_105 rfl ?_
            refine x_iload 110 hE dX2_saying_108 rfl 0 rfl ?_
            refine y_ld 111 hE hac ⟨rfl, rfl⟩ dX2_saying_110 rfl (fun v8 => ?_)
            exact x_iret hE dX2_saying_111
          · refine x_sw (fun hs2 => ?_) (fun hs2 => ?_)
            · refine x_swIn 112 hE dX2_saying_60 hs2 ⟨by decide, by decide, rfl⟩ (by decide) ?_
              refine x_aload_n 113 hE dX2_saying_112 rfl 1 rfl ?_
              refine y_ga 116 hE hac (by decide) ymf_5 rfl xkf_CrossingWordsModel_25 dX2_saying_113 rfl ?_
              refine x_iload 118 hE dX2_saying_116 rfl 0 rfl ?_
              refine y_ld 119 hE hac ⟨rfl, rfl⟩ dX2_saying_118 rfl (fun v9 => ?_)
              exact x_iret hE dX2_saying_119
            · refine x_sw (fun hs3 => ?_) (fun hs3 => ?_)
              · refine x_swIn 120 hE dX2_saying_60 hs3 ⟨by decide, by decide, rfl⟩ (by decide) ?_
                refine x_aload_n 121 hE dX2_saying_120 rfl 1 rfl ?_
                refine y_ga 124 hE hac (by decide) ymf_6 rfl xkf_CrossingWordsModel_28 dX2_saying_121 rfl ?_
                refine x_iload 126 hE dX2_saying_124 rfl 0 rfl ?_
                refine y_ld 127 hE hac ⟨rfl, rfl⟩ dX2_saying_126 rfl (fun v10 => ?_)
                exact x_iret hE dX2_saying_127
              · refine x_sw (fun hs4 => ?_) (fun hs4 => ?_)
                · refine x_swIn 128 hE dX2_saying_60 hs4 ⟨by decide, by decide, rfl⟩ (by decide) ?_
                  refine x_aload_n 129 hE dX2_saying_128 rfl 1 rfl ?_
                  refine y_ga 132 hE hac (by decide) ymf_7 rfl xkf_CrossingWordsModel_31 dX2_saying_129 rfl ?_
                  refine x_iload 134 hE dX2_saying_132 rfl 0 rfl ?_
                  refine y_ld 135 hE hac ⟨rfl, rfl⟩ dX2_saying_134 rfl (fun v11 => ?_)
                  exact x_iret hE dX2_saying_135
                · refine x_sw (fun hs5 => ?_) (fun hs5 => ?_)
                  · refine x_swIn 136 hE dX2_saying_60 hs5 ⟨by decide, by decide, rfl⟩ (by decide) ?_
                    refine x_aload_n 137 hE dX2_saying_136 rfl 1 rfl ?_
                    refine y_ga 140 hE hac (by decide) ymf_8 rfl xkf_CrossingWordsModel_34 dX2_saying_137 rfl ?_
                    refine x_iload 142 hE dX2_saying_140 rfl 0 rfl ?_
                    refine y_ld 143 hE hac ⟨rfl, rfl⟩ dX2_saying_142 rfl (fun v12 => ?_)
                    exact x_iret hE dX2_saying_143
                  · refine x_sw (fun hs6 => ?_) (fun hs6 => ?_)
                    · refine x_swIn 144 hE dX2_saying_60 hs6 ⟨by decide, by decide, rfl⟩ (by decide) ?_
                      refine x_aload_n 145 hE dX2_saying_144 rfl 1 rfl ?_
                      refine y_ga 148 hE hac (by decide) ymf_9 rfl xkf_CrossingWordsModel_37 dX2_saying_145 rfl ?_
                      refine x_iload 150 hE dX2_saying_148 rfl 0 rfl ?_
                      refine y_ld 151 hE hac ⟨rfl, rfl⟩ dX2_saying_150 rfl (fun v13 => ?_)
                      exact x_iret hE dX2_saying_151
                    · refine x_sw (fun hs7 => ?_) (fun hs7 => ?_)
                      · refine x_swIn 152 hE dX2_saying_60 hs7 ⟨by decide, by decide, rfl⟩ (by decide) ?_
                        refine x_aload_n 153 hE dX2_saying_152 rfl 1 rfl ?_
                        refine y_ga 156 hE hac (by decide) ymf_10 rfl xkf_CrossingWordsModel_40 dX2_saying_153 rfl ?_
                        refine x_iload 158 hE dX2_saying_156 rfl 0 rfl ?_
                        refine y_ld 159 hE hac ⟨rfl, rfl⟩ dX2_saying_158 rfl (fun v14 => ?_)
                        exact x_iret hE dX2_saying_159
                      · refine x_swOut 160 hE dX2_saying_60 (xw_out0_6 hs1 hs2 hs3 hs4 hs5 hs6 hs7) (by decide) ?_
                        refine x_bipush 162 hE dX2_saying_160 rfl xc_b_m2 ?_
                        exact x_iret hE dX2_saying_162
        · refine x_aload_n 45 hE dX2_saying_44 rfl 1 rfl ?_
          refine y_ga 48 hE hac (by decide) ymf_12 rfl xkf_CrossingWordsModel_46 dX2_saying_45 rfl ?_
          refine x_iconst 49 hE dX2_saying_48 rfl xc_i_5 ?_
          refine x_iload 51 hE dX2_saying_49 rfl 0 rfl ?_
          refine x_imul 52 hE dX2_saying_51 rfl ?_
          refine x_iload_n 53 hE dX2_saying_52 rfl 4 rfl ?_
          refine x_iadd 54 hE dX2_saying_53 rfl ?_
          refine x_bipush 56 hE dX2_saying_54 rfl xc_b_10 ?_
          refine x_isub 57 hE dX2_saying_56 rfl ?_
          refine y_ld 58 hE hac ⟨rfl, rfl⟩ dX2_saying_57 rfl (fun v15 => ?_)
          exact x_iret hE dX2_saying_58
      · refine x_bipush 24 hE dX2_saying_22 rfl xc_b_m2 ?_
        exact x_iret hE dX2_saying_24

set_option maxHeartbeats 4000000 in
theorem ct_X2_bring {l : Launch} {G : xw_G} {σ0 : xw_St} (hac : xw_ac G = true) (v1 : Int32) : xw_Ct l G (xw_hr G σ0) xw_ov yX2_bring cX2_bring 5 none 1 [va_rf (some (xw_hm G)), .int v1] (pg_X2_bring v1) := by
  refine xw_metL [(0, va_rf (some (xw_hm G))), (1, .int v1)] (by decide) (Nat.le_trans (Nat.le_of_eq ((xw_l1 rfl).trans (congrArg (1 + ·) ((xw_l1 rfl).trans (congrArg (1 + ·) xw_l0))))) (by decide)) ((xw_a1 rfl).trans (congrArg (List.cons _) ((xw_a1 rfl).trans (congrArg (List.cons _) xw_a0)))) (fun E hE hl hG hm => ?_)
  subst hl; subst hG
  have hE : xw_ok E "CrossingWordsModel" cX2_bring 5 none 1 := hE
  unfold pg_X2_bring
  refine x_aload_n 1 hE dX2_bring_0 rfl 0 rfl ?_
  refine x_aload_n 2 hE dX2_bring_1 rfl 0 rfl ?_
  refine y_ga 5 hE hac (by decide) ymf_3 rfl xkf_CrossingWordsModel_19 dX2_bring_2 rfl ?_
  refine x_iload_n 6 hE dX2_bring_5 rfl 1 rfl ?_
  refine y_ld 7 hE hac ⟨rfl, rfl⟩ dX2_bring_6 rfl (fun v2 => ?_)
  refine y_p 10 hE hac (by decide) ymf_27 (Or.inl ⟨rfl, rfl⟩) rfl xkf_CrossingWordsModel_351 dX2_bring_7 rfl ?_
  refine x_iconst 11 hE dX2_bring_10 rfl xc_i_0 ?_
  refine x_istore_n 12 [(2, .int 0), (0, va_rf (some (xw_hm (xe_G E)))), (1, .int v1)] hE dX2_bring_11 rfl rfl (Nat.le_of_ble_eq_true rfl) rfl ?_
  refine x_sub [(0, va_rf (some (xw_hm (xe_G E)))), (1, .int v1), (2, .int 0)] [1, 2, 0] rfl ?_
  refine x_sq 247 (fun (v4 : Unit) => []) (fun _ => []) (fun v4 => ?_) (fun J2 hJ2 => ?_)
  · exact x_vret hE dX2_bring_247
  · refine x_loop (fun (v3 : Int32) => [(0, va_rf (some (xw_hm (xe_G E)))), (1, .int v1), (2, .int v3)]) (fun JL1 hc1 hx1 v3 => ?_) _ _
    refine x_iload_n 13 hE dX2_bring_12 rfl 2 rfl ?_
    refine x_aload_n 14 hE dX2_bring_13 rfl 0 rfl ?_
    refine y_g 17 hE hac (by decide) ymf_27 rfl xkf_CrossingWordsModel_351 dX2_bring_14 rfl (fun v5 => ?_)
    refine x_icmp_ge 247 20 hE dX2_bring_17 (by decide) rfl ?_ ?_
    · refine x_sub [] [] rfl ?_
      refine hx1 _ _ _ _ ?_
      exact hJ2 ()
    · refine x_bipush 22 hE dX2_bring_20 rfl xc_b_12 ?_
      refine x_iload_n 23 hE dX2_bring_22 rfl 1 rfl ?_
      refine x_imul 24 hE dX2_bring_23 rfl ?_
      refine x_iload_n 25 hE dX2_bring_24 rfl 2 rfl ?_
      refine x_iadd 26 hE dX2_bring_25 rfl ?_
      refine x_lti (fun v6 => ?_)
      refine x_istore_n 27 [(3, .int v6), (0, va_rf (some (xw_hm (xe_G E)))), (1, .int v1), (2, .int v3)] hE dX2_bring_26 rfl rfl (Nat.le_of_ble_eq_true rfl) rfl ?_
      refine x_aload_n 28 hE dX2_bring_27 rfl 1 rfl ?_
      refine y_ga 31 hE hac (by decide) ymf_30 rfl xkf_CrossingWordsModel_69 dX2_bring_28 rfl ?_
      refine x_iload_n 32 hE dX2_bring_31 rfl 3 rfl ?_
      refine x_aload_n 33 hE dX2_bring_32 rfl 1 rfl ?_
      refine y_ga 36 hE hac (by decide) ymf_4 rfl xkf_CrossingWordsModel_22 dX2_bring_33 rfl ?_
      refine x_iload_n 37 hE dX2_bring_36 rfl 0 rfl ?_
      refine y_ld 38 hE hac ⟨rfl, rfl⟩ dX2_bring_37 rfl (fun v7 => ?_)
      refine y_st 39 hE hac ⟨rfl, rfl⟩ dX2_bring_38 rfl ?_
      refine x_aload_n 40 hE dX2_bring_39 rfl 1 rfl ?_
      refine y_ga 43 hE hac (by decide) ymf_31 rfl xkf_CrossingWordsModel_72 dX2_bring_40 rfl ?_
      refine x_iload_n 44 hE dX2_bring_43 rfl 3 rfl ?_
      refine x_aload_n 45 hE dX2_bring_44 rfl 1 rfl ?_
      refine y_ga 48 hE hac (by decide) ymf_8 rfl xkf_CrossingWordsModel_34 dX2_bring_45 rfl ?_
      refine x_iload_n 49 hE dX2_bring_48 rfl 0 rfl ?_
      refine y_ld 50 hE hac ⟨rfl, rfl⟩ dX2_bring_49 rfl (fun v8 => ?_)
      refine y_st 51 hE hac ⟨rfl, rfl⟩ dX2_bring_50 rfl ?_
      refine x_aload_n 52 hE dX2_bring_51 rfl 1 rfl ?_
      refine y_ga 55 hE hac (by decide) ymf_32 rfl xkf_CrossingWordsModel_75 dX2_bring_52 rfl ?_
      refine x_iload_n 56 hE dX2_bring_55 rfl 3 rfl ?_
      refine x_aload_n 57 hE dX2_bring_56 rfl 1 rfl ?_
      refine y_ga 60 hE hac (by decide) ymf_11 rfl xkf_CrossingWordsModel_43 dX2_bring_57 rfl ?_
      refine x_iload_n 61 hE dX2_bring_60 rfl 0 rfl ?_
      refine y_ld 62 hE hac ⟨rfl, rfl⟩ dX2_bring_61 rfl (fun v9 => ?_)
      refine y_st 63 hE hac ⟨rfl, rfl⟩ dX2_bring_62 rfl ?_
      refine x_aload_n 64 hE dX2_bring_63 rfl 1 rfl ?_
      refine y_ga 67 hE hac (by decide) ymf_33 rfl xkf_CrossingWordsModel_78 dX2_bring_64 rfl ?_
      refine x_iload_n 68 hE dX2_bring_67 rfl 3 rfl ?_
      refine x_aload_n 69 hE dX2_bring_68 rfl 1 rfl ?_
      refine y_ga 72 hE hac (by decide) ymf_9 rfl xkf_CrossingWordsModel_37 dX2_bring_69 rfl ?_
      refine x_iload_n 73 hE dX2_bring_72 rfl 0 rfl ?_
      refine y_ld 74 hE hac ⟨rfl, rfl⟩ dX2_bring_73 rfl (fun v10 => ?_)
      refine y_st 75 hE hac ⟨rfl, rfl⟩ dX2_bring_74 rfl ?_
      refine x_aload_n 76 hE dX2_bring_75 rfl 1 rfl ?_
      refine y_ga 79 hE hac (by decide) ymf_34 rfl xkf_CrossingWordsModel_81 dX2_bring_76 rfl ?_
      refine x_iload_n 80 hE dX2_bring_79 rfl 3 rfl ?_
      refine x_aload_n 81 hE dX2_bring_80 rfl 1 rfl ?_
      refine y_ga 84 hE hac (by decide) ymf_7 rfl xkf_CrossingWordsModel_31 dX2_bring_81 rfl ?_
      refine x_iload_n 85 hE dX2_bring_84 rfl 0 rfl ?_
      refine y_ld 86 hE hac ⟨rfl, rfl⟩ dX2_bring_85 rfl (fun v11 => ?_)
      refine y_st 87 hE hac ⟨rfl, rfl⟩ dX2_bring_86 rfl ?_
      refine x_aload_n 88 hE dX2_bring_87 rfl 1 rfl ?_
      refine y_ga 91 hE hac (by decide) ymf_35 rfl xkf_CrossingWordsModel_84 dX2_bring_88 rfl ?_
      refine x_iload_n 92 hE dX2_bring_91 rfl 3 rfl ?_
      refine x_aload_n 93 hE dX2_bring_92 rfl 1 rfl ?_
      refine y_ga 96 hE hac (by decide) ymf_5 rfl xkf_CrossingWordsModel_25 dX2_bring_93 rfl ?_
      refine x_iload_n 97 hE dX2_bring_96 rfl 0 rfl ?_
      refine y_ld 98 hE hac ⟨rfl, rfl⟩ dX2_bring_97 rfl (fun v12 => ?_)
      refine y_st 99 hE hac ⟨rfl, rfl⟩ dX2_bring_98 rfl ?_
      refine x_aload_n 100 hE dX2_bring_99 rfl 1 rfl ?_
      refine y_ga 103 hE hac (by decide) ymf_36 rfl xkf_CrossingWordsModel_87 dX2_bring_100 rfl ?_
      refine x_iload_n 104 hE dX2_bring_103 rfl 3 rfl ?_
      refine x_aload_n 105 hE dX2_bring_104 rfl 1 rfl ?_
      refine y_ga 108 hE hac (by decide) ymf_6 rfl xkf_CrossingWordsModel_28 dX2_bring_105 rfl ?_
      refine x_iload_n 109 hE dX2_bring_108 rfl 0 rfl ?_
      refine y_ld 110 hE hac ⟨rfl, rfl⟩ dX2_bring_109 rfl (fun v13 => ?_)
      refine y_st 111 hE hac ⟨rfl, rfl⟩ dX2_bring_110 rfl ?_
      refine x_aload_n 112 hE dX2_bring_111 rfl 1 rfl ?_
      refine y_ga 115 hE hac (by decide) ymf_37 rfl xkf_CrossingWordsModel_90 dX2_bring_112 rfl ?_
      refine x_iload_n 116 hE dX2_bring_115 rfl 3 rfl ?_
      refine x_aload_n 117 hE dX2_bring_116 rfl 1 rfl ?_
      refine y_ga 120 hE hac (by decide) ymf_10 rfl xkf_CrossingWordsModel_40 dX2_bring_117 rfl ?_
      refine x_iload_n 121 hE dX2_bring_120 rfl 0 rfl ?_
      refine y_ld 122 hE hac ⟨rfl, rfl⟩ dX2_bring_121 rfl (fun v14 => ?_)
      refine x_sq 144 (fun (v15 : Int32) => [(0, va_rf (some (xw_hm (xe_G E)))), (1, .int v1), (2, .int v3), (3, .int v6)]) (fun (v15 : Int32) => [.int v15, .int v3, va_rf (some (xw_am (xe_G E) 37))]) (fun v15 => ?_) (fun J3 hJ3 => ?_)
      · refine y_stZ 145 hE hac ⟨rfl, rfl⟩ dX2_bring_144 rfl ?_
        refine x_iconst 146 hE dX2_bring_145 rfl xc_i_0 ?_
        refine x_istore 148 [(4, .int 0), (0, va_rf (some (xw_hm (xe_G E)))), (1, .int v1), (2, .int v3), (3, .int v6)] hE dX2_bring_146 rfl (Nat.le_of_ble_eq_true rfl) rfl ?_
        refine x_sub [(0, va_rf (some (xw_hm (xe_G E)))), (1, .int v1), (2, .int v3), (3, .int v6), (4, .int 0)] [1, 2, 3, 4, 0] rfl ?_
        refine x_sq 182 (fun (v17 : Unit) => [(0, va_rf (some (xw_hm (xe_G E)))), (1, .int v1), (2, .int v3), (3, .int v6)]) (fun _ => []) (fun v17 => ?_) (fun J5 hJ5 => ?_)
        · refine x_iconst 183 hE dX2_bring_182 rfl xc_i_0 ?_
          refine x_istore 185 [(4, .int 0), (0, va_rf (some (xw_hm (xe_G E)))), (1, .int v1), (2, .int v3), (3, .int v6)] hE dX2_bring_183 rfl (Nat.le_of_ble_eq_true rfl) rfl ?_
          refine x_sub [(0, va_rf (some (xw_hm (xe_G E)))), (1, .int v1), (2, .int v3), (3, .int v6), (4, .int 0)] [1, 2, 3, 4, 0] rfl ?_
          refine x_sq 241 (fun (v19 : Unit) => [(0, va_rf (some (xw_hm (xe_G E)))), (1, .int v1), (2, .int v3)]) (fun _ => []) (fun v19 => ?_) (fun J7 hJ7 => ?_)
          · refine x_iinc 244 [(2, .int (v3 + 1)), (0, va_rf (some (xw_hm (xe_G E)))), (1, .int v1)] hE dX2_bring_241 rfl 2 rfl xc_i_1 (Nat.le_of_ble_eq_true rfl) rfl ?_
            refine x_goto 12 hE dX2_bring_244 (by decide) ?_
            refine x_sub [(0, va_rf (some (xw_hm (xe_G E)))), (1, .int v1), (2, .int (v3 + 1))] [1, 2, 0] rfl ?_
            exact hc1 (v3 + 1)
          · refine x_loop (fun (v18 : Int32) => [(0, va_rf (some (xw_hm (xe_G E)))), (1, .int v1), (2, .int v3), (3, .int v6), (4, .int v18)]) (fun JL6 hc6 hx6 v18 => ?_) _ _
            refine x_iload 187 hE dX2_bring_185 rfl 4 rfl ?_
            refine x_iconst 188 hE dX2_bring_187 rfl xc_i_3 ?_
            refine x_icmp_ge 241 191 hE dX2_bring_188 (by decide) rfl ?_ ?_
            · refine x_sub [(0, va_rf (some (xw_hm (xe_G E)))), (1, .int v1), (2, .int v3)] [0, 1, 2] rfl ?_
              refine hx6 _ _ _ _ ?_
              exact hJ7 ()
            · refine x_aload_n 192 hE dX2_bring_191 rfl 0 rfl ?_
              refine y_ga 195 hE hac (by decide) ymf_39 rfl xkf_CrossingWordsModel_97 dX2_bring_192 rfl ?_
              refine x_iconst 196 hE dX2_bring_195 rfl xc_i_3 ?_
              refine x_iload_n 197 hE dX2_bring_196 rfl 2 rfl ?_
              refine x_imul 198 hE dX2_bring_197 rfl ?_
              refine x_iload 200 hE dX2_bring_198 rfl 4 rfl ?_
              refine x_iadd 201 hE dX2_bring_200 rfl ?_
              refine x_aload_n 202 hE dX2_bring_201 rfl 0 rfl ?_
              refine y_ga 205 hE hac (by decide) ymf_13 rfl xkf_CrossingWordsModel_49 dX2_bring_202 rfl ?_
              refine x_iconst 206 hE dX2_bring_205 rfl xc_i_3 ?_
              refine x_iload_n 207 hE dX2_bring_206 rfl 3 rfl ?_
              refine x_imul 208 hE dX2_bring_207 rfl ?_
              refine x_iload 210 hE dX2_bring_208 rfl 4 rfl ?_
              refine x_iadd 211 hE dX2_bring_210 rfl ?_
              refine y_ld 212 hE hac ⟨rfl, rfl⟩ dX2_bring_211 rfl (fun v20 => ?_)
              refine y_st 213 hE hac ⟨rfl, rfl⟩ dX2_bring_212 rfl ?_
              refine x_aload_n 214 hE dX2_bring_213 rfl 0 rfl ?_
              refine y_ga 217 hE hac (by decide) ymf_40 rfl xkf_CrossingWordsModel_100 dX2_bring_214 rfl ?_
              refine x_iconst 218 hE dX2_bring_217 rfl xc_i_3 ?_
              refine x_iload_n 219 hE dX2_bring_218 rfl 2 rfl ?_
              refine x_imul 220 hE dX2_bring_219 rfl ?_
              refine x_iload 222 hE dX2_bring_220 rfl 4 rfl ?_
              refine x_iadd 223 hE dX2_bring_222 rfl ?_
              refine x_aload_n 224 hE dX2_bring_223 rfl 0 rfl ?_
              refine y_ga 227 hE hac (by decide) ymf_14 rfl xkf_CrossingWordsModel_52 dX2_bring_224 rfl ?_
              refine x_iconst 228 hE dX2_bring_227 rfl xc_i_3 ?_
              refine x_iload_n 229 hE dX2_bring_228 rfl 3 rfl ?_
              refine x_imul 230 hE dX2_bring_229 rfl ?_
              refine x_iload 232 hE dX2_bring_230 rfl 4 rfl ?_
              refine x_iadd 233 hE dX2_bring_232 rfl ?_
              refine y_ld 234 hE hac ⟨rfl, rfl⟩ dX2_bring_233 rfl (fun v21 => ?_)
              refine y_st 235 hE hac ⟨rfl, rfl⟩ dX2_bring_234 rfl ?_
              refine x_iinc 238 [(4, .int (v18 + 1)), (0, va_rf (some (xw_hm (xe_G E)))), (1, .int v1), (2, .int v3), (3, .int v6)] hE dX2_bring_235 rfl 4 rfl xc_i_1 (Nat.le_of_ble_eq_true rfl) rfl ?_
              refine x_goto 185 hE dX2_bring_238 (by decide) ?_
              refine x_sub [(0, va_rf (some (xw_hm (xe_G E)))), (1, .int v1), (2, .int v3), (3, .int v6), (4, .int (v18 + 1))] [1, 2, 3, 4, 0] rfl ?_
              exact hc6 (v18 + 1)
        · refine x_loop (fun (v16 : Int32) => [(0, va_rf (some (xw_hm (xe_G E)))), (1, .int v1), (2, .int v3), (3, .int v6), (4, .int v16)]) (fun JL4 hc4 hx4 v16 => ?_) _ _
          refine x_iload 150 hE dX2_bring_148 rfl 4 rfl ?_
          refine x_iconst 151 hE dX2_bring_150 rfl xc_i_5 ?_
          refine x_icmp_ge 182 154 hE dX2_bring_151 (by decide) rfl ?_ ?_
          · refine x_sub [(0, va_rf (some (xw_hm (xe_G E)))), (1, .int v1), (2, .int v3), (3, .int v6)] [0, 1, 2, 3] rfl ?_
            refine hx4 _ _ _ _ ?_
            exact hJ5 ()
          · refine x_aload_n 155 hE dX2_bring_154 rfl 0 rfl ?_
            refine y_ga 158 hE hac (by decide) ymf_38 rfl xkf_CrossingWordsModel_94 dX2_bring_155 rfl ?_
            refine x_iconst 159 hE dX2_bring_158 rfl xc_i_5 ?_
            refine x_iload_n 160 hE dX2_bring_159 rfl 2 rfl ?_
            refine x_imul 161 hE dX2_bring_160 rfl ?_
            refine x_iload 163 hE dX2_bring_161 rfl 4 rfl ?_
            refine x_iadd 164 hE dX2_bring_163 rfl ?_
            refine x_aload_n 165 hE dX2_bring_164 rfl 0 rfl ?_
            refine y_ga 168 hE hac (by decide) ymf_12 rfl xkf_CrossingWordsModel_46 dX2_bring_165 rfl ?_
            refine x_iconst 169 hE dX2_bring_168 rfl xc_i_5 ?_
            refine x_iload_n 170 hE dX2_bring_169 rfl 3 rfl ?_
            refine x_imul 171 hE dX2_bring_170 rfl ?_
            refine x_iload 173 hE dX2_bring_171 rfl 4 rfl ?_
            refine x_iadd 174 hE dX2_bring_173 rfl ?_
            refine y_ld 175 hE hac ⟨rfl, rfl⟩ dX2_bring_174 rfl (fun v22 => ?_)
            refine y_st 176 hE hac ⟨rfl, rfl⟩ dX2_bring_175 rfl ?_
            refine x_iinc 179 [(4, .int (v16 + 1)), (0, va_rf (some (xw_hm (xe_G E)))), (1, .int v1), (2, .int v3), (3, .int v6)] hE dX2_bring_176 rfl 4 rfl xc_i_1 (Nat.le_of_ble_eq_true rfl) rfl ?_
            refine x_goto 148 hE dX2_bring_179 (by decide) ?_
            refine x_sub [(0, va_rf (some (xw_hm (xe_G E)))), (1, .int v1), (2, .int v3), (3, .int v6), (4, .int (v16 + 1))] [1, 2, 3, 4, 0] rfl ?_
            exact hc4 (v16 + 1)
      · refine x_if_lt 143 125 hE dX2_bring_122 (by decide) rfl ?_ ?_
        · refine x_iconst 144 hE dX2_bring_143 rfl xc_i_0 ?_
          refine x_sub [(0, va_rf (some (xw_hm (xe_G E)))), (1, .int v1), (2, .int v3), (3, .int v6)] [1, 2, 3, 0] rfl ?_
          exact hJ3 0
        · refine x_aload_n 126 hE dX2_bring_125 rfl 1 rfl ?_
          refine y_ga 129 hE hac (by decide) ymf_54 rfl xkf_CrossingWordsModel_130 dX2_bring_126 rfl ?_
          refine x_aload_n 130 hE dX2_bring_129 rfl 1 rfl ?_
          refine y_ga 133 hE hac (by decide) ymf_10 rfl xkf_CrossingWordsModel_40 dX2_bring_130 rfl ?_
          refine x_iload_n 134 hE dX2_bring_133 rfl 0 rfl ?_
          refine y_ld 135 hE hac ⟨rfl, rfl⟩ dX2_bring_134 rfl (fun v23 => ?_)
          refine y_ldB 136 hE hac ⟨rfl, Or.inl rfl⟩ dX2_bring_135 rfl (fun v24 => ?_)
          refine x_if_ne 143 139 hE dX2_bring_136 (by decide) rfl ?_ ?_
          · refine x_iconst 140 hE dX2_bring_139 rfl xc_i_1 ?_
            refine x_goto 144 hE dX2_bring_140 (by decide) ?_
            refine x_sub [(0, va_rf (some (xw_hm (xe_G E)))), (1, .int v1), (2, .int v3), (3, .int v6)] [1, 2, 3, 0] rfl ?_
            exact hJ3 1
          · refine x_iconst 144 hE dX2_bring_143 rfl xc_i_0 ?_
            refine x_sub [(0, va_rf (some (xw_hm (xe_G E)))), (1, .int v1), (2, .int v3), (3, .int v6)] [1, 2, 3, 0] rfl ?_
            exact hJ3 0

set_option maxHeartbeats 4000000 in
theorem ct_X2_findAsked {l : Launch} {G : xw_G} {σ0 : xw_St} (hac : xw_ac G = true)  : xw_Ct l G (xw_hr G σ0) xw_ov yX2_findAsked cX2_findAsked 4 none 1 [va_rf (some (xw_hm G))] (pg_X2_findAsked) := by
  refine xw_metL [(0, va_rf (some (xw_hm G)))] (by decide) (Nat.le_trans (Nat.le_of_eq ((xw_l1 rfl).trans (congrArg (1 + ·) xw_l0))) (by decide)) ((xw_a1 rfl).trans (congrArg (List.cons _) xw_a0)) (fun E hE hl hG hm => ?_)
  subst hl; subst hG
  have hE : xw_ok E "CrossingWordsModel" cX2_findAsked 4 none 1 := hE
  unfold pg_X2_findAsked
  refine x_aload_n 1 hE dX2_findAsked_0 rfl 0 rfl ?_
  refine x_iconst 2 hE dX2_findAsked_1 rfl xc_i_0 ?_
  refine y_p 5 hE hac (by decide) ymf_28 (Or.inl ⟨rfl, rfl⟩) rfl xkf_CrossingWordsModel_354 dX2_findAsked_2 rfl ?_
  refine x_aload_n 6 hE dX2_findAsked_5 rfl 0 rfl ?_
  refine x_iconst 7 hE dX2_findAsked_6 rfl xc_i_1 ?_
  refine y_p 10 hE hac (by decide) ymf_29 (Or.inl ⟨rfl, rfl⟩) rfl xkf_CrossingWordsModel_357 dX2_findAsked_7 rfl ?_
  refine x_iconst 11 hE dX2_findAsked_10 rfl xc_i_0 ?_
  refine x_istore_n 12 [(1, .int 0), (0, va_rf (some (xw_hm (xe_G E))))] hE dX2_findAsked_11 rfl rfl (Nat.le_of_ble_eq_true rfl) rfl ?_
  refine x_sub [(0, va_rf (some (xw_hm (xe_G E)))), (1, .int 0)] [1, 0] rfl ?_
  refine x_sq 156 (fun (v2 : Unit) => []) (fun _ => []) (fun v2 => ?_) (fun J2 hJ2 => ?_)
  · exact x_vret hE dX2_findAsked_156
  · refine x_loop (fun (v1 : Int32) => [(0, va_rf (some (xw_hm (xe_G E)))), (1, .int v1)]) (fun JL1 hc1 hx1 v1 => ?_) _ _
    refine x_iload_n 13 hE dX2_findAsked_12 rfl 1 rfl ?_
    refine x_aload_n 14 hE dX2_findAsked_13 rfl 0 rfl ?_
    refine y_g 17 hE hac (by decide) ymf_27 rfl xkf_CrossingWordsModel_351 dX2_findAsked_14 rfl (fun v3 => ?_)
    refine x_icmp_ge 156 20 hE dX2_findAsked_17 (by decide) rfl ?_ ?_
    · refine x_sub [] [] rfl ?_
      refine hx1 _ _ _ _ ?_
      exact hJ2 ()
    · refine x_iconst 21 hE dX2_findAsked_20 rfl xc_i_0 ?_
      refine x_istore_n 22 [(2, .int 0), (0, va_rf (some (xw_hm (xe_G E)))), (1, .int v1)] hE dX2_findAsked_21 rfl rfl (Nat.le_of_ble_eq_true rfl) rfl ?_
      refine x_sub [(0, va_rf (some (xw_hm (xe_G E)))), (1, .int v1), (2, .int 0)] [1, 2, 0] rfl ?_
      refine x_sq 150 (fun (v5 : Unit) => [(0, va_rf (some (xw_hm (xe_G E)))), (1, .int v1)]) (fun _ => []) (fun v5 => ?_) (fun J4 hJ4 => ?_)
      · refine x_iinc 153 [(1, .int (v1 + 1)), (0, va_rf (some (xw_hm (xe_G E))))] hE dX2_findAsked_150 rfl 1 rfl xc_i_1 (Nat.le_of_ble_eq_true rfl) rfl ?_
        refine x_goto 12 hE dX2_findAsked_153 (by decide) ?_
        refine x_sub [(0, va_rf (some (xw_hm (xe_G E)))), (1, .int (v1 + 1))] [1, 0] rfl ?_
        exact hc1 (v1 + 1)
      · refine x_loop (fun (v4 : Int32) => [(0, va_rf (some (xw_hm (xe_G E)))), (1, .int v1), (2, .int v4)]) (fun JL3 hc3 hx3 v4 => ?_) _ _
        refine x_iload_n 23 hE dX2_findAsked_22 rfl 2 rfl ?_
        refine x_iconst 24 hE dX2_findAsked_23 rfl xc_i_4 ?_
        refine x_icmp_ge 150 27 hE dX2_findAsked_24 (by decide) rfl ?_ ?_
        · refine x_sub [(0, va_rf (some (xw_hm (xe_G E)))), (1, .int v1)] [0, 1] rfl ?_
          refine hx3 _ _ _ _ ?_
          exact hJ4 ()
        · refine x_iload_n 28 hE dX2_findAsked_27 rfl 2 rfl ?_
          refine x_iconst 29 hE dX2_findAsked_28 rfl xc_i_3 ?_
          refine x_sq 73 (fun (v6 : Int32) => [(0, va_rf (some (xw_hm (xe_G E)))), (1, .int v1), (2, .int v4)]) (fun (v6 : Int32) => [.int v6]) (fun v6 => ?_) (fun J5 hJ5 => ?_)
          · refine x_istore_n 74 [(3, .int v6), (0, va_rf (some (xw_hm (xe_G E)))), (1, .int v1), (2, .int v4)] hE dX2_findAsked_73 rfl rfl (Nat.le_of_ble_eq_true rfl) rfl ?_
            refine x_iload_n 75 hE dX2_findAsked_74 rfl 0 rfl ?_
            refine x_iconst 76 hE dX2_findAsked_75 rfl xc_i_2 ?_
            refine x_icmp_ge 82 79 hE dX2_findAsked_76 (by decide) rfl ?_ ?_
            · refine x_aload_n 83 hE dX2_findAsked_82 rfl 1 rfl ?_
              refine y_ga 86 hE hac (by decide) ymf_41 rfl xkf_CrossingWordsModel_103 dX2_findAsked_83 rfl ?_
              refine x_aload_n 87 hE dX2_findAsked_86 rfl 1 rfl ?_
              refine y_g 90 hE hac (by decide) ymf_28 rfl xkf_CrossingWordsModel_354 dX2_findAsked_87 rfl (fun v7 => ?_)
              refine x_iconst 91 hE dX2_findAsked_90 rfl xc_i_4 ?_
              refine x_iload_n 92 hE dX2_findAsked_91 rfl 2 rfl ?_
              refine x_imul 93 hE dX2_findAsked_92 rfl ?_
              refine x_iload_n 94 hE dX2_findAsked_93 rfl 3 rfl ?_
              refine x_iadd 95 hE dX2_findAsked_94 rfl ?_
              refine y_st 96 hE hac ⟨rfl, rfl⟩ dX2_findAsked_95 rfl ?_
              refine x_aload_n 97 hE dX2_findAsked_96 rfl 1 rfl ?_
              refine y_ga 100 hE hac (by decide) ymf_42 rfl xkf_CrossingWordsModel_106 dX2_findAsked_97 rfl ?_
              refine x_aload_n 101 hE dX2_findAsked_100 rfl 1 rfl ?_
              refine y_g 104 hE hac (by decide) ymf_28 rfl xkf_CrossingWordsModel_354 dX2_findAsked_101 rfl (fun v8 => ?_)
              refine x_iload_n 105 hE dX2_findAsked_104 rfl 0 rfl ?_
              refine y_st 106 hE hac ⟨rfl, rfl⟩ dX2_findAsked_105 rfl ?_
              refine x_aload_n 107 hE dX2_findAsked_106 rfl 1 rfl ?_
              refine x_dup 108 hE dX2_findAsked_107 rfl rfl ?_
              refine y_g 111 hE hac (by decide) ymf_28 rfl xkf_CrossingWordsModel_354 dX2_findAsked_108 rfl (fun v9 => ?_)
              refine x_iconst 112 hE dX2_findAsked_111 rfl xc_i_1 ?_
              refine x_iadd 113 hE dX2_findAsked_112 rfl ?_
              refine y_p 116 hE hac (by decide) ymf_28 (Or.inl ⟨rfl, rfl⟩) rfl xkf_CrossingWordsModel_354 dX2_findAsked_113 rfl ?_
              refine x_aload_n 117 hE dX2_findAsked_116 rfl 1 rfl ?_
              refine x_aload_n 118 hE dX2_findAsked_117 rfl 1 rfl ?_
              refine y_g 121 hE hac (by decide) ymf_29 rfl xkf_CrossingWordsModel_357 dX2_findAsked_118 rfl (fun v10 => ?_)
              refine x_iload_n 122 hE dX2_findAsked_121 rfl 0 rfl ?_
              refine x_imul 123 hE dX2_findAsked_122 rfl ?_
              refine x_sipush 126 hE dX2_findAsked_123 rfl xc_s_1024 ?_
              refine x_sq 141 (fun (v11 : Int32) => [(0, va_rf (some (xw_hm (xe_G E)))), (1, .int v1), (2, .int v4)]) (fun (v11 : Int32) => [.int v11, va_rf (some (xw_hm (xe_G E)))]) (fun v11 => ?_) (fun J6 hJ6 => ?_)
              · refine y_p 144 hE hac (by decide) ymf_29 (Or.inl ⟨rfl, rfl⟩) rfl xkf_CrossingWordsModel_357 dX2_findAsked_141 rfl ?_
                refine x_iinc 147 [(2, .int (v4 + 1)), (0, va_rf (some (xw_hm (xe_G E)))), (1, .int v1)] hE dX2_findAsked_144 rfl 2 rfl xc_i_1 (Nat.le_of_ble_eq_true rfl) rfl ?_
                refine x_goto 22 hE dX2_findAsked_147 (by decide) ?_
                refine x_sub [(0, va_rf (some (xw_hm (xe_G E)))), (1, .int v1), (2, .int (v4 + 1))] [1, 2, 0] rfl ?_
                exact hc3 (v4 + 1)
              · refine x_icmp_le 135 129 hE dX2_findAsked_126 (by decide) rfl ?_ ?_
                · refine x_aload_n 136 hE dX2_findAsked_135 rfl 1 rfl ?_
                  refine y_g 139 hE hac (by decide) ymf_29 rfl xkf_CrossingWordsModel_357 dX2_findAsked_136 rfl (fun v12 => ?_)
                  refine x_iload_n 140 hE dX2_findAsked_139 rfl 0 rfl ?_
                  refine x_imul 141 hE dX2_findAsked_140 rfl ?_
                  refine x_sub [(0, va_rf (some (xw_hm (xe_G E)))), (1, .int v1), (2, .int v4)] [1, 2, 3] rfl ?_
                  exact hJ6 (v12 * v6)
                · refine x_sipush 132 hE dX2_findAsked_129 rfl xc_s_1025 ?_
                  refine x_goto 141 hE dX2_findAsked_132 (by decide) ?_
                  refine x_sub [(0, va_rf (some (xw_hm (xe_G E)))), (1, .int v1), (2, .int v4)] [1, 2, 3] rfl ?_
                  exact hJ6 1025
            · refine x_goto 144 hE dX2_findAsked_79 (by decide) ?_
              refine x_iinc 147 [(2, .int (v4 + 1)), (3, .int v6), (0, va_rf (some (xw_hm (xe_G E)))), (1, .int v1)] hE dX2_findAsked_144 rfl 3 rfl xc_i_1 (Nat.le_of_ble_eq_true rfl) rfl ?_
              refine x_goto 22 hE dX2_findAsked_147 (by decide) ?_
              refine x_sub [(0, va_rf (some (xw_hm (xe_G E)))), (1, .int v1), (2, .int (v4 + 1))] [2, 3, 0] rfl ?_
              exact hc3 (v4 + 1)
          · refine x_icmp_ge 58 32 hE dX2_findAsked_29 (by decide) rfl ?_ ?_
            · refine x_aload_n 59 hE dX2_findAsked_58 rfl 0 rfl ?_
              refine y_ga 62 hE hac (by decide) ymf_32 rfl xkf_CrossingWordsModel_75 dX2_findAsked_59 rfl ?_
              refine x_iload_n 63 hE dX2_findAsked_62 rfl 1 rfl ?_
              refine y_ld 64 hE hac ⟨rfl, rfl⟩ dX2_findAsked_63 rfl (fun v13 => ?_)
              refine x_iconst 65 hE dX2_findAsked_64 rfl xc_i_1 ?_
              refine x_icmp_ne 72 68 hE dX2_findAsked_65 (by decide) rfl ?_ ?_
              · refine x_iconst 69 hE dX2_findAsked_68 rfl xc_i_2 ?_
                refine x_goto 73 hE dX2_findAsked_69 (by decide) ?_
                refine x_sub [(0, va_rf (some (xw_hm (xe_G E)))), (1, .int v1), (2, .int v4)] [0, 1, 2] rfl ?_
                exact hJ5 2
              · refine x_iconst 73 hE dX2_findAsked_72 rfl xc_i_1 ?_
                refine x_sub [(0, va_rf (some (xw_hm (xe_G E)))), (1, .int v1), (2, .int v4)] [0, 1, 2] rfl ?_
                exact hJ5 1
            · refine x_aload_n 33 hE dX2_findAsked_32 rfl 0 rfl ?_
              refine y_ga 36 hE hac (by decide) ymf_40 rfl xkf_CrossingWordsModel_100 dX2_findAsked_33 rfl ?_
              refine x_iconst 37 hE dX2_findAsked_36 rfl xc_i_3 ?_
              refine x_iload_n 38 hE dX2_findAsked_37 rfl 1 rfl ?_
              refine x_imul 39 hE dX2_findAsked_38 rfl ?_
              refine x_iload_n 40 hE dX2_findAsked_39 rfl 2 rfl ?_
              refine x_iadd 41 hE dX2_findAsked_40 rfl ?_
              refine y_ld 42 hE hac ⟨rfl, rfl⟩ dX2_findAsked_41 rfl (fun v14 => ?_)
              refine x_aload_n 43 hE dX2_findAsked_42 rfl 0 rfl ?_
              refine y_ga 46 hE hac (by decide) ymf_39 rfl xkf_CrossingWordsModel_97 dX2_findAsked_43 rfl ?_
              refine x_iconst 47 hE dX2_findAsked_46 rfl xc_i_3 ?_
              refine x_iload_n 48 hE dX2_findAsked_47 rfl 1 rfl ?_
              refine x_imul 49 hE dX2_findAsked_48 rfl ?_
              refine x_iload_n 50 hE dX2_findAsked_49 rfl 2 rfl ?_
              refine x_iadd 51 hE dX2_findAsked_50 rfl ?_
              refine y_ld 52 hE hac ⟨rfl, rfl⟩ dX2_findAsked_51 rfl (fun v15 => ?_)
              refine x_isub 53 hE dX2_findAsked_52 rfl ?_
              refine x_iconst 54 hE dX2_findAsked_53 rfl xc_i_1 ?_
              refine x_iadd 55 hE dX2_findAsked_54 rfl ?_
              refine x_goto 73 hE dX2_findAsked_55 (by decide) ?_
              refine x_sub [(0, va_rf (some (xw_hm (xe_G E)))), (1, .int v1), (2, .int v4)] [0, 1, 2] rfl ?_
              exact hJ5 ((v14 - v15) + 1)

set_option maxHeartbeats 4000000 in
theorem ct_X2_isLooked {l : Launch} {G : xw_G} {σ0 : xw_St} (hac : xw_ac G = true)  : xw_Ct l G (xw_hr G σ0) xw_oi yX2_isLooked cX2_isLooked 1 (some (.boolean)) 1 [va_rf (some (xw_hm G))] (pg_X2_isLooked) := by
  refine xw_metL [(0, va_rf (some (xw_hm G)))] (by decide) (Nat.le_trans (Nat.le_of_eq ((xw_l1 rfl).trans (congrArg (1 + ·) xw_l0))) (by decide)) ((xw_a1 rfl).trans (congrArg (List.cons _) xw_a0)) (fun E hE hl hG hm => ?_)
  subst hl; subst hG
  have hE : xw_ok E "CrossingWordsModel" cX2_isLooked 1 (some (.boolean)) 1 := hE
  unfold pg_X2_isLooked
  refine x_aload_n 1 hE dX2_isLooked_0 rfl 0 rfl ?_
  refine y_g 4 hE hac (by decide) ymf_29 rfl xkf_CrossingWordsModel_357 dX2_isLooked_1 rfl (fun v1 => ?_)
  refine x_sipush 7 hE dX2_isLooked_4 rfl xc_s_1024 ?_
  refine x_icmp_gt 14 10 hE dX2_isLooked_7 (by decide) rfl ?_ ?_
  · refine x_iconst 15 hE dX2_isLooked_14 rfl xc_i_0 ?_
    exact x_zretw hE (by decide) dX2_isLooked_15
  · refine x_iconst 11 hE dX2_isLooked_10 rfl xc_i_1 ?_
    refine x_goto 15 hE dX2_isLooked_11 (by decide) ?_
    exact x_zretw hE (by decide) dX2_isLooked_15

set_option maxHeartbeats 4000000 in
theorem ct_X2_hours {l : Launch} {G : xw_G} {σ0 : xw_St} (hac : xw_ac G = true) (v1 : Int32) : xw_Ct l G (xw_hr G σ0) xw_ov yX2_hours cX2_hours 5 none 1 [va_rf (some (xw_hm G)), .int v1] (pg_X2_hours v1) := by
  refine xw_metL [(0, va_rf (some (xw_hm G))), (1, .int v1)] (by decide) (Nat.le_trans (Nat.le_of_eq ((xw_l1 rfl).trans (congrArg (1 + ·) ((xw_l1 rfl).trans (congrArg (1 + ·) xw_l0))))) (by decide)) ((xw_a1 rfl).trans (congrArg (List.cons _) ((xw_a1 rfl).trans (congrArg (List.cons _) xw_a0)))) (fun E hE hl hG hm => ?_)
  subst hl; subst hG
  have hE : xw_ok E "CrossingWordsModel" cX2_hours 5 none 1 := hE
  unfold pg_X2_hours
  refine x_iconst 1 hE dX2_hours_0 rfl xc_i_0 ?_
  refine x_istore_n 2 [(2, .int 0), (0, va_rf (some (xw_hm (xe_G E)))), (1, .int v1)] hE dX2_hours_1 rfl rfl (Nat.le_of_ble_eq_true rfl) rfl ?_
  refine x_sub [(0, va_rf (some (xw_hm (xe_G E)))), (1, .int v1), (2, .int 0)] [1, 2, 0] rfl ?_
  refine x_sq 21 (fun (v3 : Unit) => [(0, va_rf (some (xw_hm (xe_G E)))), (1, .int v1)]) (fun _ => []) (fun v3 => ?_) (fun J2 hJ2 => ?_)
  · refine x_iload_n 22 hE dX2_hours_21 rfl 1 rfl ?_
    refine x_istore_n 23 [(2, .int v1), (0, va_rf (some (xw_hm (xe_G E)))), (1, .int v1)] hE dX2_hours_22 rfl rfl (Nat.le_of_ble_eq_true rfl) rfl ?_
    refine x_iconst 24 hE dX2_hours_23 rfl xc_i_0 ?_
    refine x_istore_n 25 [(3, .int 0), (2, .int v1), (0, va_rf (some (xw_hm (xe_G E)))), (1, .int v1)] hE dX2_hours_24 rfl rfl (Nat.le_of_ble_eq_true rfl) rfl ?_
    refine x_sub [(0, va_rf (some (xw_hm (xe_G E)))), (2, .int v1), (3, .int 0)] [2, 1, 0] rfl ?_
    refine x_sq 67 (fun (v5 : Unit) => [(0, va_rf (some (xw_hm (xe_G E))))]) (fun _ => []) (fun v5 => ?_) (fun J4 hJ4 => ?_)
    · refine x_iconst 68 hE dX2_hours_67 rfl xc_i_0 ?_
      refine x_istore_n 69 [(3, .int 0), (0, va_rf (some (xw_hm (xe_G E))))] hE dX2_hours_68 rfl rfl (Nat.le_of_ble_eq_true rfl) rfl ?_
      refine x_sub [(0, va_rf (some (xw_hm (xe_G E)))), (3, .int 0)] [1, 0] rfl ?_
      refine x_sq 223 (fun (v7 : Unit) => []) (fun _ => []) (fun v7 => ?_) (fun J6 hJ6 => ?_)
      · exact x_vret hE dX2_hours_223
      · refine x_loop (fun (v6 : Int32) => [(0, va_rf (some (xw_hm (xe_G E)))), (3, .int v6)]) (fun JL5 hc5 hx5 v6 => ?_) _ _
        refine x_iload_n 70 hE dX2_hours_69 rfl 1 rfl ?_
        refine x_aload_n 71 hE dX2_hours_70 rfl 0 rfl ?_
        refine y_g 74 hE hac (by decide) ymf_27 rfl xkf_CrossingWordsModel_351 dX2_hours_71 rfl (fun v8 => ?_)
        refine x_icmp_ge 223 77 hE dX2_hours_74 (by decide) rfl ?_ ?_
        · refine x_sub [] [] rfl ?_
          refine hx5 _ _ _ _ ?_
          exact hJ6 ()
        · refine x_aload_n 78 hE dX2_hours_77 rfl 0 rfl ?_
          refine y_ga 81 hE hac (by decide) ymf_32 rfl xkf_CrossingWordsModel_75 dX2_hours_78 rfl ?_
          refine x_iload_n 82 hE dX2_hours_81 rfl 1 rfl ?_
          refine y_ld 83 hE hac ⟨rfl, rfl⟩ dX2_hours_82 rfl (fun v9 => ?_)
          refine x_iconst 84 hE dX2_hours_83 rfl xc_i_2 ?_
          refine x_sq 106 (fun (v10 : Int32) => [(0, va_rf (some (xw_hm (xe_G E)))), (3, .int v6)]) (fun (v10 : Int32) => [.int v10]) (fun v10 => ?_) (fun J7 hJ7 => ?_)
          · refine x_istore 108 [(4, .int v10), (0, va_rf (some (xw_hm (xe_G E)))), (3, .int v6)] hE dX2_hours_106 rfl (Nat.le_of_ble_eq_true rfl) rfl ?_
            refine x_aload_n 109 hE dX2_hours_108 rfl 1 rfl ?_
            refine y_ga 112 hE hac (by decide) ymf_43 rfl xkf_CrossingWordsModel_109 dX2_hours_109 rfl ?_
            refine x_iload_n 113 hE dX2_hours_112 rfl 2 rfl ?_
            refine x_aload_n 114 hE dX2_hours_113 rfl 1 rfl ?_
            refine y_ga 117 hE hac (by decide) ymf_39 rfl xkf_CrossingWordsModel_97 dX2_hours_114 rfl ?_
            refine x_iconst 118 hE dX2_hours_117 rfl xc_i_3 ?_
            refine x_iload_n 119 hE dX2_hours_118 rfl 2 rfl ?_
            refine x_imul 120 hE dX2_hours_119 rfl ?_
            refine y_ld 121 hE hac ⟨rfl, rfl⟩ dX2_hours_120 rfl (fun v11 => ?_)
            refine x_aload_n 122 hE dX2_hours_121 rfl 1 rfl ?_
            refine y_ga 125 hE hac (by decide) ymf_46 rfl xkf_CrossingWordsModel_118 dX2_hours_122 rfl ?_
            refine x_iconst 126 hE dX2_hours_125 rfl xc_i_4 ?_
            refine x_iload_n 127 hE dX2_hours_126 rfl 2 rfl ?_
            refine x_imul 128 hE dX2_hours_127 rfl ?_
            refine y_ld 129 hE hac ⟨rfl, rfl⟩ dX2_hours_128 rfl (fun v12 => ?_)
            refine x_iadd 130 hE dX2_hours_129 rfl ?_
            refine y_st 131 hE hac ⟨rfl, rfl⟩ dX2_hours_130 rfl ?_
            refine x_aload_n 132 hE dX2_hours_131 rfl 1 rfl ?_
            refine y_ga 135 hE hac (by decide) ymf_44 rfl xkf_CrossingWordsModel_112 dX2_hours_132 rfl ?_
            refine x_iload_n 136 hE dX2_hours_135 rfl 2 rfl ?_
            refine x_iload 138 hE dX2_hours_136 rfl 0 rfl ?_
            refine x_sq 173 (fun (v13 : Int32) => [(0, va_rf (some (xw_hm (xe_G E)))), (3, .int v6), (4, .int v10)]) (fun (v13 : Int32) => [.int v13, .int v6, va_rf (some (xw_am (xe_G E) 44))]) (fun v13 => ?_) (fun J8 hJ8 => ?_)
            · refine y_st 174 hE hac ⟨rfl, rfl⟩ dX2_hours_173 rfl ?_
              refine x_aload_n 175 hE dX2_hours_174 rfl 0 rfl ?_
              refine y_ga 178 hE hac (by decide) ymf_45 rfl xkf_CrossingWordsModel_115 dX2_hours_175 rfl ?_
              refine x_iload_n 179 hE dX2_hours_178 rfl 1 rfl ?_
              refine x_iload 181 hE dX2_hours_179 rfl 2 rfl ?_
              refine x_sq 216 (fun (v14 : Int32) => [(0, va_rf (some (xw_hm (xe_G E)))), (3, .int v6)]) (fun (v14 : Int32) => [.int v14, .int v6, va_rf (some (xw_am (xe_G E) 45))]) (fun v14 => ?_) (fun J9 hJ9 => ?_)
              · refine y_st 217 hE hac ⟨rfl, rfl⟩ dX2_hours_216 rfl ?_
                refine x_iinc 220 [(3, .int (v6 + 1)), (0, va_rf (some (xw_hm (xe_G E))))] hE dX2_hours_217 rfl 1 rfl xc_i_1 (Nat.le_of_ble_eq_true rfl) rfl ?_
                refine x_goto 69 hE dX2_hours_220 (by decide) ?_
                refine x_sub [(0, va_rf (some (xw_hm (xe_G E)))), (3, .int (v6 + 1))] [1, 0] rfl ?_
                exact hc5 (v6 + 1)
              · refine x_if_eq 188 184 hE dX2_hours_181 (by decide) rfl ?_ ?_
                · refine x_aload_n 189 hE dX2_hours_188 rfl 0 rfl ?_
                  refine y_ga 192 hE hac (by decide) ymf_44 rfl xkf_CrossingWordsModel_112 dX2_hours_189 rfl ?_
                  refine x_iload_n 193 hE dX2_hours_192 rfl 1 rfl ?_
                  refine y_ld 194 hE hac ⟨rfl, rfl⟩ dX2_hours_193 rfl (fun v15 => ?_)
                  refine x_aload_n 195 hE dX2_hours_194 rfl 0 rfl ?_
                  refine y_ga 198 hE hac (by decide) ymf_39 rfl xkf_CrossingWordsModel_97 dX2_hours_195 rfl ?_
                  refine x_iconst 199 hE dX2_hours_198 rfl xc_i_3 ?_
                  refine x_iload_n 200 hE dX2_hours_199 rfl 1 rfl ?_
                  refine x_imul 201 hE dX2_hours_200 rfl ?_
                  refine x_iconst 202 hE dX2_hours_201 rfl xc_i_2 ?_
                  refine x_iadd 203 hE dX2_hours_202 rfl ?_
                  refine y_ld 204 hE hac ⟨rfl, rfl⟩ dX2_hours_203 rfl (fun v16 => ?_)
                  refine x_iadd 205 hE dX2_hours_204 rfl ?_
                  refine x_aload_n 206 hE dX2_hours_205 rfl 0 rfl ?_
                  refine y_ga 209 hE hac (by decide) ymf_46 rfl xkf_CrossingWordsModel_118 dX2_hours_206 rfl ?_
                  refine x_iconst 210 hE dX2_hours_209 rfl xc_i_4 ?_
                  refine x_iload_n 211 hE dX2_hours_210 rfl 1 rfl ?_
                  refine x_imul 212 hE dX2_hours_211 rfl ?_
                  refine x_iconst 213 hE dX2_hours_212 rfl xc_i_2 ?_
                  refine x_iadd 214 hE dX2_hours_213 rfl ?_
                  refine y_ld 215 hE hac ⟨rfl, rfl⟩ dX2_hours_214 rfl (fun v17 => ?_)
                  refine x_iadd 216 hE dX2_hours_215 rfl ?_
                  refine x_sub [(0, va_rf (some (xw_hm (xe_G E)))), (3, .int v6)] [0, 1] rfl ?_
                  exact hJ9 ((v15 + v16) + v17)
                · refine x_iconst 185 hE dX2_hours_184 rfl xc_i_m1 ?_
                  refine x_goto 216 hE dX2_hours_185 (by decide) ?_
                  refine x_sub [(0, va_rf (some (xw_hm (xe_G E)))), (3, .int v6)] [0, 1] rfl ?_
                  exact hJ9 (-1)
            · refine x_if_eq 145 141 hE dX2_hours_138 (by decide) rfl ?_ ?_
              · refine x_aload_n 146 hE dX2_hours_145 rfl 1 rfl ?_
                refine y_ga 149 hE hac (by decide) ymf_43 rfl xkf_CrossingWordsModel_109 dX2_hours_146 rfl ?_
                refine x_iload_n 150 hE dX2_hours_149 rfl 2 rfl ?_
                refine y_ld 151 hE hac ⟨rfl, rfl⟩ dX2_hours_150 rfl (fun v18 => ?_)
                refine x_aload_n 152 hE dX2_hours_151 rfl 1 rfl ?_
                refine y_ga 155 hE hac (by decide) ymf_39 rfl xkf_CrossingWordsModel_97 dX2_hours_152 rfl ?_
                refine x_iconst 156 hE dX2_hours_155 rfl xc_i_3 ?_
                refine x_iload_n 157 hE dX2_hours_156 rfl 2 rfl ?_
                refine x_imul 158 hE dX2_hours_157 rfl ?_
                refine x_iconst 159 hE dX2_hours_158 rfl xc_i_1 ?_
                refine x_iadd 160 hE dX2_hours_159 rfl ?_
                refine y_ld 161 hE hac ⟨rfl, rfl⟩ dX2_hours_160 rfl (fun v19 => ?_)
                refine x_iadd 162 hE dX2_hours_161 rfl ?_
                refine x_aload_n 163 hE dX2_hours_162 rfl 1 rfl ?_
                refine y_ga 166 hE hac (by decide) ymf_46 rfl xkf_CrossingWordsModel_118 dX2_hours_163 rfl ?_
                refine x_iconst 167 hE dX2_hours_166 rfl xc_i_4 ?_
                refine x_iload_n 168 hE dX2_hours_167 rfl 2 rfl ?_
                refine x_imul 169 hE dX2_hours_168 rfl ?_
                refine x_iconst 170 hE dX2_hours_169 rfl xc_i_1 ?_
                refine x_iadd 171 hE dX2_hours_170 rfl ?_
                refine y_ld 172 hE hac ⟨rfl, rfl⟩ dX2_hours_171 rfl (fun v20 => ?_)
                refine x_iadd 173 hE dX2_hours_172 rfl ?_
                refine x_sub [(0, va_rf (some (xw_hm (xe_G E)))), (3, .int v6), (4, .int v10)] [1, 2, 0] rfl ?_
                exact hJ8 ((v18 + v19) + v20)
              · refine x_iconst 142 hE dX2_hours_141 rfl xc_i_m1 ?_
                refine x_goto 173 hE dX2_hours_142 (by decide) ?_
                refine x_sub [(0, va_rf (some (xw_hm (xe_G E)))), (3, .int v6), (4, .int v10)] [1, 2, 0] rfl ?_
                exact hJ8 (-1)
          · refine x_icmp_eq 101 87 hE dX2_hours_84 (by decide) rfl ?_ ?_
            · refine x_iconst 102 hE dX2_hours_101 rfl xc_i_1 ?_
              refine x_goto 106 hE dX2_hours_102 (by decide) ?_
              refine x_sub [(0, va_rf (some (xw_hm (xe_G E)))), (3, .int v6)] [0, 1] rfl ?_
              exact hJ7 1
            · refine x_aload_n 88 hE dX2_hours_87 rfl 0 rfl ?_
              refine y_ga 91 hE hac (by decide) ymf_46 rfl xkf_CrossingWordsModel_118 dX2_hours_88 rfl ?_
              refine x_iconst 92 hE dX2_hours_91 rfl xc_i_4 ?_
              refine x_iload_n 93 hE dX2_hours_92 rfl 1 rfl ?_
              refine x_imul 94 hE dX2_hours_93 rfl ?_
              refine x_iconst 95 hE dX2_hours_94 rfl xc_i_3 ?_
              refine x_iadd 96 hE dX2_hours_95 rfl ?_
              refine y_ld 97 hE hac ⟨rfl, rfl⟩ dX2_hours_96 rfl (fun v21 => ?_)
              refine x_iconst 98 hE dX2_hours_97 rfl xc_i_1 ?_
              refine x_icmp_ne 105 101 hE dX2_hours_98 (by decide) rfl ?_ ?_
              · refine x_iconst 102 hE dX2_hours_101 rfl xc_i_1 ?_
                refine x_goto 106 hE dX2_hours_102 (by decide) ?_
                refine x_sub [(0, va_rf (some (xw_hm (xe_G E)))), (3, .int v6)] [0, 1] rfl ?_
                exact hJ7 1
              · refine x_iconst 106 hE dX2_hours_105 rfl xc_i_0 ?_
                refine x_sub [(0, va_rf (some (xw_hm (xe_G E)))), (3, .int v6)] [0, 1] rfl ?_
                exact hJ7 0
    · refine x_loop (fun (v4 : Int32 × Int32) => [(0, va_rf (some (xw_hm (xe_G E)))), (2, .int v4.1), (3, .int v4.2)]) (fun JL3 hc3 hx3 v4 => ?_) _ _
      refine x_iload_n 26 hE dX2_hours_25 rfl 2 rfl ?_
      refine x_aload_n 27 hE dX2_hours_26 rfl 0 rfl ?_
      refine y_g 30 hE hac (by decide) ymf_28 rfl xkf_CrossingWordsModel_354 dX2_hours_27 rfl (fun v22 => ?_)
      refine x_icmp_ge 67 33 hE dX2_hours_30 (by decide) rfl ?_ ?_
      · refine x_sub [(0, va_rf (some (xw_hm (xe_G E))))] [0] rfl ?_
        refine hx3 _ _ _ _ ?_
        exact hJ4 ()
      · refine x_aload_n 34 hE dX2_hours_33 rfl 0 rfl ?_
        refine y_ga 37 hE hac (by decide) ymf_46 rfl xkf_CrossingWordsModel_118 dX2_hours_34 rfl ?_
        refine x_aload_n 38 hE dX2_hours_37 rfl 0 rfl ?_
        refine y_ga 41 hE hac (by decide) ymf_41 rfl xkf_CrossingWordsModel_103 dX2_hours_38 rfl ?_
        refine x_iload_n 42 hE dX2_hours_41 rfl 2 rfl ?_
        refine y_ld 43 hE hac ⟨rfl, rfl⟩ dX2_hours_42 rfl (fun v23 => ?_)
        refine x_iload_n 44 hE dX2_hours_43 rfl 1 rfl ?_
        refine x_aload_n 45 hE dX2_hours_44 rfl 0 rfl ?_
        refine y_ga 48 hE hac (by decide) ymf_42 rfl xkf_CrossingWordsModel_106 dX2_hours_45 rfl ?_
        refine x_iload_n 49 hE dX2_hours_48 rfl 2 rfl ?_
        refine y_ld 50 hE hac ⟨rfl, rfl⟩ dX2_hours_49 rfl (fun v24 => ?_)
        refine x_rem 51 hE dX2_hours_50 rfl (fun v25 => ?_)
        refine y_st 52 hE hac ⟨rfl, rfl⟩ dX2_hours_51 rfl ?_
        refine x_iload_n 53 hE dX2_hours_52 rfl 1 rfl ?_
        refine x_aload_n 54 hE dX2_hours_53 rfl 0 rfl ?_
        refine y_ga 57 hE hac (by decide) ymf_42 rfl xkf_CrossingWordsModel_106 dX2_hours_54 rfl ?_
        refine x_iload_n 58 hE dX2_hours_57 rfl 2 rfl ?_
        refine y_ld 59 hE hac ⟨rfl, rfl⟩ dX2_hours_58 rfl (fun v26 => ?_)
        refine x_div 60 hE dX2_hours_59 rfl (fun v27 => ?_)
        refine x_istore_n 61 [(2, .int v27), (0, va_rf (some (xw_hm (xe_G E)))), (3, .int v4.2)] hE dX2_hours_60 rfl rfl (Nat.le_of_ble_eq_true rfl) rfl ?_
        refine x_iinc 64 [(3, .int (v4.2 + 1)), (2, .int v27), (0, va_rf (some (xw_hm (xe_G E))))] hE dX2_hours_61 rfl 2 rfl xc_i_1 (Nat.le_of_ble_eq_true rfl) rfl ?_
        refine x_goto 25 hE dX2_hours_64 (by decide) ?_
        refine x_sub [(0, va_rf (some (xw_hm (xe_G E)))), (2, .int v27), (3, .int (v4.2 + 1))] [2, 1, 0] rfl ?_
        exact hc3 (v27, v4.2 + 1)
  · refine x_loop (fun (v2 : Int32) => [(0, va_rf (some (xw_hm (xe_G E)))), (1, .int v1), (2, .int v2)]) (fun JL1 hc1 hx1 v2 => ?_) _ _
    refine x_iload_n 3 hE dX2_hours_2 rfl 2 rfl ?_
    refine x_bipush 5 hE dX2_hours_3 rfl xc_b_48 ?_
    refine x_icmp_ge 21 8 hE dX2_hours_5 (by decide) rfl ?_ ?_
    · refine x_sub [(0, va_rf (some (xw_hm (xe_G E)))), (1, .int v1)] [0, 1] rfl ?_
      refine hx1 _ _ _ _ ?_
      exact hJ2 ()
    · refine x_aload_n 9 hE dX2_hours_8 rfl 0 rfl ?_
      refine y_ga 12 hE hac (by decide) ymf_46 rfl xkf_CrossingWordsModel_118 dX2_hours_9 rfl ?_
      refine x_iload_n 13 hE dX2_hours_12 rfl 2 rfl ?_
      refine x_iconst 14 hE dX2_hours_13 rfl xc_i_0 ?_
      refine y_st 15 hE hac ⟨rfl, rfl⟩ dX2_hours_14 rfl ?_
      refine x_iinc 18 [(2, .int (v2 + 1)), (0, va_rf (some (xw_hm (xe_G E)))), (1, .int v1)] hE dX2_hours_15 rfl 2 rfl xc_i_1 (Nat.le_of_ble_eq_true rfl) rfl ?_
      refine x_goto 2 hE dX2_hours_18 (by decide) ?_
      refine x_sub [(0, va_rf (some (xw_hm (xe_G E)))), (1, .int v1), (2, .int (v2 + 1))] [1, 2, 0] rfl ?_
      exact hc1 (v2 + 1)

set_option maxHeartbeats 4000000 in
theorem ct_X2_when {l : Launch} {G : xw_G} {σ0 : xw_St} (hac : xw_ac G = true) (v1 : Int32) (v2 : Int32) : xw_Ct l G (xw_hr G σ0) xw_oi yX2_when cX2_when 3 (some (.int)) 1 [va_rf (some (xw_hm G)), .int v1, .int v2] (pg_X2_when v1 v2) := by
  refine xw_metL [(0, va_rf (some (xw_hm G))), (1, .int v1), (2, .int v2)] (by decide) (Nat.le_trans (Nat.le_of_eq ((xw_l1 rfl).trans (congrArg (1 + ·) ((xw_l1 rfl).trans (congrArg (1 + ·) ((xw_l1 rfl).trans (congrArg (1 + ·) xw_l0))))))) (by decide)) ((xw_a1 rfl).trans (congrArg (List.cons _) ((xw_a1 rfl).trans (congrArg (List.cons _) ((xw_a1 rfl).trans (congrArg (List.cons _) xw_a0)))))) (fun E hE hl hG hm => ?_)
  subst hl; subst hG
  have hE : xw_ok E "CrossingWordsModel" cX2_when 3 (some (.int)) 1 := hE
  unfold pg_X2_when
  refine x_iload_n 1 hE dX2_when_0 rfl 2 rfl ?_
  refine x_if_ne 13 4 hE dX2_when_1 (by decide) rfl ?_ ?_
  · refine x_aload_n 5 hE dX2_when_4 rfl 0 rfl ?_
    refine y_ga 8 hE hac (by decide) ymf_43 rfl xkf_CrossingWordsModel_109 dX2_when_5 rfl ?_
    refine x_iload_n 9 hE dX2_when_8 rfl 1 rfl ?_
    refine y_ld 10 hE hac ⟨rfl, rfl⟩ dX2_when_9 rfl (fun v5 => ?_)
    refine x_goto 33 hE dX2_when_10 (by decide) ?_
    exact x_iret hE dX2_when_33
  · refine x_iload_n 14 hE dX2_when_13 rfl 2 rfl ?_
    refine x_iconst 15 hE dX2_when_14 rfl xc_i_1 ?_
    refine x_icmp_ne 27 18 hE dX2_when_15 (by decide) rfl ?_ ?_
    · refine x_aload_n 19 hE dX2_when_18 rfl 0 rfl ?_
      refine y_ga 22 hE hac (by decide) ymf_44 rfl xkf_CrossingWordsModel_112 dX2_when_19 rfl ?_
      refine x_iload_n 23 hE dX2_when_22 rfl 1 rfl ?_
      refine y_ld 24 hE hac ⟨rfl, rfl⟩ dX2_when_23 rfl (fun v4 => ?_)
      refine x_goto 33 hE dX2_when_24 (by decide) ?_
      exact x_iret hE dX2_when_33
    · refine x_aload_n 28 hE dX2_when_27 rfl 0 rfl ?_
      refine y_ga 31 hE hac (by decide) ymf_45 rfl xkf_CrossingWordsModel_115 dX2_when_28 rfl ?_
      refine x_iload_n 32 hE dX2_when_31 rfl 1 rfl ?_
      refine y_ld 33 hE hac ⟨rfl, rfl⟩ dX2_when_32 rfl (fun v3 => ?_)
      exact x_iret hE dX2_when_33

set_option maxHeartbeats 4000000 in
theorem ct_X2_isSmall {l : Launch} {G : xw_G} {σ0 : xw_St} (hac : xw_ac G = true) (v1 : Int32) : xw_Ct l G (xw_hr G σ0) xw_oi yX2_isSmall cX2_isSmall 3 (some (.boolean)) 1 [va_rf (some (xw_hm G)), .int v1] (pg_X2_isSmall v1) := by
  refine xw_metL [(0, va_rf (some (xw_hm G))), (1, .int v1)] (by decide) (Nat.le_trans (Nat.le_of_eq ((xw_l1 rfl).trans (congrArg (1 + ·) ((xw_l1 rfl).trans (congrArg (1 + ·) xw_l0))))) (by decide)) ((xw_a1 rfl).trans (congrArg (List.cons _) ((xw_a1 rfl).trans (congrArg (List.cons _) xw_a0)))) (fun E hE hl hG hm => ?_)
  subst hl; subst hG
  have hE : xw_ok E "CrossingWordsModel" cX2_isSmall 3 (some (.boolean)) 1 := hE
  unfold pg_X2_isSmall
  refine x_aload_n 1 hE dX2_isSmall_0 rfl 0 rfl ?_
  refine y_ga 4 hE hac (by decide) ymf_30 rfl xkf_CrossingWordsModel_69 dX2_isSmall_1 rfl ?_
  refine x_iload_n 5 hE dX2_isSmall_4 rfl 1 rfl ?_
  refine y_ld 6 hE hac ⟨rfl, rfl⟩ dX2_isSmall_5 rfl (fun v2 => ?_)
  refine x_iconst 7 hE dX2_isSmall_6 rfl xc_i_3 ?_
  refine x_icmp_ne 20 10 hE dX2_isSmall_7 (by decide) rfl ?_ ?_
  · refine x_aload_n 11 hE dX2_isSmall_10 rfl 0 rfl ?_
    refine y_ga 14 hE hac (by decide) ymf_26 rfl xkf_CrossingWordsModel_66 dX2_isSmall_11 rfl ?_
    refine x_bipush 16 hE dX2_isSmall_14 rfl xc_b_9 ?_
    refine y_ld 17 hE hac ⟨rfl, rfl⟩ dX2_isSmall_16 rfl (fun v3 => ?_)
    refine x_if_ne 22 20 hE dX2_isSmall_17 (by decide) rfl ?_ ?_
    · refine x_iconst 21 hE dX2_isSmall_20 rfl xc_i_0 ?_
      exact x_zretw hE (by decide) dX2_isSmall_21
    · refine x_iconst 23 hE dX2_isSmall_22 rfl xc_i_5 ?_
      refine x_iload_n 24 hE dX2_isSmall_23 rfl 1 rfl ?_
      refine x_imul 25 hE dX2_isSmall_24 rfl ?_
      refine x_lti (fun v4 => ?_)
      refine x_istore_n 26 [(2, .int v4), (0, va_rf (some (xw_hm (xe_G E)))), (1, .int v1)] hE dX2_isSmall_25 rfl rfl (Nat.le_of_ble_eq_true rfl) rfl ?_
      refine x_aload_n 27 hE dX2_isSmall_26 rfl 1 rfl ?_
      refine y_ga 30 hE hac (by decide) ymf_38 rfl xkf_CrossingWordsModel_94 dX2_isSmall_27 rfl ?_
      refine x_iload_n 31 hE dX2_isSmall_30 rfl 0 rfl ?_
      refine y_ld 32 hE hac ⟨rfl, rfl⟩ dX2_isSmall_31 rfl (fun v5 => ?_)
      refine x_if_ge 61 35 hE dX2_isSmall_32 (by decide) rfl ?_ ?_
      · refine x_iconst 62 hE dX2_isSmall_61 rfl xc_i_0 ?_
        exact x_zretw hE (by decide) dX2_isSmall_62
      · refine x_aload_n 36 hE dX2_isSmall_35 rfl 1 rfl ?_
        refine y_ga 39 hE hac (by decide) ymf_38 rfl xkf_CrossingWordsModel_94 dX2_isSmall_36 rfl ?_
        refine x_iload_n 40 hE dX2_isSmall_39 rfl 0 rfl ?_
        refine x_iconst 41 hE dX2_isSmall_40 rfl xc_i_1 ?_
        refine x_iadd 42 hE dX2_isSmall_41 rfl ?_
        refine y_ld 43 hE hac ⟨rfl, rfl⟩ dX2_isSmall_42 rfl (fun v6 => ?_)
        refine x_if_ge 61 46 hE dX2_isSmall_43 (by decide) rfl ?_ ?_
        · refine x_iconst 62 hE dX2_isSmall_61 rfl xc_i_0 ?_
          exact x_zretw hE (by decide) dX2_isSmall_62
        · refine x_aload_n 47 hE dX2_isSmall_46 rfl 1 rfl ?_
          refine y_ga 50 hE hac (by decide) ymf_38 rfl xkf_CrossingWordsModel_94 dX2_isSmall_47 rfl ?_
          refine x_iload_n 51 hE dX2_isSmall_50 rfl 0 rfl ?_
          refine x_iconst 52 hE dX2_isSmall_51 rfl xc_i_2 ?_
          refine x_iadd 53 hE dX2_isSmall_52 rfl ?_
          refine y_ld 54 hE hac ⟨rfl, rfl⟩ dX2_isSmall_53 rfl (fun v7 => ?_)
          refine x_if_ge 61 57 hE dX2_isSmall_54 (by decide) rfl ?_ ?_
          · refine x_iconst 62 hE dX2_isSmall_61 rfl xc_i_0 ?_
            exact x_zretw hE (by decide) dX2_isSmall_62
          · refine x_iconst 58 hE dX2_isSmall_57 rfl xc_i_1 ?_
            refine x_goto 62 hE dX2_isSmall_58 (by decide) ?_
            exact x_zretw hE (by decide) dX2_isSmall_62
  · refine x_iconst 21 hE dX2_isSmall_20 rfl xc_i_0 ?_
    exact x_zretw hE (by decide) dX2_isSmall_21

set_option maxHeartbeats 4000000 in
theorem ct_X2_isOffering {l : Launch} {G : xw_G} {σ0 : xw_St} (hac : xw_ac G = true) (v1 : Int32) : xw_Ct l G (xw_hr G σ0) xw_oi yX2_isOffering cX2_isOffering 2 (some (.boolean)) 2 [va_rf (some (xw_hm G)), .int v1] (pg_X2_isOffering v1) := by
  refine xw_metL [(0, va_rf (some (xw_hm G))), (1, .int v1)] (by decide) (Nat.le_trans (Nat.le_of_eq ((xw_l1 rfl).trans (congrArg (1 + ·) ((xw_l1 rfl).trans (congrArg (1 + ·) xw_l0))))) (by decide)) ((xw_a1 rfl).trans (congrArg (List.cons _) ((xw_a1 rfl).trans (congrArg (List.cons _) xw_a0)))) (fun E hE hl hG hm => ?_)
  subst hl; subst hG
  have hE : xw_ok E "CrossingWordsModel" cX2_isOffering 2 (some (.boolean)) 2 := hE
  unfold pg_X2_isOffering
  refine x_aload_n 1 hE dX2_isOffering_0 rfl 0 rfl ?_
  refine y_ga 4 hE hac (by decide) ymf_30 rfl xkf_CrossingWordsModel_69 dX2_isOffering_1 rfl ?_
  refine x_iload_n 5 hE dX2_isOffering_4 rfl 1 rfl ?_
  refine y_ld 6 hE hac ⟨rfl, rfl⟩ dX2_isOffering_5 rfl (fun v2 => ?_)
  refine x_if_eq 27 9 hE dX2_isOffering_6 (by decide) rfl ?_ ?_
  · refine x_iconst 28 hE dX2_isOffering_27 rfl xc_i_1 ?_
    refine x_goto 32 hE dX2_isOffering_28 (by decide) ?_
    exact x_zretw hE (by decide) dX2_isOffering_32
  · refine x_aload_n 10 hE dX2_isOffering_9 rfl 0 rfl ?_
    refine y_ga 13 hE hac (by decide) ymf_30 rfl xkf_CrossingWordsModel_69 dX2_isOffering_10 rfl ?_
    refine x_iload_n 14 hE dX2_isOffering_13 rfl 1 rfl ?_
    refine y_ld 15 hE hac ⟨rfl, rfl⟩ dX2_isOffering_14 rfl (fun v3 => ?_)
    refine x_iconst 16 hE dX2_isOffering_15 rfl xc_i_3 ?_
    refine x_icmp_ne 31 19 hE dX2_isOffering_16 (by decide) rfl ?_ ?_
    · refine x_aload_n 20 hE dX2_isOffering_19 rfl 0 rfl ?_
      refine x_iload_n 21 hE dX2_isOffering_20 rfl 1 rfl ?_
      refine x_calli 24 (xw_goM hE hac (xw_rV hE (ct_X2_isSmall hac v1) xd_X2_isSmall rfl q1771 q1773 qs71 q97 q1774 rfl ⟨Nat.le_of_ble_eq_true rfl, Nat.le_of_ble_eq_true rfl⟩ rfl rfl (by decide) dX2_isOffering_21)) rfl (fun v4 => ?_)
      refine x_if_ne 31 27 hE dX2_isOffering_24 (by decide) rfl ?_ ?_
      · refine x_iconst 28 hE dX2_isOffering_27 rfl xc_i_1 ?_
        refine x_goto 32 hE dX2_isOffering_28 (by decide) ?_
        exact x_zretw hE (by decide) dX2_isOffering_32
      · refine x_iconst 32 hE dX2_isOffering_31 rfl xc_i_0 ?_
        exact x_zretw hE (by decide) dX2_isOffering_32
    · refine x_iconst 32 hE dX2_isOffering_31 rfl xc_i_0 ?_
      exact x_zretw hE (by decide) dX2_isOffering_32

set_option maxHeartbeats 4000000 in
theorem ct_X2_isNo {l : Launch} {G : xw_G} {σ0 : xw_St} (hac : xw_ac G = true) (v1 : Int32) : xw_Ct l G (xw_hr G σ0) xw_oi yX2_isNo cX2_isNo 2 (some (.boolean)) 2 [va_rf (some (xw_hm G)), .int v1] (pg_X2_isNo v1) := by
  refine xw_metL [(0, va_rf (some (xw_hm G))), (1, .int v1)] (by decide) (Nat.le_trans (Nat.le_of_eq ((xw_l1 rfl).trans (congrArg (1 + ·) ((xw_l1 rfl).trans (congrArg (1 + ·) xw_l0))))) (by decide)) ((xw_a1 rfl).trans (congrArg (List.cons _) ((xw_a1 rfl).trans (congrArg (List.cons _) xw_a0)))) (fun E hE hl hG hm => ?_)
  subst hl; subst hG
  have hE : xw_ok E "CrossingWordsModel" cX2_isNo 2 (some (.boolean)) 2 := hE
  unfold pg_X2_isNo
  refine x_aload_n 1 hE dX2_isNo_0 rfl 0 rfl ?_
  refine y_ga 4 hE hac (by decide) ymf_30 rfl xkf_CrossingWordsModel_69 dX2_isNo_1 rfl ?_
  refine x_iload_n 5 hE dX2_isNo_4 rfl 1 rfl ?_
  refine y_ld 6 hE hac ⟨rfl, rfl⟩ dX2_isNo_5 rfl (fun v2 => ?_)
  refine x_iconst 7 hE dX2_isNo_6 rfl xc_i_4 ?_
  refine x_icmp_eq 28 10 hE dX2_isNo_7 (by decide) rfl ?_ ?_
  · refine x_iconst 29 hE dX2_isNo_28 rfl xc_i_1 ?_
    refine x_goto 33 hE dX2_isNo_29 (by decide) ?_
    exact x_zretw hE (by decide) dX2_isNo_33
  · refine x_aload_n 11 hE dX2_isNo_10 rfl 0 rfl ?_
    refine y_ga 14 hE hac (by decide) ymf_30 rfl xkf_CrossingWordsModel_69 dX2_isNo_11 rfl ?_
    refine x_iload_n 15 hE dX2_isNo_14 rfl 1 rfl ?_
    refine y_ld 16 hE hac ⟨rfl, rfl⟩ dX2_isNo_15 rfl (fun v3 => ?_)
    refine x_iconst 17 hE dX2_isNo_16 rfl xc_i_3 ?_
    refine x_icmp_ne 32 20 hE dX2_isNo_17 (by decide) rfl ?_ ?_
    · refine x_aload_n 21 hE dX2_isNo_20 rfl 0 rfl ?_
      refine x_iload_n 22 hE dX2_isNo_21 rfl 1 rfl ?_
      refine x_calli 25 (xw_goM hE hac (xw_rV hE (ct_X2_isSmall hac v1) xd_X2_isSmall rfl q1771 q1773 qs71 q97 q1774 rfl ⟨Nat.le_of_ble_eq_true rfl, Nat.le_of_ble_eq_true rfl⟩ rfl rfl (by decide) dX2_isNo_22)) rfl (fun v4 => ?_)
      refine x_if_ne 32 28 hE dX2_isNo_25 (by decide) rfl ?_ ?_
      · refine x_iconst 29 hE dX2_isNo_28 rfl xc_i_1 ?_
        refine x_goto 33 hE dX2_isNo_29 (by decide) ?_
        exact x_zretw hE (by decide) dX2_isNo_33
      · refine x_iconst 33 hE dX2_isNo_32 rfl xc_i_0 ?_
        exact x_zretw hE (by decide) dX2_isNo_33
    · refine x_iconst 33 hE dX2_isNo_32 rfl xc_i_0 ?_
      exact x_zretw hE (by decide) dX2_isNo_33

set_option maxHeartbeats 4000000 in
theorem ct_X2_isYes {l : Launch} {G : xw_G} {σ0 : xw_St} (hac : xw_ac G = true) (v1 : Int32) : xw_Ct l G (xw_hr G σ0) xw_oi yX2_isYes cX2_isYes 2 (some (.boolean)) 2 [va_rf (some (xw_hm G)), .int v1] (pg_X2_isYes v1) := by
  refine xw_metL [(0, va_rf (some (xw_hm G))), (1, .int v1)] (by decide) (Nat.le_trans (Nat.le_of_eq ((xw_l1 rfl).trans (congrArg (1 + ·) ((xw_l1 rfl).trans (congrArg (1 + ·) xw_l0))))) (by decide)) ((xw_a1 rfl).trans (congrArg (List.cons _) ((xw_a1 rfl).trans (congrArg (List.cons _) xw_a0)))) (fun E hE hl hG hm => ?_)
  subst hl; subst hG
  have hE : xw_ok E "CrossingWordsModel" cX2_isYes 2 (some (.boolean)) 2 := hE
  unfold pg_X2_isYes
  refine x_aload_n 1 hE dX2_isYes_0 rfl 0 rfl ?_
  refine y_ga 4 hE hac (by decide) ymf_30 rfl xkf_CrossingWordsModel_69 dX2_isYes_1 rfl ?_
  refine x_iload_n 5 hE dX2_isYes_4 rfl 1 rfl ?_
  refine y_ld 6 hE hac ⟨rfl, rfl⟩ dX2_isYes_5 rfl (fun v2 => ?_)
  refine x_iconst 7 hE dX2_isYes_6 rfl xc_i_2 ?_
  refine x_icmp_eq 40 10 hE dX2_isYes_7 (by decide) rfl ?_ ?_
  · refine x_iconst 41 hE dX2_isYes_40 rfl xc_i_1 ?_
    refine x_goto 45 hE dX2_isYes_41 (by decide) ?_
    exact x_zretw hE (by decide) dX2_isYes_45
  · refine x_aload_n 11 hE dX2_isYes_10 rfl 0 rfl ?_
    refine x_iload_n 12 hE dX2_isYes_11 rfl 1 rfl ?_
    refine x_calli 15 (xw_goM hE hac (xw_rV hE (ct_X2_isSmall hac v1) xd_X2_isSmall rfl q1771 q1773 qs71 q97 q1774 rfl ⟨Nat.le_of_ble_eq_true rfl, Nat.le_of_ble_eq_true rfl⟩ rfl rfl (by decide) dX2_isYes_12)) rfl (fun v3 => ?_)
    refine x_if_ne 40 18 hE dX2_isYes_15 (by decide) rfl ?_ ?_
    · refine x_aload_n 19 hE dX2_isYes_18 rfl 0 rfl ?_
      refine y_ga 22 hE hac (by decide) ymf_30 rfl xkf_CrossingWordsModel_69 dX2_isYes_19 rfl ?_
      refine x_iload_n 23 hE dX2_isYes_22 rfl 1 rfl ?_
      refine y_ld 24 hE hac ⟨rfl, rfl⟩ dX2_isYes_23 rfl (fun v4 => ?_)
      refine x_bipush 26 hE dX2_isYes_24 rfl xc_b_6 ?_
      refine x_icmp_ne 44 29 hE dX2_isYes_26 (by decide) rfl ?_ ?_
      · refine x_aload_n 30 hE dX2_isYes_29 rfl 0 rfl ?_
        refine y_ga 33 hE hac (by decide) ymf_26 rfl xkf_CrossingWordsModel_66 dX2_isYes_30 rfl ?_
        refine x_bipush 35 hE dX2_isYes_33 rfl xc_b_11 ?_
        refine y_ld 36 hE hac ⟨rfl, rfl⟩ dX2_isYes_35 rfl (fun v5 => ?_)
        refine x_iconst 37 hE dX2_isYes_36 rfl xc_i_1 ?_
        refine x_icmp_ne 44 40 hE dX2_isYes_37 (by decide) rfl ?_ ?_
        · refine x_iconst 41 hE dX2_isYes_40 rfl xc_i_1 ?_
          refine x_goto 45 hE dX2_isYes_41 (by decide) ?_
          exact x_zretw hE (by decide) dX2_isYes_45
        · refine x_iconst 45 hE dX2_isYes_44 rfl xc_i_0 ?_
          exact x_zretw hE (by decide) dX2_isYes_45
      · refine x_iconst 45 hE dX2_isYes_44 rfl xc_i_0 ?_
        exact x_zretw hE (by decide) dX2_isYes_45
    · refine x_iconst 41 hE dX2_isYes_40 rfl xc_i_1 ?_
      refine x_goto 45 hE dX2_isYes_41 (by decide) ?_
      exact x_zretw hE (by decide) dX2_isYes_45

set_option maxHeartbeats 4000000 in
theorem ct_X2_backHour {l : Launch} {G : xw_G} {σ0 : xw_St} (hac : xw_ac G = true) (v1 : Int32) (v2 : Int32) : xw_Ct l G (xw_hr G σ0) xw_oi yX2_backHour cX2_backHour 4 (some (.int)) 2 [va_rf (some (xw_hm G)), .int v1, .int v2] (pg_X2_backHour v1 v2) := by
  refine xw_metL [(0, va_rf (some (xw_hm G))), (1, .int v1), (2, .int v2)] (by decide) (Nat.le_trans (Nat.le_of_eq ((xw_l1 rfl).trans (congrArg (1 + ·) ((xw_l1 rfl).trans (congrArg (1 + ·) ((xw_l1 rfl).trans (congrArg (1 + ·) xw_l0))))))) (by decide)) ((xw_a1 rfl).trans (congrArg (List.cons _) ((xw_a1 rfl).trans (congrArg (List.cons _) ((xw_a1 rfl).trans (congrArg (List.cons _) xw_a0)))))) (fun E hE hl hG hm => ?_)
  subst hl; subst hG
  have hE : xw_ok E "CrossingWordsModel" cX2_backHour 4 (some (.int)) 2 := hE
  unfold pg_X2_backHour
  refine x_aload_n 1 hE dX2_backHour_0 rfl 0 rfl ?_
  refine y_ga 4 hE hac (by decide) ymf_30 rfl xkf_CrossingWordsModel_69 dX2_backHour_1 rfl ?_
  refine x_iload_n 5 hE dX2_backHour_4 rfl 1 rfl ?_
  refine y_ld 6 hE hac ⟨rfl, rfl⟩ dX2_backHour_5 rfl (fun v3 => ?_)
  refine x_iconst 7 hE dX2_backHour_6 rfl xc_i_5 ?_
  refine x_icmp_ne 20 10 hE dX2_backHour_7 (by decide) rfl ?_ ?_
  · refine x_aload_n 11 hE dX2_backHour_10 rfl 0 rfl ?_
    refine y_ga 14 hE hac (by decide) ymf_34 rfl xkf_CrossingWordsModel_81 dX2_backHour_11 rfl ?_
    refine x_iload_n 15 hE dX2_backHour_14 rfl 1 rfl ?_
    refine y_ld 16 hE hac ⟨rfl, rfl⟩ dX2_backHour_15 rfl (fun v4 => ?_)
    refine x_iload_n 17 hE dX2_backHour_16 rfl 2 rfl ?_
    refine x_icmp_eq 22 20 hE dX2_backHour_17 (by decide) rfl ?_ ?_
    · refine x_aload_n 23 hE dX2_backHour_22 rfl 0 rfl ?_
      refine x_iload_n 24 hE dX2_backHour_23 rfl 1 rfl ?_
      refine x_aload_n 25 hE dX2_backHour_24 rfl 0 rfl ?_
      refine y_ga 28 hE hac (by decide) ymf_26 rfl xkf_CrossingWordsModel_66 dX2_backHour_25 rfl ?_
      refine x_iconst 29 hE dX2_backHour_28 rfl xc_i_4 ?_
      refine y_ld 30 hE hac ⟨rfl, rfl⟩ dX2_backHour_29 rfl (fun v5 => ?_)
      refine x_calli 33 (xw_goM hE hac (xw_rV hE (ct_X2_when hac v1 v5) xd_X2_when rfl q1739 q1741 qs64 q97 q1742 rfl ⟨Nat.le_of_ble_eq_true rfl, Nat.le_of_ble_eq_true rfl⟩ rfl rfl (by decide) dX2_backHour_30)) rfl (fun v6 => ?_)
      refine x_istore_n 34 [(3, .int v6), (0, va_rf (some (xw_hm (xe_G E)))), (1, .int v1), (2, .int v2)] hE dX2_backHour_33 rfl rfl (Nat.le_of_ble_eq_true rfl) rfl ?_
      refine x_aload_n 35 hE dX2_backHour_34 rfl 1 rfl ?_
      refine y_ga 38 hE hac (by decide) ymf_33 rfl xkf_CrossingWordsModel_78 dX2_backHour_35 rfl ?_
      refine x_iload_n 39 hE dX2_backHour_38 rfl 3 rfl ?_
      refine y_ld 40 hE hac ⟨rfl, rfl⟩ dX2_backHour_39 rfl (fun v7 => ?_)
      refine x_if_lt 68 43 hE dX2_backHour_40 (by decide) rfl ?_ ?_
      · refine x_iload_n 69 hE dX2_backHour_68 rfl 0 rfl ?_
        exact x_iret hE dX2_backHour_69
      · refine x_aload_n 44 hE dX2_backHour_43 rfl 1 rfl ?_
        refine y_ga 47 hE hac (by decide) ymf_26 rfl xkf_CrossingWordsModel_66 dX2_backHour_44 rfl ?_
        refine x_bipush 49 hE dX2_backHour_47 rfl xc_b_6 ?_
        refine y_ld 50 hE hac ⟨rfl, rfl⟩ dX2_backHour_49 rfl (fun v8 => ?_)
        refine x_iconst 51 hE dX2_backHour_50 rfl xc_i_1 ?_
        refine x_icmp_ne 68 54 hE dX2_backHour_51 (by decide) rfl ?_ ?_
        · refine x_iload_n 55 hE dX2_backHour_54 rfl 0 rfl ?_
          refine x_aload_n 56 hE dX2_backHour_55 rfl 1 rfl ?_
          refine y_ga 59 hE hac (by decide) ymf_33 rfl xkf_CrossingWordsModel_78 dX2_backHour_56 rfl ?_
          refine x_iload_n 60 hE dX2_backHour_59 rfl 3 rfl ?_
          refine y_ld 61 hE hac ⟨rfl, rfl⟩ dX2_backHour_60 rfl (fun v9 => ?_)
          refine x_icmp_gt 68 64 hE dX2_backHour_61 (by decide) rfl ?_ ?_
          · refine x_iload_n 69 hE dX2_backHour_68 rfl 0 rfl ?_
            exact x_iret hE dX2_backHour_69
          · refine x_iconst 65 hE dX2_backHour_64 rfl xc_i_m1 ?_
            refine x_goto 69 hE dX2_backHour_65 (by decide) ?_
            exact x_iret hE dX2_backHour_69
        · refine x_iload_n 69 hE dX2_backHour_68 rfl 0 rfl ?_
          exact x_iret hE dX2_backHour_69
    · refine x_iconst 21 hE dX2_backHour_20 rfl xc_i_m1 ?_
      exact x_iret hE dX2_backHour_21
  · refine x_iconst 21 hE dX2_backHour_20 rfl xc_i_m1 ?_
    exact x_iret hE dX2_backHour_21

set_option maxHeartbeats 4000000 in
theorem ct_X2_noHour {l : Launch} {G : xw_G} {σ0 : xw_St} (hac : xw_ac G = true) (v1 : Int32) (v2 : Int32) : xw_Ct l G (xw_hr G σ0) xw_oi yX2_noHour cX2_noHour 3 (some (.int)) 3 [va_rf (some (xw_hm G)), .int v1, .int v2] (pg_X2_noHour v1 v2) := by
  refine xw_metL [(0, va_rf (some (xw_hm G))), (1, .int v1), (2, .int v2)] (by decide) (Nat.le_trans (Nat.le_of_eq ((xw_l1 rfl).trans (congrArg (1 + ·) ((xw_l1 rfl).trans (congrArg (1 + ·) ((xw_l1 rfl).trans (congrArg (1 + ·) xw_l0))))))) (by decide)) ((xw_a1 rfl).trans (congrArg (List.cons _) ((xw_a1 rfl).trans (congrArg (List.cons _) ((xw_a1 rfl).trans (congrArg (List.cons _) xw_a0)))))) (fun E hE hl hG hm => ?_)
  subst hl; subst hG
  have hE : xw_ok E "CrossingWordsModel" cX2_noHour 3 (some (.int)) 3 := hE
  unfold pg_X2_noHour
  refine x_aload_n 1 hE dX2_noHour_0 rfl 0 rfl ?_
  refine x_iload_n 2 hE dX2_noHour_1 rfl 1 rfl ?_
  refine x_calli 5 (xw_goM hE hac (xw_rV hE (ct_X2_isNo hac v1) xd_X2_isNo rfl q1787 q1789 qs75 q97 q1790 rfl ⟨Nat.le_of_ble_eq_true rfl, Nat.le_of_ble_eq_true rfl⟩ rfl rfl (by decide) dX2_noHour_2)) rfl (fun v3 => ?_)
  refine x_if_eq 32 8 hE dX2_noHour_5 (by decide) rfl ?_ ?_
  · refine x_iconst 33 hE dX2_noHour_32 rfl xc_i_m1 ?_
    exact x_iret hE dX2_noHour_33
  · refine x_aload_n 9 hE dX2_noHour_8 rfl 0 rfl ?_
    refine y_ga 12 hE hac (by decide) ymf_34 rfl xkf_CrossingWordsModel_81 dX2_noHour_9 rfl ?_
    refine x_iload_n 13 hE dX2_noHour_12 rfl 1 rfl ?_
    refine y_ld 14 hE hac ⟨rfl, rfl⟩ dX2_noHour_13 rfl (fun v4 => ?_)
    refine x_iload_n 15 hE dX2_noHour_14 rfl 2 rfl ?_
    refine x_icmp_ne 32 18 hE dX2_noHour_15 (by decide) rfl ?_ ?_
    · refine x_aload_n 19 hE dX2_noHour_18 rfl 0 rfl ?_
      refine x_iload_n 20 hE dX2_noHour_19 rfl 1 rfl ?_
      refine x_aload_n 21 hE dX2_noHour_20 rfl 0 rfl ?_
      refine y_ga 24 hE hac (by decide) ymf_26 rfl xkf_CrossingWordsModel_66 dX2_noHour_21 rfl ?_
      refine x_iconst 25 hE dX2_noHour_24 rfl xc_i_5 ?_
      refine y_ld 26 hE hac ⟨rfl, rfl⟩ dX2_noHour_25 rfl (fun v5 => ?_)
      refine x_calli 29 (xw_goM hE hac (xw_rV hE (ct_X2_when hac v1 v5) xd_X2_when rfl q1739 q1741 qs64 q97 q1742 rfl ⟨Nat.le_of_ble_eq_true rfl, Nat.le_of_ble_eq_true rfl⟩ rfl rfl (by decide) dX2_noHour_26)) rfl (fun v6 => ?_)
      refine x_goto 33 hE dX2_noHour_29 (by decide) ?_
      exact x_iret hE dX2_noHour_33
    · refine x_iconst 33 hE dX2_noHour_32 rfl xc_i_m1 ?_
      exact x_iret hE dX2_noHour_33

set_option maxHeartbeats 4000000 in
theorem ct_X2_endsBy {l : Launch} {G : xw_G} {σ0 : xw_St} (hac : xw_ac G = true) (v1 : Int32) (v2 : Int32) (v3 : Int32) : xw_Ct l G (xw_hr G σ0) xw_ov yX2_endsBy cX2_endsBy 4 none 1 [va_rf (some (xw_hm G)), .int v1, .int v2, .int v3] (pg_X2_endsBy v1 v2 v3) := by
  refine xw_metL [(0, va_rf (some (xw_hm G))), (1, .int v1), (2, .int v2), (3, .int v3)] (by decide) (Nat.le_trans (Nat.le_of_eq ((xw_l1 rfl).trans (congrArg (1 + ·) ((xw_l1 rfl).trans (congrArg (1 + ·) ((xw_l1 rfl).trans (congrArg (1 + ·) ((xw_l1 rfl).trans (congrArg (1 + ·) xw_l0))))))))) (by decide)) ((xw_a1 rfl).trans (congrArg (List.cons _) ((xw_a1 rfl).trans (congrArg (List.cons _) ((xw_a1 rfl).trans (congrArg (List.cons _) ((xw_a1 rfl).trans (congrArg (List.cons _) xw_a0)))))))) (fun E hE hl hG hm => ?_)
  subst hl; subst hG
  have hE : xw_ok E "CrossingWordsModel" cX2_endsBy 4 none 1 := hE
  unfold pg_X2_endsBy
  refine x_iload_n 1 hE dX2_endsBy_0 rfl 2 rfl ?_
  refine x_if_lt 43 4 hE dX2_endsBy_1 (by decide) rfl ?_ ?_
  · exact x_vret hE dX2_endsBy_43
  · refine x_iload_n 5 hE dX2_endsBy_4 rfl 2 rfl ?_
    refine x_aload_n 6 hE dX2_endsBy_5 rfl 0 rfl ?_
    refine y_ga 9 hE hac (by decide) ymf_48 rfl xkf_CrossingWordsModel_124 dX2_endsBy_6 rfl ?_
    refine x_iload_n 10 hE dX2_endsBy_9 rfl 1 rfl ?_
    refine y_ld 11 hE hac ⟨rfl, rfl⟩ dX2_endsBy_10 rfl (fun v4 => ?_)
    refine x_icmp_gt 43 14 hE dX2_endsBy_11 (by decide) rfl ?_ ?_
    · exact x_vret hE dX2_endsBy_43
    · refine x_iload_n 15 hE dX2_endsBy_14 rfl 2 rfl ?_
      refine x_aload_n 16 hE dX2_endsBy_15 rfl 0 rfl ?_
      refine y_ga 19 hE hac (by decide) ymf_48 rfl xkf_CrossingWordsModel_124 dX2_endsBy_16 rfl ?_
      refine x_iload_n 20 hE dX2_endsBy_19 rfl 1 rfl ?_
      refine y_ld 21 hE hac ⟨rfl, rfl⟩ dX2_endsBy_20 rfl (fun v5 => ?_)
      refine x_jn 44 (fun (v6 : Unit) => [(0, va_rf (some (xw_hm (xe_G E)))), (1, .int v1), (2, .int v2), (3, .int v3)]) (fun (v6 : Unit) => []) (fun v6 => ?_) (fun J1 hJ1 => ?_)
      · refine x_aload_n 45 hE dX2_endsBy_44 rfl 0 rfl ?_
        refine y_ga 48 hE hac (by decide) ymf_48 rfl xkf_CrossingWordsModel_124 dX2_endsBy_45 rfl ?_
        refine x_iload_n 49 hE dX2_endsBy_48 rfl 1 rfl ?_
        refine x_iload_n 50 hE dX2_endsBy_49 rfl 2 rfl ?_
        refine y_st 51 hE hac ⟨rfl, rfl⟩ dX2_endsBy_50 rfl ?_
        refine x_aload_n 52 hE dX2_endsBy_51 rfl 0 rfl ?_
        refine y_ga 55 hE hac (by decide) ymf_49 rfl xkf_CrossingWordsModel_127 dX2_endsBy_52 rfl ?_
        refine x_iload_n 56 hE dX2_endsBy_55 rfl 1 rfl ?_
        refine x_iload_n 57 hE dX2_endsBy_56 rfl 3 rfl ?_
        refine y_st 58 hE hac ⟨rfl, rfl⟩ dX2_endsBy_57 rfl ?_
        exact x_vret hE dX2_endsBy_58
      · refine x_icmp_ne 44 24 hE dX2_endsBy_21 (by decide) rfl ?_ ?_
        · refine x_aload_n 25 hE dX2_endsBy_24 rfl 0 rfl ?_
          refine y_ga 28 hE hac (by decide) ymf_49 rfl xkf_CrossingWordsModel_127 dX2_endsBy_25 rfl ?_
          refine x_iload_n 29 hE dX2_endsBy_28 rfl 1 rfl ?_
          refine y_ld 30 hE hac ⟨rfl, rfl⟩ dX2_endsBy_29 rfl (fun v7 => ?_)
          refine x_if_le 44 33 hE dX2_endsBy_30 (by decide) rfl ?_ ?_
          · refine x_sub [(0, va_rf (some (xw_hm (xe_G E)))), (1, .int v1), (2, .int v2), (3, .int v3)] [0, 1, 2, 3] rfl ?_
            exact hJ1 ()
          · refine x_aload_n 34 hE dX2_endsBy_33 rfl 0 rfl ?_
            refine y_ga 37 hE hac (by decide) ymf_49 rfl xkf_CrossingWordsModel_127 dX2_endsBy_34 rfl ?_
            refine x_iload_n 38 hE dX2_endsBy_37 rfl 1 rfl ?_
            refine y_ld 39 hE hac ⟨rfl, rfl⟩ dX2_endsBy_38 rfl (fun v8 => ?_)
            refine x_iload_n 40 hE dX2_endsBy_39 rfl 3 rfl ?_
            refine x_icmp_gt 44 43 hE dX2_endsBy_40 (by decide) rfl ?_ ?_
            · refine x_sub [(0, va_rf (some (xw_hm (xe_G E)))), (1, .int v1), (2, .int v2), (3, .int v3)] [0, 1, 2, 3] rfl ?_
              exact hJ1 ()
            · exact x_vret hE dX2_endsBy_43
        · refine x_sub [(0, va_rf (some (xw_hm (xe_G E)))), (1, .int v1), (2, .int v2), (3, .int v3)] [0, 1, 2, 3] rfl ?_
          exact hJ1 ()

set_option maxHeartbeats 4000000 in
theorem ct_X2_findOffers {l : Launch} {G : xw_G} {σ0 : xw_St} (hac : xw_ac G = true)  : xw_Ct l G (xw_hr G σ0) xw_ov yX2_findOffers cX2_findOffers 3 none 4 [va_rf (some (xw_hm G))] (pg_X2_findOffers) := by
  refine xw_metL [(0, va_rf (some (xw_hm G)))] (by decide) (Nat.le_trans (Nat.le_of_eq ((xw_l1 rfl).trans (congrArg (1 + ·) xw_l0))) (by decide)) ((xw_a1 rfl).trans (congrArg (List.cons _) xw_a0)) (fun E hE hl hG hm => ?_)
  subst hl; subst hG
  have hE : xw_ok E "CrossingWordsModel" cX2_findOffers 3 none 4 := hE
  unfold pg_X2_findOffers
  refine x_iconst 1 hE dX2_findOffers_0 rfl xc_i_0 ?_
  refine x_istore_n 2 [(1, .int 0), (0, va_rf (some (xw_hm (xe_G E))))] hE dX2_findOffers_1 rfl rfl (Nat.le_of_ble_eq_true rfl) rfl ?_
  refine x_sub [(0, va_rf (some (xw_hm (xe_G E)))), (1, .int 0)] [1, 0] rfl ?_
  refine x_sq 182 (fun (v2 : Unit) => []) (fun _ => []) (fun v2 => ?_) (fun J2 hJ2 => ?_)
  · exact x_vret hE dX2_findOffers_182
  · refine x_loop (fun (v1 : Int32) => [(0, va_rf (some (xw_hm (xe_G E)))), (1, .int v1)]) (fun JL1 hc1 hx1 v1 => ?_) _ _
    refine x_iload_n 3 hE dX2_findOffers_2 rfl 1 rfl ?_
    refine x_aload_n 4 hE dX2_findOffers_3 rfl 0 rfl ?_
    refine y_g 7 hE hac (by decide) ymf_27 rfl xkf_CrossingWordsModel_351 dX2_findOffers_4 rfl (fun v3 => ?_)
    refine x_icmp_ge 182 10 hE dX2_findOffers_7 (by decide) rfl ?_ ?_
    · refine x_sub [] [] rfl ?_
      refine hx1 _ _ _ _ ?_
      exact hJ2 ()
    · refine x_aload_n 11 hE dX2_findOffers_10 rfl 0 rfl ?_
      refine x_iload_n 12 hE dX2_findOffers_11 rfl 1 rfl ?_
      refine x_calli 15 (xw_goM hE hac (xw_rV hE (ct_X2_isOffering hac v1) xd_X2_isOffering rfl q1767 q1769 qs70 q97 q1770 rfl ⟨Nat.le_of_ble_eq_true rfl, Nat.le_of_ble_eq_true rfl⟩ rfl rfl (by decide) dX2_findOffers_12)) rfl (fun v4 => ?_)
      refine x_if_ne 21 18 hE dX2_findOffers_15 (by decide) rfl ?_ ?_
      · refine x_goto 176 hE dX2_findOffers_18 (by decide) ?_
        refine x_iinc 179 [(1, .int (v1 + 1)), (0, va_rf (some (xw_hm (xe_G E))))] hE dX2_findOffers_176 rfl 1 rfl xc_i_1 (Nat.le_of_ble_eq_true rfl) rfl ?_
        refine x_goto 2 hE dX2_findOffers_179 (by decide) ?_
        refine x_sub [(0, va_rf (some (xw_hm (xe_G E)))), (1, .int (v1 + 1))] [1, 0] rfl ?_
        exact hc1 (v1 + 1)
      · refine x_aload_n 22 hE dX2_findOffers_21 rfl 0 rfl ?_
        refine y_ga 25 hE hac (by decide) ymf_47 rfl xkf_CrossingWordsModel_121 dX2_findOffers_22 rfl ?_
        refine x_iload_n 26 hE dX2_findOffers_25 rfl 1 rfl ?_
        refine x_aload_n 27 hE dX2_findOffers_26 rfl 0 rfl ?_
        refine y_ga 30 hE hac (by decide) ymf_37 rfl xkf_CrossingWordsModel_90 dX2_findOffers_27 rfl ?_
        refine x_iload_n 31 hE dX2_findOffers_30 rfl 1 rfl ?_
        refine y_ldB 32 hE hac ⟨rfl, Or.inl rfl⟩ dX2_findOffers_31 rfl (fun v5 => ?_)
        refine x_sq 50 (fun (v6 : Int32) => [(0, va_rf (some (xw_hm (xe_G E)))), (1, .int v1)]) (fun (v6 : Int32) => [.int v6, .int v1, va_rf (some (xw_am (xe_G E) 47))]) (fun v6 => ?_) (fun J3 hJ3 => ?_)
        · refine y_st 51 hE hac ⟨rfl, rfl⟩ dX2_findOffers_50 rfl ?_
          refine x_aload_n 52 hE dX2_findOffers_51 rfl 0 rfl ?_
          refine y_ga 55 hE hac (by decide) ymf_48 rfl xkf_CrossingWordsModel_124 dX2_findOffers_52 rfl ?_
          refine x_iload_n 56 hE dX2_findOffers_55 rfl 1 rfl ?_
          refine x_sipush 59 hE dX2_findOffers_56 rfl xc_s_9999 ?_
          refine y_st 60 hE hac ⟨rfl, rfl⟩ dX2_findOffers_59 rfl ?_
          refine x_aload_n 61 hE dX2_findOffers_60 rfl 0 rfl ?_
          refine y_ga 64 hE hac (by decide) ymf_49 rfl xkf_CrossingWordsModel_127 dX2_findOffers_61 rfl ?_
          refine x_iload_n 65 hE dX2_findOffers_64 rfl 1 rfl ?_
          refine x_iconst 66 hE dX2_findOffers_65 rfl xc_i_0 ?_
          refine y_st 67 hE hac ⟨rfl, rfl⟩ dX2_findOffers_66 rfl ?_
          refine x_iload_n 68 hE dX2_findOffers_67 rfl 1 rfl ?_
          refine x_iconst 69 hE dX2_findOffers_68 rfl xc_i_1 ?_
          refine x_iadd 70 hE dX2_findOffers_69 rfl ?_
          refine x_lti (fun v7 => ?_)
          refine x_istore_n 71 [(2, .int v7), (0, va_rf (some (xw_hm (xe_G E)))), (1, .int v1)] hE dX2_findOffers_70 rfl rfl (Nat.le_of_ble_eq_true rfl) rfl ?_
          refine x_sub [(0, va_rf (some (xw_hm (xe_G E)))), (1, .int v1), (2, .int v7)] [1, 2, 0] rfl ?_
          refine x_sq 109 (fun (v9 : Unit) => [(0, va_rf (some (xw_hm (xe_G E)))), (1, .int v1)]) (fun _ => []) (fun v9 => ?_) (fun J5 hJ5 => ?_)
          · refine x_aload_n 110 hE dX2_findOffers_109 rfl 0 rfl ?_
            refine y_ga 113 hE hac (by decide) ymf_33 rfl xkf_CrossingWordsModel_78 dX2_findOffers_110 rfl ?_
            refine x_iload_n 114 hE dX2_findOffers_113 rfl 1 rfl ?_
            refine y_ld 115 hE hac ⟨rfl, rfl⟩ dX2_findOffers_114 rfl (fun v10 => ?_)
            refine x_if_lt 135 118 hE dX2_findOffers_115 (by decide) rfl ?_ ?_
            · refine x_aload_n 136 hE dX2_findOffers_135 rfl 0 rfl ?_
              refine y_ga 139 hE hac (by decide) ymf_26 rfl xkf_CrossingWordsModel_66 dX2_findOffers_136 rfl ?_
              refine x_bipush 141 hE dX2_findOffers_139 rfl xc_b_7 ?_
              refine y_ld 142 hE hac ⟨rfl, rfl⟩ dX2_findOffers_141 rfl (fun v11 => ?_)
              refine x_if_lt 176 145 hE dX2_findOffers_142 (by decide) rfl ?_ ?_
              · refine x_iinc 179 [(1, .int (v1 + 1)), (0, va_rf (some (xw_hm (xe_G E))))] hE dX2_findOffers_176 rfl 1 rfl xc_i_1 (Nat.le_of_ble_eq_true rfl) rfl ?_
                refine x_goto 2 hE dX2_findOffers_179 (by decide) ?_
                refine x_sub [(0, va_rf (some (xw_hm (xe_G E)))), (1, .int (v1 + 1))] [1, 0] rfl ?_
                exact hc1 (v1 + 1)
              · refine x_aload_n 146 hE dX2_findOffers_145 rfl 0 rfl ?_
                refine y_ga 149 hE hac (by decide) ymf_44 rfl xkf_CrossingWordsModel_112 dX2_findOffers_146 rfl ?_
                refine x_iload_n 150 hE dX2_findOffers_149 rfl 1 rfl ?_
                refine y_ld 151 hE hac ⟨rfl, rfl⟩ dX2_findOffers_150 rfl (fun v12 => ?_)
                refine x_if_lt 176 154 hE dX2_findOffers_151 (by decide) rfl ?_ ?_
                · refine x_iinc 179 [(1, .int (v1 + 1)), (0, va_rf (some (xw_hm (xe_G E))))] hE dX2_findOffers_176 rfl 1 rfl xc_i_1 (Nat.le_of_ble_eq_true rfl) rfl ?_
                  refine x_goto 2 hE dX2_findOffers_179 (by decide) ?_
                  refine x_sub [(0, va_rf (some (xw_hm (xe_G E)))), (1, .int (v1 + 1))] [1, 0] rfl ?_
                  exact hc1 (v1 + 1)
                · refine x_aload_n 155 hE dX2_findOffers_154 rfl 0 rfl ?_
                  refine x_iload_n 156 hE dX2_findOffers_155 rfl 1 rfl ?_
                  refine x_aload_n 157 hE dX2_findOffers_156 rfl 0 rfl ?_
                  refine y_ga 160 hE hac (by decide) ymf_44 rfl xkf_CrossingWordsModel_112 dX2_findOffers_157 rfl ?_
                  refine x_iload_n 161 hE dX2_findOffers_160 rfl 1 rfl ?_
                  refine y_ld 162 hE hac ⟨rfl, rfl⟩ dX2_findOffers_161 rfl (fun v13 => ?_)
                  refine x_aload_n 163 hE dX2_findOffers_162 rfl 0 rfl ?_
                  refine y_ga 166 hE hac (by decide) ymf_26 rfl xkf_CrossingWordsModel_66 dX2_findOffers_163 rfl ?_
                  refine x_bipush 168 hE dX2_findOffers_166 rfl xc_b_7 ?_
                  refine y_ld 169 hE hac ⟨rfl, rfl⟩ dX2_findOffers_168 rfl (fun v14 => ?_)
                  refine x_iadd 170 hE dX2_findOffers_169 rfl ?_
                  refine x_iconst 171 hE dX2_findOffers_170 rfl xc_i_1 ?_
                  refine x_iadd 172 hE dX2_findOffers_171 rfl ?_
                  refine x_iconst 173 hE dX2_findOffers_172 rfl xc_i_4 ?_
                  refine x_callv 176 (xw_goM hE hac (xw_rV hE (ct_X2_endsBy hac v1 ((v13 + v14) + 1) 4) xd_X2_endsBy rfl q1779 q1781 qs73 q97 q1782 rfl ⟨Nat.le_of_ble_eq_true rfl, Nat.le_of_ble_eq_true rfl⟩ rfl rfl (by decide) dX2_findOffers_173)) rfl ?_
                  refine x_iinc 179 [(1, .int (v1 + 1)), (0, va_rf (some (xw_hm (xe_G E))))] hE dX2_findOffers_176 rfl 1 rfl xc_i_1 (Nat.le_of_ble_eq_true rfl) rfl ?_
                  refine x_goto 2 hE dX2_findOffers_179 (by decide) ?_
                  refine x_sub [(0, va_rf (some (xw_hm (xe_G E)))), (1, .int (v1 + 1))] [1, 0] rfl ?_
                  exact hc1 (v1 + 1)
            · refine x_aload_n 119 hE dX2_findOffers_118 rfl 0 rfl ?_
              refine x_iload_n 120 hE dX2_findOffers_119 rfl 1 rfl ?_
              refine x_aload_n 121 hE dX2_findOffers_120 rfl 0 rfl ?_
              refine y_ga 124 hE hac (by decide) ymf_33 rfl xkf_CrossingWordsModel_78 dX2_findOffers_121 rfl ?_
              refine x_iload_n 125 hE dX2_findOffers_124 rfl 1 rfl ?_
              refine y_ld 126 hE hac ⟨rfl, rfl⟩ dX2_findOffers_125 rfl (fun v15 => ?_)
              refine x_iconst 127 hE dX2_findOffers_126 rfl xc_i_1 ?_
              refine x_iadd 128 hE dX2_findOffers_127 rfl ?_
              refine x_iconst 129 hE dX2_findOffers_128 rfl xc_i_3 ?_
              refine x_callv 132 (xw_goM hE hac (xw_rV hE (ct_X2_endsBy hac v1 (v15 + 1) 3) xd_X2_endsBy rfl q1779 q1781 qs73 q97 q1782 rfl ⟨Nat.le_of_ble_eq_true rfl, Nat.le_of_ble_eq_true rfl⟩ rfl rfl (by decide) dX2_findOffers_129)) rfl ?_
              refine x_goto 176 hE dX2_findOffers_132 (by decide) ?_
              refine x_iinc 179 [(1, .int (v1 + 1)), (0, va_rf (some (xw_hm (xe_G E))))] hE dX2_findOffers_176 rfl 1 rfl xc_i_1 (Nat.le_of_ble_eq_true rfl) rfl ?_
              refine x_goto 2 hE dX2_findOffers_179 (by decide) ?_
              refine x_sub [(0, va_rf (some (xw_hm (xe_G E)))), (1, .int (v1 + 1))] [1, 0] rfl ?_
              exact hc1 (v1 + 1)
          · refine x_loop (fun (v8 : Int32) => [(0, va_rf (some (xw_hm (xe_G E)))), (1, .int v1), (2, .int v8)]) (fun JL4 hc4 hx4 v8 => ?_) _ _
            refine x_iload_n 72 hE dX2_findOffers_71 rfl 2 rfl ?_
            refine x_aload_n 73 hE dX2_findOffers_72 rfl 0 rfl ?_
            refine y_g 76 hE hac (by decide) ymf_27 rfl xkf_CrossingWordsModel_351 dX2_findOffers_73 rfl (fun v16 => ?_)
            refine x_icmp_ge 109 79 hE dX2_findOffers_76 (by decide) rfl ?_ ?_
            · refine x_sub [(0, va_rf (some (xw_hm (xe_G E)))), (1, .int v1)] [0, 1] rfl ?_
              refine hx4 _ _ _ _ ?_
              exact hJ5 ()
            · refine x_aload_n 80 hE dX2_findOffers_79 rfl 0 rfl ?_
              refine x_iload_n 81 hE dX2_findOffers_80 rfl 1 rfl ?_
              refine x_aload_n 82 hE dX2_findOffers_81 rfl 0 rfl ?_
              refine x_iload_n 83 hE dX2_findOffers_82 rfl 2 rfl ?_
              refine x_iload_n 84 hE dX2_findOffers_83 rfl 1 rfl ?_
              refine x_calli 87 (xw_goM hE hac (xw_rV hE (ct_X2_backHour hac v8 v1) xd_X2_backHour rfl q1775 q1777 qs72 q97 q1778 rfl ⟨Nat.le_of_ble_eq_true rfl, Nat.le_of_ble_eq_true rfl⟩ rfl rfl (Nat.le_trans (xw_sm1 rfl (xw_sm1 rfl xw_sm0)) (by decide)) dX2_findOffers_84)) rfl (fun v17 => ?_)
              refine x_iconst 88 hE dX2_findOffers_87 rfl xc_i_1 ?_
              refine x_callv 91 (xw_goM hE hac (xw_rV hE (ct_X2_endsBy hac v1 v17 1) xd_X2_endsBy rfl q1779 q1781 qs73 q97 q1782 rfl ⟨Nat.le_of_ble_eq_true rfl, Nat.le_of_ble_eq_true rfl⟩ rfl rfl (by decide) dX2_findOffers_88)) rfl ?_
              refine x_aload_n 92 hE dX2_findOffers_91 rfl 0 rfl ?_
              refine x_iload_n 93 hE dX2_findOffers_92 rfl 1 rfl ?_
              refine x_aload_n 94 hE dX2_findOffers_93 rfl 0 rfl ?_
              refine x_iload_n 95 hE dX2_findOffers_94 rfl 2 rfl ?_
              refine x_iload_n 96 hE dX2_findOffers_95 rfl 1 rfl ?_
              refine x_calli 99 (xw_goM hE hac (xw_rV hE (ct_X2_noHour hac v8 v1) xd_X2_noHour rfl q1783 q1785 qs74 q97 q1786 rfl ⟨Nat.le_of_ble_eq_true rfl, Nat.le_of_ble_eq_true rfl⟩ rfl rfl (Nat.le_trans (xw_sm1 rfl (xw_sm1 rfl xw_sm0)) (by decide)) dX2_findOffers_96)) rfl (fun v18 => ?_)
              refine x_iconst 100 hE dX2_findOffers_99 rfl xc_i_2 ?_
              refine x_callv 103 (xw_goM hE hac (xw_rV hE (ct_X2_endsBy hac v1 v18 2) xd_X2_endsBy rfl q1779 q1781 qs73 q97 q1782 rfl ⟨Nat.le_of_ble_eq_true rfl, Nat.le_of_ble_eq_true rfl⟩ rfl rfl (by decide) dX2_findOffers_100)) rfl ?_
              refine x_iinc 106 [(2, .int (v8 + 1)), (0, va_rf (some (xw_hm (xe_G E)))), (1, .int v1)] hE dX2_findOffers_103 rfl 2 rfl xc_i_1 (Nat.le_of_ble_eq_true rfl) rfl ?_
              refine x_goto 71 hE dX2_findOffers_106 (by decide) ?_
              refine x_sub [(0, va_rf (some (xw_hm (xe_G E)))), (1, .int v1), (2, .int (v8 + 1))] [1, 2, 0] rfl ?_
              exact hc4 (v8 + 1)
        · refine x_if_eq 39 35 hE dX2_findOffers_32 (by decide) rfl ?_ ?_
          · refine x_aload_n 40 hE dX2_findOffers_39 rfl 0 rfl ?_
            refine x_iload_n 41 hE dX2_findOffers_40 rfl 1 rfl ?_
            refine x_aload_n 42 hE dX2_findOffers_41 rfl 0 rfl ?_
            refine y_ga 45 hE hac (by decide) ymf_26 rfl xkf_CrossingWordsModel_66 dX2_findOffers_42 rfl ?_
            refine x_iconst 46 hE dX2_findOffers_45 rfl xc_i_3 ?_
            refine y_ld 47 hE hac ⟨rfl, rfl⟩ dX2_findOffers_46 rfl (fun v19 => ?_)
            refine x_calli 50 (xw_goM hE hac (xw_rV hE (ct_X2_when hac v1 v19) xd_X2_when rfl q1739 q1741 qs64 q97 q1742 rfl ⟨Nat.le_of_ble_eq_true rfl, Nat.le_of_ble_eq_true rfl⟩ rfl rfl (Nat.le_trans (xw_sm1 rfl (xw_sm1 rfl xw_sm0)) (by decide)) dX2_findOffers_47)) rfl (fun v20 => ?_)
            refine x_sub [(0, va_rf (some (xw_hm (xe_G E)))), (1, .int v1)] [0, 1] rfl ?_
            exact hJ3 v20
          · refine x_iconst 36 hE dX2_findOffers_35 rfl xc_i_m1 ?_
            refine x_goto 50 hE dX2_findOffers_36 (by decide) ?_
            refine x_sub [(0, va_rf (some (xw_hm (xe_G E)))), (1, .int v1)] [0, 1] rfl ?_
            exact hJ3 (-1)

set_option maxHeartbeats 4000000 in
theorem ct_X2_isOpenAt {l : Launch} {G : xw_G} {σ0 : xw_St} (hac : xw_ac G = true) (v1 : Int32) (v2 : Int32) : xw_Ct l G (xw_hr G σ0) xw_oi yX2_isOpenAt cX2_isOpenAt 3 (some (.boolean)) 1 [va_rf (some (xw_hm G)), .int v1, .int v2] (pg_X2_isOpenAt v1 v2) := by
  refine xw_metL [(0, va_rf (some (xw_hm G))), (1, .int v1), (2, .int v2)] (by decide) (Nat.le_trans (Nat.le_of_eq ((xw_l1 rfl).trans (congrArg (1 + ·) ((xw_l1 rfl).trans (congrArg (1 + ·) ((xw_l1 rfl).trans (congrArg (1 + ·) xw_l0))))))) (by decide)) ((xw_a1 rfl).trans (congrArg (List.cons _) ((xw_a1 rfl).trans (congrArg (List.cons _) ((xw_a1 rfl).trans (congrArg (List.cons _) xw_a0)))))) (fun E hE hl hG hm => ?_)
  subst hl; subst hG
  have hE : xw_ok E "CrossingWordsModel" cX2_isOpenAt 3 (some (.boolean)) 1 := hE
  unfold pg_X2_isOpenAt
  refine x_aload_n 1 hE dX2_isOpenAt_0 rfl 0 rfl ?_
  refine y_ga 4 hE hac (by decide) ymf_47 rfl xkf_CrossingWordsModel_121 dX2_isOpenAt_1 rfl ?_
  refine x_iload_n 5 hE dX2_isOpenAt_4 rfl 1 rfl ?_
  refine y_ld 6 hE hac ⟨rfl, rfl⟩ dX2_isOpenAt_5 rfl (fun v3 => ?_)
  refine x_if_lt 33 9 hE dX2_isOpenAt_6 (by decide) rfl ?_ ?_
  · refine x_iconst 34 hE dX2_isOpenAt_33 rfl xc_i_0 ?_
    exact x_zretw hE (by decide) dX2_isOpenAt_34
  · refine x_iload_n 10 hE dX2_isOpenAt_9 rfl 2 rfl ?_
    refine x_aload_n 11 hE dX2_isOpenAt_10 rfl 0 rfl ?_
    refine y_ga 14 hE hac (by decide) ymf_47 rfl xkf_CrossingWordsModel_121 dX2_isOpenAt_11 rfl ?_
    refine x_iload_n 15 hE dX2_isOpenAt_14 rfl 1 rfl ?_
    refine y_ld 16 hE hac ⟨rfl, rfl⟩ dX2_isOpenAt_15 rfl (fun v4 => ?_)
    refine x_icmp_lt 33 19 hE dX2_isOpenAt_16 (by decide) rfl ?_ ?_
    · refine x_iconst 34 hE dX2_isOpenAt_33 rfl xc_i_0 ?_
      exact x_zretw hE (by decide) dX2_isOpenAt_34
    · refine x_iload_n 20 hE dX2_isOpenAt_19 rfl 2 rfl ?_
      refine x_aload_n 21 hE dX2_isOpenAt_20 rfl 0 rfl ?_
      refine y_ga 24 hE hac (by decide) ymf_48 rfl xkf_CrossingWordsModel_124 dX2_isOpenAt_21 rfl ?_
      refine x_iload_n 25 hE dX2_isOpenAt_24 rfl 1 rfl ?_
      refine y_ld 26 hE hac ⟨rfl, rfl⟩ dX2_isOpenAt_25 rfl (fun v5 => ?_)
      refine x_icmp_ge 33 29 hE dX2_isOpenAt_26 (by decide) rfl ?_ ?_
      · refine x_iconst 34 hE dX2_isOpenAt_33 rfl xc_i_0 ?_
        exact x_zretw hE (by decide) dX2_isOpenAt_34
      · refine x_iconst 30 hE dX2_isOpenAt_29 rfl xc_i_1 ?_
        refine x_goto 34 hE dX2_isOpenAt_30 (by decide) ?_
        exact x_zretw hE (by decide) dX2_isOpenAt_34

set_option maxHeartbeats 4000000 in
theorem ct_X2_yesHour {l : Launch} {G : xw_G} {σ0 : xw_St} (hac : xw_ac G = true) (v1 : Int32) : xw_Ct l G (xw_hr G σ0) xw_oi yX2_yesHour cX2_yesHour 2 (some (.int)) 2 [va_rf (some (xw_hm G)), .int v1] (pg_X2_yesHour v1) := by
  refine xw_metL [(0, va_rf (some (xw_hm G))), (1, .int v1)] (by decide) (Nat.le_trans (Nat.le_of_eq ((xw_l1 rfl).trans (congrArg (1 + ·) ((xw_l1 rfl).trans (congrArg (1 + ·) xw_l0))))) (by decide)) ((xw_a1 rfl).trans (congrArg (List.cons _) ((xw_a1 rfl).trans (congrArg (List.cons _) xw_a0)))) (fun E hE hl hG hm => ?_)
  subst hl; subst hG
  have hE : xw_ok E "CrossingWordsModel" cX2_yesHour 2 (some (.int)) 2 := hE
  unfold pg_X2_yesHour
  refine x_aload_n 1 hE dX2_yesHour_0 rfl 0 rfl ?_
  refine y_ga 4 hE hac (by decide) ymf_30 rfl xkf_CrossingWordsModel_69 dX2_yesHour_1 rfl ?_
  refine x_iload_n 5 hE dX2_yesHour_4 rfl 1 rfl ?_
  refine y_ld 6 hE hac ⟨rfl, rfl⟩ dX2_yesHour_5 rfl (fun v2 => ?_)
  refine x_bipush 8 hE dX2_yesHour_6 rfl xc_b_6 ?_
  refine x_icmp_ne 20 11 hE dX2_yesHour_8 (by decide) rfl ?_ ?_
  · refine x_aload_n 12 hE dX2_yesHour_11 rfl 0 rfl ?_
    refine y_ga 15 hE hac (by decide) ymf_43 rfl xkf_CrossingWordsModel_109 dX2_yesHour_12 rfl ?_
    refine x_iload_n 16 hE dX2_yesHour_15 rfl 1 rfl ?_
    refine y_ld 17 hE hac ⟨rfl, rfl⟩ dX2_yesHour_16 rfl (fun v8 => ?_)
    refine x_goto 50 hE dX2_yesHour_17 (by decide) ?_
    exact x_iret hE dX2_yesHour_50
  · refine x_aload_n 21 hE dX2_yesHour_20 rfl 0 rfl ?_
    refine x_iload_n 22 hE dX2_yesHour_21 rfl 1 rfl ?_
    refine x_aload_n 23 hE dX2_yesHour_22 rfl 0 rfl ?_
    refine y_ga 26 hE hac (by decide) ymf_26 rfl xkf_CrossingWordsModel_66 dX2_yesHour_23 rfl ?_
    refine x_aload_n 27 hE dX2_yesHour_26 rfl 0 rfl ?_
    refine y_ga 30 hE hac (by decide) ymf_31 rfl xkf_CrossingWordsModel_72 dX2_yesHour_27 rfl ?_
    refine x_iload_n 31 hE dX2_yesHour_30 rfl 1 rfl ?_
    refine y_ld 32 hE hac ⟨rfl, rfl⟩ dX2_yesHour_31 rfl (fun v3 => ?_)
    refine x_iconst 33 hE dX2_yesHour_32 rfl xc_i_2 ?_
    refine x_sq 46 (fun (v4 : Int32) => []) (fun (v4 : Int32) => [.int v4, va_rf (some (xw_am (xe_G E) 26)), .int v1, va_rf (some (xw_hm (xe_G E)))]) (fun v4 => ?_) (fun J1 hJ1 => ?_)
    · refine y_ld 47 hE hac ⟨rfl, rfl⟩ dX2_yesHour_46 rfl (fun v5 => ?_)
      refine x_calli 50 (xw_goM hE hac (xw_rV hE (ct_X2_when hac v1 v5) xd_X2_when rfl q1739 q1741 qs64 q97 q1742 rfl ⟨Nat.le_of_ble_eq_true rfl, Nat.le_of_ble_eq_true rfl⟩ rfl rfl (by decide) dX2_yesHour_47)) rfl (fun v6 => ?_)
      exact x_iret hE dX2_yesHour_50
    · refine x_icmp_le 40 36 hE dX2_yesHour_33 (by decide) rfl ?_ ?_
      · refine x_aload_n 41 hE dX2_yesHour_40 rfl 0 rfl ?_
        refine y_ga 44 hE hac (by decide) ymf_31 rfl xkf_CrossingWordsModel_72 dX2_yesHour_41 rfl ?_
        refine x_iload_n 45 hE dX2_yesHour_44 rfl 1 rfl ?_
        refine y_ld 46 hE hac ⟨rfl, rfl⟩ dX2_yesHour_45 rfl (fun v7 => ?_)
        refine x_sub [] [] rfl ?_
        exact hJ1 v7
      · refine x_iconst 37 hE dX2_yesHour_36 rfl xc_i_2 ?_
        refine x_goto 46 hE dX2_yesHour_37 (by decide) ?_
        refine x_sub [] [] rfl ?_
        exact hJ1 2

set_option maxHeartbeats 4000000 in
theorem ct_X2_isTakenBack {l : Launch} {G : xw_G} {σ0 : xw_St} (hac : xw_ac G = true) (v1 : Int32) (v2 : Int32) : xw_Ct l G (xw_hr G σ0) xw_oi yX2_isTakenBack cX2_isTakenBack 5 (some (.boolean)) 2 [va_rf (some (xw_hm G)), .int v1, .int v2] (pg_X2_isTakenBack v1 v2) := by
  refine xw_metL [(0, va_rf (some (xw_hm G))), (1, .int v1), (2, .int v2)] (by decide) (Nat.le_trans (Nat.le_of_eq ((xw_l1 rfl).trans (congrArg (1 + ·) ((xw_l1 rfl).trans (congrArg (1 + ·) ((xw_l1 rfl).trans (congrArg (1 + ·) xw_l0))))))) (by decide)) ((xw_a1 rfl).trans (congrArg (List.cons _) ((xw_a1 rfl).trans (congrArg (List.cons _) ((xw_a1 rfl).trans (congrArg (List.cons _) xw_a0)))))) (fun E hE hl hG hm => ?_)
  subst hl; subst hG
  have hE : xw_ok E "CrossingWordsModel" cX2_isTakenBack 5 (some (.boolean)) 2 := hE
  unfold pg_X2_isTakenBack
  refine x_iload_n 1 hE dX2_isTakenBack_0 rfl 1 rfl ?_
  refine x_iconst 2 hE dX2_isTakenBack_1 rfl xc_i_1 ?_
  refine x_iadd 3 hE dX2_isTakenBack_2 rfl ?_
  refine x_lti (fun v3 => ?_)
  refine x_istore_n 4 [(3, .int v3), (0, va_rf (some (xw_hm (xe_G E)))), (1, .int v1), (2, .int v2)] hE dX2_isTakenBack_3 rfl rfl (Nat.le_of_ble_eq_true rfl) rfl ?_
  refine x_sub [(0, va_rf (some (xw_hm (xe_G E)))), (1, .int v1), (2, .int v2), (3, .int v3)] [1, 2, 3, 0] rfl ?_
  refine x_loop (fun (v4 : Int32) => [(0, va_rf (some (xw_hm (xe_G E)))), (1, .int v1), (2, .int v2), (3, .int v4)]) (fun JL1 hc1 hx1 v4 => ?_) _ _
  refine x_iload_n 5 hE dX2_isTakenBack_4 rfl 3 rfl ?_
  refine x_aload_n 6 hE dX2_isTakenBack_5 rfl 0 rfl ?_
  refine y_g 9 hE hac (by decide) ymf_27 rfl xkf_CrossingWordsModel_351 dX2_isTakenBack_6 rfl (fun v5 => ?_)
  refine x_icmp_ge 68 12 hE dX2_isTakenBack_9 (by decide) rfl ?_ ?_
  · refine x_iconst 69 hE dX2_isTakenBack_68 rfl xc_i_0 ?_
    refine hx1 _ _ _ _ ?_
    exact x_zretw hE (by decide) dX2_isTakenBack_69
  · refine x_aload_n 13 hE dX2_isTakenBack_12 rfl 0 rfl ?_
    refine y_ga 16 hE hac (by decide) ymf_30 rfl xkf_CrossingWordsModel_69 dX2_isTakenBack_13 rfl ?_
    refine x_iload_n 17 hE dX2_isTakenBack_16 rfl 3 rfl ?_
    refine y_ld 18 hE hac ⟨rfl, rfl⟩ dX2_isTakenBack_17 rfl (fun v6 => ?_)
    refine x_iconst 19 hE dX2_isTakenBack_18 rfl xc_i_5 ?_
    refine x_sq 47 (fun (v7 : Int32) => [(0, va_rf (some (xw_hm (xe_G E)))), (1, .int v1), (2, .int v2), (3, .int v4)]) (fun (v7 : Int32) => [.int v7]) (fun v7 => ?_) (fun J2 hJ2 => ?_)
    · refine x_istore 49 [(4, .int v7), (0, va_rf (some (xw_hm (xe_G E)))), (1, .int v1), (2, .int v2), (3, .int v4)] hE dX2_isTakenBack_47 rfl (Nat.le_of_ble_eq_true rfl) rfl ?_
      refine x_iload 51 hE dX2_isTakenBack_49 rfl 0 rfl ?_
      refine x_if_lt 62 54 hE dX2_isTakenBack_51 (by decide) rfl ?_ ?_
      · refine x_iinc 65 [(3, .int (v4 + 1)), (4, .int v7), (0, va_rf (some (xw_hm (xe_G E)))), (1, .int v1), (2, .int v2)] hE dX2_isTakenBack_62 rfl 4 rfl xc_i_1 (Nat.le_of_ble_eq_true rfl) rfl ?_
        refine x_goto 4 hE dX2_isTakenBack_65 (by decide) ?_
        refine x_sub [(0, va_rf (some (xw_hm (xe_G E)))), (1, .int v1), (2, .int v2), (3, .int (v4 + 1))] [2, 3, 4, 0] rfl ?_
        exact hc1 (v4 + 1)
      · refine x_iload 56 hE dX2_isTakenBack_54 rfl 0 rfl ?_
        refine x_iload_n 57 hE dX2_isTakenBack_56 rfl 3 rfl ?_
        refine x_icmp_ge 62 60 hE dX2_isTakenBack_57 (by decide) rfl ?_ ?_
        · refine x_iinc 65 [(3, .int (v4 + 1)), (4, .int v7), (0, va_rf (some (xw_hm (xe_G E)))), (1, .int v1), (2, .int v2)] hE dX2_isTakenBack_62 rfl 4 rfl xc_i_1 (Nat.le_of_ble_eq_true rfl) rfl ?_
          refine x_goto 4 hE dX2_isTakenBack_65 (by decide) ?_
          refine x_sub [(0, va_rf (some (xw_hm (xe_G E)))), (1, .int v1), (2, .int v2), (3, .int (v4 + 1))] [2, 3, 4, 0] rfl ?_
          exact hc1 (v4 + 1)
        · refine x_iconst 61 hE dX2_isTakenBack_60 rfl xc_i_1 ?_
          refine hx1 _ _ _ _ ?_
          exact x_zretw hE (by decide) dX2_isTakenBack_61
    · refine x_icmp_ne 46 22 hE dX2_isTakenBack_19 (by decide) rfl ?_ ?_
      · refine x_aload_n 23 hE dX2_isTakenBack_22 rfl 0 rfl ?_
        refine y_ga 26 hE hac (by decide) ymf_34 rfl xkf_CrossingWordsModel_81 dX2_isTakenBack_23 rfl ?_
        refine x_iload_n 27 hE dX2_isTakenBack_26 rfl 3 rfl ?_
        refine y_ld 28 hE hac ⟨rfl, rfl⟩ dX2_isTakenBack_27 rfl (fun v8 => ?_)
        refine x_iload_n 29 hE dX2_isTakenBack_28 rfl 1 rfl ?_
        refine x_icmp_ne 46 32 hE dX2_isTakenBack_29 (by decide) rfl ?_ ?_
        · refine x_aload_n 33 hE dX2_isTakenBack_32 rfl 0 rfl ?_
          refine x_iload_n 34 hE dX2_isTakenBack_33 rfl 3 rfl ?_
          refine x_aload_n 35 hE dX2_isTakenBack_34 rfl 0 rfl ?_
          refine y_ga 38 hE hac (by decide) ymf_26 rfl xkf_CrossingWordsModel_66 dX2_isTakenBack_35 rfl ?_
          refine x_iconst 39 hE dX2_isTakenBack_38 rfl xc_i_4 ?_
          refine y_ld 40 hE hac ⟨rfl, rfl⟩ dX2_isTakenBack_39 rfl (fun v9 => ?_)
          refine x_calli 43 (xw_goM hE hac (xw_rV hE (ct_X2_when hac v4 v9) xd_X2_when rfl q1739 q1741 qs64 q97 q1742 rfl ⟨Nat.le_of_ble_eq_true rfl, Nat.le_of_ble_eq_true rfl⟩ rfl rfl (by decide) dX2_isTakenBack_40)) rfl (fun v10 => ?_)
          refine x_goto 47 hE dX2_isTakenBack_43 (by decide) ?_
          refine x_sub [(0, va_rf (some (xw_hm (xe_G E)))), (1, .int v1), (2, .int v2), (3, .int v4)] [0, 1, 2, 3] rfl ?_
          exact hJ2 v10
        · refine x_iconst 47 hE dX2_isTakenBack_46 rfl xc_i_m1 ?_
          refine x_sub [(0, va_rf (some (xw_hm (xe_G E)))), (1, .int v1), (2, .int v2), (3, .int v4)] [0, 1, 2, 3] rfl ?_
          exact hJ2 (-1)
      · refine x_iconst 47 hE dX2_isTakenBack_46 rfl xc_i_m1 ?_
        refine x_sub [(0, va_rf (some (xw_hm (xe_G E)))), (1, .int v1), (2, .int v2), (3, .int v4)] [0, 1, 2, 3] rfl ?_
        exact hJ2 (-1)

set_option maxHeartbeats 4000000 in
theorem ct_X2_offersTo {l : Launch} {G : xw_G} {σ0 : xw_St} (hac : xw_ac G = true) (v1 : Int32) (v2 : Int32) (v3 : Int32) : xw_Ct l G (xw_hr G σ0) xw_ov yX2_offersTo cX2_offersTo 4 none 1 [va_rf (some (xw_hm G)), .int v1, .int v2, .int v3] (pg_X2_offersTo v1 v2 v3) := by
  refine xw_metL [(0, va_rf (some (xw_hm G))), (1, .int v1), (2, .int v2), (3, .int v3)] (by decide) (Nat.le_trans (Nat.le_of_eq ((xw_l1 rfl).trans (congrArg (1 + ·) ((xw_l1 rfl).trans (congrArg (1 + ·) ((xw_l1 rfl).trans (congrArg (1 + ·) ((xw_l1 rfl).trans (congrArg (1 + ·) xw_l0))))))))) (by decide)) ((xw_a1 rfl).trans (congrArg (List.cons _) ((xw_a1 rfl).trans (congrArg (List.cons _) ((xw_a1 rfl).trans (congrArg (List.cons _) ((xw_a1 rfl).trans (congrArg (List.cons _) xw_a0)))))))) (fun E hE hl hG hm => ?_)
  subst hl; subst hG
  have hE : xw_ok E "CrossingWordsModel" cX2_offersTo 4 none 1 := hE
  unfold pg_X2_offersTo
  refine x_aload_n 1 hE dX2_offersTo_0 rfl 0 rfl ?_
  refine y_g 4 hE hac (by decide) ymf_50 rfl xkf_CrossingWordsModel_381 dX2_offersTo_1 rfl (fun v4 => ?_)
  refine x_jn 16 (fun (v5 : Unit) => [(0, va_rf (some (xw_hm (xe_G E)))), (1, .int v1), (2, .int v2), (3, .int v3)]) (fun (v5 : Unit) => []) (fun v5 => ?_) (fun J1 hJ1 => ?_)
  · refine x_aload_n 17 hE dX2_offersTo_16 rfl 0 rfl ?_
    refine x_iconst 18 hE dX2_offersTo_17 rfl xc_i_1 ?_
    refine y_p 21 hE hac (by decide) ymf_50 (Or.inr ⟨rfl, rfl⟩) rfl xkf_CrossingWordsModel_381 dX2_offersTo_18 rfl ?_
    refine x_aload_n 22 hE dX2_offersTo_21 rfl 0 rfl ?_
    refine x_iload_n 23 hE dX2_offersTo_22 rfl 1 rfl ?_
    refine y_p 26 hE hac (by decide) ymf_51 (Or.inl ⟨rfl, rfl⟩) rfl xkf_CrossingWordsModel_387 dX2_offersTo_23 rfl ?_
    refine x_aload_n 27 hE dX2_offersTo_26 rfl 0 rfl ?_
    refine x_iload_n 28 hE dX2_offersTo_27 rfl 2 rfl ?_
    refine y_p 31 hE hac (by decide) ymf_52 (Or.inl ⟨rfl, rfl⟩) rfl xkf_CrossingWordsModel_390 dX2_offersTo_28 rfl ?_
    refine x_aload_n 32 hE dX2_offersTo_31 rfl 0 rfl ?_
    refine x_iload_n 33 hE dX2_offersTo_32 rfl 3 rfl ?_
    refine y_p 36 hE hac (by decide) ymf_53 (Or.inl ⟨rfl, rfl⟩) rfl xkf_CrossingWordsModel_384 dX2_offersTo_33 rfl ?_
    exact x_vret hE dX2_offersTo_36
  · refine x_if_eq 16 7 hE dX2_offersTo_4 (by decide) rfl ?_ ?_
    · refine x_sub [(0, va_rf (some (xw_hm (xe_G E)))), (1, .int v1), (2, .int v2), (3, .int v3)] [0, 1, 2, 3] rfl ?_
      exact hJ1 ()
    · refine x_iload_n 8 hE dX2_offersTo_7 rfl 3 rfl ?_
      refine x_aload_n 9 hE dX2_offersTo_8 rfl 0 rfl ?_
      refine y_g 12 hE hac (by decide) ymf_53 rfl xkf_CrossingWordsModel_384 dX2_offersTo_9 rfl (fun v6 => ?_)
      refine x_icmp_lt 16 15 hE dX2_offersTo_12 (by decide) rfl ?_ ?_
      · refine x_sub [(0, va_rf (some (xw_hm (xe_G E)))), (1, .int v1), (2, .int v2), (3, .int v3)] [0, 1, 2, 3] rfl ?_
        exact hJ1 ()
      · exact x_vret hE dX2_offersTo_15

set_option maxHeartbeats 4000000 in
theorem ct_X2_isAnswered {l : Launch} {G : xw_G} {σ0 : xw_St} (hac : xw_ac G = true) (v1 : Int32) (v2 : Int32) : xw_Ct l G (xw_hr G σ0) xw_oi yX2_isAnswered cX2_isAnswered 5 (some (.boolean)) 1 [va_rf (some (xw_hm G)), .int v1, .int v2] (pg_X2_isAnswered v1 v2) := by
  refine xw_metL [(0, va_rf (some (xw_hm G))), (1, .int v1), (2, .int v2)] (by decide) (Nat.le_trans (Nat.le_of_eq ((xw_l1 rfl).trans (congrArg (1 + ·) ((xw_l1 rfl).trans (congrArg (1 + ·) ((xw_l1 rfl).trans (congrArg (1 + ·) xw_l0))))))) (by decide)) ((xw_a1 rfl).trans (congrArg (List.cons _) ((xw_a1 rfl).trans (congrArg (List.cons _) ((xw_a1 rfl).trans (congrArg (List.cons _) xw_a0)))))) (fun E hE hl hG hm => ?_)
  subst hl; subst hG
  have hE : xw_ok E "CrossingWordsModel" cX2_isAnswered 5 (some (.boolean)) 1 := hE
  unfold pg_X2_isAnswered
  refine x_iload_n 1 hE dX2_isAnswered_0 rfl 1 rfl ?_
  refine x_iconst 2 hE dX2_isAnswered_1 rfl xc_i_1 ?_
  refine x_iadd 3 hE dX2_isAnswered_2 rfl ?_
  refine x_lti (fun v3 => ?_)
  refine x_istore_n 4 [(3, .int v3), (0, va_rf (some (xw_hm (xe_G E)))), (1, .int v1), (2, .int v2)] hE dX2_isAnswered_3 rfl rfl (Nat.le_of_ble_eq_true rfl) rfl ?_
  refine x_sub [(0, va_rf (some (xw_hm (xe_G E)))), (1, .int v1), (2, .int v2), (3, .int v3)] [1, 2, 3, 0] rfl ?_
  refine x_loop (fun (v4 : Int32) => [(0, va_rf (some (xw_hm (xe_G E)))), (1, .int v1), (2, .int v2), (3, .int v4)]) (fun JL1 hc1 hx1 v4 => ?_) _ _
  refine x_iload_n 5 hE dX2_isAnswered_4 rfl 3 rfl ?_
  refine x_aload_n 6 hE dX2_isAnswered_5 rfl 0 rfl ?_
  refine y_g 9 hE hac (by decide) ymf_27 rfl xkf_CrossingWordsModel_351 dX2_isAnswered_6 rfl (fun v5 => ?_)
  refine x_icmp_ge 93 12 hE dX2_isAnswered_9 (by decide) rfl ?_ ?_
  · refine x_iconst 94 hE dX2_isAnswered_93 rfl xc_i_0 ?_
    refine hx1 _ _ _ _ ?_
    exact x_zretw hE (by decide) dX2_isAnswered_94
  · refine x_aload_n 13 hE dX2_isAnswered_12 rfl 0 rfl ?_
    refine y_ga 16 hE hac (by decide) ymf_30 rfl xkf_CrossingWordsModel_69 dX2_isAnswered_13 rfl ?_
    refine x_iload_n 17 hE dX2_isAnswered_16 rfl 3 rfl ?_
    refine y_ld 18 hE hac ⟨rfl, rfl⟩ dX2_isAnswered_17 rfl (fun v6 => ?_)
    refine x_iconst 19 hE dX2_isAnswered_18 rfl xc_i_2 ?_
    refine x_sq 58 (fun (v7 : Int32) => [(0, va_rf (some (xw_hm (xe_G E)))), (1, .int v1), (2, .int v2), (3, .int v4)]) (fun (v7 : Int32) => [.int v7]) (fun v7 => ?_) (fun J2 hJ2 => ?_)
    · refine x_istore 60 [(4, .int v7), (0, va_rf (some (xw_hm (xe_G E)))), (1, .int v1), (2, .int v2), (3, .int v4)] hE dX2_isAnswered_58 rfl (Nat.le_of_ble_eq_true rfl) rfl ?_
      refine x_iload 62 hE dX2_isAnswered_60 rfl 0 rfl ?_
      refine x_if_eq 87 65 hE dX2_isAnswered_62 (by decide) rfl ?_ ?_
      · refine x_iinc 90 [(3, .int (v4 + 1)), (4, .int v7), (0, va_rf (some (xw_hm (xe_G E)))), (1, .int v1), (2, .int v2)] hE dX2_isAnswered_87 rfl 4 rfl xc_i_1 (Nat.le_of_ble_eq_true rfl) rfl ?_
        refine x_goto 4 hE dX2_isAnswered_90 (by decide) ?_
        refine x_sub [(0, va_rf (some (xw_hm (xe_G E)))), (1, .int v1), (2, .int v2), (3, .int (v4 + 1))] [2, 3, 4, 0] rfl ?_
        exact hc1 (v4 + 1)
      · refine x_aload_n 66 hE dX2_isAnswered_65 rfl 1 rfl ?_
        refine y_ga 69 hE hac (by decide) ymf_34 rfl xkf_CrossingWordsModel_81 dX2_isAnswered_66 rfl ?_
        refine x_iload_n 70 hE dX2_isAnswered_69 rfl 4 rfl ?_
        refine y_ld 71 hE hac ⟨rfl, rfl⟩ dX2_isAnswered_70 rfl (fun v8 => ?_)
        refine x_iload_n 72 hE dX2_isAnswered_71 rfl 2 rfl ?_
        refine x_icmp_ne 87 75 hE dX2_isAnswered_72 (by decide) rfl ?_ ?_
        · refine x_aload_n 76 hE dX2_isAnswered_75 rfl 1 rfl ?_
          refine y_ga 79 hE hac (by decide) ymf_43 rfl xkf_CrossingWordsModel_109 dX2_isAnswered_76 rfl ?_
          refine x_iload_n 80 hE dX2_isAnswered_79 rfl 4 rfl ?_
          refine y_ld 81 hE hac ⟨rfl, rfl⟩ dX2_isAnswered_80 rfl (fun v9 => ?_)
          refine x_iload_n 82 hE dX2_isAnswered_81 rfl 3 rfl ?_
          refine x_icmp_gt 87 85 hE dX2_isAnswered_82 (by decide) rfl ?_ ?_
          · refine x_iinc 90 [(3, .int (v4 + 1)), (4, .int v7), (0, va_rf (some (xw_hm (xe_G E)))), (1, .int v1), (2, .int v2)] hE dX2_isAnswered_87 rfl 4 rfl xc_i_1 (Nat.le_of_ble_eq_true rfl) rfl ?_
            refine x_goto 4 hE dX2_isAnswered_90 (by decide) ?_
            refine x_sub [(0, va_rf (some (xw_hm (xe_G E)))), (1, .int v1), (2, .int v2), (3, .int (v4 + 1))] [2, 3, 4, 0] rfl ?_
            exact hc1 (v4 + 1)
          · refine x_iconst 86 hE dX2_isAnswered_85 rfl xc_i_1 ?_
            refine hx1 _ _ _ _ ?_
            exact x_zretw hE (by decide) dX2_isAnswered_86
        · refine x_iinc 90 [(3, .int (v4 + 1)), (4, .int v7), (0, va_rf (some (xw_hm (xe_G E)))), (1, .int v1), (2, .int v2)] hE dX2_isAnswered_87 rfl 4 rfl xc_i_1 (Nat.le_of_ble_eq_true rfl) rfl ?_
          refine x_goto 4 hE dX2_isAnswered_90 (by decide) ?_
          refine x_sub [(0, va_rf (some (xw_hm (xe_G E)))), (1, .int v1), (2, .int v2), (3, .int (v4 + 1))] [2, 3, 4, 0] rfl ?_
          exact hc1 (v4 + 1)
    · refine x_icmp_eq 53 22 hE dX2_isAnswered_19 (by decide) rfl ?_ ?_
      · refine x_iconst 54 hE dX2_isAnswered_53 rfl xc_i_1 ?_
        refine x_goto 58 hE dX2_isAnswered_54 (by decide) ?_
        refine x_sub [(0, va_rf (some (xw_hm (xe_G E)))), (1, .int v1), (2, .int v2), (3, .int v4)] [0, 1, 2, 3] rfl ?_
        exact hJ2 1
      · refine x_aload_n 23 hE dX2_isAnswered_22 rfl 0 rfl ?_
        refine y_ga 26 hE hac (by decide) ymf_30 rfl xkf_CrossingWordsModel_69 dX2_isAnswered_23 rfl ?_
        refine x_iload_n 27 hE dX2_isAnswered_26 rfl 3 rfl ?_
        refine y_ld 28 hE hac ⟨rfl, rfl⟩ dX2_isAnswered_27 rfl (fun v10 => ?_)
        refine x_iconst 29 hE dX2_isAnswered_28 rfl xc_i_3 ?_
        refine x_icmp_eq 53 32 hE dX2_isAnswered_29 (by decide) rfl ?_ ?_
        · refine x_iconst 54 hE dX2_isAnswered_53 rfl xc_i_1 ?_
          refine x_goto 58 hE dX2_isAnswered_54 (by decide) ?_
          refine x_sub [(0, va_rf (some (xw_hm (xe_G E)))), (1, .int v1), (2, .int v2), (3, .int v4)] [0, 1, 2, 3] rfl ?_
          exact hJ2 1
        · refine x_aload_n 33 hE dX2_isAnswered_32 rfl 0 rfl ?_
          refine y_ga 36 hE hac (by decide) ymf_30 rfl xkf_CrossingWordsModel_69 dX2_isAnswered_33 rfl ?_
          refine x_iload_n 37 hE dX2_isAnswered_36 rfl 3 rfl ?_
          refine y_ld 38 hE hac ⟨rfl, rfl⟩ dX2_isAnswered_37 rfl (fun v11 => ?_)
          refine x_iconst 39 hE dX2_isAnswered_38 rfl xc_i_4 ?_
          refine x_icmp_eq 53 42 hE dX2_isAnswered_39 (by decide) rfl ?_ ?_
          · refine x_iconst 54 hE dX2_isAnswered_53 rfl xc_i_1 ?_
            refine x_goto 58 hE dX2_isAnswered_54 (by decide) ?_
            refine x_sub [(0, va_rf (some (xw_hm (xe_G E)))), (1, .int v1), (2, .int v2), (3, .int v4)] [0, 1, 2, 3] rfl ?_
            exact hJ2 1
          · refine x_aload_n 43 hE dX2_isAnswered_42 rfl 0 rfl ?_
            refine y_ga 46 hE hac (by decide) ymf_30 rfl xkf_CrossingWordsModel_69 dX2_isAnswered_43 rfl ?_
            refine x_iload_n 47 hE dX2_isAnswered_46 rfl 3 rfl ?_
            refine y_ld 48 hE hac ⟨rfl, rfl⟩ dX2_isAnswered_47 rfl (fun v12 => ?_)
            refine x_bipush 50 hE dX2_isAnswered_48 rfl xc_b_6 ?_
            refine x_icmp_ne 57 53 hE dX2_isAnswered_50 (by decide) rfl ?_ ?_
            · refine x_iconst 54 hE dX2_isAnswered_53 rfl xc_i_1 ?_
              refine x_goto 58 hE dX2_isAnswered_54 (by decide) ?_
              refine x_sub [(0, va_rf (some (xw_hm (xe_G E)))), (1, .int v1), (2, .int v2), (3, .int v4)] [0, 1, 2, 3] rfl ?_
              exact hJ2 1
            · refine x_iconst 58 hE dX2_isAnswered_57 rfl xc_i_0 ?_
              refine x_sub [(0, va_rf (some (xw_hm (xe_G E)))), (1, .int v1), (2, .int v2), (3, .int v4)] [0, 1, 2, 3] rfl ?_
              exact hJ2 0

set_option maxHeartbeats 4000000 in
theorem ct_X2_findBargain {l : Launch} {G : xw_G} {σ0 : xw_St} (hac : xw_ac G = true)  : xw_Ct l G (xw_hr G σ0) xw_ov yX2_findBargain cX2_findBargain 4 none 3 [va_rf (some (xw_hm G))] (pg_X2_findBargain) := by
  refine xw_metL [(0, va_rf (some (xw_hm G)))] (by decide) (Nat.le_trans (Nat.le_of_eq ((xw_l1 rfl).trans (congrArg (1 + ·) xw_l0))) (by decide)) ((xw_a1 rfl).trans (congrArg (List.cons _) xw_a0)) (fun E hE hl hG hm => ?_)
  subst hl; subst hG
  have hE : xw_ok E "CrossingWordsModel" cX2_findBargain 4 none 3 := hE
  unfold pg_X2_findBargain
  refine x_aload_n 1 hE dX2_findBargain_0 rfl 0 rfl ?_
  refine x_iconst 2 hE dX2_findBargain_1 rfl xc_i_0 ?_
  refine y_p 5 hE hac (by decide) ymf_50 (Or.inr ⟨rfl, rfl⟩) rfl xkf_CrossingWordsModel_381 dX2_findBargain_2 rfl ?_
  refine x_iconst 6 hE dX2_findBargain_5 rfl xc_i_0 ?_
  refine x_istore_n 7 [(1, .int 0), (0, va_rf (some (xw_hm (xe_G E))))] hE dX2_findBargain_6 rfl rfl (Nat.le_of_ble_eq_true rfl) rfl ?_
  refine x_sub [(0, va_rf (some (xw_hm (xe_G E)))), (1, .int 0)] [1, 0] rfl ?_
  refine x_sq 106 (fun (v2 : Unit) => [(0, va_rf (some (xw_hm (xe_G E))))]) (fun _ => []) (fun v2 => ?_) (fun J2 hJ2 => ?_)
  · refine x_aload_n 107 hE dX2_findBargain_106 rfl 0 rfl ?_
    refine y_ga 110 hE hac (by decide) ymf_26 rfl xkf_CrossingWordsModel_66 dX2_findBargain_107 rfl ?_
    refine x_bipush 112 hE dX2_findBargain_110 rfl xc_b_8 ?_
    refine y_ld 113 hE hac ⟨rfl, rfl⟩ dX2_findBargain_112 rfl (fun v3 => ?_)
    refine x_if_ge 117 116 hE dX2_findBargain_113 (by decide) rfl ?_ ?_
    · refine x_iconst 118 hE dX2_findBargain_117 rfl xc_i_0 ?_
      refine x_istore_n 119 [(1, .int 0), (0, va_rf (some (xw_hm (xe_G E))))] hE dX2_findBargain_118 rfl rfl (Nat.le_of_ble_eq_true rfl) rfl ?_
      refine x_sub [(0, va_rf (some (xw_hm (xe_G E)))), (1, .int 0)] [1, 0] rfl ?_
      refine x_sq 193 (fun (v5 : Unit) => []) (fun _ => []) (fun v5 => ?_) (fun J4 hJ4 => ?_)
      · exact x_vret hE dX2_findBargain_193
      · refine x_loop (fun (v4 : Int32) => [(0, va_rf (some (xw_hm (xe_G E)))), (1, .int v4)]) (fun JL3 hc3 hx3 v4 => ?_) _ _
        refine x_iload_n 120 hE dX2_findBargain_119 rfl 1 rfl ?_
        refine x_aload_n 121 hE dX2_findBargain_120 rfl 0 rfl ?_
        refine y_g 124 hE hac (by decide) ymf_27 rfl xkf_CrossingWordsModel_351 dX2_findBargain_121 rfl (fun v6 => ?_)
        refine x_icmp_ge 193 127 hE dX2_findBargain_124 (by decide) rfl ?_ ?_
        · refine x_sub [] [] rfl ?_
          refine hx3 _ _ _ _ ?_
          exact hJ4 ()
        · refine x_aload_n 128 hE dX2_findBargain_127 rfl 0 rfl ?_
          refine x_iload_n 129 hE dX2_findBargain_128 rfl 1 rfl ?_
          refine x_calli 132 (xw_goM hE hac (xw_rV hE (ct_X2_isOffering hac v4) xd_X2_isOffering rfl q1767 q1769 qs70 q97 q1770 rfl ⟨Nat.le_of_ble_eq_true rfl, Nat.le_of_ble_eq_true rfl⟩ rfl rfl (by decide) dX2_findBargain_129)) rfl (fun v7 => ?_)
          refine x_if_eq 187 135 hE dX2_findBargain_132 (by decide) rfl ?_ ?_
          · refine x_iinc 190 [(1, .int (v4 + 1)), (0, va_rf (some (xw_hm (xe_G E))))] hE dX2_findBargain_187 rfl 1 rfl xc_i_1 (Nat.le_of_ble_eq_true rfl) rfl ?_
            refine x_goto 119 hE dX2_findBargain_190 (by decide) ?_
            refine x_sub [(0, va_rf (some (xw_hm (xe_G E)))), (1, .int (v4 + 1))] [1, 0] rfl ?_
            exact hc3 (v4 + 1)
          · refine x_aload_n 136 hE dX2_findBargain_135 rfl 0 rfl ?_
            refine y_ga 139 hE hac (by decide) ymf_45 rfl xkf_CrossingWordsModel_115 dX2_findBargain_136 rfl ?_
            refine x_iload_n 140 hE dX2_findBargain_139 rfl 1 rfl ?_
            refine y_ld 141 hE hac ⟨rfl, rfl⟩ dX2_findBargain_140 rfl (fun v8 => ?_)
            refine x_if_ge 147 144 hE dX2_findBargain_141 (by decide) rfl ?_ ?_
            · refine x_aload_n 148 hE dX2_findBargain_147 rfl 0 rfl ?_
              refine y_ga 151 hE hac (by decide) ymf_45 rfl xkf_CrossingWordsModel_115 dX2_findBargain_148 rfl ?_
              refine x_iload_n 152 hE dX2_findBargain_151 rfl 1 rfl ?_
              refine y_ld 153 hE hac ⟨rfl, rfl⟩ dX2_findBargain_152 rfl (fun v9 => ?_)
              refine x_aload_n 154 hE dX2_findBargain_153 rfl 0 rfl ?_
              refine y_ga 157 hE hac (by decide) ymf_26 rfl xkf_CrossingWordsModel_66 dX2_findBargain_154 rfl ?_
              refine x_bipush 159 hE dX2_findBargain_157 rfl xc_b_8 ?_
              refine y_ld 160 hE hac ⟨rfl, rfl⟩ dX2_findBargain_159 rfl (fun v10 => ?_)
              refine x_iadd 161 hE dX2_findBargain_160 rfl ?_
              refine x_lti (fun v11 => ?_)
              refine x_istore_n 162 [(2, .int v11), (0, va_rf (some (xw_hm (xe_G E)))), (1, .int v4)] hE dX2_findBargain_161 rfl rfl (Nat.le_of_ble_eq_true rfl) rfl ?_
              refine x_aload_n 163 hE dX2_findBargain_162 rfl 1 rfl ?_
              refine x_iload_n 164 hE dX2_findBargain_163 rfl 2 rfl ?_
              refine x_iload_n 165 hE dX2_findBargain_164 rfl 0 rfl ?_
              refine x_calli 168 (xw_goM hE hac (xw_rV hE (ct_X2_isOpenAt hac v4 v11) xd_X2_isOpenAt rfl q1807 q1809 qs80 q97 q1810 rfl ⟨Nat.le_of_ble_eq_true rfl, Nat.le_of_ble_eq_true rfl⟩ rfl rfl (by decide) dX2_findBargain_165)) rfl (fun v12 => ?_)
              refine x_if_eq 187 171 hE dX2_findBargain_168 (by decide) rfl ?_ ?_
              · refine x_iinc 190 [(1, .int (v4 + 1)), (2, .int v11), (0, va_rf (some (xw_hm (xe_G E))))] hE dX2_findBargain_187 rfl 2 rfl xc_i_1 (Nat.le_of_ble_eq_true rfl) rfl ?_
                refine x_goto 119 hE dX2_findBargain_190 (by decide) ?_
                refine x_sub [(0, va_rf (some (xw_hm (xe_G E)))), (1, .int (v4 + 1))] [2, 0] rfl ?_
                exact hc3 (v4 + 1)
              · refine x_aload_n 172 hE dX2_findBargain_171 rfl 1 rfl ?_
                refine x_iload_n 173 hE dX2_findBargain_172 rfl 2 rfl ?_
                refine x_iload_n 174 hE dX2_findBargain_173 rfl 0 rfl ?_
                refine x_calli 177 (xw_goM hE hac (xw_rV hE (ct_X2_isAnswered hac v4 v11) xd_X2_isAnswered rfl q1815 q1817 qs82 q97 q1818 rfl ⟨Nat.le_of_ble_eq_true rfl, Nat.le_of_ble_eq_true rfl⟩ rfl rfl (by decide) dX2_findBargain_174)) rfl (fun v13 => ?_)
                refine x_if_ne 187 180 hE dX2_findBargain_177 (by decide) rfl ?_ ?_
                · refine x_aload_n 181 hE dX2_findBargain_180 rfl 1 rfl ?_
                  refine x_iconst 182 hE dX2_findBargain_181 rfl xc_i_m1 ?_
                  refine x_iload_n 183 hE dX2_findBargain_182 rfl 2 rfl ?_
                  refine x_iload_n 184 hE dX2_findBargain_183 rfl 0 rfl ?_
                  refine x_callv 187 (xw_goM hE hac (xw_rV hE (ct_X2_offersTo hac (-1) v4 v11) xd_X2_offersTo rfl q1811 q1813 qs81 q97 q1814 rfl ⟨Nat.le_of_ble_eq_true rfl, Nat.le_of_ble_eq_true rfl⟩ rfl rfl (by decide) dX2_findBargain_184)) rfl ?_
                  refine x_iinc 190 [(1, .int (v4 + 1)), (2, .int v11), (0, va_rf (some (xw_hm (xe_G E))))] hE dX2_findBargain_187 rfl 2 rfl xc_i_1 (Nat.le_of_ble_eq_true rfl) rfl ?_
                  refine x_goto 119 hE dX2_findBargain_190 (by decide) ?_
                  refine x_sub [(0, va_rf (some (xw_hm (xe_G E)))), (1, .int (v4 + 1))] [2, 0] rfl ?_
                  exact hc3 (v4 + 1)
                · refine x_iinc 190 [(1, .int (v4 + 1)), (2, .int v11), (0, va_rf (some (xw_hm (xe_G E))))] hE dX2_findBargain_187 rfl 2 rfl xc_i_1 (Nat.le_of_ble_eq_true rfl) rfl ?_
                  refine x_goto 119 hE dX2_findBargain_190 (by decide) ?_
                  refine x_sub [(0, va_rf (some (xw_hm (xe_G E)))), (1, .int (v4 + 1))] [2, 0] rfl ?_
                  exact hc3 (v4 + 1)
            · refine x_goto 187 hE dX2_findBargain_144 (by decide) ?_
              refine x_iinc 190 [(1, .int (v4 + 1)), (0, va_rf (some (xw_hm (xe_G E))))] hE dX2_findBargain_187 rfl 1 rfl xc_i_1 (Nat.le_of_ble_eq_true rfl) rfl ?_
              refine x_goto 119 hE dX2_findBargain_190 (by decide) ?_
              refine x_sub [(0, va_rf (some (xw_hm (xe_G E)))), (1, .int (v4 + 1))] [1, 0] rfl ?_
              exact hc3 (v4 + 1)
    · exact x_vret hE dX2_findBargain_116
  · refine x_loop (fun (v1 : Int32) => [(0, va_rf (some (xw_hm (xe_G E)))), (1, .int v1)]) (fun JL1 hc1 hx1 v1 => ?_) _ _
    refine x_iload_n 8 hE dX2_findBargain_7 rfl 1 rfl ?_
    refine x_aload_n 9 hE dX2_findBargain_8 rfl 0 rfl ?_
    refine y_g 12 hE hac (by decide) ymf_27 rfl xkf_CrossingWordsModel_351 dX2_findBargain_9 rfl (fun v14 => ?_)
    refine x_icmp_ge 106 15 hE dX2_findBargain_12 (by decide) rfl ?_ ?_
    · refine x_sub [(0, va_rf (some (xw_hm (xe_G E))))] [0] rfl ?_
      refine hx1 _ _ _ _ ?_
      exact hJ2 ()
    · refine x_aload_n 16 hE dX2_findBargain_15 rfl 0 rfl ?_
      refine y_ga 19 hE hac (by decide) ymf_34 rfl xkf_CrossingWordsModel_81 dX2_findBargain_16 rfl ?_
      refine x_iload_n 20 hE dX2_findBargain_19 rfl 1 rfl ?_
      refine y_ld 21 hE hac ⟨rfl, rfl⟩ dX2_findBargain_20 rfl (fun v15 => ?_)
      refine x_istore_n 22 [(2, .int v15), (0, va_rf (some (xw_hm (xe_G E)))), (1, .int v1)] hE dX2_findBargain_21 rfl rfl (Nat.le_of_ble_eq_true rfl) rfl ?_
      refine x_aload_n 23 hE dX2_findBargain_22 rfl 1 rfl ?_
      refine x_iload_n 24 hE dX2_findBargain_23 rfl 2 rfl ?_
      refine x_calli 27 (xw_goM hE hac (xw_rV hE (ct_X2_isYes hac v1) xd_X2_isYes rfl q1795 q1797 qs77 q97 q1798 rfl ⟨Nat.le_of_ble_eq_true rfl, Nat.le_of_ble_eq_true rfl⟩ rfl rfl (by decide) dX2_findBargain_24)) rfl (fun v16 => ?_)
      refine x_if_eq 100 30 hE dX2_findBargain_27 (by decide) rfl ?_ ?_
      · refine x_iinc 103 [(1, .int (v1 + 1)), (2, .int v15), (0, va_rf (some (xw_hm (xe_G E))))] hE dX2_findBargain_100 rfl 2 rfl xc_i_1 (Nat.le_of_ble_eq_true rfl) rfl ?_
        refine x_goto 7 hE dX2_findBargain_103 (by decide) ?_
        refine x_sub [(0, va_rf (some (xw_hm (xe_G E)))), (1, .int (v1 + 1))] [2, 0] rfl ?_
        exact hc1 (v1 + 1)
      · refine x_aload_n 31 hE dX2_findBargain_30 rfl 1 rfl ?_
        refine x_iload_n 32 hE dX2_findBargain_31 rfl 0 rfl ?_
        refine x_calli 35 (xw_goM hE hac (xw_rV hE (ct_X2_isOffering hac v15) xd_X2_isOffering rfl q1767 q1769 qs70 q97 q1770 rfl ⟨Nat.le_of_ble_eq_true rfl, Nat.le_of_ble_eq_true rfl⟩ rfl rfl (by decide) dX2_findBargain_32)) rfl (fun v17 => ?_)
        refine x_if_ne 41 38 hE dX2_findBargain_35 (by decide) rfl ?_ ?_
        · refine x_goto 100 hE dX2_findBargain_38 (by decide) ?_
          refine x_iinc 103 [(1, .int (v1 + 1)), (2, .int v15), (0, va_rf (some (xw_hm (xe_G E))))] hE dX2_findBargain_100 rfl 2 rfl xc_i_1 (Nat.le_of_ble_eq_true rfl) rfl ?_
          refine x_goto 7 hE dX2_findBargain_103 (by decide) ?_
          refine x_sub [(0, va_rf (some (xw_hm (xe_G E)))), (1, .int (v1 + 1))] [2, 0] rfl ?_
          exact hc1 (v1 + 1)
        · refine x_aload_n 42 hE dX2_findBargain_41 rfl 1 rfl ?_
          refine x_iload_n 43 hE dX2_findBargain_42 rfl 2 rfl ?_
          refine x_calli 46 (xw_goM hE hac (xw_rV hE (ct_X2_yesHour hac v1) xd_X2_yesHour rfl q1799 q1801 qs78 q97 q1802 rfl ⟨Nat.le_of_ble_eq_true rfl, Nat.le_of_ble_eq_true rfl⟩ rfl rfl (by decide) dX2_findBargain_43)) rfl (fun v18 => ?_)
          refine x_istore_n 47 [(3, .int v18), (2, .int v15), (0, va_rf (some (xw_hm (xe_G E)))), (1, .int v1)] hE dX2_findBargain_46 rfl rfl (Nat.le_of_ble_eq_true rfl) rfl ?_
          refine x_iload_n 48 hE dX2_findBargain_47 rfl 0 rfl ?_
          refine x_if_lt 100 51 hE dX2_findBargain_48 (by decide) rfl ?_ ?_
          · refine x_iinc 103 [(1, .int (v1 + 1)), (3, .int v18), (2, .int v15), (0, va_rf (some (xw_hm (xe_G E))))] hE dX2_findBargain_100 rfl 3 rfl xc_i_1 (Nat.le_of_ble_eq_true rfl) rfl ?_
            refine x_goto 7 hE dX2_findBargain_103 (by decide) ?_
            refine x_sub [(0, va_rf (some (xw_hm (xe_G E)))), (1, .int (v1 + 1))] [3, 0] rfl ?_
            exact hc1 (v1 + 1)
          · refine x_aload_n 52 hE dX2_findBargain_51 rfl 2 rfl ?_
            refine y_ga 55 hE hac (by decide) ymf_44 rfl xkf_CrossingWordsModel_112 dX2_findBargain_52 rfl ?_
            refine x_iload_n 56 hE dX2_findBargain_55 rfl 1 rfl ?_
            refine y_ld 57 hE hac ⟨rfl, rfl⟩ dX2_findBargain_56 rfl (fun v19 => ?_)
            refine x_if_lt 100 60 hE dX2_findBargain_57 (by decide) rfl ?_ ?_
            · refine x_iinc 103 [(1, .int (v1 + 1)), (3, .int v18), (2, .int v15), (0, va_rf (some (xw_hm (xe_G E))))] hE dX2_findBargain_100 rfl 3 rfl xc_i_1 (Nat.le_of_ble_eq_true rfl) rfl ?_
              refine x_goto 7 hE dX2_findBargain_103 (by decide) ?_
              refine x_sub [(0, va_rf (some (xw_hm (xe_G E)))), (1, .int (v1 + 1))] [3, 0] rfl ?_
              exact hc1 (v1 + 1)
            · refine x_aload_n 61 hE dX2_findBargain_60 rfl 2 rfl ?_
              refine y_ga 64 hE hac (by decide) ymf_44 rfl xkf_CrossingWordsModel_112 dX2_findBargain_61 rfl ?_
              refine x_iload_n 65 hE dX2_findBargain_64 rfl 1 rfl ?_
              refine y_ld 66 hE hac ⟨rfl, rfl⟩ dX2_findBargain_65 rfl (fun v20 => ?_)
              refine x_aload_n 67 hE dX2_findBargain_66 rfl 2 rfl ?_
              refine y_ga 70 hE hac (by decide) ymf_43 rfl xkf_CrossingWordsModel_109 dX2_findBargain_67 rfl ?_
              refine x_iload_n 71 hE dX2_findBargain_70 rfl 3 rfl ?_
              refine y_ld 72 hE hac ⟨rfl, rfl⟩ dX2_findBargain_71 rfl (fun v21 => ?_)
              refine x_icmp_gt 100 75 hE dX2_findBargain_72 (by decide) rfl ?_ ?_
              · refine x_iinc 103 [(1, .int (v1 + 1)), (3, .int v18), (2, .int v15), (0, va_rf (some (xw_hm (xe_G E))))] hE dX2_findBargain_100 rfl 3 rfl xc_i_1 (Nat.le_of_ble_eq_true rfl) rfl ?_
                refine x_goto 7 hE dX2_findBargain_103 (by decide) ?_
                refine x_sub [(0, va_rf (some (xw_hm (xe_G E)))), (1, .int (v1 + 1))] [3, 0] rfl ?_
                exact hc1 (v1 + 1)
              · refine x_aload_n 76 hE dX2_findBargain_75 rfl 2 rfl ?_
                refine x_iload_n 77 hE dX2_findBargain_76 rfl 3 rfl ?_
                refine x_iload_n 78 hE dX2_findBargain_77 rfl 0 rfl ?_
                refine x_calli 81 (xw_goM hE hac (xw_rV hE (ct_X2_isTakenBack hac v1 v18) xd_X2_isTakenBack rfl q1803 q1805 qs79 q97 q1806 rfl ⟨Nat.le_of_ble_eq_true rfl, Nat.le_of_ble_eq_true rfl⟩ rfl rfl (by decide) dX2_findBargain_78)) rfl (fun v22 => ?_)
                refine x_if_ne 100 84 hE dX2_findBargain_81 (by decide) rfl ?_ ?_
                · refine x_aload_n 85 hE dX2_findBargain_84 rfl 2 rfl ?_
                  refine x_iload_n 86 hE dX2_findBargain_85 rfl 1 rfl ?_
                  refine x_iload_n 87 hE dX2_findBargain_86 rfl 0 rfl ?_
                  refine x_calli 90 (xw_goM hE hac (xw_rV hE (ct_X2_isOpenAt hac v15 v18) xd_X2_isOpenAt rfl q1807 q1809 qs80 q97 q1810 rfl ⟨Nat.le_of_ble_eq_true rfl, Nat.le_of_ble_eq_true rfl⟩ rfl rfl (by decide) dX2_findBargain_87)) rfl (fun v23 => ?_)
                  refine x_if_eq 100 93 hE dX2_findBargain_90 (by decide) rfl ?_ ?_
                  · refine x_iinc 103 [(1, .int (v1 + 1)), (3, .int v18), (2, .int v15), (0, va_rf (some (xw_hm (xe_G E))))] hE dX2_findBargain_100 rfl 3 rfl xc_i_1 (Nat.le_of_ble_eq_true rfl) rfl ?_
                    refine x_goto 7 hE dX2_findBargain_103 (by decide) ?_
                    refine x_sub [(0, va_rf (some (xw_hm (xe_G E)))), (1, .int (v1 + 1))] [3, 0] rfl ?_
                    exact hc1 (v1 + 1)
                  · refine x_aload_n 94 hE dX2_findBargain_93 rfl 2 rfl ?_
                    refine x_iload_n 95 hE dX2_findBargain_94 rfl 3 rfl ?_
                    refine x_iload_n 96 hE dX2_findBargain_95 rfl 1 rfl ?_
                    refine x_iload_n 97 hE dX2_findBargain_96 rfl 0 rfl ?_
                    refine x_callv 100 (xw_goM hE hac (xw_rV hE (ct_X2_offersTo hac v1 v15 v18) xd_X2_offersTo rfl q1811 q1813 qs81 q97 q1814 rfl ⟨Nat.le_of_ble_eq_true rfl, Nat.le_of_ble_eq_true rfl⟩ rfl rfl (by decide) dX2_findBargain_97)) rfl ?_
                    refine x_iinc 103 [(1, .int (v1 + 1)), (3, .int v18), (2, .int v15), (0, va_rf (some (xw_hm (xe_G E))))] hE dX2_findBargain_100 rfl 3 rfl xc_i_1 (Nat.le_of_ble_eq_true rfl) rfl ?_
                    refine x_goto 7 hE dX2_findBargain_103 (by decide) ?_
                    refine x_sub [(0, va_rf (some (xw_hm (xe_G E)))), (1, .int (v1 + 1))] [3, 0] rfl ?_
                    exact hc1 (v1 + 1)
                · refine x_iinc 103 [(1, .int (v1 + 1)), (3, .int v18), (2, .int v15), (0, va_rf (some (xw_hm (xe_G E))))] hE dX2_findBargain_100 rfl 3 rfl xc_i_1 (Nat.le_of_ble_eq_true rfl) rfl ?_
                  refine x_goto 7 hE dX2_findBargain_103 (by decide) ?_
                  refine x_sub [(0, va_rf (some (xw_hm (xe_G E)))), (1, .int (v1 + 1))] [3, 0] rfl ?_
                  exact hc1 (v1 + 1)

set_option maxHeartbeats 4000000 in
theorem ct_X2_looks {l : Launch} {G : xw_G} {σ0 : xw_St} (hac : xw_ac G = true) (v1 : Int32) : xw_Ct l G (xw_hr G σ0) xw_ov yX2_looks cX2_looks 2 none 5 [va_rf (some (xw_hm G)), .int v1] (pg_X2_looks v1) := by
  refine xw_metL [(0, va_rf (some (xw_hm G))), (1, .int v1)] (by decide) (Nat.le_trans (Nat.le_of_eq ((xw_l1 rfl).trans (congrArg (1 + ·) ((xw_l1 rfl).trans (congrArg (1 + ·) xw_l0))))) (by decide)) ((xw_a1 rfl).trans (congrArg (List.cons _) ((xw_a1 rfl).trans (congrArg (List.cons _) xw_a0)))) (fun E hE hl hG hm => ?_)
  subst hl; subst hG
  have hE : xw_ok E "CrossingWordsModel" cX2_looks 2 none 5 := hE
  unfold pg_X2_looks
  refine x_aload_n 1 hE dX2_looks_0 rfl 0 rfl ?_
  refine x_iload_n 2 hE dX2_looks_1 rfl 1 rfl ?_
  refine x_callv 5 (xw_goM hE hac (xw_rV hE (ct_X2_hours hac v1) xd_X2_hours rfl q1735 q1737 qs63 q97 q1738 rfl ⟨Nat.le_of_ble_eq_true rfl, Nat.le_of_ble_eq_true rfl⟩ rfl rfl (by decide) dX2_looks_2)) rfl ?_
  refine x_aload_n 6 hE dX2_looks_5 rfl 0 rfl ?_
  refine x_callv 9 (xw_goM hE hac (xw_rV hE (ct_X2_findOffers hac ) xd_X2_findOffers rfl q1763 q1765 qs69 q97 q1766 rfl ⟨Nat.le_of_ble_eq_true rfl, Nat.le_of_ble_eq_true rfl⟩ rfl rfl (by decide) dX2_looks_6)) rfl ?_
  refine x_aload_n 10 hE dX2_looks_9 rfl 0 rfl ?_
  refine x_callv 13 (xw_goM hE hac (xw_rV hE (ct_X2_findBargain hac ) xd_X2_findBargain rfl q1791 q1793 qs76 q97 q1794 rfl ⟨Nat.le_of_ble_eq_true rfl, Nat.le_of_ble_eq_true rfl⟩ rfl rfl (by decide) dX2_looks_10)) rfl ?_
  exact x_vret hE dX2_looks_13

set_option maxHeartbeats 4000000 in
theorem ct_X2_wordOf {l : Launch} {G : xw_G} {σ0 : xw_St} (hac : xw_ac G = true) (v1 : Int32) (v2 : Int32) : xw_Ct l G (xw_hr G σ0) xw_oi yX2_wordOf cX2_wordOf 4 (some (.int)) 1 [va_rf (some (xw_hm G)), .int v1, .int v2] (pg_X2_wordOf v1 v2) := by
  refine xw_metL [(0, va_rf (some (xw_hm G))), (1, .int v1), (2, .int v2)] (by decide) (Nat.le_trans (Nat.le_of_eq ((xw_l1 rfl).trans (congrArg (1 + ·) ((xw_l1 rfl).trans (congrArg (1 + ·) ((xw_l1 rfl).trans (congrArg (1 + ·) xw_l0))))))) (by decide)) ((xw_a1 rfl).trans (congrArg (List.cons _) ((xw_a1 rfl).trans (congrArg (List.cons _) ((xw_a1 rfl).trans (congrArg (List.cons _) xw_a0)))))) (fun E hE hl hG hm => ?_)
  subst hl; subst hG
  have hE : xw_ok E "CrossingWordsModel" cX2_wordOf 4 (some (.int)) 1 := hE
  unfold pg_X2_wordOf
  refine x_iload_n 1 hE dX2_wordOf_0 rfl 1 rfl ?_
  refine x_istore_n 2 [(3, .int v1), (0, va_rf (some (xw_hm (xe_G E)))), (1, .int v1), (2, .int v2)] hE dX2_wordOf_1 rfl rfl (Nat.le_of_ble_eq_true rfl) rfl ?_
  refine x_sub [(0, va_rf (some (xw_hm (xe_G E)))), (2, .int v2), (3, .int v1)] [1, 3, 0] rfl ?_
  refine x_sq 35 (fun (v4 : Int32) => [(0, va_rf (some (xw_hm (xe_G E)))), (2, .int v2), (3, .int v4)]) (fun _ => []) (fun v4 => ?_) (fun J2 hJ2 => ?_)
  · refine x_aload_n 36 hE dX2_wordOf_35 rfl 0 rfl ?_
    refine y_ga 39 hE hac (by decide) ymf_38 rfl xkf_CrossingWordsModel_94 dX2_wordOf_36 rfl ?_
    refine x_iconst 40 hE dX2_wordOf_39 rfl xc_i_5 ?_
    refine x_iload_n 41 hE dX2_wordOf_40 rfl 2 rfl ?_
    refine x_imul 42 hE dX2_wordOf_41 rfl ?_
    refine x_iload_n 43 hE dX2_wordOf_42 rfl 1 rfl ?_
    refine x_iadd 44 hE dX2_wordOf_43 rfl ?_
    refine y_ld 45 hE hac ⟨rfl, rfl⟩ dX2_wordOf_44 rfl (fun v5 => ?_)
    exact x_iret hE dX2_wordOf_45
  · refine x_loop (fun (v3 : Int32) => [(0, va_rf (some (xw_hm (xe_G E)))), (2, .int v2), (3, .int v3)]) (fun JL1 hc1 hx1 v3 => ?_) _ _
    refine x_aload_n 3 hE dX2_wordOf_2 rfl 0 rfl ?_
    refine y_ga 6 hE hac (by decide) ymf_38 rfl xkf_CrossingWordsModel_94 dX2_wordOf_3 rfl ?_
    refine x_iconst 7 hE dX2_wordOf_6 rfl xc_i_5 ?_
    refine x_iload_n 8 hE dX2_wordOf_7 rfl 2 rfl ?_
    refine x_imul 9 hE dX2_wordOf_8 rfl ?_
    refine x_iload_n 10 hE dX2_wordOf_9 rfl 1 rfl ?_
    refine x_iadd 11 hE dX2_wordOf_10 rfl ?_
    refine y_ld 12 hE hac ⟨rfl, rfl⟩ dX2_wordOf_11 rfl (fun v6 => ?_)
    refine x_if_ge 35 15 hE dX2_wordOf_12 (by decide) rfl ?_ ?_
    · refine x_sub [(0, va_rf (some (xw_hm (xe_G E)))), (2, .int v2), (3, .int v3)] [0, 1, 2] rfl ?_
      refine hx1 _ _ _ _ ?_
      exact hJ2 v3
    · refine x_aload_n 16 hE dX2_wordOf_15 rfl 0 rfl ?_
      refine y_ga 19 hE hac (by decide) ymf_30 rfl xkf_CrossingWordsModel_69 dX2_wordOf_16 rfl ?_
      refine x_iload_n 20 hE dX2_wordOf_19 rfl 2 rfl ?_
      refine y_ld 21 hE hac ⟨rfl, rfl⟩ dX2_wordOf_20 rfl (fun v7 => ?_)
      refine x_iconst 22 hE dX2_wordOf_21 rfl xc_i_3 ?_
      refine x_icmp_ne 35 25 hE dX2_wordOf_22 (by decide) rfl ?_ ?_
      · refine x_aload_n 26 hE dX2_wordOf_25 rfl 0 rfl ?_
        refine y_ga 29 hE hac (by decide) ymf_34 rfl xkf_CrossingWordsModel_81 dX2_wordOf_26 rfl ?_
        refine x_iload_n 30 hE dX2_wordOf_29 rfl 2 rfl ?_
        refine y_ld 31 hE hac ⟨rfl, rfl⟩ dX2_wordOf_30 rfl (fun v8 => ?_)
        refine x_istore_n 32 [(3, .int v8), (0, va_rf (some (xw_hm (xe_G E)))), (2, .int v2)] hE dX2_wordOf_31 rfl rfl (Nat.le_of_ble_eq_true rfl) rfl ?_
        refine x_goto 2 hE dX2_wordOf_32 (by decide) ?_
        refine x_sub [(0, va_rf (some (xw_hm (xe_G E)))), (2, .int v2), (3, .int v8)] [1, 2, 0] rfl ?_
        exact hc1 v8
      · refine x_sub [(0, va_rf (some (xw_hm (xe_G E)))), (2, .int v2), (3, .int v3)] [0, 1, 2] rfl ?_
        refine hx1 _ _ _ _ ?_
        exact hJ2 v3

set_option maxHeartbeats 4000000 in
theorem ct_X2_bargainWord {l : Launch} {G : xw_G} {σ0 : xw_St} (hac : xw_ac G = true) (v1 : Int32) : xw_Ct l G (xw_hr G σ0) xw_oi yX2_bargainWord cX2_bargainWord 3 (some (.int)) 2 [va_rf (some (xw_hm G)), .int v1] (pg_X2_bargainWord v1) := by
  refine xw_metL [(0, va_rf (some (xw_hm G))), (1, .int v1)] (by decide) (Nat.le_trans (Nat.le_of_eq ((xw_l1 rfl).trans (congrArg (1 + ·) ((xw_l1 rfl).trans (congrArg (1 + ·) xw_l0))))) (by decide)) ((xw_a1 rfl).trans (congrArg (List.cons _) ((xw_a1 rfl).trans (congrArg (List.cons _) xw_a0)))) (fun E hE hl hG hm => ?_)
  subst hl; subst hG
  have hE : xw_ok E "CrossingWordsModel" cX2_bargainWord 3 (some (.int)) 2 := hE
  unfold pg_X2_bargainWord
  refine x_aload_n 1 hE dX2_bargainWord_0 rfl 0 rfl ?_
  refine x_aload_n 2 hE dX2_bargainWord_1 rfl 0 rfl ?_
  refine y_g 5 hE hac (by decide) ymf_52 rfl xkf_CrossingWordsModel_390 dX2_bargainWord_2 rfl (fun v2 => ?_)
  refine x_iload_n 6 hE dX2_bargainWord_5 rfl 1 rfl ?_
  refine x_calli 9 (xw_goM hE hac (xw_rV hE (ct_X2_wordOf hac v2 v1) xd_X2_wordOf rfl q1823 q1825 qs84 q97 q1826 rfl ⟨Nat.le_of_ble_eq_true rfl, Nat.le_of_ble_eq_true rfl⟩ rfl rfl (by decide) dX2_bargainWord_6)) rfl (fun v3 => ?_)
  refine x_istore_n 10 [(2, .int v3), (0, va_rf (some (xw_hm (xe_G E)))), (1, .int v1)] hE dX2_bargainWord_9 rfl rfl (Nat.le_of_ble_eq_true rfl) rfl ?_
  refine x_aload_n 11 hE dX2_bargainWord_10 rfl 1 rfl ?_
  refine y_g 14 hE hac (by decide) ymf_51 rfl xkf_CrossingWordsModel_387 dX2_bargainWord_11 rfl (fun v4 => ?_)
  refine x_if_lt 54 17 hE dX2_bargainWord_14 (by decide) rfl ?_ ?_
  · refine x_iload_n 55 hE dX2_bargainWord_54 rfl 0 rfl ?_
    exact x_iret hE dX2_bargainWord_55
  · refine x_aload_n 18 hE dX2_bargainWord_17 rfl 1 rfl ?_
    refine x_aload_n 19 hE dX2_bargainWord_18 rfl 1 rfl ?_
    refine y_g 22 hE hac (by decide) ymf_51 rfl xkf_CrossingWordsModel_387 dX2_bargainWord_19 rfl (fun v5 => ?_)
    refine x_calli 25 (xw_goM hE hac (xw_rV hE (ct_X2_isSmall hac v5) xd_X2_isSmall rfl q1771 q1773 qs71 q97 q1774 rfl ⟨Nat.le_of_ble_eq_true rfl, Nat.le_of_ble_eq_true rfl⟩ rfl rfl (by decide) dX2_bargainWord_22)) rfl (fun v6 => ?_)
    refine x_if_eq 54 28 hE dX2_bargainWord_25 (by decide) rfl ?_ ?_
    · refine x_iload_n 55 hE dX2_bargainWord_54 rfl 0 rfl ?_
      exact x_iret hE dX2_bargainWord_55
    · refine x_aload_n 29 hE dX2_bargainWord_28 rfl 1 rfl ?_
      refine y_ga 32 hE hac (by decide) ymf_38 rfl xkf_CrossingWordsModel_94 dX2_bargainWord_29 rfl ?_
      refine x_iconst 33 hE dX2_bargainWord_32 rfl xc_i_5 ?_
      refine x_aload_n 34 hE dX2_bargainWord_33 rfl 1 rfl ?_
      refine y_g 37 hE hac (by decide) ymf_51 rfl xkf_CrossingWordsModel_387 dX2_bargainWord_34 rfl (fun v7 => ?_)
      refine x_imul 38 hE dX2_bargainWord_37 rfl ?_
      refine x_iload_n 39 hE dX2_bargainWord_38 rfl 2 rfl ?_
      refine x_iadd 40 hE dX2_bargainWord_39 rfl ?_
      refine y_ld 41 hE hac ⟨rfl, rfl⟩ dX2_bargainWord_40 rfl (fun v8 => ?_)
      refine x_if_lt 54 44 hE dX2_bargainWord_41 (by decide) rfl ?_ ?_
      · refine x_iload_n 55 hE dX2_bargainWord_54 rfl 0 rfl ?_
        exact x_iret hE dX2_bargainWord_55
      · refine x_aload_n 45 hE dX2_bargainWord_44 rfl 1 rfl ?_
        refine y_ga 48 hE hac (by decide) ymf_26 rfl xkf_CrossingWordsModel_66 dX2_bargainWord_45 rfl ?_
        refine x_bipush 50 hE dX2_bargainWord_48 rfl xc_b_10 ?_
        refine y_ld 51 hE hac ⟨rfl, rfl⟩ dX2_bargainWord_50 rfl (fun v9 => ?_)
        refine x_if_ne 56 54 hE dX2_bargainWord_51 (by decide) rfl ?_ ?_
        · refine x_iload_n 55 hE dX2_bargainWord_54 rfl 0 rfl ?_
          exact x_iret hE dX2_bargainWord_55
        · refine x_aload_n 57 hE dX2_bargainWord_56 rfl 1 rfl ?_
          refine y_ga 60 hE hac (by decide) ymf_26 rfl xkf_CrossingWordsModel_66 dX2_bargainWord_57 rfl ?_
          refine x_bipush 62 hE dX2_bargainWord_60 rfl xc_b_10 ?_
          refine y_ld 63 hE hac ⟨rfl, rfl⟩ dX2_bargainWord_62 rfl (fun v10 => ?_)
          refine x_iconst 64 hE dX2_bargainWord_63 rfl xc_i_1 ?_
          refine x_icmp_ne 83 67 hE dX2_bargainWord_64 (by decide) rfl ?_ ?_
          · refine x_aload_n 68 hE dX2_bargainWord_67 rfl 1 rfl ?_
            refine y_ga 71 hE hac (by decide) ymf_38 rfl xkf_CrossingWordsModel_94 dX2_bargainWord_68 rfl ?_
            refine x_iconst 72 hE dX2_bargainWord_71 rfl xc_i_5 ?_
            refine x_aload_n 73 hE dX2_bargainWord_72 rfl 1 rfl ?_
            refine y_g 76 hE hac (by decide) ymf_51 rfl xkf_CrossingWordsModel_387 dX2_bargainWord_73 rfl (fun v11 => ?_)
            refine x_imul 77 hE dX2_bargainWord_76 rfl ?_
            refine x_iload_n 78 hE dX2_bargainWord_77 rfl 2 rfl ?_
            refine x_iadd 79 hE dX2_bargainWord_78 rfl ?_
            refine y_ld 80 hE hac ⟨rfl, rfl⟩ dX2_bargainWord_79 rfl (fun v12 => ?_)
            refine x_goto 84 hE dX2_bargainWord_80 (by decide) ?_
            exact x_iret hE dX2_bargainWord_84
          · refine x_iconst 84 hE dX2_bargainWord_83 rfl xc_i_m1 ?_
            exact x_iret hE dX2_bargainWord_84

set_option maxHeartbeats 4000000 in
theorem ct_X2_isSureNow {l : Launch} {G : xw_G} {σ0 : xw_St} (hac : xw_ac G = true)  : xw_Ct l G (xw_hr G σ0) xw_oi yX2_isSureNow cX2_isSureNow 2 (some (.boolean)) 6 [va_rf (some (xw_hm G))] (pg_X2_isSureNow) := by
  refine xw_metL [(0, va_rf (some (xw_hm G)))] (by decide) (Nat.le_trans (Nat.le_of_eq ((xw_l1 rfl).trans (congrArg (1 + ·) xw_l0))) (by decide)) ((xw_a1 rfl).trans (congrArg (List.cons _) xw_a0)) (fun E hE hl hG hm => ?_)
  subst hl; subst hG
  have hE : xw_ok E "CrossingWordsModel" cX2_isSureNow 2 (some (.boolean)) 6 := hE
  unfold pg_X2_isSureNow
  refine x_aload_n 1 hE dX2_isSureNow_0 rfl 0 rfl ?_
  refine x_callv 4 (xw_goM hE hac (xw_rV hE (ct_X2_findAsked hac ) xd_X2_findAsked rfl q1723 q1725 qs61 q97 q1726 rfl ⟨Nat.le_of_ble_eq_true rfl, Nat.le_of_ble_eq_true rfl⟩ rfl rfl (by decide) dX2_isSureNow_1)) rfl ?_
  refine x_aload_n 5 hE dX2_isSureNow_4 rfl 0 rfl ?_
  refine x_calli 8 (xw_goM hE hac (xw_rV hE (ct_X2_isLooked hac ) xd_X2_isLooked rfl q1727 q1729 qs62 q97 q1730 rfl ⟨Nat.le_of_ble_eq_true rfl, Nat.le_of_ble_eq_true rfl⟩ rfl rfl (by decide) dX2_isSureNow_5)) rfl (fun v1 => ?_)
  refine x_if_ne 13 11 hE dX2_isSureNow_8 (by decide) rfl ?_ ?_
  · refine x_iconst 12 hE dX2_isSureNow_11 rfl xc_i_0 ?_
    exact x_zretw hE (by decide) dX2_isSureNow_12
  · refine x_iconst 14 hE dX2_isSureNow_13 rfl xc_i_0 ?_
    refine x_istore_n 15 [(1, .int 0), (0, va_rf (some (xw_hm (xe_G E))))] hE dX2_isSureNow_14 rfl rfl (Nat.le_of_ble_eq_true rfl) rfl ?_
    refine x_sub [(0, va_rf (some (xw_hm (xe_G E)))), (1, .int 0)] [1, 0] rfl ?_
    refine x_loop (fun (v2 : Int32) => [(0, va_rf (some (xw_hm (xe_G E)))), (1, .int v2)]) (fun JL1 hc1 hx1 v2 => ?_) _ _
    refine x_iload_n 16 hE dX2_isSureNow_15 rfl 1 rfl ?_
    refine x_aload_n 17 hE dX2_isSureNow_16 rfl 0 rfl ?_
    refine y_g 20 hE hac (by decide) ymf_29 rfl xkf_CrossingWordsModel_357 dX2_isSureNow_17 rfl (fun v3 => ?_)
    refine x_icmp_ge 43 23 hE dX2_isSureNow_20 (by decide) rfl ?_ ?_
    · refine x_iconst 44 hE dX2_isSureNow_43 rfl xc_i_1 ?_
      refine hx1 _ _ _ _ ?_
      exact x_zretw hE (by decide) dX2_isSureNow_44
    · refine x_aload_n 24 hE dX2_isSureNow_23 rfl 0 rfl ?_
      refine x_iload_n 25 hE dX2_isSureNow_24 rfl 1 rfl ?_
      refine x_callv 28 (xw_goM hE hac (xw_rV hE (ct_X2_looks hac v2) xd_X2_looks rfl q1759 q1761 qs68 q97 q1762 rfl ⟨Nat.le_of_ble_eq_true rfl, Nat.le_of_ble_eq_true rfl⟩ rfl rfl (by decide) dX2_isSureNow_25)) rfl ?_
      refine x_aload_n 29 hE dX2_isSureNow_28 rfl 0 rfl ?_
      refine y_g 32 hE hac (by decide) ymf_50 rfl xkf_CrossingWordsModel_381 dX2_isSureNow_29 rfl (fun v4 => ?_)
      refine x_if_ne 37 35 hE dX2_isSureNow_32 (by decide) rfl ?_ ?_
      · refine x_iconst 36 hE dX2_isSureNow_35 rfl xc_i_0 ?_
        refine hx1 _ _ _ _ ?_
        exact x_zretw hE (by decide) dX2_isSureNow_36
      · refine x_iinc 40 [(1, .int (v2 + 1)), (0, va_rf (some (xw_hm (xe_G E))))] hE dX2_isSureNow_37 rfl 1 rfl xc_i_1 (Nat.le_of_ble_eq_true rfl) rfl ?_
        refine x_goto 15 hE dX2_isSureNow_40 (by decide) ?_
        refine x_sub [(0, va_rf (some (xw_hm (xe_G E)))), (1, .int (v2 + 1))] [1, 0] rfl ?_
        exact hc1 (v2 + 1)

set_option maxHeartbeats 4000000 in
theorem ct_X2_takes {l : Launch} {G : xw_G} {σ0 : xw_St} (hac : xw_ac G = true) (v1 : Int32) : xw_Ct l G (xw_hr G σ0) xw_ov yX2_takes cX2_takes 4 none 7 [va_rf (some (xw_hm G)), .int v1] (pg_X2_takes v1) := by
  refine xw_metL [(0, va_rf (some (xw_hm G))), (1, .int v1)] (by decide) (Nat.le_trans (Nat.le_of_eq ((xw_l1 rfl).trans (congrArg (1 + ·) ((xw_l1 rfl).trans (congrArg (1 + ·) xw_l0))))) (by decide)) ((xw_a1 rfl).trans (congrArg (List.cons _) ((xw_a1 rfl).trans (congrArg (List.cons _) xw_a0)))) (fun E hE hl hG hm => ?_)
  subst hl; subst hG
  have hE : xw_ok E "CrossingWordsModel" cX2_takes 4 none 7 := hE
  unfold pg_X2_takes
  refine x_iconst 1 hE dX2_takes_0 rfl xc_i_0 ?_
  refine x_istore_n 2 [(2, .int 0), (0, va_rf (some (xw_hm (xe_G E)))), (1, .int v1)] hE dX2_takes_1 rfl rfl (Nat.le_of_ble_eq_true rfl) rfl ?_
  refine x_sub [(0, va_rf (some (xw_hm (xe_G E)))), (1, .int v1), (2, .int 0)] [1, 2, 0] rfl ?_
  refine x_sq 30 (fun (v3 : Unit) => [(0, va_rf (some (xw_hm (xe_G E)))), (1, .int v1)]) (fun _ => []) (fun v3 => ?_) (fun J2 hJ2 => ?_)
  · refine x_iload_n 31 hE dX2_takes_30 rfl 1 rfl ?_
    refine x_istore_n 32 [(2, .int v1), (0, va_rf (some (xw_hm (xe_G E)))), (1, .int v1)] hE dX2_takes_31 rfl rfl (Nat.le_of_ble_eq_true rfl) rfl ?_
    refine x_sub [(0, va_rf (some (xw_hm (xe_G E)))), (1, .int v1), (2, .int v1)] [1, 2, 0] rfl ?_
    refine x_sq 100 (fun (v5 : Unit) => [(0, va_rf (some (xw_hm (xe_G E)))), (1, .int v1)]) (fun _ => []) (fun v5 => ?_) (fun J4 hJ4 => ?_)
    · refine x_iconst 101 hE dX2_takes_100 rfl xc_i_0 ?_
      refine x_istore_n 102 [(2, .int 0), (0, va_rf (some (xw_hm (xe_G E)))), (1, .int v1)] hE dX2_takes_101 rfl rfl (Nat.le_of_ble_eq_true rfl) rfl ?_
      refine x_sub [(0, va_rf (some (xw_hm (xe_G E)))), (1, .int v1), (2, .int 0)] [1, 2, 0] rfl ?_
      refine x_sq 140 (fun (v7 : Unit) => [(0, va_rf (some (xw_hm (xe_G E)))), (1, .int v1)]) (fun _ => []) (fun v7 => ?_) (fun J6 hJ6 => ?_)
      · refine x_aload_n 141 hE dX2_takes_140 rfl 0 rfl ?_
        refine x_iload_n 142 hE dX2_takes_141 rfl 1 rfl ?_
        refine x_callv 145 (xw_goM hE hac (xw_rV hE (ct_X2_bring hac v1) xd_X2_bring rfl q1719 q1721 qs60 q97 q1722 rfl ⟨Nat.le_of_ble_eq_true rfl, Nat.le_of_ble_eq_true rfl⟩ rfl rfl (by decide) dX2_takes_142)) rfl ?_
        refine x_aload_n 146 hE dX2_takes_145 rfl 0 rfl ?_
        refine x_callv 149 (xw_goM hE hac (xw_rV hE (ct_X2_findAsked hac ) xd_X2_findAsked rfl q1723 q1725 qs61 q97 q1726 rfl ⟨Nat.le_of_ble_eq_true rfl, Nat.le_of_ble_eq_true rfl⟩ rfl rfl (by decide) dX2_takes_146)) rfl ?_
        exact x_vret hE dX2_takes_149
      · refine x_loop (fun (v6 : Int32) => [(0, va_rf (some (xw_hm (xe_G E)))), (1, .int v1), (2, .int v6)]) (fun JL5 hc5 hx5 v6 => ?_) _ _
        refine x_iload_n 103 hE dX2_takes_102 rfl 2 rfl ?_
        refine x_iload_n 104 hE dX2_takes_103 rfl 1 rfl ?_
        refine x_icmp_ge 140 107 hE dX2_takes_104 (by decide) rfl ?_ ?_
        · refine x_sub [(0, va_rf (some (xw_hm (xe_G E)))), (1, .int v1)] [0, 1] rfl ?_
          refine hx5 _ _ _ _ ?_
          exact hJ6 ()
        · refine x_aload_n 108 hE dX2_takes_107 rfl 0 rfl ?_
          refine y_ga 111 hE hac (by decide) ymf_55 rfl xkf_CrossingWordsModel_133 dX2_takes_108 rfl ?_
          refine x_iload_n 112 hE dX2_takes_111 rfl 2 rfl ?_
          refine y_ldB 113 hE hac ⟨rfl, Or.inl rfl⟩ dX2_takes_112 rfl (fun v8 => ?_)
          refine x_if_ne 119 116 hE dX2_takes_113 (by decide) rfl ?_ ?_
          · refine x_goto 134 hE dX2_takes_116 (by decide) ?_
            refine x_iinc 137 [(2, .int (v6 + 1)), (0, va_rf (some (xw_hm (xe_G E)))), (1, .int v1)] hE dX2_takes_134 rfl 2 rfl xc_i_1 (Nat.le_of_ble_eq_true rfl) rfl ?_
            refine x_goto 102 hE dX2_takes_137 (by decide) ?_
            refine x_sub [(0, va_rf (some (xw_hm (xe_G E)))), (1, .int v1), (2, .int (v6 + 1))] [1, 2, 0] rfl ?_
            exact hc5 (v6 + 1)
          · refine x_aload_n 120 hE dX2_takes_119 rfl 0 rfl ?_
            refine x_iload_n 121 hE dX2_takes_120 rfl 2 rfl ?_
            refine x_callv 124 (xw_goM hE hac (xw_rV hE (ct_X2_bring hac v6) xd_X2_bring rfl q1719 q1721 qs60 q97 q1722 rfl ⟨Nat.le_of_ble_eq_true rfl, Nat.le_of_ble_eq_true rfl⟩ rfl rfl (by decide) dX2_takes_121)) rfl ?_
            refine x_aload_n 125 hE dX2_takes_124 rfl 0 rfl ?_
            refine y_ga 128 hE hac (by decide) ymf_54 rfl xkf_CrossingWordsModel_130 dX2_takes_125 rfl ?_
            refine x_iload_n 129 hE dX2_takes_128 rfl 2 rfl ?_
            refine x_aload_n 130 hE dX2_takes_129 rfl 0 rfl ?_
            refine x_calli 133 (xw_goM hE hac (xw_rV hE (ct_X2_isSureNow hac ) xd_X2_isSureNow rfl q1755 q1757 qs67 q97 q1758 rfl ⟨Nat.le_of_ble_eq_true rfl, Nat.le_of_ble_eq_true rfl⟩ rfl rfl (Nat.le_trans (xw_sm1 rfl (xw_sm1 rfl xw_sm0)) (by decide)) dX2_takes_130)) rfl (fun v9 => ?_)
            refine y_stZ 134 hE hac ⟨rfl, rfl⟩ dX2_takes_133 rfl ?_
            refine x_iinc 137 [(2, .int (v6 + 1)), (0, va_rf (some (xw_hm (xe_G E)))), (1, .int v1)] hE dX2_takes_134 rfl 2 rfl xc_i_1 (Nat.le_of_ble_eq_true rfl) rfl ?_
            refine x_goto 102 hE dX2_takes_137 (by decide) ?_
            refine x_sub [(0, va_rf (some (xw_hm (xe_G E)))), (1, .int v1), (2, .int (v6 + 1))] [1, 2, 0] rfl ?_
            exact hc5 (v6 + 1)
    · refine x_loop (fun (v4 : Int32) => [(0, va_rf (some (xw_hm (xe_G E)))), (1, .int v1), (2, .int v4)]) (fun JL3 hc3 hx3 v4 => ?_) _ _
      refine x_iload_n 33 hE dX2_takes_32 rfl 2 rfl ?_
      refine x_if_lt 100 36 hE dX2_takes_33 (by decide) rfl ?_ ?_
      · refine x_sub [(0, va_rf (some (xw_hm (xe_G E)))), (1, .int v1)] [0, 1] rfl ?_
        refine hx3 _ _ _ _ ?_
        exact hJ4 ()
      · refine x_iconst 37 hE dX2_takes_36 rfl xc_i_0 ?_
        refine x_istore_n 38 [(3, .int 0), (0, va_rf (some (xw_hm (xe_G E)))), (1, .int v1), (2, .int v4)] hE dX2_takes_37 rfl rfl (Nat.le_of_ble_eq_true rfl) rfl ?_
        refine x_sub [(0, va_rf (some (xw_hm (xe_G E)))), (1, .int v1), (2, .int v4), (3, .int 0)] [1, 2, 3, 0] rfl ?_
        refine x_sq 94 (fun (v11 : Unit) => [(0, va_rf (some (xw_hm (xe_G E)))), (1, .int v1), (2, .int v4)]) (fun _ => []) (fun v11 => ?_) (fun J8 hJ8 => ?_)
        · refine x_iinc 97 [(2, .int (v4 + (-1))), (0, va_rf (some (xw_hm (xe_G E)))), (1, .int v1)] hE dX2_takes_94 rfl 2 rfl xc_i_m1 (Nat.le_of_ble_eq_true rfl) rfl ?_
          refine x_goto 32 hE dX2_takes_97 (by decide) ?_
          refine x_sub [(0, va_rf (some (xw_hm (xe_G E)))), (1, .int v1), (2, .int (v4 + (-1)))] [1, 2, 0] rfl ?_
          exact hc3 (v4 + (-1))
        · refine x_loop (fun (v10 : Int32) => [(0, va_rf (some (xw_hm (xe_G E)))), (1, .int v1), (2, .int v4), (3, .int v10)]) (fun JL7 hc7 hx7 v10 => ?_) _ _
          refine x_iload_n 39 hE dX2_takes_38 rfl 3 rfl ?_
          refine x_aload_n 40 hE dX2_takes_39 rfl 0 rfl ?_
          refine y_ga 43 hE hac (by decide) ymf_3 rfl xkf_CrossingWordsModel_19 dX2_takes_40 rfl ?_
          refine x_iload_n 44 hE dX2_takes_43 rfl 2 rfl ?_
          refine y_ld 45 hE hac ⟨rfl, rfl⟩ dX2_takes_44 rfl (fun v12 => ?_)
          refine x_icmp_ge 94 48 hE dX2_takes_45 (by decide) rfl ?_ ?_
          · refine x_sub [(0, va_rf (some (xw_hm (xe_G E)))), (1, .int v1), (2, .int v4)] [0, 1, 2] rfl ?_
            refine hx7 _ _ _ _ ?_
            exact hJ8 ()
          · refine x_aload_n 49 hE dX2_takes_48 rfl 0 rfl ?_
            refine y_ga 52 hE hac (by decide) ymf_55 rfl xkf_CrossingWordsModel_133 dX2_takes_49 rfl ?_
            refine x_iload_n 53 hE dX2_takes_52 rfl 2 rfl ?_
            refine y_ldB 54 hE hac ⟨rfl, Or.inl rfl⟩ dX2_takes_53 rfl (fun v13 => ?_)
            refine x_if_eq 94 57 hE dX2_takes_54 (by decide) rfl ?_ ?_
            · refine x_sub [(0, va_rf (some (xw_hm (xe_G E)))), (1, .int v1), (2, .int v4)] [0, 1, 2] rfl ?_
              refine hx7 _ _ _ _ ?_
              exact hJ8 ()
            · refine x_aload_n 58 hE dX2_takes_57 rfl 0 rfl ?_
              refine y_ga 61 hE hac (by decide) ymf_10 rfl xkf_CrossingWordsModel_40 dX2_takes_58 rfl ?_
              refine x_bipush 63 hE dX2_takes_61 rfl xc_b_12 ?_
              refine x_iload_n 64 hE dX2_takes_63 rfl 2 rfl ?_
              refine x_imul 65 hE dX2_takes_64 rfl ?_
              refine x_iload_n 66 hE dX2_takes_65 rfl 3 rfl ?_
              refine x_iadd 67 hE dX2_takes_66 rfl ?_
              refine y_ld 68 hE hac ⟨rfl, rfl⟩ dX2_takes_67 rfl (fun v14 => ?_)
              refine x_if_lt 88 71 hE dX2_takes_68 (by decide) rfl ?_ ?_
              · refine x_iinc 91 [(3, .int (v10 + 1)), (0, va_rf (some (xw_hm (xe_G E)))), (1, .int v1), (2, .int v4)] hE dX2_takes_88 rfl 3 rfl xc_i_1 (Nat.le_of_ble_eq_true rfl) rfl ?_
                refine x_goto 38 hE dX2_takes_91 (by decide) ?_
                refine x_sub [(0, va_rf (some (xw_hm (xe_G E)))), (1, .int v1), (2, .int v4), (3, .int (v10 + 1))] [1, 2, 3, 0] rfl ?_
                exact hc7 (v10 + 1)
              · refine x_aload_n 72 hE dX2_takes_71 rfl 0 rfl ?_
                refine y_ga 75 hE hac (by decide) ymf_55 rfl xkf_CrossingWordsModel_133 dX2_takes_72 rfl ?_
                refine x_aload_n 76 hE dX2_takes_75 rfl 0 rfl ?_
                refine y_ga 79 hE hac (by decide) ymf_10 rfl xkf_CrossingWordsModel_40 dX2_takes_76 rfl ?_
                refine x_bipush 81 hE dX2_takes_79 rfl xc_b_12 ?_
                refine x_iload_n 82 hE dX2_takes_81 rfl 2 rfl ?_
                refine x_imul 83 hE dX2_takes_82 rfl ?_
                refine x_iload_n 84 hE dX2_takes_83 rfl 3 rfl ?_
                refine x_iadd 85 hE dX2_takes_84 rfl ?_
                refine y_ld 86 hE hac ⟨rfl, rfl⟩ dX2_takes_85 rfl (fun v15 => ?_)
                refine x_iconst 87 hE dX2_takes_86 rfl xc_i_1 ?_
                refine y_stZ 88 hE hac ⟨rfl, rfl⟩ dX2_takes_87 rfl ?_
                refine x_iinc 91 [(3, .int (v10 + 1)), (0, va_rf (some (xw_hm (xe_G E)))), (1, .int v1), (2, .int v4)] hE dX2_takes_88 rfl 3 rfl xc_i_1 (Nat.le_of_ble_eq_true rfl) rfl ?_
                refine x_goto 38 hE dX2_takes_91 (by decide) ?_
                refine x_sub [(0, va_rf (some (xw_hm (xe_G E)))), (1, .int v1), (2, .int v4), (3, .int (v10 + 1))] [1, 2, 3, 0] rfl ?_
                exact hc7 (v10 + 1)
  · refine x_loop (fun (v2 : Int32) => [(0, va_rf (some (xw_hm (xe_G E)))), (1, .int v1), (2, .int v2)]) (fun JL1 hc1 hx1 v2 => ?_) _ _
    refine x_iload_n 3 hE dX2_takes_2 rfl 2 rfl ?_
    refine x_bipush 5 hE dX2_takes_3 rfl xc_b_16 ?_
    refine x_icmp_ge 30 8 hE dX2_takes_5 (by decide) rfl ?_ ?_
    · refine x_sub [(0, va_rf (some (xw_hm (xe_G E)))), (1, .int v1)] [0, 1] rfl ?_
      refine hx1 _ _ _ _ ?_
      exact hJ2 ()
    · refine x_aload_n 9 hE dX2_takes_8 rfl 0 rfl ?_
      refine y_ga 12 hE hac (by decide) ymf_55 rfl xkf_CrossingWordsModel_133 dX2_takes_9 rfl ?_
      refine x_iload_n 13 hE dX2_takes_12 rfl 2 rfl ?_
      refine x_iload_n 14 hE dX2_takes_13 rfl 2 rfl ?_
      refine x_iload_n 15 hE dX2_takes_14 rfl 1 rfl ?_
      refine x_sq 23 (fun (v16 : Int32) => [(0, va_rf (some (xw_hm (xe_G E)))), (1, .int v1), (2, .int v2)]) (fun (v16 : Int32) => [.int v16, .int v2, va_rf (some (xw_am (xe_G E) 55))]) (fun v16 => ?_) (fun J9 hJ9 => ?_)
      · refine y_stZ 24 hE hac ⟨rfl, rfl⟩ dX2_takes_23 rfl ?_
        refine x_iinc 27 [(2, .int (v2 + 1)), (0, va_rf (some (xw_hm (xe_G E)))), (1, .int v1)] hE dX2_takes_24 rfl 2 rfl xc_i_1 (Nat.le_of_ble_eq_true rfl) rfl ?_
        refine x_goto 2 hE dX2_takes_27 (by decide) ?_
        refine x_sub [(0, va_rf (some (xw_hm (xe_G E)))), (1, .int v1), (2, .int (v2 + 1))] [1, 2, 0] rfl ?_
        exact hc1 (v2 + 1)
      · refine x_icmp_ne 22 18 hE dX2_takes_15 (by decide) rfl ?_ ?_
        · refine x_iconst 19 hE dX2_takes_18 rfl xc_i_1 ?_
          refine x_goto 23 hE dX2_takes_19 (by decide) ?_
          refine x_sub [(0, va_rf (some (xw_hm (xe_G E)))), (1, .int v1), (2, .int v2)] [0, 1, 2] rfl ?_
          exact hJ9 1
        · refine x_iconst 23 hE dX2_takes_22 rfl xc_i_0 ?_
          refine x_sub [(0, va_rf (some (xw_hm (xe_G E)))), (1, .int v1), (2, .int v2)] [0, 1, 2] rfl ?_
          exact hJ9 0

set_option maxHeartbeats 4000000 in
theorem ct_X2_looksAt {l : Launch} {G : xw_G} {σ0 : xw_St} (hac : xw_ac G = true) (v1 : Int32) (v2 : Int32) (v3 : Int32) : xw_Ct l G (xw_hr G σ0) xw_oi yX2_looksAt cX2_looksAt 4 (some (.boolean)) 8 [va_rf (some (xw_hm G)), .int v1, .int v2, .int v3] (pg_X2_looksAt v1 v2 v3) := by
  refine xw_metL [(0, va_rf (some (xw_hm G))), (1, .int v1), (2, .int v2), (3, .int v3)] (by decide) (Nat.le_trans (Nat.le_of_eq ((xw_l1 rfl).trans (congrArg (1 + ·) ((xw_l1 rfl).trans (congrArg (1 + ·) ((xw_l1 rfl).trans (congrArg (1 + ·) ((xw_l1 rfl).trans (congrArg (1 + ·) xw_l0))))))))) (by decide)) ((xw_a1 rfl).trans (congrArg (List.cons _) ((xw_a1 rfl).trans (congrArg (List.cons _) ((xw_a1 rfl).trans (congrArg (List.cons _) ((xw_a1 rfl).trans (congrArg (List.cons _) xw_a0)))))))) (fun E hE hl hG hm => ?_)
  subst hl; subst hG
  have hE : xw_ok E "CrossingWordsModel" cX2_looksAt 4 (some (.boolean)) 8 := hE
  unfold pg_X2_looksAt
  refine x_aload_n 1 hE dX2_looksAt_0 rfl 0 rfl ?_
  refine x_iload_n 2 hE dX2_looksAt_1 rfl 1 rfl ?_
  refine x_calli 5 (xw_goM hE hac (xw_rV hE (ct_X2_isCase hac v1) xd_X2_isCase rfl q1648 q1650 qs52 q97 q1651 rfl ⟨Nat.le_of_ble_eq_true rfl, Nat.le_of_ble_eq_true rfl⟩ rfl rfl (by decide) dX2_looksAt_2)) rfl (fun v4 => ?_)
  refine x_if_eq 20 8 hE dX2_looksAt_5 (by decide) rfl ?_ ?_
  · refine x_iconst 21 hE dX2_looksAt_20 rfl xc_i_0 ?_
    exact x_zretw hE (by decide) dX2_looksAt_21
  · refine x_aload_n 9 hE dX2_looksAt_8 rfl 0 rfl ?_
    refine x_iload_n 10 hE dX2_looksAt_9 rfl 2 rfl ?_
    refine x_calli 13 (xw_goM hE hac (xw_rV hE (ct_X2_isLaw hac v2) xd_X2_isLaw rfl q1699 q1701 qs57 q97 q1702 rfl ⟨Nat.le_of_ble_eq_true rfl, Nat.le_of_ble_eq_true rfl⟩ rfl rfl (by decide) dX2_looksAt_10)) rfl (fun v5 => ?_)
    refine x_if_eq 20 16 hE dX2_looksAt_13 (by decide) rfl ?_ ?_
    · refine x_iconst 21 hE dX2_looksAt_20 rfl xc_i_0 ?_
      exact x_zretw hE (by decide) dX2_looksAt_21
    · refine x_iload_n 17 hE dX2_looksAt_16 rfl 3 rfl ?_
      refine x_if_ge 22 20 hE dX2_looksAt_17 (by decide) rfl ?_ ?_
      · refine x_aload_n 23 hE dX2_looksAt_22 rfl 0 rfl ?_
        refine x_iload_n 24 hE dX2_looksAt_23 rfl 2 rfl ?_
        refine x_iconst 25 hE dX2_looksAt_24 rfl xc_i_0 ?_
        refine x_callv 28 (xw_goM hE hac (xw_rV hE (ct_X2_lays hac v2 0) xd_X2_lays rfl q1703 q1705 qs58 q97 q1706 rfl ⟨Nat.le_of_ble_eq_true rfl, Nat.le_of_ble_eq_true rfl⟩ rfl rfl (by decide) dX2_looksAt_25)) rfl ?_
        refine x_aload_n 29 hE dX2_looksAt_28 rfl 0 rfl ?_
        refine x_iload_n 30 hE dX2_looksAt_29 rfl 1 rfl ?_
        refine x_callv 33 (xw_goM hE hac (xw_rV hE (ct_X2_takes hac v1) xd_X2_takes rfl q1751 q1753 qs66 q97 q1754 rfl ⟨Nat.le_of_ble_eq_true rfl, Nat.le_of_ble_eq_true rfl⟩ rfl rfl (by decide) dX2_looksAt_30)) rfl ?_
        refine x_aload_n 34 hE dX2_looksAt_33 rfl 0 rfl ?_
        refine x_calli 37 (xw_goM hE hac (xw_rV hE (ct_X2_isLooked hac ) xd_X2_isLooked rfl q1727 q1729 qs62 q97 q1730 rfl ⟨Nat.le_of_ble_eq_true rfl, Nat.le_of_ble_eq_true rfl⟩ rfl rfl (by decide) dX2_looksAt_34)) rfl (fun v6 => ?_)
        refine x_if_eq 48 40 hE dX2_looksAt_37 (by decide) rfl ?_ ?_
        · refine x_iconst 49 hE dX2_looksAt_48 rfl xc_i_0 ?_
          exact x_zretw hE (by decide) dX2_looksAt_49
        · refine x_iload_n 41 hE dX2_looksAt_40 rfl 3 rfl ?_
          refine x_aload_n 42 hE dX2_looksAt_41 rfl 0 rfl ?_
          refine y_g 45 hE hac (by decide) ymf_29 rfl xkf_CrossingWordsModel_357 dX2_looksAt_42 rfl (fun v7 => ?_)
          refine x_icmp_lt 50 48 hE dX2_looksAt_45 (by decide) rfl ?_ ?_
          · refine x_aload_n 51 hE dX2_looksAt_50 rfl 0 rfl ?_
            refine x_iload_n 52 hE dX2_looksAt_51 rfl 3 rfl ?_
            refine x_callv 55 (xw_goM hE hac (xw_rV hE (ct_X2_looks hac v3) xd_X2_looks rfl q1759 q1761 qs68 q97 q1762 rfl ⟨Nat.le_of_ble_eq_true rfl, Nat.le_of_ble_eq_true rfl⟩ rfl rfl (by decide) dX2_looksAt_52)) rfl ?_
            refine x_iconst 56 hE dX2_looksAt_55 rfl xc_i_1 ?_
            exact x_zretw hE (by decide) dX2_looksAt_56
          · refine x_iconst 49 hE dX2_looksAt_48 rfl xc_i_0 ?_
            exact x_zretw hE (by decide) dX2_looksAt_49
      · refine x_iconst 21 hE dX2_looksAt_20 rfl xc_i_0 ?_
        exact x_zretw hE (by decide) dX2_looksAt_21

set_option maxHeartbeats 4000000 in
theorem ct_X2_bringPlain {l : Launch} {G : xw_G} {σ0 : xw_St} (hac : xw_ac G = true) (v1 : Int32) : xw_Ct l G (xw_hr G σ0) xw_ov yX2_bringPlain cX2_bringPlain 3 none 2 [va_rf (some (xw_hm G)), .int v1] (pg_X2_bringPlain v1) := by
  refine xw_metL [(0, va_rf (some (xw_hm G))), (1, .int v1)] (by decide) (Nat.le_trans (Nat.le_of_eq ((xw_l1 rfl).trans (congrArg (1 + ·) ((xw_l1 rfl).trans (congrArg (1 + ·) xw_l0))))) (by decide)) ((xw_a1 rfl).trans (congrArg (List.cons _) ((xw_a1 rfl).trans (congrArg (List.cons _) xw_a0)))) (fun E hE hl hG hm => ?_)
  subst hl; subst hG
  have hE : xw_ok E "CrossingWordsModel" cX2_bringPlain 3 none 2 := hE
  unfold pg_X2_bringPlain
  refine x_iconst 1 hE dX2_bringPlain_0 rfl xc_i_0 ?_
  refine x_istore_n 2 [(2, .int 0), (0, va_rf (some (xw_hm (xe_G E)))), (1, .int v1)] hE dX2_bringPlain_1 rfl rfl (Nat.le_of_ble_eq_true rfl) rfl ?_
  refine x_sub [(0, va_rf (some (xw_hm (xe_G E)))), (1, .int v1), (2, .int 0)] [1, 2, 0] rfl ?_
  refine x_sq 21 (fun (v3 : Unit) => [(0, va_rf (some (xw_hm (xe_G E)))), (1, .int v1)]) (fun _ => []) (fun v3 => ?_) (fun J2 hJ2 => ?_)
  · refine x_aload_n 22 hE dX2_bringPlain_21 rfl 0 rfl ?_
    refine x_iload_n 23 hE dX2_bringPlain_22 rfl 1 rfl ?_
    refine x_callv 26 (xw_goM hE hac (xw_rV hE (ct_X2_bring hac v1) xd_X2_bring rfl q1719 q1721 qs60 q97 q1722 rfl ⟨Nat.le_of_ble_eq_true rfl, Nat.le_of_ble_eq_true rfl⟩ rfl rfl (by decide) dX2_bringPlain_23)) rfl ?_
    refine x_aload_n 27 hE dX2_bringPlain_26 rfl 0 rfl ?_
    refine x_callv 30 (xw_goM hE hac (xw_rV hE (ct_X2_findAsked hac ) xd_X2_findAsked rfl q1723 q1725 qs61 q97 q1726 rfl ⟨Nat.le_of_ble_eq_true rfl, Nat.le_of_ble_eq_true rfl⟩ rfl rfl (by decide) dX2_bringPlain_27)) rfl ?_
    exact x_vret hE dX2_bringPlain_30
  · refine x_loop (fun (v2 : Int32) => [(0, va_rf (some (xw_hm (xe_G E)))), (1, .int v1), (2, .int v2)]) (fun JL1 hc1 hx1 v2 => ?_) _ _
    refine x_iload_n 3 hE dX2_bringPlain_2 rfl 2 rfl ?_
    refine x_bipush 5 hE dX2_bringPlain_3 rfl xc_b_16 ?_
    refine x_icmp_ge 21 8 hE dX2_bringPlain_5 (by decide) rfl ?_ ?_
    · refine x_sub [(0, va_rf (some (xw_hm (xe_G E)))), (1, .int v1)] [0, 1] rfl ?_
      refine hx1 _ _ _ _ ?_
      exact hJ2 ()
    · refine x_aload_n 9 hE dX2_bringPlain_8 rfl 0 rfl ?_
      refine y_ga 12 hE hac (by decide) ymf_54 rfl xkf_CrossingWordsModel_130 dX2_bringPlain_9 rfl ?_
      refine x_iload_n 13 hE dX2_bringPlain_12 rfl 2 rfl ?_
      refine x_iconst 14 hE dX2_bringPlain_13 rfl xc_i_0 ?_
      refine y_stZ 15 hE hac ⟨rfl, rfl⟩ dX2_bringPlain_14 rfl ?_
      refine x_iinc 18 [(2, .int (v2 + 1)), (0, va_rf (some (xw_hm (xe_G E)))), (1, .int v1)] hE dX2_bringPlain_15 rfl 2 rfl xc_i_1 (Nat.le_of_ble_eq_true rfl) rfl ?_
      refine x_goto 2 hE dX2_bringPlain_18 (by decide) ?_
      refine x_sub [(0, va_rf (some (xw_hm (xe_G E)))), (1, .int v1), (2, .int (v2 + 1))] [1, 2, 0] rfl ?_
      exact hc1 (v2 + 1)

set_option maxHeartbeats 4000000 in
theorem ct_X2_asked {l : Launch} {G : xw_G} {σ0 : xw_St} (hac : xw_ac G = true) (v1 : Int32) (v2 : Int32) : xw_Ct l G (xw_hr G σ0) xw_oi yX2_asked cX2_asked 3 (some (.int)) 3 [va_rf (some (xw_hm G)), .int v1, .int v2] (pg_X2_asked v1 v2) := by
  refine xw_metL [(0, va_rf (some (xw_hm G))), (1, .int v1), (2, .int v2)] (by decide) (Nat.le_trans (Nat.le_of_eq ((xw_l1 rfl).trans (congrArg (1 + ·) ((xw_l1 rfl).trans (congrArg (1 + ·) ((xw_l1 rfl).trans (congrArg (1 + ·) xw_l0))))))) (by decide)) ((xw_a1 rfl).trans (congrArg (List.cons _) ((xw_a1 rfl).trans (congrArg (List.cons _) ((xw_a1 rfl).trans (congrArg (List.cons _) xw_a0)))))) (fun E hE hl hG hm => ?_)
  subst hl; subst hG
  have hE : xw_ok E "CrossingWordsModel" cX2_asked 3 (some (.int)) 3 := hE
  unfold pg_X2_asked
  refine x_aload_n 1 hE dX2_asked_0 rfl 0 rfl ?_
  refine x_iload_n 2 hE dX2_asked_1 rfl 1 rfl ?_
  refine x_calli 5 (xw_goM hE hac (xw_rV hE (ct_X2_isCase hac v1) xd_X2_isCase rfl q1648 q1650 qs52 q97 q1651 rfl ⟨Nat.le_of_ble_eq_true rfl, Nat.le_of_ble_eq_true rfl⟩ rfl rfl (by decide) dX2_asked_2)) rfl (fun v3 => ?_)
  refine x_if_eq 17 8 hE dX2_asked_5 (by decide) rfl ?_ ?_
  · refine x_bipush 19 hE dX2_asked_17 rfl xc_b_m2 ?_
    exact x_iret hE dX2_asked_19
  · refine x_iload_n 9 hE dX2_asked_8 rfl 2 rfl ?_
    refine x_iconst 10 hE dX2_asked_9 rfl xc_i_0 ?_
    refine x_iconst 11 hE dX2_asked_10 rfl xc_i_2 ?_
    refine x_calli 14 (xw_goS hE (ct_X2_within v2 0 2) xd_X2_within q1551 q1552 q97 q1553 rfl ⟨Nat.le_of_ble_eq_true rfl, Nat.le_of_ble_eq_true rfl⟩ rfl (by decide) dX2_asked_11) rfl (fun v4 => ?_)
    refine x_if_ne 20 17 hE dX2_asked_14 (by decide) rfl ?_ ?_
    · refine x_bipush 19 hE dX2_asked_17 rfl xc_b_m2 ?_
      exact x_iret hE dX2_asked_19
    · refine x_aload_n 21 hE dX2_asked_20 rfl 0 rfl ?_
      refine x_iload_n 22 hE dX2_asked_21 rfl 1 rfl ?_
      refine x_callv 25 (xw_goM hE hac (xw_rV hE (ct_X2_bringPlain hac v1) xd_X2_bringPlain rfl q1715 q1717 qs59 q97 q1718 rfl ⟨Nat.le_of_ble_eq_true rfl, Nat.le_of_ble_eq_true rfl⟩ rfl rfl (by decide) dX2_asked_22)) rfl ?_
      refine x_iload_n 26 hE dX2_asked_25 rfl 2 rfl ?_
      refine x_if_ne 36 29 hE dX2_asked_26 (by decide) rfl ?_ ?_
      · refine x_aload_n 30 hE dX2_asked_29 rfl 0 rfl ?_
        refine y_g 33 hE hac (by decide) ymf_27 rfl xkf_CrossingWordsModel_351 dX2_asked_30 rfl (fun v8 => ?_)
        refine x_goto 63 hE dX2_asked_33 (by decide) ?_
        exact x_iret hE dX2_asked_63
      · refine x_iload_n 37 hE dX2_asked_36 rfl 2 rfl ?_
        refine x_iconst 38 hE dX2_asked_37 rfl xc_i_1 ?_
        refine x_icmp_ne 48 41 hE dX2_asked_38 (by decide) rfl ?_ ?_
        · refine x_aload_n 42 hE dX2_asked_41 rfl 0 rfl ?_
          refine y_g 45 hE hac (by decide) ymf_28 rfl xkf_CrossingWordsModel_354 dX2_asked_42 rfl (fun v7 => ?_)
          refine x_goto 63 hE dX2_asked_45 (by decide) ?_
          exact x_iret hE dX2_asked_63
        · refine x_aload_n 49 hE dX2_asked_48 rfl 0 rfl ?_
          refine x_calli 52 (xw_goM hE hac (xw_rV hE (ct_X2_isLooked hac ) xd_X2_isLooked rfl q1727 q1729 qs62 q97 q1730 rfl ⟨Nat.le_of_ble_eq_true rfl, Nat.le_of_ble_eq_true rfl⟩ rfl rfl (by decide) dX2_asked_49)) rfl (fun v5 => ?_)
          refine x_if_eq 62 55 hE dX2_asked_52 (by decide) rfl ?_ ?_
          · refine x_iconst 63 hE dX2_asked_62 rfl xc_i_m1 ?_
            exact x_iret hE dX2_asked_63
          · refine x_aload_n 56 hE dX2_asked_55 rfl 0 rfl ?_
            refine y_g 59 hE hac (by decide) ymf_29 rfl xkf_CrossingWordsModel_357 dX2_asked_56 rfl (fun v6 => ?_)
            refine x_goto 63 hE dX2_asked_59 (by decide) ?_
            exact x_iret hE dX2_asked_63

set_option maxHeartbeats 4000000 in
theorem ct_X2_hour {l : Launch} {G : xw_G} {σ0 : xw_St} (hac : xw_ac G = true) (v1 : Int32) (v2 : Int32) (v3 : Int32) (v4 : Int32) : xw_Ct l G (xw_hr G σ0) xw_oi yX2_hour cX2_hour 5 (some (.int)) 3 [va_rf (some (xw_hm G)), .int v1, .int v2, .int v3, .int v4] (pg_X2_hour v1 v2 v3 v4) := by
  refine xw_metL [(0, va_rf (some (xw_hm G))), (1, .int v1), (2, .int v2), (3, .int v3), (4, .int v4)] (by decide) (Nat.le_trans (Nat.le_of_eq ((xw_l1 rfl).trans (congrArg (1 + ·) ((xw_l1 rfl).trans (congrArg (1 + ·) ((xw_l1 rfl).trans (congrArg (1 + ·) ((xw_l1 rfl).trans (congrArg (1 + ·) ((xw_l1 rfl).trans (congrArg (1 + ·) xw_l0))))))))))) (by decide)) ((xw_a1 rfl).trans (congrArg (List.cons _) ((xw_a1 rfl).trans (congrArg (List.cons _) ((xw_a1 rfl).trans (congrArg (List.cons _) ((xw_a1 rfl).trans (congrArg (List.cons _) ((xw_a1 rfl).trans (congrArg (List.cons _) xw_a0)))))))))) (fun E hE hl hG hm => ?_)
  subst hl; subst hG
  have hE : xw_ok E "CrossingWordsModel" cX2_hour 5 (some (.int)) 3 := hE
  unfold pg_X2_hour
  refine x_aload_n 1 hE dX2_hour_0 rfl 0 rfl ?_
  refine x_iload_n 2 hE dX2_hour_1 rfl 1 rfl ?_
  refine x_calli 5 (xw_goM hE hac (xw_rV hE (ct_X2_isCase hac v1) xd_X2_isCase rfl q1648 q1650 qs52 q97 q1651 rfl ⟨Nat.le_of_ble_eq_true rfl, Nat.le_of_ble_eq_true rfl⟩ rfl rfl (by decide) dX2_hour_2)) rfl (fun v5 => ?_)
  refine x_if_eq 22 8 hE dX2_hour_5 (by decide) rfl ?_ ?_
  · refine x_bipush 24 hE dX2_hour_22 rfl xc_b_m2 ?_
    exact x_iret hE dX2_hour_24
  · refine x_iload_n 9 hE dX2_hour_8 rfl 2 rfl ?_
    refine x_if_lt 22 12 hE dX2_hour_9 (by decide) rfl ?_ ?_
    · refine x_bipush 24 hE dX2_hour_22 rfl xc_b_m2 ?_
      exact x_iret hE dX2_hour_24
    · refine x_iload 14 hE dX2_hour_12 rfl 4 rfl ?_
      refine x_iconst 15 hE dX2_hour_14 rfl xc_i_0 ?_
      refine x_iconst 16 hE dX2_hour_15 rfl xc_i_2 ?_
      refine x_calli 19 (xw_goS hE (ct_X2_within v4 0 2) xd_X2_within q1551 q1552 q97 q1553 rfl ⟨Nat.le_of_ble_eq_true rfl, Nat.le_of_ble_eq_true rfl⟩ rfl (by decide) dX2_hour_16) rfl (fun v6 => ?_)
      refine x_if_ne 25 22 hE dX2_hour_19 (by decide) rfl ?_ ?_
      · refine x_bipush 24 hE dX2_hour_22 rfl xc_b_m2 ?_
        exact x_iret hE dX2_hour_24
      · refine x_aload_n 26 hE dX2_hour_25 rfl 0 rfl ?_
        refine x_iload_n 27 hE dX2_hour_26 rfl 1 rfl ?_
        refine x_callv 30 (xw_goM hE hac (xw_rV hE (ct_X2_bringPlain hac v1) xd_X2_bringPlain rfl q1715 q1717 qs59 q97 q1718 rfl ⟨Nat.le_of_ble_eq_true rfl, Nat.le_of_ble_eq_true rfl⟩ rfl rfl (by decide) dX2_hour_27)) rfl ?_
        refine x_aload_n 31 hE dX2_hour_30 rfl 0 rfl ?_
        refine x_calli 34 (xw_goM hE hac (xw_rV hE (ct_X2_isLooked hac ) xd_X2_isLooked rfl q1727 q1729 qs62 q97 q1730 rfl ⟨Nat.le_of_ble_eq_true rfl, Nat.le_of_ble_eq_true rfl⟩ rfl rfl (by decide) dX2_hour_31)) rfl (fun v7 => ?_)
        refine x_if_eq 57 37 hE dX2_hour_34 (by decide) rfl ?_ ?_
        · refine x_bipush 59 hE dX2_hour_57 rfl xc_b_m2 ?_
          exact x_iret hE dX2_hour_59
        · refine x_iload_n 38 hE dX2_hour_37 rfl 2 rfl ?_
          refine x_aload_n 39 hE dX2_hour_38 rfl 0 rfl ?_
          refine y_g 42 hE hac (by decide) ymf_29 rfl xkf_CrossingWordsModel_357 dX2_hour_39 rfl (fun v8 => ?_)
          refine x_icmp_ge 57 45 hE dX2_hour_42 (by decide) rfl ?_ ?_
          · refine x_bipush 59 hE dX2_hour_57 rfl xc_b_m2 ?_
            exact x_iret hE dX2_hour_59
          · refine x_iload_n 46 hE dX2_hour_45 rfl 3 rfl ?_
            refine x_if_lt 57 49 hE dX2_hour_46 (by decide) rfl ?_ ?_
            · refine x_bipush 59 hE dX2_hour_57 rfl xc_b_m2 ?_
              exact x_iret hE dX2_hour_59
            · refine x_iload_n 50 hE dX2_hour_49 rfl 3 rfl ?_
              refine x_aload_n 51 hE dX2_hour_50 rfl 0 rfl ?_
              refine y_g 54 hE hac (by decide) ymf_27 rfl xkf_CrossingWordsModel_351 dX2_hour_51 rfl (fun v9 => ?_)
              refine x_icmp_lt 60 57 hE dX2_hour_54 (by decide) rfl ?_ ?_
              · refine x_aload_n 61 hE dX2_hour_60 rfl 0 rfl ?_
                refine x_iload_n 62 hE dX2_hour_61 rfl 2 rfl ?_
                refine x_callv 65 (xw_goM hE hac (xw_rV hE (ct_X2_hours hac v2) xd_X2_hours rfl q1735 q1737 qs63 q97 q1738 rfl ⟨Nat.le_of_ble_eq_true rfl, Nat.le_of_ble_eq_true rfl⟩ rfl rfl (by decide) dX2_hour_62)) rfl ?_
                refine x_aload_n 66 hE dX2_hour_65 rfl 0 rfl ?_
                refine x_iload_n 67 hE dX2_hour_66 rfl 3 rfl ?_
                refine x_iload 69 hE dX2_hour_67 rfl 4 rfl ?_
                refine x_calli 72 (xw_goM hE hac (xw_rV hE (ct_X2_when hac v3 v4) xd_X2_when rfl q1739 q1741 qs64 q97 q1742 rfl ⟨Nat.le_of_ble_eq_true rfl, Nat.le_of_ble_eq_true rfl⟩ rfl rfl (by decide) dX2_hour_69)) rfl (fun v10 => ?_)
                exact x_iret hE dX2_hour_72
              · refine x_bipush 59 hE dX2_hour_57 rfl xc_b_m2 ?_
                exact x_iret hE dX2_hour_59

set_option maxHeartbeats 4000000 in
theorem ct_X2_run {l : Launch} {G : xw_G} {σ0 : xw_St} (hac : xw_ac G = true) (v1 : Int32) (v2 : Int32) (v3 : Int32) (v4 : Int32) : xw_Ct l G (xw_hr G σ0) xw_oi yX2_run cX2_run 5 (some (.int)) 9 [va_rf (some (xw_hm G)), .int v1, .int v2, .int v3, .int v4] (pg_X2_run v1 v2 v3 v4) := by
  refine xw_metL [(0, va_rf (some (xw_hm G))), (1, .int v1), (2, .int v2), (3, .int v3), (4, .int v4)] (by decide) (Nat.le_trans (Nat.le_of_eq ((xw_l1 rfl).trans (congrArg (1 + ·) ((xw_l1 rfl).trans (congrArg (1 + ·) ((xw_l1 rfl).trans (congrArg (1 + ·) ((xw_l1 rfl).trans (congrArg (1 + ·) ((xw_l1 rfl).trans (congrArg (1 + ·) xw_l0))))))))))) (by decide)) ((xw_a1 rfl).trans (congrArg (List.cons _) ((xw_a1 rfl).trans (congrArg (List.cons _) ((xw_a1 rfl).trans (congrArg (List.cons _) ((xw_a1 rfl).trans (congrArg (List.cons _) ((xw_a1 rfl).trans (congrArg (List.cons _) xw_a0)))))))))) (fun E hE hl hG hm => ?_)
  subst hl; subst hG
  have hE : xw_ok E "CrossingWordsModel" cX2_run 5 (some (.int)) 9 := hE
  unfold pg_X2_run
  refine x_iload 2 hE dX2_run_0 rfl 4 rfl ?_
  refine x_iconst 3 hE dX2_run_2 rfl xc_i_0 ?_
  refine x_iconst 4 hE dX2_run_3 rfl xc_i_2 ?_
  refine x_calli 7 (xw_goS hE (ct_X2_within v4 0 2) xd_X2_within q1551 q1552 q97 q1553 rfl ⟨Nat.le_of_ble_eq_true rfl, Nat.le_of_ble_eq_true rfl⟩ rfl (by decide) dX2_run_4) rfl (fun v5 => ?_)
  refine x_jn 22 (fun (v6 : Unit) => [(0, va_rf (some (xw_hm (xe_G E)))), (1, .int v1), (2, .int v2), (3, .int v3), (4, .int v4)]) (fun (v6 : Unit) => []) (fun v6 => ?_) (fun J1 hJ1 => ?_)
  · refine x_aload_n 23 hE dX2_run_22 rfl 0 rfl ?_
    refine x_iload_n 24 hE dX2_run_23 rfl 1 rfl ?_
    refine x_iload_n 25 hE dX2_run_24 rfl 2 rfl ?_
    refine x_iload_n 26 hE dX2_run_25 rfl 3 rfl ?_
    refine x_calli 29 (xw_goM hE hac (xw_rV hE (ct_X2_looksAt hac v1 v2 v3) xd_X2_looksAt rfl q1747 q1749 qs65 q97 q1750 rfl ⟨Nat.le_of_ble_eq_true rfl, Nat.le_of_ble_eq_true rfl⟩ rfl rfl (by decide) dX2_run_26)) rfl (fun v7 => ?_)
    refine x_if_ne 35 32 hE dX2_run_29 (by decide) rfl ?_ ?_
    · refine x_bipush 34 hE dX2_run_32 rfl xc_b_m3 ?_
      exact x_iret hE dX2_run_34
    · refine x_aload_n 36 hE dX2_run_35 rfl 0 rfl ?_
      refine y_g 39 hE hac (by decide) ymf_50 rfl xkf_CrossingWordsModel_381 dX2_run_36 rfl (fun v8 => ?_)
      refine x_if_ne 45 42 hE dX2_run_39 (by decide) rfl ?_ ?_
      · refine x_bipush 44 hE dX2_run_42 rfl xc_b_m2 ?_
        exact x_iret hE dX2_run_44
      · refine x_iload 47 hE dX2_run_45 rfl 4 rfl ?_
        refine x_if_ne 57 50 hE dX2_run_47 (by decide) rfl ?_ ?_
        · refine x_aload_n 51 hE dX2_run_50 rfl 0 rfl ?_
          refine y_g 54 hE hac (by decide) ymf_51 rfl xkf_CrossingWordsModel_387 dX2_run_51 rfl (fun v12 => ?_)
          refine x_goto 92 hE dX2_run_54 (by decide) ?_
          exact x_iret hE dX2_run_92
        · refine x_iload 59 hE dX2_run_57 rfl 4 rfl ?_
          refine x_iconst 60 hE dX2_run_59 rfl xc_i_1 ?_
          refine x_icmp_ne 70 63 hE dX2_run_60 (by decide) rfl ?_ ?_
          · refine x_aload_n 64 hE dX2_run_63 rfl 0 rfl ?_
            refine y_g 67 hE hac (by decide) ymf_52 rfl xkf_CrossingWordsModel_390 dX2_run_64 rfl (fun v11 => ?_)
            refine x_goto 92 hE dX2_run_67 (by decide) ?_
            exact x_iret hE dX2_run_92
          · refine x_iload 72 hE dX2_run_70 rfl 4 rfl ?_
            refine x_iconst 73 hE dX2_run_72 rfl xc_i_2 ?_
            refine x_icmp_ne 83 76 hE dX2_run_73 (by decide) rfl ?_ ?_
            · refine x_aload_n 77 hE dX2_run_76 rfl 0 rfl ?_
              refine y_g 80 hE hac (by decide) ymf_53 rfl xkf_CrossingWordsModel_384 dX2_run_77 rfl (fun v10 => ?_)
              refine x_goto 92 hE dX2_run_80 (by decide) ?_
              exact x_iret hE dX2_run_92
            · refine x_aload_n 84 hE dX2_run_83 rfl 0 rfl ?_
              refine x_iload 86 hE dX2_run_84 rfl 4 rfl ?_
              refine x_bipush 88 hE dX2_run_86 rfl xc_b_10 ?_
              refine x_isub 89 hE dX2_run_88 rfl ?_
              refine x_calli 92 (xw_goM hE hac (xw_rV hE (ct_X2_bargainWord hac (v4 - 10)) xd_X2_bargainWord rfl q1819 q1821 qs83 q97 q1822 rfl ⟨Nat.le_of_ble_eq_true rfl, Nat.le_of_ble_eq_true rfl⟩ rfl rfl (by decide) dX2_run_89)) rfl (fun v9 => ?_)
              exact x_iret hE dX2_run_92
  · refine x_if_ne 22 10 hE dX2_run_7 (by decide) rfl ?_ ?_
    · refine x_iload 12 hE dX2_run_10 rfl 4 rfl ?_
      refine x_bipush 14 hE dX2_run_12 rfl xc_b_10 ?_
      refine x_bipush 16 hE dX2_run_14 rfl xc_b_14 ?_
      refine x_calli 19 (xw_goS hE (ct_X2_within v4 10 14) xd_X2_within q1551 q1552 q97 q1553 rfl ⟨Nat.le_of_ble_eq_true rfl, Nat.le_of_ble_eq_true rfl⟩ rfl (by decide) dX2_run_16) rfl (fun v13 => ?_)
      refine x_if_eq 32 22 hE dX2_run_19 (by decide) rfl ?_ ?_
      · refine x_bipush 34 hE dX2_run_32 rfl xc_b_m3 ?_
        exact x_iret hE dX2_run_34
      · refine x_sub [(0, va_rf (some (xw_hm (xe_G E)))), (1, .int v1), (2, .int v2), (3, .int v3), (4, .int v4)] [0, 1, 2, 3, 4] rfl ?_
        exact hJ1 ()
    · refine x_sub [(0, va_rf (some (xw_hm (xe_G E)))), (1, .int v1), (2, .int v2), (3, .int v3), (4, .int v4)] [0, 1, 2, 3, 4] rfl ?_
      exact hJ1 ()

set_option maxHeartbeats 4000000 in
theorem ct_X2_open {l : Launch} {G : xw_G} {σ0 : xw_St} (hac : xw_ac G = true) (v1 : Int32) (v2 : Int32) (v3 : Int32) (v4 : Int32) (v5 : Int32) : xw_Ct l G (xw_hr G σ0) xw_oi yX2_open cX2_open 6 (some (.int)) 9 [va_rf (some (xw_hm G)), .int v1, .int v2, .int v3, .int v4, .int v5] (pg_X2_open v1 v2 v3 v4 v5) := by
  refine xw_metL [(0, va_rf (some (xw_hm G))), (1, .int v1), (2, .int v2), (3, .int v3), (4, .int v4), (5, .int v5)] (by decide) (Nat.le_trans (Nat.le_of_eq ((xw_l1 rfl).trans (congrArg (1 + ·) ((xw_l1 rfl).trans (congrArg (1 + ·) ((xw_l1 rfl).trans (congrArg (1 + ·) ((xw_l1 rfl).trans (congrArg (1 + ·) ((xw_l1 rfl).trans (congrArg (1 + ·) ((xw_l1 rfl).trans (congrArg (1 + ·) xw_l0))))))))))))) (by decide)) ((xw_a1 rfl).trans (congrArg (List.cons _) ((xw_a1 rfl).trans (congrArg (List.cons _) ((xw_a1 rfl).trans (congrArg (List.cons _) ((xw_a1 rfl).trans (congrArg (List.cons _) ((xw_a1 rfl).trans (congrArg (List.cons _) ((xw_a1 rfl).trans (congrArg (List.cons _) xw_a0)))))))))))) (fun E hE hl hG hm => ?_)
  subst hl; subst hG
  have hE : xw_ok E "CrossingWordsModel" cX2_open 6 (some (.int)) 9 := hE
  unfold pg_X2_open
  refine x_iload 2 hE dX2_open_0 rfl 5 rfl ?_
  refine x_iconst 3 hE dX2_open_2 rfl xc_i_0 ?_
  refine x_iconst 4 hE dX2_open_3 rfl xc_i_2 ?_
  refine x_calli 7 (xw_goS hE (ct_X2_within v5 0 2) xd_X2_within q1551 q1552 q97 q1553 rfl ⟨Nat.le_of_ble_eq_true rfl, Nat.le_of_ble_eq_true rfl⟩ rfl (by decide) dX2_open_4) rfl (fun v6 => ?_)
  refine x_if_eq 43 10 hE dX2_open_7 (by decide) rfl ?_ ?_
  · refine x_bipush 45 hE dX2_open_43 rfl xc_b_m2 ?_
    exact x_iret hE dX2_open_45
  · refine x_aload_n 11 hE dX2_open_10 rfl 0 rfl ?_
    refine x_iload_n 12 hE dX2_open_11 rfl 1 rfl ?_
    refine x_iload_n 13 hE dX2_open_12 rfl 2 rfl ?_
    refine x_iload_n 14 hE dX2_open_13 rfl 3 rfl ?_
    refine x_calli 17 (xw_goM hE hac (xw_rV hE (ct_X2_looksAt hac v1 v2 v3) xd_X2_looksAt rfl q1747 q1749 qs65 q97 q1750 rfl ⟨Nat.le_of_ble_eq_true rfl, Nat.le_of_ble_eq_true rfl⟩ rfl rfl (by decide) dX2_open_14)) rfl (fun v7 => ?_)
    refine x_if_eq 43 20 hE dX2_open_17 (by decide) rfl ?_ ?_
    · refine x_bipush 45 hE dX2_open_43 rfl xc_b_m2 ?_
      exact x_iret hE dX2_open_45
    · refine x_iload 22 hE dX2_open_20 rfl 4 rfl ?_
      refine x_if_lt 43 25 hE dX2_open_22 (by decide) rfl ?_ ?_
      · refine x_bipush 45 hE dX2_open_43 rfl xc_b_m2 ?_
        exact x_iret hE dX2_open_45
      · refine x_iload 27 hE dX2_open_25 rfl 4 rfl ?_
        refine x_aload_n 28 hE dX2_open_27 rfl 0 rfl ?_
        refine y_g 31 hE hac (by decide) ymf_27 rfl xkf_CrossingWordsModel_351 dX2_open_28 rfl (fun v8 => ?_)
        refine x_icmp_ge 43 34 hE dX2_open_31 (by decide) rfl ?_ ?_
        · refine x_bipush 45 hE dX2_open_43 rfl xc_b_m2 ?_
          exact x_iret hE dX2_open_45
        · refine x_aload_n 35 hE dX2_open_34 rfl 0 rfl ?_
          refine x_iload 37 hE dX2_open_35 rfl 4 rfl ?_
          refine x_calli 40 (xw_goM hE hac (xw_rV hE (ct_X2_isOffering hac v4) xd_X2_isOffering rfl q1767 q1769 qs70 q97 q1770 rfl ⟨Nat.le_of_ble_eq_true rfl, Nat.le_of_ble_eq_true rfl⟩ rfl rfl (by decide) dX2_open_37)) rfl (fun v9 => ?_)
          refine x_if_ne 46 43 hE dX2_open_40 (by decide) rfl ?_ ?_
          · refine x_bipush 45 hE dX2_open_43 rfl xc_b_m2 ?_
            exact x_iret hE dX2_open_45
          · refine x_iload 48 hE dX2_open_46 rfl 5 rfl ?_
            refine x_if_ne 61 51 hE dX2_open_48 (by decide) rfl ?_ ?_
            · refine x_aload_n 52 hE dX2_open_51 rfl 0 rfl ?_
              refine y_ga 55 hE hac (by decide) ymf_47 rfl xkf_CrossingWordsModel_121 dX2_open_52 rfl ?_
              refine x_iload 57 hE dX2_open_55 rfl 4 rfl ?_
              refine y_ld 58 hE hac ⟨rfl, rfl⟩ dX2_open_57 rfl (fun v12 => ?_)
              refine x_goto 84 hE dX2_open_58 (by decide) ?_
              exact x_iret hE dX2_open_84
            · refine x_iload 63 hE dX2_open_61 rfl 5 rfl ?_
              refine x_iconst 64 hE dX2_open_63 rfl xc_i_1 ?_
              refine x_icmp_ne 77 67 hE dX2_open_64 (by decide) rfl ?_ ?_
              · refine x_aload_n 68 hE dX2_open_67 rfl 0 rfl ?_
                refine y_ga 71 hE hac (by decide) ymf_48 rfl xkf_CrossingWordsModel_124 dX2_open_68 rfl ?_
                refine x_iload 73 hE dX2_open_71 rfl 4 rfl ?_
                refine y_ld 74 hE hac ⟨rfl, rfl⟩ dX2_open_73 rfl (fun v11 => ?_)
                refine x_goto 84 hE dX2_open_74 (by decide) ?_
                exact x_iret hE dX2_open_84
              · refine x_aload_n 78 hE dX2_open_77 rfl 0 rfl ?_
                refine y_ga 81 hE hac (by decide) ymf_49 rfl xkf_CrossingWordsModel_127 dX2_open_78 rfl ?_
                refine x_iload 83 hE dX2_open_81 rfl 4 rfl ?_
                refine y_ld 84 hE hac ⟨rfl, rfl⟩ dX2_open_83 rfl (fun v10 => ?_)
                exact x_iret hE dX2_open_84

set_option maxHeartbeats 4000000 in
theorem ct_X2_binds {l : Launch} {G : xw_G} {σ0 : xw_St} (hac : xw_ac G = true) (v1 : Int32) (v2 : Int32) (v3 : Int32) : xw_Ct l G (xw_hr G σ0) xw_oi yX2_binds cX2_binds 4 (some (.int)) 9 [va_rf (some (xw_hm G)), .int v1, .int v2, .int v3] (pg_X2_binds v1 v2 v3) := by
  refine xw_metL [(0, va_rf (some (xw_hm G))), (1, .int v1), (2, .int v2), (3, .int v3)] (by decide) (Nat.le_trans (Nat.le_of_eq ((xw_l1 rfl).trans (congrArg (1 + ·) ((xw_l1 rfl).trans (congrArg (1 + ·) ((xw_l1 rfl).trans (congrArg (1 + ·) ((xw_l1 rfl).trans (congrArg (1 + ·) xw_l0))))))))) (by decide)) ((xw_a1 rfl).trans (congrArg (List.cons _) ((xw_a1 rfl).trans (congrArg (List.cons _) ((xw_a1 rfl).trans (congrArg (List.cons _) ((xw_a1 rfl).trans (congrArg (List.cons _) xw_a0)))))))) (fun E hE hl hG hm => ?_)
  subst hl; subst hG
  have hE : xw_ok E "CrossingWordsModel" cX2_binds 4 (some (.int)) 9 := hE
  unfold pg_X2_binds
  refine x_aload_n 1 hE dX2_binds_0 rfl 0 rfl ?_
  refine x_iload_n 2 hE dX2_binds_1 rfl 1 rfl ?_
  refine x_iload_n 3 hE dX2_binds_2 rfl 2 rfl ?_
  refine x_iload_n 4 hE dX2_binds_3 rfl 3 rfl ?_
  refine x_calli 7 (xw_goM hE hac (xw_rV hE (ct_X2_looksAt hac v1 v2 v3) xd_X2_looksAt rfl q1747 q1749 qs65 q97 q1750 rfl ⟨Nat.le_of_ble_eq_true rfl, Nat.le_of_ble_eq_true rfl⟩ rfl rfl (by decide) dX2_binds_4)) rfl (fun v4 => ?_)
  refine x_if_ne 13 10 hE dX2_binds_7 (by decide) rfl ?_ ?_
  · refine x_bipush 12 hE dX2_binds_10 rfl xc_b_m2 ?_
    exact x_iret hE dX2_binds_12
  · refine x_aload_n 14 hE dX2_binds_13 rfl 0 rfl ?_
    refine y_g 17 hE hac (by decide) ymf_50 rfl xkf_CrossingWordsModel_381 dX2_binds_14 rfl (fun v5 => ?_)
    refine x_if_eq 46 20 hE dX2_binds_17 (by decide) rfl ?_ ?_
    · refine x_iconst 47 hE dX2_binds_46 rfl xc_i_0 ?_
      exact x_iret hE dX2_binds_47
    · refine x_iconst 21 hE dX2_binds_20 rfl xc_i_1 ?_
      refine x_aload_n 22 hE dX2_binds_21 rfl 0 rfl ?_
      refine y_ga 25 hE hac (by decide) ymf_35 rfl xkf_CrossingWordsModel_84 dX2_binds_22 rfl ?_
      refine x_aload_n 26 hE dX2_binds_25 rfl 0 rfl ?_
      refine y_g 29 hE hac (by decide) ymf_52 rfl xkf_CrossingWordsModel_390 dX2_binds_26 rfl (fun v6 => ?_)
      refine y_ld 30 hE hac ⟨rfl, rfl⟩ dX2_binds_29 rfl (fun v7 => ?_)
      refine x_ishl 31 hE dX2_binds_30 rfl ?_
      refine x_iconst 32 hE dX2_binds_31 rfl xc_i_1 ?_
      refine x_aload_n 33 hE dX2_binds_32 rfl 0 rfl ?_
      refine y_ga 36 hE hac (by decide) ymf_36 rfl xkf_CrossingWordsModel_87 dX2_binds_33 rfl ?_
      refine x_aload_n 37 hE dX2_binds_36 rfl 0 rfl ?_
      refine y_g 40 hE hac (by decide) ymf_52 rfl xkf_CrossingWordsModel_390 dX2_binds_37 rfl (fun v8 => ?_)
      refine y_ld 41 hE hac ⟨rfl, rfl⟩ dX2_binds_40 rfl (fun v9 => ?_)
      refine x_ishl 42 hE dX2_binds_41 rfl ?_
      refine x_ior 43 hE dX2_binds_42 rfl ?_
      refine x_goto 47 hE dX2_binds_43 (by decide) ?_
      exact x_iret hE dX2_binds_47
