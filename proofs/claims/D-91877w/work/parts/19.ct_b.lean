set_option maxRecDepth 100000
/-! the walks: printed by wip/D-91877w/gen/gen2.py -/
set_option maxHeartbeats 4000000 in
theorem ct_X4_terms {l : Launch} {G : xw_G} {μ : xw_Mu} (v1 : Nat) : xw_Ct l G (xw_hc G μ) xw_or yX4_terms cX4_terms 3 (some (.array (.int))) 5 [va_rf (some v1)] (pg_X4_terms v1) := by
  refine xw_metL [(0, va_rf (some v1))] (by decide) (Nat.le_trans (Nat.le_of_eq ((xw_l1 rfl).trans (congrArg (1 + ·) xw_l0))) (by decide)) ((xw_a1 rfl).trans (congrArg (List.cons _) xw_a0)) (fun E hE hl hG hm => ?_)
  subst hl; subst hG
  have hE : xw_ok E "CrossingWords$CaseReader" cX4_terms 3 (some (.array (.int))) 5 := hE
  unfold pg_X4_terms
  refine x_iconst 1 hE dX4_terms_0 rfl xc_i_5 ?_
  refine x_nwa (t := 121) 3 hE xsA_121 rfl xsB_121 dX4_terms_1 rfl (fun v2 => ?_)
  refine x_dup 4 hE dX4_terms_3 rfl rfl ?_
  refine x_iconst 5 hE dX4_terms_4 rfl xc_i_0 ?_
  refine x_iconst 6 hE dX4_terms_5 rfl xc_i_m1 ?_
  refine x_stI 7 hE dX4_terms_6 rfl ?_
  refine x_dup 8 hE dX4_terms_7 rfl rfl ?_
  refine x_iconst 9 hE dX4_terms_8 rfl xc_i_1 ?_
  refine x_iconst 10 hE dX4_terms_9 rfl xc_i_m1 ?_
  refine x_stI 11 hE dX4_terms_10 rfl ?_
  refine x_dup 12 hE dX4_terms_11 rfl rfl ?_
  refine x_iconst 13 hE dX4_terms_12 rfl xc_i_2 ?_
  refine x_iconst 14 hE dX4_terms_13 rfl xc_i_m1 ?_
  refine x_stI 15 hE dX4_terms_14 rfl ?_
  refine x_dup 16 hE dX4_terms_15 rfl rfl ?_
  refine x_iconst 17 hE dX4_terms_16 rfl xc_i_3 ?_
  refine x_iconst 18 hE dX4_terms_17 rfl xc_i_m1 ?_
  refine x_stI 19 hE dX4_terms_18 rfl ?_
  refine x_dup 20 hE dX4_terms_19 rfl rfl ?_
  refine x_iconst 21 hE dX4_terms_20 rfl xc_i_4 ?_
  refine x_iconst 22 hE dX4_terms_21 rfl xc_i_m1 ?_
  refine x_stI 23 hE dX4_terms_22 rfl ?_
  refine x_astore_n 24 [(1, va_rf (some v2)), (0, va_rf (some v1))] hE dX4_terms_23 rfl rfl (Nat.le_of_ble_eq_true rfl) rfl ?_
  refine x_aload_n 25 hE dX4_terms_24 rfl 1 rfl ?_
  refine x_gs (j := 2) (n := "TERM_NAMES") (d := "[J") 28 hE xsl_2 xkg_CrossingWords_CaseReader_127 dX4_terms_25 rfl (fun v3 => ?_)
  refine x_calli 31 (xw_goV hE (c := 3) (by decide) (fun v5 hq => xw_rU (owner := "CrossingWords$Reader") (x := ⟨"CrossingWords$CaseReader", "maybe", "([J)I"⟩) hE (ct_X3_maybe v5 v3) xD_CrossingWords_Reader_maybe___J_I (Or.inl (Or.inl rfl)) q477 q478 q480 q404 q98 q408 rfl ⟨Nat.le_of_ble_eq_true rfl, Nat.le_of_ble_eq_true rfl⟩ (congrArg va_rf hq) rfl (by decide) dX4_terms_28)) rfl (fun v4 => ?_)
  refine x_istore_n 32 [(2, .int v4), (1, va_rf (some v2)), (0, va_rf (some v1))] hE dX4_terms_31 rfl rfl (Nat.le_of_ble_eq_true rfl) rfl ?_
  refine x_sub [(0, va_rf (some v1)), (1, va_rf (some v2)), (2, .int v4)] [2, 1, 0] rfl ?_
  refine x_sq 59 (fun (v7 : Unit) => [(1, va_rf (some v2))]) (fun _ => []) (fun v7 => ?_) (fun J2 hJ2 => ?_)
  · refine x_aload_n 60 hE dX4_terms_59 rfl 0 rfl ?_
    exact x_aret hE rfl dX4_terms_60
  · refine x_loop (fun (v6 : Int32) => [(0, va_rf (some v1)), (1, va_rf (some v2)), (2, .int v6)]) (fun JL1 hc1 hx1 v6 => ?_) _ _
    refine x_iload_n 33 hE dX4_terms_32 rfl 2 rfl ?_
    refine x_iconst 34 hE dX4_terms_33 rfl xc_i_m1 ?_
    refine x_icmp_eq 59 37 hE dX4_terms_34 (by decide) rfl ?_ ?_
    · refine x_sub [(1, va_rf (some v2))] [1] rfl ?_
      refine hx1 _ _ _ _ ?_
      exact hJ2 ()
    · refine x_aload_n 38 hE dX4_terms_37 rfl 1 rfl ?_
      refine x_iload_n 39 hE dX4_terms_38 rfl 2 rfl ?_
      refine x_aload_n 40 hE dX4_terms_39 rfl 0 rfl ?_
      refine x_iconst 41 hE dX4_terms_40 rfl xc_i_0 ?_
      refine x_sipush 44 hE dX4_terms_41 rfl xc_s_999 ?_
      refine x_calli 47 (xw_goV hE (c := 3) (by decide) (fun v9 hq => xw_rU (owner := "CrossingWords$Reader") (x := ⟨"CrossingWords$CaseReader", "number", "(II)I"⟩) hE (ct_X3_number v9 0 999) xD_CrossingWords_Reader_number__II_I (Or.inl (Or.inl rfl)) q481 q482 q484 q485 q98 q486 rfl ⟨Nat.le_of_ble_eq_true rfl, Nat.le_of_ble_eq_true rfl⟩ (congrArg va_rf hq) rfl (Nat.le_trans (xw_sm1 rfl (xw_sm1 rfl xw_sm0)) (by decide)) dX4_terms_44)) rfl (fun v8 => ?_)
      refine x_stI 48 hE dX4_terms_47 rfl ?_
      refine x_aload_n 49 hE dX4_terms_48 rfl 0 rfl ?_
      refine x_gs (j := 2) (n := "TERM_NAMES") (d := "[J") 52 hE xsl_2 xkg_CrossingWords_CaseReader_127 dX4_terms_49 rfl (fun v10 => ?_)
      refine x_calli 55 (xw_goV hE (c := 3) (by decide) (fun v12 hq => xw_rU (owner := "CrossingWords$Reader") (x := ⟨"CrossingWords$CaseReader", "maybe", "([J)I"⟩) hE (ct_X3_maybe v12 v10) xD_CrossingWords_Reader_maybe___J_I (Or.inl (Or.inl rfl)) q477 q478 q480 q404 q98 q408 rfl ⟨Nat.le_of_ble_eq_true rfl, Nat.le_of_ble_eq_true rfl⟩ (congrArg va_rf hq) rfl (by decide) dX4_terms_52)) rfl (fun v11 => ?_)
      refine x_istore_n 56 [(2, .int v11), (0, va_rf (some v1)), (1, va_rf (some v2))] hE dX4_terms_55 rfl rfl (Nat.le_of_ble_eq_true rfl) rfl ?_
      refine x_goto 32 hE dX4_terms_56 (by decide) ?_
      refine x_sub [(0, va_rf (some v1)), (1, va_rf (some v2)), (2, .int v11)] [1, 2, 0] rfl ?_
      exact hc1 v11

set_option maxHeartbeats 4000000 in
theorem ct_X4_but {l : Launch} {G : xw_G} {μ : xw_Mu} (v1 : Nat) (v2 : Int32) (v3 : Int32) (v4 : Option Nat) : xw_Ct l G (xw_hc G μ) xw_or yX4_but cX4_but 4 (some (.object "CrossingWords$Saying")) 6 [va_rf (some v1), .int v2, .int v3, va_rf v4] (pg_X4_but v1 v2 v3 v4) := by
  refine xw_metL [(0, va_rf (some v1)), (1, .int v2), (2, .int v3), (3, va_rf v4)] (by decide) (Nat.le_trans (Nat.le_of_eq ((xw_l1 rfl).trans (congrArg (1 + ·) ((xw_l1 rfl).trans (congrArg (1 + ·) ((xw_l1 rfl).trans (congrArg (1 + ·) ((xw_l1 (x_rfc _)).trans (congrArg (1 + ·) xw_l0))))))))) (by decide)) ((xw_a1 rfl).trans (congrArg (List.cons _) ((xw_a1 rfl).trans (congrArg (List.cons _) ((xw_a1 rfl).trans (congrArg (List.cons _) ((xw_a1 (x_rfc _)).trans (congrArg (List.cons _) xw_a0)))))))) (fun E hE hl hG hm => ?_)
  subst hl; subst hG
  have hE : xw_ok E "CrossingWords$CaseReader" cX4_but 4 (some (.object "CrossingWords$Saying")) 6 := hE
  unfold pg_X4_but
  refine x_aload_n 1 hE dX4_but_0 rfl 0 rfl ?_
  refine x_gI 4 hE (xw_lkS hE xkf_CrossingWords_CaseReader_62 xks_CrossingWords_CaseReader_62) rfl dX4_but_1 rfl (fun v5 => ?_)
  refine x_sq 34 (fun (v6 : Unit) => [(0, va_rf (some v1)), (1, .int v2), (2, .int v3), (3, va_rf v4)]) (fun (v6 : Unit) => []) (fun v6 => ?_) (fun J1 hJ1 => ?_)
  · refine x_new (c := 8) 37 hE (by decide) q590 q591 q107 dX4_but_34 rfl (fun v7 => ?_)
    refine x_dup 38 hE dX4_but_37 rfl rfl ?_
    refine x_iload_n 39 hE dX4_but_38 rfl 1 rfl ?_
    refine x_iload_n 40 hE dX4_but_39 rfl 2 rfl ?_
    refine x_aload_n 41 hE dX4_but_40 rfl 3 rfl ?_
    refine x_aload_n 42 hE dX4_but_41 rfl 0 rfl ?_
    refine x_callr 45 (xw_goV hE (c := 3) (by decide) (fun v9 hq => xw_rV hE (ct_X4_terms v9) xd_X4_terms rfl q471 q473 qs4 q99 q474 rfl ⟨Nat.le_of_ble_eq_true rfl, Nat.le_of_ble_eq_true rfl⟩ (congrArg va_rf hq) rfl (Nat.le_trans (xw_sm1 (x_rfc _) (xw_sm1 rfl (xw_sm1 rfl (xw_sm1 rfl (xw_sm1 rfl xw_sm0))))) (by decide)) dX4_but_42)) rfl (fun v8 => ?_)
    refine x_callv 48 (xw_goI hE (b := v7) (ct_X11_init v7 v2 v3 v4 v8) xd_X11_init q592 q593 q107 q594 rfl rfl ⟨Nat.le_of_ble_eq_true rfl, Nat.le_of_ble_eq_true rfl⟩ rfl (Nat.le_trans (xw_sm1 rfl xw_sm0) (by decide)) dX4_but_45) rfl ?_
    exact x_aret hE rfl dX4_but_48
  · refine x_jn 29 (fun (v10 : Unit) => [(0, va_rf (some v1)), (1, .int v2), (2, .int v3), (3, va_rf v4)]) (fun (v10 : Unit) => []) (fun v10 => ?_) (fun J2 hJ2 => ?_)
    · refine x_aload_n 30 hE dX4_but_29 rfl 0 rfl ?_
      refine x_iconst 31 hE dX4_but_30 rfl xc_i_1 ?_
      refine x_pZ 34 hE (xw_pkN (xw_lkS hE xkf_CrossingWords_CaseReader_62 xks_CrossingWords_CaseReader_62) rfl) ⟨rfl, rfl⟩ dX4_but_31 rfl ?_
      refine x_sub [(0, va_rf (some v1)), (1, .int v2), (2, .int v3), (3, va_rf v4)] [0, 1, 2, 3] rfl ?_
      exact hJ1 ()
    · refine x_if_ne 29 7 hE dX4_but_4 (by decide) rfl ?_ ?_
      · refine x_aload_n 8 hE dX4_but_7 rfl 0 rfl ?_
        refine x_gI 11 hE (xw_lkS hE xkf_CrossingWords_CaseReader_114 xks_CrossingWords_CaseReader_114) rfl dX4_but_8 rfl (fun v11 => ?_)
        refine x_iconst 12 hE dX4_but_11 rfl xc_i_1 ?_
        refine x_icmp_ne 29 15 hE dX4_but_12 (by decide) rfl ?_ ?_
        · refine x_gs (j := 2) (n := "TERM_NAMES") (d := "[J") 18 hE xsl_2 xkg_CrossingWords_CaseReader_127 dX4_but_15 rfl (fun v12 => ?_)
          refine x_aload_n 19 hE dX4_but_18 rfl 0 rfl ?_
          refine x_gJ 22 hE (xw_lkS hE xkf_CrossingWords_CaseReader_117 xks_CrossingWords_CaseReader_117) rfl dX4_but_19 rfl (fun v13 => ?_)
          refine x_calli 25 (xw_goSN hE (ct_X0_find v12 v13) xd_X0_find xkm_CrossingWords_CaseReader_120 q410 q95 q411 rfl ⟨Nat.le_of_ble_eq_true rfl, Nat.le_of_ble_eq_true rfl⟩ rfl (by decide) dX4_but_22) rfl (fun v14 => ?_)
          refine x_iconst 26 hE dX4_but_25 rfl xc_i_m1 ?_
          refine x_icmp_ne 34 29 hE dX4_but_26 (by decide) rfl ?_ ?_
          · refine x_sub [(0, va_rf (some v1)), (1, .int v2), (2, .int v3), (3, va_rf v4)] [0, 1, 2, 3] rfl ?_
            exact hJ2 ()
          · refine x_sub [(0, va_rf (some v1)), (1, .int v2), (2, .int v3), (3, va_rf v4)] [0, 1, 2, 3] rfl ?_
            exact hJ1 ()
        · refine x_sub [(0, va_rf (some v1)), (1, .int v2), (2, .int v3), (3, va_rf v4)] [0, 1, 2, 3] rfl ?_
          exact hJ2 ()
      · refine x_sub [(0, va_rf (some v1)), (1, .int v2), (2, .int v3), (3, va_rf v4)] [0, 1, 2, 3] rfl ?_
        exact hJ2 ()

set_option maxHeartbeats 4000000 in
theorem ct_X7_to {l : Launch} {G : xw_G} {μ : xw_Mu} (v1 : Nat) : xw_Ct l G (xw_hc G μ) xw_oi yX7_to cX7_to 1 (some (.int)) 1 [va_rf (some v1)] (pg_X7_to v1) := by
  refine xw_metL [(0, va_rf (some v1))] (by decide) (Nat.le_trans (Nat.le_of_eq ((xw_l1 rfl).trans (congrArg (1 + ·) xw_l0))) (by decide)) ((xw_a1 rfl).trans (congrArg (List.cons _) xw_a0)) (fun E hE hl hG hm => ?_)
  subst hl; subst hG
  have hE : xw_ok E "CrossingWords$Ask" cX7_to 1 (some (.int)) 1 := hE
  unfold pg_X7_to
  refine x_aload_n 1 hE dX7_to_0 rfl 0 rfl ?_
  refine x_gI 4 hE (xw_lk0 hE xkf_CrossingWords_Ask_9) rfl dX7_to_1 rfl (fun v2 => ?_)
  exact x_iret hE dX7_to_4

set_option maxHeartbeats 4000000 in
theorem ct_X11_to {l : Launch} {G : xw_G} {μ : xw_Mu} (v1 : Nat) : xw_Ct l G (xw_hc G μ) xw_oi yX11_to cX11_to 1 (some (.int)) 2 [va_rf (some v1)] (pg_X11_to v1) := by
  refine xw_metL [(0, va_rf (some v1))] (by decide) (Nat.le_trans (Nat.le_of_eq ((xw_l1 rfl).trans (congrArg (1 + ·) xw_l0))) (by decide)) ((xw_a1 rfl).trans (congrArg (List.cons _) xw_a0)) (fun E hE hl hG hm => ?_)
  subst hl; subst hG
  have hE : xw_ok E "CrossingWords$But" cX11_to 1 (some (.int)) 2 := hE
  unfold pg_X11_to
  refine x_aload_n 1 hE dX11_to_0 rfl 0 rfl ?_
  refine x_callr 4 (xw_goV hE (c := 8) (by decide) (fun v3 hq => xw_rU (owner := "CrossingWords$Answer") (x := ⟨"CrossingWords$But", "said", "()LCrossingWords$Saying;"⟩) hE (ct_X9_said v3) xD_CrossingWords_Answer_said___LCrossingWords_Saying_ (Or.inl (Or.inl rfl)) q570 q571 q573 q574 q105 q575 rfl ⟨Nat.le_of_ble_eq_true rfl, Nat.le_of_ble_eq_true rfl⟩ (congrArg va_rf hq) rfl (by decide) dX11_to_1)) rfl (fun v2 => ?_)
  refine x_gI 7 hE (xw_lk0 hE xkf_CrossingWords_But_19) rfl dX11_to_4 rfl (fun v4 => ?_)
  exact x_iret hE dX11_to_7

set_option maxHeartbeats 4000000 in
theorem ct_X8_to {l : Launch} {G : xw_G} {μ : xw_Mu} (v1 : Nat) : xw_Ct l G (xw_hc G μ) xw_oi yX8_to cX8_to 1 (some (.int)) 1 [va_rf (some v1)] (pg_X8_to v1) := by
  refine xw_metL [(0, va_rf (some v1))] (by decide) (Nat.le_trans (Nat.le_of_eq ((xw_l1 rfl).trans (congrArg (1 + ·) xw_l0))) (by decide)) ((xw_a1 rfl).trans (congrArg (List.cons _) xw_a0)) (fun E hE hl hG hm => ?_)
  subst hl; subst hG
  have hE : xw_ok E "CrossingWords$Offer" cX8_to 1 (some (.int)) 1 := hE
  unfold pg_X8_to
  refine x_aload_n 1 hE dX8_to_0 rfl 0 rfl ?_
  refine x_gI 4 hE (xw_lk0 hE xkf_CrossingWords_Offer_18) rfl dX8_to_1 rfl (fun v2 => ?_)
  exact x_iret hE dX8_to_4

set_option maxHeartbeats 4000000 in
theorem ct_X6_to {l : Launch} {G : xw_G} {μ : xw_Mu} (v1 : Nat) : xw_Ct l G (xw_hc G μ) xw_oi yX6_to cX6_to 1 (some (.int)) 1 [va_rf (some v1)] (pg_X6_to v1) := by
  refine xw_metL [(0, va_rf (some v1))] (by decide) (Nat.le_trans (Nat.le_of_eq ((xw_l1 rfl).trans (congrArg (1 + ·) xw_l0))) (by decide)) ((xw_a1 rfl).trans (congrArg (List.cons _) xw_a0)) (fun E hE hl hG hm => ?_)
  subst hl; subst hG
  have hE : xw_ok E "CrossingWords$Saying" cX6_to 1 (some (.int)) 1 := hE
  unfold pg_X6_to
  refine x_iconst 1 hE dX6_to_0 rfl xc_i_m1 ?_
  exact x_iret hE dX6_to_1

set_option maxHeartbeats 4000000 in
theorem ct_X4_maySay {l : Launch} {G : xw_G} {μ : xw_Mu} (v1 : Nat) (v2 : Int32) (v3 : Int32) (v4 : Option Nat) : xw_Ct l G (xw_hc G μ) xw_oi yX4_maySay cX4_maySay 5 (some (.boolean)) 3 [va_rf (some v1), .int v2, .int v3, va_rf v4] (pg_X4_maySay v1 v2 v3 v4) := by
  refine xw_metL [(0, va_rf (some v1)), (1, .int v2), (2, .int v3), (3, va_rf v4)] (by decide) (Nat.le_trans (Nat.le_of_eq ((xw_l1 rfl).trans (congrArg (1 + ·) ((xw_l1 rfl).trans (congrArg (1 + ·) ((xw_l1 rfl).trans (congrArg (1 + ·) ((xw_l1 (x_rfc _)).trans (congrArg (1 + ·) xw_l0))))))))) (by decide)) ((xw_a1 rfl).trans (congrArg (List.cons _) ((xw_a1 rfl).trans (congrArg (List.cons _) ((xw_a1 rfl).trans (congrArg (List.cons _) ((xw_a1 (x_rfc _)).trans (congrArg (List.cons _) xw_a0)))))))) (fun E hE hl hG hm => ?_)
  subst hl; subst hG
  have hE : xw_ok E "CrossingWords$CaseReader" cX4_maySay 5 (some (.boolean)) 3 := hE
  unfold pg_X4_maySay
  refine x_aload_n 1 hE dX4_maySay_0 rfl 3 rfl ?_
  refine x_calli 4 (xw_goD hE (fun v6 hq => (List.forall_mem_cons.mpr ⟨⟨Nat.le_of_ble_eq_true rfl, xw_rU (owner := "CrossingWords$Saying") (x := ⟨"CrossingWords$Saying", "kind", "()I"⟩) hE (ct_X7_kind v6) xD_CrossingWords_Saying_kind___I (Or.inr xkd_CrossingWords_Sayingkind_) q533 q535 q536 q537 q103 q538 rfl ⟨Nat.le_of_ble_eq_true rfl, Nat.le_of_ble_eq_true rfl⟩ (congrArg va_rf hq) rfl (by decide) dX4_maySay_1⟩, (List.forall_mem_cons.mpr ⟨⟨Nat.le_of_ble_eq_true rfl, xw_rU (owner := "CrossingWords$Saying") (x := ⟨"CrossingWords$Saying", "kind", "()I"⟩) hE (ct_X8_kind v6) xD_CrossingWords_Saying_kind___I (Or.inr xkd_CrossingWords_Sayingkind_) q533 q535 q551 q552 q104 q553 rfl ⟨Nat.le_of_ble_eq_true rfl, Nat.le_of_ble_eq_true rfl⟩ (congrArg va_rf hq) rfl (by decide) dX4_maySay_1⟩, (List.forall_mem_cons.mpr ⟨⟨Nat.le_of_ble_eq_true rfl, xw_rU (owner := "CrossingWords$Saying") (x := ⟨"CrossingWords$Saying", "kind", "()I"⟩) hE (ct_X10_kind v6) xD_CrossingWords_Saying_kind___I (Or.inr xkd_CrossingWords_Sayingkind_) q533 q535 q557 q558 q106 q559 rfl ⟨Nat.le_of_ble_eq_true rfl, Nat.le_of_ble_eq_true rfl⟩ (congrArg va_rf hq) rfl (by decide) dX4_maySay_1⟩, (List.forall_mem_cons.mpr ⟨⟨Nat.le_of_ble_eq_true rfl, xw_rU (owner := "CrossingWords$Saying") (x := ⟨"CrossingWords$Saying", "kind", "()I"⟩) hE (ct_X11_kind v6) xD_CrossingWords_Saying_kind___I (Or.inr xkd_CrossingWords_Sayingkind_) q533 q535 q542 q543 q107 q544 rfl ⟨Nat.le_of_ble_eq_true rfl, Nat.le_of_ble_eq_true rfl⟩ (congrArg va_rf hq) rfl (by decide) dX4_maySay_1⟩, (List.forall_mem_cons.mpr ⟨⟨Nat.le_of_ble_eq_true rfl, xw_rU (owner := "CrossingWords$Saying") (x := ⟨"CrossingWords$Saying", "kind", "()I"⟩) hE (ct_X12_kind v6) xD_CrossingWords_Saying_kind___I (Or.inr xkd_CrossingWords_Sayingkind_) q533 q535 q548 q549 q108 q550 rfl ⟨Nat.le_of_ble_eq_true rfl, Nat.le_of_ble_eq_true rfl⟩ (congrArg va_rf hq) rfl (by decide) dX4_maySay_1⟩, (List.forall_mem_cons.mpr ⟨⟨Nat.le_of_ble_eq_true rfl, xw_rU (owner := "CrossingWords$Saying") (x := ⟨"CrossingWords$Saying", "kind", "()I"⟩) hE (ct_X13_kind v6) xD_CrossingWords_Saying_kind___I (Or.inr xkd_CrossingWords_Sayingkind_) q533 q535 q539 q540 q109 q541 rfl ⟨Nat.le_of_ble_eq_true rfl, Nat.le_of_ble_eq_true rfl⟩ (congrArg va_rf hq) rfl (by decide) dX4_maySay_1⟩, (List.forall_mem_cons.mpr ⟨⟨Nat.le_of_ble_eq_true rfl, xw_rU (owner := "CrossingWords$Saying") (x := ⟨"CrossingWords$Saying", "kind", "()I"⟩) hE (ct_X14_kind v6) xD_CrossingWords_Saying_kind___I (Or.inr xkd_CrossingWords_Sayingkind_) q533 q535 q545 q546 q110 q547 rfl ⟨Nat.le_of_ble_eq_true rfl, Nat.le_of_ble_eq_true rfl⟩ (congrArg va_rf hq) rfl (by decide) dX4_maySay_1⟩, (List.forall_mem_cons.mpr ⟨⟨Nat.le_of_ble_eq_true rfl, xw_rU (owner := "CrossingWords$Saying") (x := ⟨"CrossingWords$Saying", "kind", "()I"⟩) hE (ct_X15_kind v6) xD_CrossingWords_Saying_kind___I (Or.inr xkd_CrossingWords_Sayingkind_) q533 q535 q554 q555 q111 q556 rfl ⟨Nat.le_of_ble_eq_true rfl, Nat.le_of_ble_eq_true rfl⟩ (congrArg va_rf hq) rfl (by decide) dX4_maySay_1⟩, (fun _ h => absurd h List.not_mem_nil)⟩)⟩)⟩)⟩)⟩)⟩)⟩)⟩))) rfl (fun v5 => ?_)
  refine x_sq 20 (fun (v7 : Int32) => [(1, .int v2), (2, .int v3), (3, va_rf v4)]) (fun (v7 : Int32) => [.int v7]) (fun v7 => ?_) (fun J1 hJ1 => ?_)
  · refine x_istore 22 [(4, .int v7), (1, .int v2), (2, .int v3), (3, va_rf v4)] hE dX4_maySay_20 rfl (Nat.le_of_ble_eq_true rfl) (congrArg (List.cons _) (xw_f1 (by decide) rfl (xw_f1 (by decide) rfl (xw_f1 (by decide) (x_rfc _) xw_f0)))) ?_
    refine x_iload_n 23 hE dX4_maySay_22 rfl 1 rfl ?_
    refine x_iconst 24 hE dX4_maySay_23 rfl xc_i_5 ?_
    refine x_icmp_ne 54 27 hE dX4_maySay_24 (by decide) rfl ?_ ?_
    · refine x_aload_n 28 hE dX4_maySay_27 rfl 3 rfl ?_
      refine x_gI 31 hE (xw_lk0 hE xkf_CrossingWords_CaseReader_136) rfl dX4_maySay_28 rfl (fun v11 => ?_)
      refine x_iload_n 32 hE dX4_maySay_31 rfl 2 rfl ?_
      refine x_icmp_ne 52 35 hE dX4_maySay_32 (by decide) rfl ?_ ?_
      · refine x_iload 37 hE dX4_maySay_35 rfl 0 rfl ?_
        refine x_if_ne 48 40 hE dX4_maySay_37 (by decide) rfl ?_ ?_
        · refine x_aload_n 41 hE dX4_maySay_40 rfl 3 rfl ?_
          refine x_calli 44 (xw_goD hE (fun v13 hq => (List.forall_mem_cons.mpr ⟨⟨Nat.le_of_ble_eq_true rfl, xw_rU (owner := "CrossingWords$Saying") (x := ⟨"CrossingWords$Saying", "kind", "()I"⟩) hE (ct_X7_kind v13) xD_CrossingWords_Saying_kind___I (Or.inr xkd_CrossingWords_Sayingkind_) q533 q535 q536 q537 q103 q538 rfl ⟨Nat.le_of_ble_eq_true rfl, Nat.le_of_ble_eq_true rfl⟩ (congrArg va_rf hq) rfl (by decide) dX4_maySay_41⟩, (List.forall_mem_cons.mpr ⟨⟨Nat.le_of_ble_eq_true rfl, xw_rU (owner := "CrossingWords$Saying") (x := ⟨"CrossingWords$Saying", "kind", "()I"⟩) hE (ct_X8_kind v13) xD_CrossingWords_Saying_kind___I (Or.inr xkd_CrossingWords_Sayingkind_) q533 q535 q551 q552 q104 q553 rfl ⟨Nat.le_of_ble_eq_true rfl, Nat.le_of_ble_eq_true rfl⟩ (congrArg va_rf hq) rfl (by decide) dX4_maySay_41⟩, (List.forall_mem_cons.mpr ⟨⟨Nat.le_of_ble_eq_true rfl, xw_rU (owner := "CrossingWords$Saying") (x := ⟨"CrossingWords$Saying", "kind", "()I"⟩) hE (ct_X10_kind v13) xD_CrossingWords_Saying_kind___I (Or.inr xkd_CrossingWords_Sayingkind_) q533 q535 q557 q558 q106 q559 rfl ⟨Nat.le_of_ble_eq_true rfl, Nat.le_of_ble_eq_true rfl⟩ (congrArg va_rf hq) rfl (by decide) dX4_maySay_41⟩, (List.forall_mem_cons.mpr ⟨⟨Nat.le_of_ble_eq_true rfl, xw_rU (owner := "CrossingWords$Saying") (x := ⟨"CrossingWords$Saying", "kind", "()I"⟩) hE (ct_X11_kind v13) xD_CrossingWords_Saying_kind___I (Or.inr xkd_CrossingWords_Sayingkind_) q533 q535 q542 q543 q107 q544 rfl ⟨Nat.le_of_ble_eq_true rfl, Nat.le_of_ble_eq_true rfl⟩ (congrArg va_rf hq) rfl (by decide) dX4_maySay_41⟩, (List.forall_mem_cons.mpr ⟨⟨Nat.le_of_ble_eq_true rfl, xw_rU (owner := "CrossingWords$Saying") (x := ⟨"CrossingWords$Saying", "kind", "()I"⟩) hE (ct_X12_kind v13) xD_CrossingWords_Saying_kind___I (Or.inr xkd_CrossingWords_Sayingkind_) q533 q535 q548 q549 q108 q550 rfl ⟨Nat.le_of_ble_eq_true rfl, Nat.le_of_ble_eq_true rfl⟩ (congrArg va_rf hq) rfl (by decide) dX4_maySay_41⟩, (List.forall_mem_cons.mpr ⟨⟨Nat.le_of_ble_eq_true rfl, xw_rU (owner := "CrossingWords$Saying") (x := ⟨"CrossingWords$Saying", "kind", "()I"⟩) hE (ct_X13_kind v13) xD_CrossingWords_Saying_kind___I (Or.inr xkd_CrossingWords_Sayingkind_) q533 q535 q539 q540 q109 q541 rfl ⟨Nat.le_of_ble_eq_true rfl, Nat.le_of_ble_eq_true rfl⟩ (congrArg va_rf hq) rfl (by decide) dX4_maySay_41⟩, (List.forall_mem_cons.mpr ⟨⟨Nat.le_of_ble_eq_true rfl, xw_rU (owner := "CrossingWords$Saying") (x := ⟨"CrossingWords$Saying", "kind", "()I"⟩) hE (ct_X14_kind v13) xD_CrossingWords_Saying_kind___I (Or.inr xkd_CrossingWords_Sayingkind_) q533 q535 q545 q546 q110 q547 rfl ⟨Nat.le_of_ble_eq_true rfl, Nat.le_of_ble_eq_true rfl⟩ (congrArg va_rf hq) rfl (by decide) dX4_maySay_41⟩, (List.forall_mem_cons.mpr ⟨⟨Nat.le_of_ble_eq_true rfl, xw_rU (owner := "CrossingWords$Saying") (x := ⟨"CrossingWords$Saying", "kind", "()I"⟩) hE (ct_X15_kind v13) xD_CrossingWords_Saying_kind___I (Or.inr xkd_CrossingWords_Sayingkind_) q533 q535 q554 q555 q111 q556 rfl ⟨Nat.le_of_ble_eq_true rfl, Nat.le_of_ble_eq_true rfl⟩ (congrArg va_rf hq) rfl (by decide) dX4_maySay_41⟩, (fun _ h => absurd h List.not_mem_nil)⟩)⟩)⟩)⟩)⟩)⟩)⟩)⟩))) rfl (fun v12 => ?_)
          refine x_iconst 45 hE dX4_maySay_44 rfl xc_i_2 ?_
          refine x_icmp_ne 52 48 hE dX4_maySay_45 (by decide) rfl ?_ ?_
          · refine x_iconst 49 hE dX4_maySay_48 rfl xc_i_1 ?_
            refine x_goto 53 hE dX4_maySay_49 (by decide) ?_
            exact x_zretw hE (by decide) dX4_maySay_53
          · refine x_iconst 53 hE dX4_maySay_52 rfl xc_i_0 ?_
            exact x_zretw hE (by decide) dX4_maySay_53
        · refine x_iconst 49 hE dX4_maySay_48 rfl xc_i_1 ?_
          refine x_goto 53 hE dX4_maySay_49 (by decide) ?_
          exact x_zretw hE (by decide) dX4_maySay_53
      · refine x_iconst 53 hE dX4_maySay_52 rfl xc_i_0 ?_
        exact x_zretw hE (by decide) dX4_maySay_53
    · refine x_iload 56 hE dX4_maySay_54 rfl 0 rfl ?_
      refine x_if_eq 88 59 hE dX4_maySay_56 (by decide) rfl ?_ ?_
      · refine x_iconst 89 hE dX4_maySay_88 rfl xc_i_0 ?_
        exact x_zretw hE (by decide) dX4_maySay_89
      · refine x_iload_n 60 hE dX4_maySay_59 rfl 1 rfl ?_
        refine x_bipush 62 hE dX4_maySay_60 rfl xc_b_7 ?_
        refine x_icmp_ne 76 65 hE dX4_maySay_62 (by decide) rfl ?_ ?_
        · refine x_aload_n 66 hE dX4_maySay_65 rfl 3 rfl ?_
          refine x_gI 69 hE (xw_lk0 hE xkf_CrossingWords_CaseReader_136) rfl dX4_maySay_66 rfl (fun v10 => ?_)
          refine x_iload_n 70 hE dX4_maySay_69 rfl 2 rfl ?_
          refine x_icmp_ne 88 73 hE dX4_maySay_70 (by decide) rfl ?_ ?_
          · refine x_goto 84 hE dX4_maySay_73 (by decide) ?_
            refine x_iconst 85 hE dX4_maySay_84 rfl xc_i_1 ?_
            refine x_goto 89 hE dX4_maySay_85 (by decide) ?_
            exact x_zretw hE (by decide) dX4_maySay_89
          · refine x_iconst 89 hE dX4_maySay_88 rfl xc_i_0 ?_
            exact x_zretw hE (by decide) dX4_maySay_89
        · refine x_aload_n 77 hE dX4_maySay_76 rfl 3 rfl ?_
          refine x_calli 80 (xw_goD hE (fun v9 hq => (List.forall_mem_cons.mpr ⟨⟨Nat.le_of_ble_eq_true rfl, xw_rU (owner := "CrossingWords$Saying") (x := ⟨"CrossingWords$Saying", "to", "()I"⟩) hE (ct_X7_to v9) xD_CrossingWords_Saying_to___I (Or.inl (Or.inr ⟨_, _, _, q561, q583⟩)) q560 q562 q563 q564 q103 q565 rfl ⟨Nat.le_of_ble_eq_true rfl, Nat.le_of_ble_eq_true rfl⟩ (congrArg va_rf hq) rfl (by decide) dX4_maySay_77⟩, (List.forall_mem_cons.mpr ⟨⟨Nat.le_of_ble_eq_true rfl, xw_rU (owner := "CrossingWords$Saying") (x := ⟨"CrossingWords$Saying", "to", "()I"⟩) hE (ct_X8_to v9) xD_CrossingWords_Saying_to___I (Or.inl (Or.inr ⟨_, _, _, q561, q583⟩)) q560 q562 q578 q579 q104 q580 rfl ⟨Nat.le_of_ble_eq_true rfl, Nat.le_of_ble_eq_true rfl⟩ (congrArg va_rf hq) rfl (by decide) dX4_maySay_77⟩, (List.forall_mem_cons.mpr ⟨⟨Nat.le_of_ble_eq_true rfl, xw_rU (owner := "CrossingWords$Saying") (x := ⟨"CrossingWords$Saying", "to", "()I"⟩) hE (ct_X6_to v9) xD_CrossingWords_Saying_to___I (Or.inl (Or.inl rfl)) q560 q562 q582 q561 q102 q583 rfl ⟨Nat.le_of_ble_eq_true rfl, Nat.le_of_ble_eq_true rfl⟩ (congrArg va_rf hq) rfl (by decide) dX4_maySay_77⟩, (List.forall_mem_cons.mpr ⟨⟨Nat.le_of_ble_eq_true rfl, xw_rU (owner := "CrossingWords$Saying") (x := ⟨"CrossingWords$Saying", "to", "()I"⟩) hE (ct_X11_to v9) xD_CrossingWords_Saying_to___I (Or.inl (Or.inr ⟨_, _, _, q561, q583⟩)) q560 q562 q567 q568 q107 q569 rfl ⟨Nat.le_of_ble_eq_true rfl, Nat.le_of_ble_eq_true rfl⟩ (congrArg va_rf hq) rfl (by decide) dX4_maySay_77⟩, (List.forall_mem_cons.mpr ⟨⟨Nat.le_of_ble_eq_true rfl, xw_rU (owner := "CrossingWords$Saying") (x := ⟨"CrossingWords$Saying", "to", "()I"⟩) hE (ct_X6_to v9) xD_CrossingWords_Saying_to___I (Or.inl (Or.inl rfl)) q560 q562 q577 q561 q102 q583 rfl ⟨Nat.le_of_ble_eq_true rfl, Nat.le_of_ble_eq_true rfl⟩ (congrArg va_rf hq) rfl (by decide) dX4_maySay_77⟩, (List.forall_mem_cons.mpr ⟨⟨Nat.le_of_ble_eq_true rfl, xw_rU (owner := "CrossingWords$Saying") (x := ⟨"CrossingWords$Saying", "to", "()I"⟩) hE (ct_X6_to v9) xD_CrossingWords_Saying_to___I (Or.inl (Or.inl rfl)) q560 q562 q566 q561 q102 q583 rfl ⟨Nat.le_of_ble_eq_true rfl, Nat.le_of_ble_eq_true rfl⟩ (congrArg va_rf hq) rfl (by decide) dX4_maySay_77⟩, (List.forall_mem_cons.mpr ⟨⟨Nat.le_of_ble_eq_true rfl, xw_rU (owner := "CrossingWords$Saying") (x := ⟨"CrossingWords$Saying", "to", "()I"⟩) hE (ct_X6_to v9) xD_CrossingWords_Saying_to___I (Or.inl (Or.inl rfl)) q560 q562 q576 q561 q102 q583 rfl ⟨Nat.le_of_ble_eq_true rfl, Nat.le_of_ble_eq_true rfl⟩ (congrArg va_rf hq) rfl (by decide) dX4_maySay_77⟩, (List.forall_mem_cons.mpr ⟨⟨Nat.le_of_ble_eq_true rfl, xw_rU (owner := "CrossingWords$Saying") (x := ⟨"CrossingWords$Saying", "to", "()I"⟩) hE (ct_X6_to v9) xD_CrossingWords_Saying_to___I (Or.inl (Or.inl rfl)) q560 q562 q581 q561 q102 q583 rfl ⟨Nat.le_of_ble_eq_true rfl, Nat.le_of_ble_eq_true rfl⟩ (congrArg va_rf hq) rfl (by decide) dX4_maySay_77⟩, (fun _ h => absurd h List.not_mem_nil)⟩)⟩)⟩)⟩)⟩)⟩)⟩)⟩))) rfl (fun v8 => ?_)
          refine x_iload_n 81 hE dX4_maySay_80 rfl 2 rfl ?_
          refine x_icmp_ne 88 84 hE dX4_maySay_81 (by decide) rfl ?_ ?_
          · refine x_iconst 85 hE dX4_maySay_84 rfl xc_i_1 ?_
            refine x_goto 89 hE dX4_maySay_85 (by decide) ?_
            exact x_zretw hE (by decide) dX4_maySay_89
          · refine x_iconst 89 hE dX4_maySay_88 rfl xc_i_0 ?_
            exact x_zretw hE (by decide) dX4_maySay_89
  · refine x_if_eq 15 7 hE dX4_maySay_4 (by decide) rfl ?_ ?_
    · refine x_iconst 16 hE dX4_maySay_15 rfl xc_i_1 ?_
      refine x_goto 20 hE dX4_maySay_16 (by decide) ?_
      refine x_sub [(1, .int v2), (2, .int v3), (3, va_rf v4)] [1, 2, 3] rfl ?_
      exact hJ1 1
    · refine x_aload_n 8 hE dX4_maySay_7 rfl 3 rfl ?_
      refine x_calli 11 (xw_goD hE (fun v15 hq => (List.forall_mem_cons.mpr ⟨⟨Nat.le_of_ble_eq_true rfl, xw_rU (owner := "CrossingWords$Saying") (x := ⟨"CrossingWords$Saying", "kind", "()I"⟩) hE (ct_X7_kind v15) xD_CrossingWords_Saying_kind___I (Or.inr xkd_CrossingWords_Sayingkind_) q533 q535 q536 q537 q103 q538 rfl ⟨Nat.le_of_ble_eq_true rfl, Nat.le_of_ble_eq_true rfl⟩ (congrArg va_rf hq) rfl (by decide) dX4_maySay_8⟩, (List.forall_mem_cons.mpr ⟨⟨Nat.le_of_ble_eq_true rfl, xw_rU (owner := "CrossingWords$Saying") (x := ⟨"CrossingWords$Saying", "kind", "()I"⟩) hE (ct_X8_kind v15) xD_CrossingWords_Saying_kind___I (Or.inr xkd_CrossingWords_Sayingkind_) q533 q535 q551 q552 q104 q553 rfl ⟨Nat.le_of_ble_eq_true rfl, Nat.le_of_ble_eq_true rfl⟩ (congrArg va_rf hq) rfl (by decide) dX4_maySay_8⟩, (List.forall_mem_cons.mpr ⟨⟨Nat.le_of_ble_eq_true rfl, xw_rU (owner := "CrossingWords$Saying") (x := ⟨"CrossingWords$Saying", "kind", "()I"⟩) hE (ct_X10_kind v15) xD_CrossingWords_Saying_kind___I (Or.inr xkd_CrossingWords_Sayingkind_) q533 q535 q557 q558 q106 q559 rfl ⟨Nat.le_of_ble_eq_true rfl, Nat.le_of_ble_eq_true rfl⟩ (congrArg va_rf hq) rfl (by decide) dX4_maySay_8⟩, (List.forall_mem_cons.mpr ⟨⟨Nat.le_of_ble_eq_true rfl, xw_rU (owner := "CrossingWords$Saying") (x := ⟨"CrossingWords$Saying", "kind", "()I"⟩) hE (ct_X11_kind v15) xD_CrossingWords_Saying_kind___I (Or.inr xkd_CrossingWords_Sayingkind_) q533 q535 q542 q543 q107 q544 rfl ⟨Nat.le_of_ble_eq_true rfl, Nat.le_of_ble_eq_true rfl⟩ (congrArg va_rf hq) rfl (by decide) dX4_maySay_8⟩, (List.forall_mem_cons.mpr ⟨⟨Nat.le_of_ble_eq_true rfl, xw_rU (owner := "CrossingWords$Saying") (x := ⟨"CrossingWords$Saying", "kind", "()I"⟩) hE (ct_X12_kind v15) xD_CrossingWords_Saying_kind___I (Or.inr xkd_CrossingWords_Sayingkind_) q533 q535 q548 q549 q108 q550 rfl ⟨Nat.le_of_ble_eq_true rfl, Nat.le_of_ble_eq_true rfl⟩ (congrArg va_rf hq) rfl (by decide) dX4_maySay_8⟩, (List.forall_mem_cons.mpr ⟨⟨Nat.le_of_ble_eq_true rfl, xw_rU (owner := "CrossingWords$Saying") (x := ⟨"CrossingWords$Saying", "kind", "()I"⟩) hE (ct_X13_kind v15) xD_CrossingWords_Saying_kind___I (Or.inr xkd_CrossingWords_Sayingkind_) q533 q535 q539 q540 q109 q541 rfl ⟨Nat.le_of_ble_eq_true rfl, Nat.le_of_ble_eq_true rfl⟩ (congrArg va_rf hq) rfl (by decide) dX4_maySay_8⟩, (List.forall_mem_cons.mpr ⟨⟨Nat.le_of_ble_eq_true rfl, xw_rU (owner := "CrossingWords$Saying") (x := ⟨"CrossingWords$Saying", "kind", "()I"⟩) hE (ct_X14_kind v15) xD_CrossingWords_Saying_kind___I (Or.inr xkd_CrossingWords_Sayingkind_) q533 q535 q545 q546 q110 q547 rfl ⟨Nat.le_of_ble_eq_true rfl, Nat.le_of_ble_eq_true rfl⟩ (congrArg va_rf hq) rfl (by decide) dX4_maySay_8⟩, (List.forall_mem_cons.mpr ⟨⟨Nat.le_of_ble_eq_true rfl, xw_rU (owner := "CrossingWords$Saying") (x := ⟨"CrossingWords$Saying", "kind", "()I"⟩) hE (ct_X15_kind v15) xD_CrossingWords_Saying_kind___I (Or.inr xkd_CrossingWords_Sayingkind_) q533 q535 q554 q555 q111 q556 rfl ⟨Nat.le_of_ble_eq_true rfl, Nat.le_of_ble_eq_true rfl⟩ (congrArg va_rf hq) rfl (by decide) dX4_maySay_8⟩, (fun _ h => absurd h List.not_mem_nil)⟩)⟩)⟩)⟩)⟩)⟩)⟩)⟩))) rfl (fun v14 => ?_)
      refine x_iconst 12 hE dX4_maySay_11 rfl xc_i_3 ?_
      refine x_icmp_ne 19 15 hE dX4_maySay_12 (by decide) rfl ?_ ?_
      · refine x_iconst 16 hE dX4_maySay_15 rfl xc_i_1 ?_
        refine x_goto 20 hE dX4_maySay_16 (by decide) ?_
        refine x_sub [(1, .int v2), (2, .int v3), (3, va_rf v4)] [1, 2, 3] rfl ?_
        exact hJ1 1
      · refine x_iconst 20 hE dX4_maySay_19 rfl xc_i_0 ?_
        refine x_sub [(1, .int v2), (2, .int v3), (3, va_rf v4)] [1, 2, 3] rfl ?_
        exact hJ1 0

set_option maxHeartbeats 4000000 in
theorem ct_X4_said {l : Launch} {G : xw_G} {μ : xw_Mu} (v1 : Nat) (v2 : Int32) (v3 : Int32) : xw_Ct l G (xw_hc G μ) xw_or yX4_said cX4_said 4 (some (.object "CrossingWords$Saying")) 4 [va_rf (some v1), .int v2, .int v3] (pg_X4_said v1 v2 v3) := by
  refine xw_metL [(0, va_rf (some v1)), (1, .int v2), (2, .int v3)] (by decide) (Nat.le_trans (Nat.le_of_eq ((xw_l1 rfl).trans (congrArg (1 + ·) ((xw_l1 rfl).trans (congrArg (1 + ·) ((xw_l1 rfl).trans (congrArg (1 + ·) xw_l0))))))) (by decide)) ((xw_a1 rfl).trans (congrArg (List.cons _) ((xw_a1 rfl).trans (congrArg (List.cons _) ((xw_a1 rfl).trans (congrArg (List.cons _) xw_a0)))))) (fun E hE hl hG hm => ?_)
  subst hl; subst hG
  have hE : xw_ok E "CrossingWords$CaseReader" cX4_said 4 (some (.object "CrossingWords$Saying")) 4 := hE
  unfold pg_X4_said
  refine x_aload_n 1 hE dX4_said_0 rfl 0 rfl ?_
  refine x_gI 4 hE (xw_lkS hE xkf_CrossingWords_CaseReader_62 xks_CrossingWords_CaseReader_62) rfl dX4_said_1 rfl (fun v4 => ?_)
  refine x_jn 58 (fun (v5 : Unit) => [(0, va_rf (some v1))]) (fun (v5 : Unit) => []) (fun v5 => ?_) (fun J1 hJ1 => ?_)
  · refine x_aload_n 59 hE dX4_said_58 rfl 0 rfl ?_
    refine x_iconst 60 hE dX4_said_59 rfl xc_i_1 ?_
    refine x_pZ 63 hE (xw_pkN (xw_lkS hE xkf_CrossingWords_CaseReader_62 xks_CrossingWords_CaseReader_62) rfl) ⟨rfl, rfl⟩ dX4_said_60 rfl ?_
    refine x_null 64 hE dX4_said_63 rfl ?_
    exact x_aret hE rfl dX4_said_64
  · refine x_if_ne 58 7 hE dX4_said_4 (by decide) rfl ?_ ?_
    · refine x_aload_n 8 hE dX4_said_7 rfl 0 rfl ?_
      refine x_gI 11 hE (xw_lkS hE xkf_CrossingWords_CaseReader_114 xks_CrossingWords_CaseReader_114) rfl dX4_said_8 rfl (fun v6 => ?_)
      refine x_iconst 12 hE dX4_said_11 rfl xc_i_2 ?_
      refine x_icmp_ne 58 15 hE dX4_said_12 (by decide) rfl ?_ ?_
      · refine x_aload_n 16 hE dX4_said_15 rfl 0 rfl ?_
        refine x_gJ 19 hE (xw_lkS hE xkf_CrossingWords_CaseReader_117 xks_CrossingWords_CaseReader_117) rfl dX4_said_16 rfl (fun v7 => ?_)
        refine x_l2i 20 hE dX4_said_19 rfl ?_
        refine x_iconst 21 hE dX4_said_20 rfl xc_i_0 ?_
        refine x_aload_n 22 hE dX4_said_21 rfl 0 rfl ?_
        refine x_gR 25 hE (xw_lk0 hE xkf_CrossingWords_CaseReader_14) rfl dX4_said_22 rfl (fun v8 => ?_)
        refine x_gI 28 hE (xw_lk0 hE xkf_CrossingWords_CaseReader_28) rfl dX4_said_25 rfl (fun v9 => ?_)
        refine x_iconst 29 hE dX4_said_28 rfl xc_i_1 ?_
        refine x_isub 30 hE dX4_said_29 rfl ?_
        refine x_calli 33 (xw_goSN hE (ct_X0_isIn ((v7 : Int64).toInt32) 0 (v9 - 1)) xd_X0_isIn xkm_CrossingWords_CaseReader_142 q245 q95 q246 rfl ⟨Nat.le_of_ble_eq_true rfl, Nat.le_of_ble_eq_true rfl⟩ rfl (by decide) dX4_said_30) rfl (fun v10 => ?_)
        refine x_if_eq 58 36 hE dX4_said_33 (by decide) rfl ?_ ?_
        · refine x_sub [(0, va_rf (some v1))] [0] rfl ?_
          exact hJ1 ()
        · refine x_aload_n 37 hE dX4_said_36 rfl 0 rfl ?_
          refine x_iload_n 38 hE dX4_said_37 rfl 1 rfl ?_
          refine x_iload_n 39 hE dX4_said_38 rfl 2 rfl ?_
          refine x_aload_n 40 hE dX4_said_39 rfl 0 rfl ?_
          refine x_gR 43 hE (xw_lk0 hE xkf_CrossingWords_CaseReader_14) rfl dX4_said_40 rfl (fun v11 => ?_)
          refine x_gR 46 hE (xw_lk0 hE xkf_CrossingWords_CaseReader_146) rfl dX4_said_43 rfl (fun v12 => ?_)
          refine x_aload_n 47 hE dX4_said_46 rfl 0 rfl ?_
          refine x_gJ 50 hE (xw_lkS hE xkf_CrossingWords_CaseReader_117 xks_CrossingWords_CaseReader_117) rfl dX4_said_47 rfl (fun v13 => ?_)
          refine x_l2i 51 hE dX4_said_50 rfl ?_
          refine x_ldR 52 hE dX4_said_51 rfl (fun v14 => ?_)
          refine x_calli 55 (xw_goV hE (c := 3) (by decide) (fun v16 hq => xw_rV hE (ct_X4_maySay v16 v2 v3 v14) xd_X4_maySay rfl q529 q531 qs7 q99 q532 rfl ⟨Nat.le_of_ble_eq_true rfl, Nat.le_of_ble_eq_true rfl⟩ (congrArg va_rf hq) rfl (by decide) dX4_said_52)) rfl (fun v15 => ?_)
          refine x_if_ne 65 58 hE dX4_said_55 (by decide) rfl ?_ ?_
          · refine x_sub [(0, va_rf (some v1))] [0] rfl ?_
            exact hJ1 ()
          · refine x_aload_n 66 hE dX4_said_65 rfl 0 rfl ?_
            refine x_gR 69 hE (xw_lk0 hE xkf_CrossingWords_CaseReader_14) rfl dX4_said_66 rfl (fun v17 => ?_)
            refine x_gR 72 hE (xw_lk0 hE xkf_CrossingWords_CaseReader_146) rfl dX4_said_69 rfl (fun v18 => ?_)
            refine x_aload_n 73 hE dX4_said_72 rfl 0 rfl ?_
            refine x_gJ 76 hE (xw_lkS hE xkf_CrossingWords_CaseReader_117 xks_CrossingWords_CaseReader_117) rfl dX4_said_73 rfl (fun v19 => ?_)
            refine x_l2i 77 hE dX4_said_76 rfl ?_
            refine x_ldR 78 hE dX4_said_77 rfl (fun v20 => ?_)
            refine x_astore_n 79 [(3, va_rf v20), (0, va_rf (some v1)), (1, .int v2), (2, .int v3)] hE dX4_said_78 rfl rfl (Nat.le_of_ble_eq_true rfl) rfl ?_
            refine x_aload_n 80 hE dX4_said_79 rfl 1 rfl ?_
            refine x_callv 83 (xw_goV hE (c := 3) (by decide) (fun v21 hq => xw_rU (owner := "CrossingWords$Reader") (x := ⟨"CrossingWords$CaseReader", "pass", "()V"⟩) hE (ct_X3_pass v21) xD_CrossingWords_Reader_pass___V (Or.inl (Or.inl rfl)) q432 q433 q435 q413 q98 q417 rfl ⟨Nat.le_of_ble_eq_true rfl, Nat.le_of_ble_eq_true rfl⟩ (congrArg va_rf hq) rfl (by decide) dX4_said_80)) rfl ?_
            refine x_aload_n 84 hE dX4_said_83 rfl 0 rfl ?_
            exact x_aret hE rfl dX4_said_84
      · refine x_sub [(0, va_rf (some v1))] [0] rfl ?_
        exact hJ1 ()
    · refine x_sub [(0, va_rf (some v1))] [0] rfl ?_
      exact hJ1 ()

set_option maxHeartbeats 4000000 in
theorem ct_X14_init {l : Launch} {G : xw_G} {μ : xw_Mu} (v1 : Nat) (v2 : Int32) (v3 : Int32) (v4 : Option Nat) : xw_Ct l G (xw_hc G μ) xw_ov yX14_init cX14_init 4 none 4 [va_rf (some v1), .int v2, .int v3, va_rf v4] (pg_X14_init v1 v2 v3 v4) := by
  refine xw_metL [(0, va_rf (some v1)), (1, .int v2), (2, .int v3), (3, va_rf v4)] (by decide) (Nat.le_trans (Nat.le_of_eq ((xw_l1 rfl).trans (congrArg (1 + ·) ((xw_l1 rfl).trans (congrArg (1 + ·) ((xw_l1 rfl).trans (congrArg (1 + ·) ((xw_l1 (x_rfc _)).trans (congrArg (1 + ·) xw_l0))))))))) (by decide)) ((xw_a1 rfl).trans (congrArg (List.cons _) ((xw_a1 rfl).trans (congrArg (List.cons _) ((xw_a1 rfl).trans (congrArg (List.cons _) ((xw_a1 (x_rfc _)).trans (congrArg (List.cons _) xw_a0)))))))) (fun E hE hl hG hm => ?_)
  subst hl; subst hG
  have hE : xw_ok E "CrossingWords$Deed" cX14_init 4 none 4 := hE
  unfold pg_X14_init
  refine x_aload_n 1 hE dX14_init_0 rfl 0 rfl ?_
  refine x_iload_n 2 hE dX14_init_1 rfl 1 rfl ?_
  refine x_iload_n 3 hE dX14_init_2 rfl 2 rfl ?_
  refine x_aload_n 4 hE dX14_init_3 rfl 3 rfl ?_
  refine x_callv 7 (xw_goI hE (b := v1) (ct_X10_init v1 v2 v3 v4) xd_X10_init q647 q596 q106 q597 rfl rfl ⟨Nat.le_of_ble_eq_true rfl, Nat.le_of_ble_eq_true rfl⟩ rfl (by decide) dX14_init_4) rfl ?_
  exact x_vret hE dX14_init_7

set_option maxHeartbeats 4000000 in
theorem ct_X12_init {l : Launch} {G : xw_G} {μ : xw_Mu} (v1 : Nat) (v2 : Int32) (v3 : Int32) (v4 : Option Nat) : xw_Ct l G (xw_hc G μ) xw_ov yX12_init cX12_init 4 none 3 [va_rf (some v1), .int v2, .int v3, va_rf v4] (pg_X12_init v1 v2 v3 v4) := by
  refine xw_metL [(0, va_rf (some v1)), (1, .int v2), (2, .int v3), (3, va_rf v4)] (by decide) (Nat.le_trans (Nat.le_of_eq ((xw_l1 rfl).trans (congrArg (1 + ·) ((xw_l1 rfl).trans (congrArg (1 + ·) ((xw_l1 rfl).trans (congrArg (1 + ·) ((xw_l1 (x_rfc _)).trans (congrArg (1 + ·) xw_l0))))))))) (by decide)) ((xw_a1 rfl).trans (congrArg (List.cons _) ((xw_a1 rfl).trans (congrArg (List.cons _) ((xw_a1 rfl).trans (congrArg (List.cons _) ((xw_a1 (x_rfc _)).trans (congrArg (List.cons _) xw_a0)))))))) (fun E hE hl hG hm => ?_)
  subst hl; subst hG
  have hE : xw_ok E "CrossingWords$No" cX12_init 4 none 3 := hE
  unfold pg_X12_init
  refine x_aload_n 1 hE dX12_init_0 rfl 0 rfl ?_
  refine x_iload_n 2 hE dX12_init_1 rfl 1 rfl ?_
  refine x_iload_n 3 hE dX12_init_2 rfl 2 rfl ?_
  refine x_aload_n 4 hE dX12_init_3 rfl 3 rfl ?_
  refine x_callv 7 (xw_goI hE (b := v1) (ct_X9_init v1 v2 v3 v4) xd_X9_init q625 q599 q105 q600 rfl rfl ⟨Nat.le_of_ble_eq_true rfl, Nat.le_of_ble_eq_true rfl⟩ rfl (by decide) dX12_init_4) rfl ?_
  exact x_vret hE dX12_init_7

set_option maxHeartbeats 4000000 in
theorem ct_X3_takes {l : Launch} {G : xw_G} {μ : xw_Mu} (v1 : Nat) (v2 : Int64) : xw_Ct l G (xw_hc G μ) xw_oi yX3_takes cX3_takes 3 (some (.boolean)) 4 [va_rf (some v1), .long v2] (pg_X3_takes v1 v2) := by
  refine xw_metL [(0, va_rf (some v1)), (1, .long v2)] (by decide) (Nat.le_trans (Nat.le_of_eq ((xw_l1 rfl).trans (congrArg (1 + ·) (xw_l2.trans (congrArg (2 + ·) xw_l0))))) (by decide)) ((xw_a1 rfl).trans (congrArg (List.cons _) (xw_a2.trans (congrArg (List.cons _) xw_a0)))) (fun E hE hl hG hm => ?_)
  subst hl; subst hG
  have hE : xw_ok E "CrossingWords$Reader" cX3_takes 3 (some (.boolean)) 4 := hE
  unfold pg_X3_takes
  refine x_aload_n 1 hE dX3_takes_0 rfl 0 rfl ?_
  refine x_gI 4 hE (xw_lk0 hE xkf_CrossingWords_Reader_48) rfl dX3_takes_1 rfl (fun v3 => ?_)
  refine x_if_ne 24 7 hE dX3_takes_4 (by decide) rfl ?_ ?_
  · refine x_aload_n 8 hE dX3_takes_7 rfl 0 rfl ?_
    refine x_gI 11 hE (xw_lk0 hE xkf_CrossingWords_Reader_32) rfl dX3_takes_8 rfl (fun v4 => ?_)
    refine x_iconst 12 hE dX3_takes_11 rfl xc_i_1 ?_
    refine x_icmp_ne 24 15 hE dX3_takes_12 (by decide) rfl ?_ ?_
    · refine x_aload_n 16 hE dX3_takes_15 rfl 0 rfl ?_
      refine x_gJ 19 hE (xw_lk0 hE xkf_CrossingWords_Reader_28) rfl dX3_takes_16 rfl (fun v5 => ?_)
      refine x_lload_n 20 hE dX3_takes_19 rfl 1 rfl ?_
      refine x_lcmp 21 hE dX3_takes_20 rfl ?_
      refine x_if_eq 26 24 hE dX3_takes_21 (by decide) rfl ?_ ?_
      · refine x_aload_n 27 hE dX3_takes_26 rfl 0 rfl ?_
        refine x_callv 30 (xw_goD hE (fun v6 hq => (List.forall_mem_cons.mpr ⟨⟨Nat.le_of_ble_eq_true rfl, xw_rU (owner := "CrossingWords$Reader") (x := ⟨"CrossingWords$Reader", "pass", "()V"⟩) hE (ct_X3_pass v6) xD_CrossingWords_Reader_pass___V (Or.inl (Or.inl rfl)) q412 q414 q415 q413 q98 q417 rfl ⟨Nat.le_of_ble_eq_true rfl, Nat.le_of_ble_eq_true rfl⟩ (congrArg va_rf hq) rfl (by decide) dX3_takes_27⟩, (List.forall_mem_cons.mpr ⟨⟨Nat.le_of_ble_eq_true rfl, xw_rU (owner := "CrossingWords$Reader") (x := ⟨"CrossingWords$Reader", "pass", "()V"⟩) hE (ct_X3_pass v6) xD_CrossingWords_Reader_pass___V (Or.inl (Or.inl rfl)) q412 q414 q416 q413 q98 q417 rfl ⟨Nat.le_of_ble_eq_true rfl, Nat.le_of_ble_eq_true rfl⟩ (congrArg va_rf hq) rfl (by decide) dX3_takes_27⟩, (fun _ h => absurd h List.not_mem_nil)⟩)⟩))) rfl ?_
        refine x_iconst 31 hE dX3_takes_30 rfl xc_i_1 ?_
        exact x_zretw hE (by decide) dX3_takes_31
      · refine x_iconst 25 hE dX3_takes_24 rfl xc_i_0 ?_
        exact x_zretw hE (by decide) dX3_takes_25
    · refine x_iconst 25 hE dX3_takes_24 rfl xc_i_0 ?_
      exact x_zretw hE (by decide) dX3_takes_25
  · refine x_iconst 25 hE dX3_takes_24 rfl xc_i_0 ?_
    exact x_zretw hE (by decide) dX3_takes_25

set_option maxHeartbeats 4000000 in
theorem ct_X15_init {l : Launch} {G : xw_G} {μ : xw_Mu} (v1 : Nat) (v2 : Int32) (v3 : Int32) (v4 : Option Nat) : xw_Ct l G (xw_hc G μ) xw_ov yX15_init cX15_init 4 none 3 [va_rf (some v1), .int v2, .int v3, va_rf v4] (pg_X15_init v1 v2 v3 v4) := by
  refine xw_metL [(0, va_rf (some v1)), (1, .int v2), (2, .int v3), (3, va_rf v4)] (by decide) (Nat.le_trans (Nat.le_of_eq ((xw_l1 rfl).trans (congrArg (1 + ·) ((xw_l1 rfl).trans (congrArg (1 + ·) ((xw_l1 rfl).trans (congrArg (1 + ·) ((xw_l1 (x_rfc _)).trans (congrArg (1 + ·) xw_l0))))))))) (by decide)) ((xw_a1 rfl).trans (congrArg (List.cons _) ((xw_a1 rfl).trans (congrArg (List.cons _) ((xw_a1 rfl).trans (congrArg (List.cons _) ((xw_a1 (x_rfc _)).trans (congrArg (List.cons _) xw_a0)))))))) (fun E hE hl hG hm => ?_)
  subst hl; subst hG
  have hE : xw_ok E "CrossingWords$Send" cX15_init 4 none 3 := hE
  unfold pg_X15_init
  refine x_aload_n 1 hE dX15_init_0 rfl 0 rfl ?_
  refine x_iload_n 2 hE dX15_init_1 rfl 1 rfl ?_
  refine x_iload_n 3 hE dX15_init_2 rfl 2 rfl ?_
  refine x_aload_n 4 hE dX15_init_3 rfl 3 rfl ?_
  refine x_callv 7 (xw_goI hE (b := v1) (ct_X9_init v1 v2 v3 v4) xd_X9_init q658 q599 q105 q600 rfl rfl ⟨Nat.le_of_ble_eq_true rfl, Nat.le_of_ble_eq_true rfl⟩ rfl (by decide) dX15_init_4) rfl ?_
  exact x_vret hE dX15_init_7

set_option maxHeartbeats 4000000 in
theorem ct_X4_answers {l : Launch} {G : xw_G} {μ : xw_Mu} (v1 : Nat) (v2 : Int32) (v3 : Int32) : xw_Ct l G (xw_hc G μ) xw_or yX4_answers cX4_answers 5 (some (.object "CrossingWords$Saying")) 7 [va_rf (some v1), .int v2, .int v3] (pg_X4_answers v1 v2 v3) := by
  refine xw_metL [(0, va_rf (some v1)), (1, .int v2), (2, .int v3)] (by decide) (Nat.le_trans (Nat.le_of_eq ((xw_l1 rfl).trans (congrArg (1 + ·) ((xw_l1 rfl).trans (congrArg (1 + ·) ((xw_l1 rfl).trans (congrArg (1 + ·) xw_l0))))))) (by decide)) ((xw_a1 rfl).trans (congrArg (List.cons _) ((xw_a1 rfl).trans (congrArg (List.cons _) ((xw_a1 rfl).trans (congrArg (List.cons _) xw_a0)))))) (fun E hE hl hG hm => ?_)
  subst hl; subst hG
  have hE : xw_ok E "CrossingWords$CaseReader" cX4_answers 5 (some (.object "CrossingWords$Saying")) 7 := hE
  unfold pg_X4_answers
  refine x_aload_n 1 hE dX4_answers_0 rfl 0 rfl ?_
  refine x_iload_n 2 hE dX4_answers_1 rfl 1 rfl ?_
  refine x_iload_n 3 hE dX4_answers_2 rfl 2 rfl ?_
  refine x_callr 6 (xw_goV hE (c := 3) (by decide) (fun v5 hq => xw_rV hE (ct_X4_said v5 v2 v3) xd_X4_said rfl q524 q526 qs6 q99 q527 rfl ⟨Nat.le_of_ble_eq_true rfl, Nat.le_of_ble_eq_true rfl⟩ (congrArg va_rf hq) rfl (by decide) dX4_answers_3)) rfl (fun v4 => ?_)
  refine x_astore_n 7 [(3, va_rf v4), (0, va_rf (some v1)), (1, .int v2), (2, .int v3)] hE dX4_answers_6 rfl rfl (Nat.le_of_ble_eq_true rfl) rfl ?_
  refine x_aload_n 8 hE dX4_answers_7 rfl 1 rfl ?_
  refine x_gR 11 hE (xw_lk0 hE xkf_CrossingWords_CaseReader_14) rfl dX4_answers_8 rfl (fun v6 => ?_)
  refine x_gI 14 hE (xw_lk0 hE xkf_CrossingWords_CaseReader_28) rfl dX4_answers_11 rfl (fun v7 => ?_)
  refine x_istore 16 [(4, .int v7), (3, va_rf v4), (0, va_rf (some v1)), (1, .int v2), (2, .int v3)] hE dX4_answers_14 rfl (Nat.le_of_ble_eq_true rfl) (congrArg (List.cons _) (xw_f1 (by decide) (x_rfc _) (xw_f1 (by decide) rfl (xw_f1 (by decide) rfl (xw_f1 (by decide) rfl xw_f0))))) ?_
  refine x_iload_n 17 hE dX4_answers_16 rfl 3 rfl ?_
  refine x_sw (fun hs1 => ?_) (fun hs1 => ?_)
  · refine x_swIn 52 hE dX4_answers_17 hs1 ⟨by decide, by decide, rfl⟩ (by decide) ?_
    refine x_aload_n 53 hE dX4_answers_52 rfl 2 rfl ?_
    refine x_gsl (n := "BUT_WORD") 56 hE xll_BUT_WORD xkg_CrossingWords_CaseReader_157 dX4_answers_53 rfl ?_
    refine x_calli 59 (xw_goV hE (c := 3) (by decide) (fun v9 hq => xw_rU (owner := "CrossingWords$Reader") (x := ⟨"CrossingWords$CaseReader", "takes", "(J)Z"⟩) hE (ct_X3_takes v9 6452596) xD_CrossingWords_Reader_takes__J_Z (Or.inl (Or.inl rfl)) q512 q513 q515 q516 q98 q517 rfl ⟨Nat.le_of_ble_eq_true rfl, Nat.le_of_ble_eq_true rfl⟩ (congrArg va_rf hq) rfl (by decide) dX4_answers_56)) rfl (fun v8 => ?_)
    refine x_if_eq 73 62 hE dX4_answers_59 (by decide) rfl ?_ ?_
    · refine x_new (c := 7) 76 hE (by decide) q612 q613 q106 dX4_answers_73 rfl (fun v10 => ?_)
      refine x_dup 77 hE dX4_answers_76 rfl rfl ?_
      refine x_iload 79 hE dX4_answers_77 rfl 0 rfl ?_
      refine x_iload_n 80 hE dX4_answers_79 rfl 4 rfl ?_
      refine x_aload_n 81 hE dX4_answers_80 rfl 1 rfl ?_
      refine x_callv 84 (xw_goI hE (b := v10) (ct_X10_init v10 v7 v3 v4) xd_X10_init q614 q596 q106 q597 rfl rfl ⟨Nat.le_of_ble_eq_true rfl, Nat.le_of_ble_eq_true rfl⟩ rfl (Nat.le_trans (xw_sm1 rfl xw_sm0) (by decide)) dX4_answers_81) rfl ?_
      exact x_aret hE rfl dX4_answers_84
    · refine x_aload_n 63 hE dX4_answers_62 rfl 2 rfl ?_
      refine x_iload 65 hE dX4_answers_63 rfl 0 rfl ?_
      refine x_iload_n 66 hE dX4_answers_65 rfl 4 rfl ?_
      refine x_aload_n 67 hE dX4_answers_66 rfl 1 rfl ?_
      refine x_callr 70 (xw_goV hE (c := 3) (by decide) (fun v12 hq => xw_rV hE (ct_X4_but v12 v7 v3 v4) xd_X4_but rfl q586 q588 qs8 q99 q589 rfl ⟨Nat.le_of_ble_eq_true rfl, Nat.le_of_ble_eq_true rfl⟩ (congrArg va_rf hq) rfl (by decide) dX4_answers_67)) rfl (fun v11 => ?_)
      refine x_goto 84 hE dX4_answers_70 (by decide) ?_
      exact x_aret hE rfl dX4_answers_84
  · refine x_sw (fun hs2 => ?_) (fun hs2 => ?_)
    · refine x_swIn 121 hE dX4_answers_17 hs2 ⟨by decide, by decide, rfl⟩ (by decide) ?_
      refine x_new (c := 12) 124 hE (by decide) q653 q654 q111 dX4_answers_121 rfl (fun v13 => ?_)
      refine x_dup 125 hE dX4_answers_124 rfl rfl ?_
      refine x_iload 127 hE dX4_answers_125 rfl 0 rfl ?_
      refine x_iload_n 128 hE dX4_answers_127 rfl 4 rfl ?_
      refine x_aload_n 129 hE dX4_answers_128 rfl 1 rfl ?_
      refine x_callv 132 (xw_goI hE (b := v13) (ct_X15_init v13 v7 v3 v4) xd_X15_init q655 q656 q111 q657 rfl rfl ⟨Nat.le_of_ble_eq_true rfl, Nat.le_of_ble_eq_true rfl⟩ rfl (Nat.le_trans (xw_sm1 rfl xw_sm0) (by decide)) dX4_answers_129) rfl ?_
      exact x_aret hE rfl dX4_answers_132
    · refine x_sw (fun hs3 => ?_) (fun hs3 => ?_)
      · refine x_swIn 85 hE dX4_answers_17 hs3 ⟨by decide, by decide, rfl⟩ (by decide) ?_
        refine x_new (c := 9) 88 hE (by decide) q620 q621 q108 dX4_answers_85 rfl (fun v14 => ?_)
        refine x_dup 89 hE dX4_answers_88 rfl rfl ?_
        refine x_iload 91 hE dX4_answers_89 rfl 0 rfl ?_
        refine x_iload_n 92 hE dX4_answers_91 rfl 4 rfl ?_
        refine x_aload_n 93 hE dX4_answers_92 rfl 1 rfl ?_
        refine x_callv 96 (xw_goI hE (b := v14) (ct_X12_init v14 v7 v3 v4) xd_X12_init q622 q623 q108 q624 rfl rfl ⟨Nat.le_of_ble_eq_true rfl, Nat.le_of_ble_eq_true rfl⟩ rfl (Nat.le_trans (xw_sm1 rfl xw_sm0) (by decide)) dX4_answers_93) rfl ?_
        exact x_aret hE rfl dX4_answers_96
      · refine x_sw (fun hs4 => ?_) (fun hs4 => ?_)
        · refine x_swIn 97 hE dX4_answers_17 hs4 ⟨by decide, by decide, rfl⟩ (by decide) ?_
          refine x_new (c := 10) 100 hE (by decide) q631 q632 q109 dX4_answers_97 rfl (fun v15 => ?_)
          refine x_dup 101 hE dX4_answers_100 rfl rfl ?_
          refine x_iload 103 hE dX4_answers_101 rfl 0 rfl ?_
          refine x_iload_n 104 hE dX4_answers_103 rfl 4 rfl ?_
          refine x_aload_n 105 hE dX4_answers_104 rfl 1 rfl ?_
          refine x_callv 108 (xw_goI hE (b := v15) (ct_X13_init v15 v7 v3 v4) xd_X13_init q633 q634 q109 q635 rfl rfl ⟨Nat.le_of_ble_eq_true rfl, Nat.le_of_ble_eq_true rfl⟩ rfl (Nat.le_trans (xw_sm1 rfl xw_sm0) (by decide)) dX4_answers_105) rfl ?_
          exact x_aret hE rfl dX4_answers_108
        · refine x_sw (fun hs5 => ?_) (fun hs5 => ?_)
          · refine x_swIn 109 hE dX4_answers_17 hs5 ⟨by decide, by decide, rfl⟩ (by decide) ?_
            refine x_new (c := 11) 112 hE (by decide) q642 q643 q110 dX4_answers_109 rfl (fun v16 => ?_)
            refine x_dup 113 hE dX4_answers_112 rfl rfl ?_
            refine x_iload 115 hE dX4_answers_113 rfl 0 rfl ?_
            refine x_iload_n 116 hE dX4_answers_115 rfl 4 rfl ?_
            refine x_aload_n 117 hE dX4_answers_116 rfl 1 rfl ?_
            refine x_callv 120 (xw_goI hE (b := v16) (ct_X14_init v16 v7 v3 v4) xd_X14_init q644 q645 q110 q646 rfl rfl ⟨Nat.le_of_ble_eq_true rfl, Nat.le_of_ble_eq_true rfl⟩ rfl (Nat.le_trans (xw_sm1 rfl xw_sm0) (by decide)) dX4_answers_117) rfl ?_
            exact x_aret hE rfl dX4_answers_120
          · refine x_swOut 121 hE dX4_answers_17 (xw_out2_6 hs1 hs2 hs3 hs4 hs5) (by decide) ?_
            refine x_new (c := 12) 124 hE (by decide) q653 q654 q111 dX4_answers_121 rfl (fun v17 => ?_)
            refine x_dup 125 hE dX4_answers_124 rfl rfl ?_
            refine x_iload 127 hE dX4_answers_125 rfl 0 rfl ?_
            refine x_iload_n 128 hE dX4_answers_127 rfl 4 rfl ?_
            refine x_aload_n 129 hE dX4_answers_128 rfl 1 rfl ?_
            refine x_callv 132 (xw_goI hE (b := v17) (ct_X15_init v17 v7 v3 v4) xd_X15_init q655 q656 q111 q657 rfl rfl ⟨Nat.le_of_ble_eq_true rfl, Nat.le_of_ble_eq_true rfl⟩ rfl (Nat.le_trans (xw_sm1 rfl xw_sm0) (by decide)) dX4_answers_129) rfl ?_
            exact x_aret hE rfl dX4_answers_132

set_option maxHeartbeats 4000000 in
theorem ct_X7_init {l : Launch} {G : xw_G} {μ : xw_Mu} (v1 : Nat) (v2 : Int32) (v3 : Int32) (v4 : Int32) : xw_Ct l G (xw_hc G μ) xw_ov yX7_init cX7_init 4 none 2 [va_rf (some v1), .int v2, .int v3, .int v4] (pg_X7_init v1 v2 v3 v4) := by
  refine xw_metL [(0, va_rf (some v1)), (1, .int v2), (2, .int v3), (3, .int v4)] (by decide) (Nat.le_trans (Nat.le_of_eq ((xw_l1 rfl).trans (congrArg (1 + ·) ((xw_l1 rfl).trans (congrArg (1 + ·) ((xw_l1 rfl).trans (congrArg (1 + ·) ((xw_l1 rfl).trans (congrArg (1 + ·) xw_l0))))))))) (by decide)) ((xw_a1 rfl).trans (congrArg (List.cons _) ((xw_a1 rfl).trans (congrArg (List.cons _) ((xw_a1 rfl).trans (congrArg (List.cons _) ((xw_a1 rfl).trans (congrArg (List.cons _) xw_a0)))))))) (fun E hE hl hG hm => ?_)
  subst hl; subst hG
  have hE : xw_ok E "CrossingWords$Ask" cX7_init 4 none 2 := hE
  have hm : (xe_M E).name = "<init>" := hm
  unfold pg_X7_init
  refine x_aload_n 1 hE dX7_init_0 rfl 0 rfl ?_
  refine x_iload_n 2 hE dX7_init_1 rfl 1 rfl ?_
  refine x_iload_n 3 hE dX7_init_2 rfl 2 rfl ?_
  refine x_callv 6 (xw_goI hE (b := v1) (ct_X6_init v1 v2 v3) xd_X6_init q441 q442 q102 q443 rfl rfl ⟨Nat.le_of_ble_eq_true rfl, Nat.le_of_ble_eq_true rfl⟩ rfl (by decide) dX7_init_3) rfl ?_
  refine x_aload_n 7 hE dX7_init_6 rfl 0 rfl ?_
  refine x_iload_n 8 hE dX7_init_7 rfl 3 rfl ?_
  refine x_pI 11 hE (xw_pkF hE hm xkf_CrossingWords_Ask_9 rfl rfl) ⟨rfl, rfl⟩ dX7_init_8 rfl ?_
  exact x_vret hE dX7_init_11

set_option maxHeartbeats 4000000 in
theorem ct_X4_kindOfHand {l : Launch} {G : xw_G} {μ : xw_Mu} (v1 : Nat) (v2 : Int32) : xw_Ct l G (xw_hc G μ) xw_oi yX4_kindOfHand cX4_kindOfHand 3 (some (.int)) 4 [va_rf (some v1), .int v2] (pg_X4_kindOfHand v1 v2) := by
  refine xw_metL [(0, va_rf (some v1)), (1, .int v2)] (by decide) (Nat.le_trans (Nat.le_of_eq ((xw_l1 rfl).trans (congrArg (1 + ·) ((xw_l1 rfl).trans (congrArg (1 + ·) xw_l0))))) (by decide)) ((xw_a1 rfl).trans (congrArg (List.cons _) ((xw_a1 rfl).trans (congrArg (List.cons _) xw_a0)))) (fun E hE hl hG hm => ?_)
  subst hl; subst hG
  have hE : xw_ok E "CrossingWords$CaseReader" cX4_kindOfHand 3 (some (.int)) 4 := hE
  unfold pg_X4_kindOfHand
  refine x_aload_n 1 hE dX4_kindOfHand_0 rfl 0 rfl ?_
  refine x_gI 4 hE (xw_lkS hE xkf_CrossingWords_CaseReader_62 xks_CrossingWords_CaseReader_62) rfl dX4_kindOfHand_1 rfl (fun v3 => ?_)
  refine x_sq 29 (fun (v4 : Int32) => [(0, va_rf (some v1)), (1, .int v2)]) (fun (v4 : Int32) => [.int v4]) (fun v4 => ?_) (fun J1 hJ1 => ?_)
  · refine x_istore_n 30 [(2, .int v4), (0, va_rf (some v1)), (1, .int v2)] hE dX4_kindOfHand_29 rfl rfl (Nat.le_of_ble_eq_true rfl) rfl ?_
    refine x_iload_n 31 hE dX4_kindOfHand_30 rfl 0 rfl ?_
    refine x_iconst 32 hE dX4_kindOfHand_31 rfl xc_i_m1 ?_
    refine x_jn 40 (fun (v5 : Unit) => [(0, va_rf (some v1))]) (fun (v5 : Unit) => []) (fun v5 => ?_) (fun J2 hJ2 => ?_)
    · refine x_aload_n 41 hE dX4_kindOfHand_40 rfl 0 rfl ?_
      refine x_iconst 42 hE dX4_kindOfHand_41 rfl xc_i_1 ?_
      refine x_pZ 45 hE (xw_pkN (xw_lkS hE xkf_CrossingWords_CaseReader_62 xks_CrossingWords_CaseReader_62) rfl) ⟨rfl, rfl⟩ dX4_kindOfHand_42 rfl ?_
      refine x_iconst 46 hE dX4_kindOfHand_45 rfl xc_i_0 ?_
      exact x_iret hE dX4_kindOfHand_46
    · refine x_icmp_eq 40 35 hE dX4_kindOfHand_32 (by decide) rfl ?_ ?_
      · refine x_sub [(0, va_rf (some v1))] [1] rfl ?_
        exact hJ2 ()
      · refine x_iload_n 36 hE dX4_kindOfHand_35 rfl 0 rfl ?_
        refine x_iload_n 37 hE dX4_kindOfHand_36 rfl 2 rfl ?_
        refine x_icmp_ne 47 40 hE dX4_kindOfHand_37 (by decide) rfl ?_ ?_
        · refine x_sub [(0, va_rf (some v1))] [1] rfl ?_
          exact hJ2 ()
        · refine x_aload_n 48 hE dX4_kindOfHand_47 rfl 1 rfl ?_
          refine x_callv 51 (xw_goV hE (c := 3) (by decide) (fun v6 hq => xw_rU (owner := "CrossingWords$Reader") (x := ⟨"CrossingWords$CaseReader", "pass", "()V"⟩) hE (ct_X3_pass v6) xD_CrossingWords_Reader_pass___V (Or.inl (Or.inl rfl)) q432 q433 q435 q413 q98 q417 rfl ⟨Nat.le_of_ble_eq_true rfl, Nat.le_of_ble_eq_true rfl⟩ (congrArg va_rf hq) rfl (by decide) dX4_kindOfHand_48)) rfl ?_
          refine x_iload_n 52 hE dX4_kindOfHand_51 rfl 0 rfl ?_
          exact x_iret hE dX4_kindOfHand_52
  · refine x_if_ne 28 7 hE dX4_kindOfHand_4 (by decide) rfl ?_ ?_
    · refine x_aload_n 8 hE dX4_kindOfHand_7 rfl 0 rfl ?_
      refine x_gI 11 hE (xw_lkS hE xkf_CrossingWords_CaseReader_114 xks_CrossingWords_CaseReader_114) rfl dX4_kindOfHand_8 rfl (fun v7 => ?_)
      refine x_iconst 12 hE dX4_kindOfHand_11 rfl xc_i_1 ?_
      refine x_icmp_ne 28 15 hE dX4_kindOfHand_12 (by decide) rfl ?_ ?_
      · refine x_gs (j := 1) (n := "HAND_NAMES") (d := "[J") 18 hE xsl_1 xkg_CrossingWords_CaseReader_42 dX4_kindOfHand_15 rfl (fun v8 => ?_)
        refine x_aload_n 19 hE dX4_kindOfHand_18 rfl 0 rfl ?_
        refine x_gJ 22 hE (xw_lkS hE xkf_CrossingWords_CaseReader_117 xks_CrossingWords_CaseReader_117) rfl dX4_kindOfHand_19 rfl (fun v9 => ?_)
        refine x_calli 25 (xw_goSN hE (ct_X0_find v8 v9) xd_X0_find xkm_CrossingWords_CaseReader_120 q410 q95 q411 rfl ⟨Nat.le_of_ble_eq_true rfl, Nat.le_of_ble_eq_true rfl⟩ rfl (by decide) dX4_kindOfHand_22) rfl (fun v10 => ?_)
        refine x_goto 29 hE dX4_kindOfHand_25 (by decide) ?_
        refine x_sub [(0, va_rf (some v1)), (1, .int v2)] [0, 1] rfl ?_
        exact hJ1 v10
      · refine x_iconst 29 hE dX4_kindOfHand_28 rfl xc_i_m1 ?_
        refine x_sub [(0, va_rf (some v1)), (1, .int v2)] [0, 1] rfl ?_
        exact hJ1 (-1)
    · refine x_iconst 29 hE dX4_kindOfHand_28 rfl xc_i_m1 ?_
      refine x_sub [(0, va_rf (some v1)), (1, .int v2)] [0, 1] rfl ?_
      exact hJ1 (-1)

set_option maxHeartbeats 4000000 in
theorem ct_X8_init {l : Launch} {G : xw_G} {μ : xw_Mu} (v1 : Nat) (v2 : Int32) (v3 : Int32) (v4 : Int32) (v5 : Option Nat) : xw_Ct l G (xw_hc G μ) xw_ov yX8_init cX8_init 5 none 2 [va_rf (some v1), .int v2, .int v3, .int v4, va_rf v5] (pg_X8_init v1 v2 v3 v4 v5) := by
  refine xw_metL [(0, va_rf (some v1)), (1, .int v2), (2, .int v3), (3, .int v4), (4, va_rf v5)] (by decide) (Nat.le_trans (Nat.le_of_eq ((xw_l1 rfl).trans (congrArg (1 + ·) ((xw_l1 rfl).trans (congrArg (1 + ·) ((xw_l1 rfl).trans (congrArg (1 + ·) ((xw_l1 rfl).trans (congrArg (1 + ·) ((xw_l1 (x_rfc _)).trans (congrArg (1 + ·) xw_l0))))))))))) (by decide)) ((xw_a1 rfl).trans (congrArg (List.cons _) ((xw_a1 rfl).trans (congrArg (List.cons _) ((xw_a1 rfl).trans (congrArg (List.cons _) ((xw_a1 rfl).trans (congrArg (List.cons _) ((xw_a1 (x_rfc _)).trans (congrArg (List.cons _) xw_a0)))))))))) (fun E hE hl hG hm => ?_)
  subst hl; subst hG
  have hE : xw_ok E "CrossingWords$Offer" cX8_init 5 none 2 := hE
  have hm : (xe_M E).name = "<init>" := hm
  unfold pg_X8_init
  refine x_aload_n 1 hE dX8_init_0 rfl 0 rfl ?_
  refine x_iload_n 2 hE dX8_init_1 rfl 1 rfl ?_
  refine x_iload_n 3 hE dX8_init_2 rfl 2 rfl ?_
  refine x_callv 6 (xw_goI hE (b := v1) (ct_X6_init v1 v2 v3) xd_X6_init q491 q442 q102 q443 rfl rfl ⟨Nat.le_of_ble_eq_true rfl, Nat.le_of_ble_eq_true rfl⟩ rfl (by decide) dX8_init_3) rfl ?_
  refine x_aload_n 7 hE dX8_init_6 rfl 0 rfl ?_
  refine x_iconst 8 hE dX8_init_7 rfl xc_i_m1 ?_
  refine x_pI 11 hE (xw_pkN (xw_lk0 hE xkf_CrossingWords_Offer_9) rfl) ⟨rfl, rfl⟩ dX8_init_8 rfl ?_
  refine x_aload_n 12 hE dX8_init_11 rfl 0 rfl ?_
  refine x_iconst 13 hE dX8_init_12 rfl xc_i_m1 ?_
  refine x_pI 16 hE (xw_pkN (xw_lk0 hE xkf_CrossingWords_Offer_15) rfl) ⟨rfl, rfl⟩ dX8_init_13 rfl ?_
  refine x_aload_n 17 hE dX8_init_16 rfl 0 rfl ?_
  refine x_iload_n 18 hE dX8_init_17 rfl 3 rfl ?_
  refine x_pI 21 hE (xw_pkF hE hm xkf_CrossingWords_Offer_18 rfl rfl) ⟨rfl, rfl⟩ dX8_init_18 rfl ?_
  refine x_aload_n 22 hE dX8_init_21 rfl 0 rfl ?_
  refine x_aload 24 hE dX8_init_22 rfl 4 rfl ?_
  refine x_pR 27 hE (xw_pkF hE hm xkf_CrossingWords_Offer_21 rfl rfl) ⟨rfl, rfl⟩ dX8_init_24 rfl ?_
  exact x_vret hE dX8_init_27

set_option maxHeartbeats 4000000 in
theorem ct_X4_opens {l : Launch} {G : xw_G} {μ : xw_Mu} (v1 : Nat) (v2 : Int32) (v3 : Int32) : xw_Ct l G (xw_hc G μ) xw_or yX4_opens cX4_opens 5 (some (.object "CrossingWords$Saying")) 6 [va_rf (some v1), .int v2, .int v3] (pg_X4_opens v1 v2 v3) := by
  refine xw_metL [(0, va_rf (some v1)), (1, .int v2), (2, .int v3)] (by decide) (Nat.le_trans (Nat.le_of_eq ((xw_l1 rfl).trans (congrArg (1 + ·) ((xw_l1 rfl).trans (congrArg (1 + ·) ((xw_l1 rfl).trans (congrArg (1 + ·) xw_l0))))))) (by decide)) ((xw_a1 rfl).trans (congrArg (List.cons _) ((xw_a1 rfl).trans (congrArg (List.cons _) ((xw_a1 rfl).trans (congrArg (List.cons _) xw_a0)))))) (fun E hE hl hG hm => ?_)
  subst hl; subst hG
  have hE : xw_ok E "CrossingWords$CaseReader" cX4_opens 5 (some (.object "CrossingWords$Saying")) 6 := hE
  unfold pg_X4_opens
  refine x_aload_n 1 hE dX4_opens_0 rfl 0 rfl ?_
  refine x_iload_n 2 hE dX4_opens_1 rfl 2 rfl ?_
  refine x_calli 5 (xw_goV hE (c := 3) (by decide) (fun v5 hq => xw_rV hE (ct_X4_kindOfHand v5 v3) xd_X4_kindOfHand rfl q427 q429 qs3 q99 q430 rfl ⟨Nat.le_of_ble_eq_true rfl, Nat.le_of_ble_eq_true rfl⟩ (congrArg va_rf hq) rfl (by decide) dX4_opens_2)) rfl (fun v4 => ?_)
  refine x_istore_n 6 [(3, .int v4), (0, va_rf (some v1)), (1, .int v2), (2, .int v3)] hE dX4_opens_5 rfl rfl (Nat.le_of_ble_eq_true rfl) rfl ?_
  refine x_iload_n 7 hE dX4_opens_6 rfl 2 rfl ?_
  refine x_iconst 8 hE dX4_opens_7 rfl xc_i_1 ?_
  refine x_icmp_ne 28 11 hE dX4_opens_8 (by decide) rfl ?_ ?_
  · refine x_new (c := 5) 14 hE (by decide) q436 q437 q103 dX4_opens_11 rfl (fun v21 => ?_)
    refine x_dup 15 hE dX4_opens_14 rfl rfl ?_
    refine x_aload_n 16 hE dX4_opens_15 rfl 1 rfl ?_
    refine x_gR 19 hE (xw_lk0 hE xkf_CrossingWords_CaseReader_14) rfl dX4_opens_16 rfl (fun v22 => ?_)
    refine x_gI 22 hE (xw_lk0 hE xkf_CrossingWords_CaseReader_28) rfl dX4_opens_19 rfl (fun v23 => ?_)
    refine x_iload_n 23 hE dX4_opens_22 rfl 3 rfl ?_
    refine x_iload_n 24 hE dX4_opens_23 rfl 0 rfl ?_
    refine x_callv 27 (xw_goI hE (b := v21) (ct_X7_init v21 v23 v3 v4) xd_X7_init q438 q439 q103 q440 rfl rfl ⟨Nat.le_of_ble_eq_true rfl, Nat.le_of_ble_eq_true rfl⟩ rfl (Nat.le_trans (xw_sm1 rfl xw_sm0) (by decide)) dX4_opens_24) rfl ?_
    exact x_aret hE rfl dX4_opens_27
  · refine x_new (c := 6) 31 hE (by decide) q469 q470 q104 dX4_opens_28 rfl (fun v6 => ?_)
    refine x_dup 32 hE dX4_opens_31 rfl rfl ?_
    refine x_aload_n 33 hE dX4_opens_32 rfl 1 rfl ?_
    refine x_gR 36 hE (xw_lk0 hE xkf_CrossingWords_CaseReader_14) rfl dX4_opens_33 rfl (fun v7 => ?_)
    refine x_gI 39 hE (xw_lk0 hE xkf_CrossingWords_CaseReader_28) rfl dX4_opens_36 rfl (fun v8 => ?_)
    refine x_iload_n 40 hE dX4_opens_39 rfl 3 rfl ?_
    refine x_iload_n 41 hE dX4_opens_40 rfl 0 rfl ?_
    refine x_aload_n 42 hE dX4_opens_41 rfl 1 rfl ?_
    refine x_callr 45 (xw_goV hE (c := 3) (by decide) (fun v10 hq => xw_rV hE (ct_X4_terms v10) xd_X4_terms rfl q471 q473 qs4 q99 q474 rfl ⟨Nat.le_of_ble_eq_true rfl, Nat.le_of_ble_eq_true rfl⟩ (congrArg va_rf hq) rfl (Nat.le_trans (xw_sm1 rfl (xw_sm1 rfl (xw_sm1 rfl (xw_sm1 rfl (xw_sm1 rfl xw_sm0))))) (by decide)) dX4_opens_42)) rfl (fun v9 => ?_)
    refine x_callv 48 (xw_goI hE (b := v6) (ct_X8_init v6 v8 v3 v4 v9) xd_X8_init q488 q489 q104 q490 rfl rfl ⟨Nat.le_of_ble_eq_true rfl, Nat.le_of_ble_eq_true rfl⟩ rfl (Nat.le_trans (xw_sm1 rfl xw_sm0) (by decide)) dX4_opens_45) rfl ?_
    refine x_astore 50 [(4, va_rf (some v6)), (3, .int v4), (0, va_rf (some v1)), (1, .int v2), (2, .int v3)] hE dX4_opens_48 rfl (Nat.le_of_ble_eq_true rfl) rfl ?_
    refine x_aload_n 51 hE dX4_opens_50 rfl 2 rfl ?_
    refine x_gsl (n := "HOLD") 54 hE xll_HOLD xkg_CrossingWords_CaseReader_93 dX4_opens_51 rfl ?_
    refine x_calli 57 (xw_goV hE (c := 3) (by decide) (fun v12 hq => xw_rU (owner := "CrossingWords$Reader") (x := ⟨"CrossingWords$CaseReader", "takes", "(J)Z"⟩) hE (ct_X3_takes v12 1752132708) xD_CrossingWords_Reader_takes__J_Z (Or.inl (Or.inl rfl)) q512 q513 q515 q516 q98 q517 rfl ⟨Nat.le_of_ble_eq_true rfl, Nat.le_of_ble_eq_true rfl⟩ (congrArg va_rf hq) rfl (by decide) dX4_opens_54)) rfl (fun v11 => ?_)
    refine x_sq 73 (fun (v13 : Unit) => [(0, va_rf (some v1)), (4, va_rf (some v6))]) (fun (v13 : Unit) => []) (fun v13 => ?_) (fun J1 hJ1 => ?_)
    · refine x_aload_n 74 hE dX4_opens_73 rfl 0 rfl ?_
      refine x_gsl (n := "GIVEN") 77 hE xll_GIVEN xkg_CrossingWords_CaseReader_108 dX4_opens_74 rfl ?_
      refine x_calli 80 (xw_goV hE (c := 3) (by decide) (fun v15 hq => xw_rU (owner := "CrossingWords$Reader") (x := ⟨"CrossingWords$CaseReader", "takes", "(J)Z"⟩) hE (ct_X3_takes v15 444150998382) xD_CrossingWords_Reader_takes__J_Z (Or.inl (Or.inl rfl)) q512 q513 q515 q516 q98 q517 rfl ⟨Nat.le_of_ble_eq_true rfl, Nat.le_of_ble_eq_true rfl⟩ (congrArg va_rf hq) rfl (by decide) dX4_opens_77)) rfl (fun v14 => ?_)
      refine x_if_eq 99 83 hE dX4_opens_80 (by decide) rfl ?_ ?_
      · refine x_aload 101 hE dX4_opens_99 rfl 1 rfl ?_
        exact x_aret hE rfl dX4_opens_101
      · refine x_aload 85 hE dX4_opens_83 rfl 1 rfl ?_
        refine x_aload_n 86 hE dX4_opens_85 rfl 0 rfl ?_
        refine x_iconst 87 hE dX4_opens_86 rfl xc_i_0 ?_
        refine x_aload_n 88 hE dX4_opens_87 rfl 0 rfl ?_
        refine x_gI 91 hE (xw_lk0 hE xkf_CrossingWords_CaseReader_20) rfl dX4_opens_88 rfl (fun v16 => ?_)
        refine x_iconst 92 hE dX4_opens_91 rfl xc_i_1 ?_
        refine x_isub 93 hE dX4_opens_92 rfl ?_
        refine x_calli 96 (xw_goV hE (c := 3) (by decide) (fun v18 hq => xw_rU (owner := "CrossingWords$Reader") (x := ⟨"CrossingWords$CaseReader", "number", "(II)I"⟩) hE (ct_X3_number v18 0 (v16 - 1)) xD_CrossingWords_Reader_number__II_I (Or.inl (Or.inl rfl)) q481 q482 q484 q485 q98 q486 rfl ⟨Nat.le_of_ble_eq_true rfl, Nat.le_of_ble_eq_true rfl⟩ (congrArg va_rf hq) rfl (Nat.le_trans (xw_sm1 rfl xw_sm0) (by decide)) dX4_opens_93)) rfl (fun v17 => ?_)
        refine x_pI 99 hE (xw_pkN (xw_lk0 hE xkf_CrossingWords_CaseReader_111) rfl) ⟨rfl, rfl⟩ dX4_opens_96 rfl ?_
        refine x_aload 101 hE dX4_opens_99 rfl 1 rfl ?_
        exact x_aret hE rfl dX4_opens_101
    · refine x_if_eq 73 60 hE dX4_opens_57 (by decide) rfl ?_ ?_
      · refine x_sub [(0, va_rf (some v1)), (4, va_rf (some v6))] [2, 0] rfl ?_
        exact hJ1 ()
      · refine x_aload 62 hE dX4_opens_60 rfl 0 rfl ?_
        refine x_aload_n 63 hE dX4_opens_62 rfl 2 rfl ?_
        refine x_iconst 64 hE dX4_opens_63 rfl xc_i_0 ?_
        refine x_sipush 67 hE dX4_opens_64 rfl xc_s_1999 ?_
        refine x_calli 70 (xw_goV hE (c := 3) (by decide) (fun v20 hq => xw_rU (owner := "CrossingWords$Reader") (x := ⟨"CrossingWords$CaseReader", "number", "(II)I"⟩) hE (ct_X3_number v20 0 1999) xD_CrossingWords_Reader_number__II_I (Or.inl (Or.inl rfl)) q481 q482 q484 q485 q98 q486 rfl ⟨Nat.le_of_ble_eq_true rfl, Nat.le_of_ble_eq_true rfl⟩ (congrArg va_rf hq) rfl (Nat.le_trans (xw_sm1 rfl xw_sm0) (by decide)) dX4_opens_67)) rfl (fun v19 => ?_)
        refine x_pI 73 hE (xw_pkN (xw_lk0 hE xkf_CrossingWords_CaseReader_105) rfl) ⟨rfl, rfl⟩ dX4_opens_70 rfl ?_
        refine x_sub [(0, va_rf (some v1)), (4, va_rf (some v6))] [2, 0] rfl ?_
        exact hJ1 ()

set_option maxHeartbeats 4000000 in
theorem ct_X16_init {l : Launch} {G : xw_G} {μ : xw_Mu} (v1 : Nat) (v2 : Int32) (v3 : Int32) : xw_Ct l G (xw_hc G μ) xw_ov yX16_init cX16_init 3 none 1 [va_rf (some v1), .int v2, .int v3] (pg_X16_init v1 v2 v3) := by
  refine xw_metL [(0, va_rf (some v1)), (1, .int v2), (2, .int v3)] (by decide) (Nat.le_trans (Nat.le_of_eq ((xw_l1 rfl).trans (congrArg (1 + ·) ((xw_l1 rfl).trans (congrArg (1 + ·) ((xw_l1 rfl).trans (congrArg (1 + ·) xw_l0))))))) (by decide)) ((xw_a1 rfl).trans (congrArg (List.cons _) ((xw_a1 rfl).trans (congrArg (List.cons _) ((xw_a1 rfl).trans (congrArg (List.cons _) xw_a0)))))) (fun E hE hl hG hm => ?_)
  subst hl; subst hG
  have hE : xw_ok E "CrossingWords$Span" cX16_init 3 none 1 := hE
  have hm : (xe_M E).name = "<init>" := hm
  unfold pg_X16_init
  refine x_aload_n 1 hE dX16_init_0 rfl 0 rfl ?_
  refine x_objInit 4 hE q692 q126 q127 (by decide) dX16_init_1 rfl rfl ?_
  refine x_aload_n 5 hE dX16_init_4 rfl 0 rfl ?_
  refine x_iload_n 6 hE dX16_init_5 rfl 1 rfl ?_
  refine x_pI 9 hE (xw_pkF hE hm xkf_CrossingWords_Span_7 rfl rfl) ⟨rfl, rfl⟩ dX16_init_6 rfl ?_
  refine x_aload_n 10 hE dX16_init_9 rfl 0 rfl ?_
  refine x_iload_n 11 hE dX16_init_10 rfl 2 rfl ?_
  refine x_pI 14 hE (xw_pkF hE hm xkf_CrossingWords_Span_13 rfl rfl) ⟨rfl, rfl⟩ dX16_init_11 rfl ?_
  exact x_vret hE dX16_init_14

set_option maxHeartbeats 4000000 in
theorem ct_X4_span {l : Launch} {G : xw_G} {μ : xw_Mu} (v1 : Nat) (v2 : Int32) : xw_Ct l G (xw_hc G μ) xw_or yX4_span cX4_span 3 (some (.object "CrossingWords$Span")) 5 [va_rf (some v1), .int v2] (pg_X4_span v1 v2) := by
  refine xw_metL [(0, va_rf (some v1)), (1, .int v2)] (by decide) (Nat.le_trans (Nat.le_of_eq ((xw_l1 rfl).trans (congrArg (1 + ·) ((xw_l1 rfl).trans (congrArg (1 + ·) xw_l0))))) (by decide)) ((xw_a1 rfl).trans (congrArg (List.cons _) ((xw_a1 rfl).trans (congrArg (List.cons _) xw_a0)))) (fun E hE hl hG hm => ?_)
  subst hl; subst hG
  have hE : xw_ok E "CrossingWords$CaseReader" cX4_span 3 (some (.object "CrossingWords$Span")) 5 := hE
  unfold pg_X4_span
  refine x_aload_n 1 hE dX4_span_0 rfl 0 rfl ?_
  refine x_iconst 2 hE dX4_span_1 rfl xc_i_0 ?_
  refine x_iload_n 3 hE dX4_span_2 rfl 1 rfl ?_
  refine x_calli 6 (xw_goV hE (c := 3) (by decide) (fun v4 hq => xw_rU (owner := "CrossingWords$Reader") (x := ⟨"CrossingWords$CaseReader", "number", "(II)I"⟩) hE (ct_X3_number v4 0 v2) xD_CrossingWords_Reader_number__II_I (Or.inl (Or.inl rfl)) q481 q482 q484 q485 q98 q486 rfl ⟨Nat.le_of_ble_eq_true rfl, Nat.le_of_ble_eq_true rfl⟩ (congrArg va_rf hq) rfl (by decide) dX4_span_3)) rfl (fun v3 => ?_)
  refine x_istore_n 7 [(2, .int v3), (0, va_rf (some v1)), (1, .int v2)] hE dX4_span_6 rfl rfl (Nat.le_of_ble_eq_true rfl) rfl ?_
  refine x_new (c := 13) 10 hE (by decide) q682 q683 q112 dX4_span_7 rfl (fun v5 => ?_)
  refine x_dup 11 hE dX4_span_10 rfl rfl ?_
  refine x_iload_n 12 hE dX4_span_11 rfl 0 rfl ?_
  refine x_aload_n 13 hE dX4_span_12 rfl 1 rfl ?_
  refine x_gsl (n := "TO") 16 hE xll_TO xkg_CrossingWords_CaseReader_188 dX4_span_13 rfl ?_
  refine x_calli 19 (xw_goV hE (c := 3) (by decide) (fun v7 hq => xw_rU (owner := "CrossingWords$Reader") (x := ⟨"CrossingWords$CaseReader", "takes", "(J)Z"⟩) hE (ct_X3_takes v7 29807) xD_CrossingWords_Reader_takes__J_Z (Or.inl (Or.inl rfl)) q512 q513 q515 q516 q98 q517 rfl ⟨Nat.le_of_ble_eq_true rfl, Nat.le_of_ble_eq_true rfl⟩ (congrArg va_rf hq) rfl (Nat.le_trans (xw_sm1 rfl (xw_sm1 rfl (xw_sm1 rfl xw_sm0))) (by decide)) dX4_span_16)) rfl (fun v6 => ?_)
  refine x_sq 39 (fun (v8 : Int32) => []) (fun (v8 : Int32) => [.int v8, .int v3, va_rf (some v5), va_rf (some v5)]) (fun v8 => ?_) (fun J1 hJ1 => ?_)
  · refine x_callv 42 (xw_goI hE (b := v5) (ct_X16_init v5 v3 v8) xd_X16_init q689 q690 q112 q691 rfl rfl ⟨Nat.le_of_ble_eq_true rfl, Nat.le_of_ble_eq_true rfl⟩ rfl (Nat.le_trans (xw_sm1 rfl xw_sm0) (by decide)) dX4_span_39) rfl ?_
    exact x_aret hE rfl dX4_span_42
  · refine x_if_eq 38 22 hE dX4_span_19 (by decide) rfl ?_ ?_
    · refine x_iload_n 39 hE dX4_span_38 rfl 0 rfl ?_
      refine x_sub [] [] rfl ?_
      exact hJ1 v3
    · refine x_aload_n 23 hE dX4_span_22 rfl 1 rfl ?_
      refine x_iload_n 24 hE dX4_span_23 rfl 0 rfl ?_
      refine x_iload_n 25 hE dX4_span_24 rfl 2 rfl ?_
      refine x_iload_n 26 hE dX4_span_25 rfl 0 rfl ?_
      refine x_bipush 28 hE dX4_span_26 rfl xc_b_15 ?_
      refine x_iadd 29 hE dX4_span_28 rfl ?_
      refine x_mmin 32 hE q686 q687 q101 xm_mmin (by decide) (Nat.le_trans (xw_sm1 rfl (xw_sm1 rfl (xw_sm1 rfl (xw_sm1 rfl (xw_sm1 rfl xw_sm0))))) (by decide)) dX4_span_29 rfl ?_
      refine x_lti (fun v9 => ?_)
      refine x_calli 35 (xw_goV hE (c := 3) (by decide) (fun v11 hq => xw_rU (owner := "CrossingWords$Reader") (x := ⟨"CrossingWords$CaseReader", "number", "(II)I"⟩) hE (ct_X3_number v11 v3 v9) xD_CrossingWords_Reader_number__II_I (Or.inl (Or.inl rfl)) q481 q482 q484 q485 q98 q486 rfl ⟨Nat.le_of_ble_eq_true rfl, Nat.le_of_ble_eq_true rfl⟩ (congrArg va_rf hq) rfl (Nat.le_trans (xw_sm1 rfl (xw_sm1 rfl (xw_sm1 rfl xw_sm0))) (by decide)) dX4_span_32)) rfl (fun v10 => ?_)
      refine x_goto 39 hE dX4_span_35 (by decide) ?_
      refine x_sub [] [] rfl ?_
      exact hJ1 v10

set_option maxHeartbeats 4000000 in
theorem ct_X3_name {l : Launch} {G : xw_G} {μ : xw_Mu} (v1 : Nat) (v2 : Option Nat) : xw_Ct l G (xw_hc G μ) xw_oi yX3_name cX3_name 3 (some (.int)) 5 [va_rf (some v1), va_rf v2] (pg_X3_name v1 v2) := by
  refine xw_metL [(0, va_rf (some v1)), (1, va_rf v2)] (by decide) (Nat.le_trans (Nat.le_of_eq ((xw_l1 rfl).trans (congrArg (1 + ·) ((xw_l1 (x_rfc _)).trans (congrArg (1 + ·) xw_l0))))) (by decide)) ((xw_a1 rfl).trans (congrArg (List.cons _) ((xw_a1 (x_rfc _)).trans (congrArg (List.cons _) xw_a0)))) (fun E hE hl hG hm => ?_)
  subst hl; subst hG
  have hE : xw_ok E "CrossingWords$Reader" cX3_name 3 (some (.int)) 5 := hE
  unfold pg_X3_name
  refine x_aload_n 1 hE dX3_name_0 rfl 0 rfl ?_
  refine x_aload_n 2 hE dX3_name_1 rfl 1 rfl ?_
  refine x_calli 5 (xw_goD hE (fun v4 hq => (List.forall_mem_cons.mpr ⟨⟨Nat.le_of_ble_eq_true rfl, xw_rU (owner := "CrossingWords$Reader") (x := ⟨"CrossingWords$Reader", "maybe", "([J)I"⟩) hE (ct_X3_maybe v4 v2) xD_CrossingWords_Reader_maybe___J_I (Or.inl (Or.inl rfl)) q403 q405 q406 q404 q98 q408 rfl ⟨Nat.le_of_ble_eq_true rfl, Nat.le_of_ble_eq_true rfl⟩ (congrArg va_rf hq) rfl (by decide) dX3_name_2⟩, (List.forall_mem_cons.mpr ⟨⟨Nat.le_of_ble_eq_true rfl, xw_rU (owner := "CrossingWords$Reader") (x := ⟨"CrossingWords$Reader", "maybe", "([J)I"⟩) hE (ct_X3_maybe v4 v2) xD_CrossingWords_Reader_maybe___J_I (Or.inl (Or.inl rfl)) q403 q405 q407 q404 q98 q408 rfl ⟨Nat.le_of_ble_eq_true rfl, Nat.le_of_ble_eq_true rfl⟩ (congrArg va_rf hq) rfl (by decide) dX3_name_2⟩, (fun _ h => absurd h List.not_mem_nil)⟩)⟩))) rfl (fun v3 => ?_)
  refine x_istore_n 6 [(2, .int v3), (0, va_rf (some v1)), (1, va_rf v2)] hE dX3_name_5 rfl rfl (Nat.le_of_ble_eq_true rfl) (congrArg (List.cons _) (xw_f1 (by decide) rfl (xw_f1 (by decide) (x_rfc _) xw_f0))) ?_
  refine x_iload_n 7 hE dX3_name_6 rfl 0 rfl ?_
  refine x_iconst 8 hE dX3_name_7 rfl xc_i_m1 ?_
  refine x_sq 16 (fun (v5 : Unit) => [(2, .int v3)]) (fun (v5 : Unit) => []) (fun v5 => ?_) (fun J1 hJ1 => ?_)
  · refine x_iconst 17 hE dX3_name_16 rfl xc_i_0 ?_
    refine x_iload_n 18 hE dX3_name_17 rfl 0 rfl ?_
    refine x_mmax 21 hE q418 q419 q101 xm_mmax (by decide) (by decide) dX3_name_18 rfl ?_
    refine x_lti (fun v6 => ?_)
    exact x_iret hE dX3_name_21
  · refine x_icmp_ne 16 11 hE dX3_name_8 (by decide) rfl ?_ ?_
    · refine x_aload_n 12 hE dX3_name_11 rfl 1 rfl ?_
      refine x_iconst 13 hE dX3_name_12 rfl xc_i_1 ?_
      refine x_pZ 16 hE (xw_pkN (xw_lk0 hE xkf_CrossingWords_Reader_48) rfl) ⟨rfl, rfl⟩ dX3_name_13 rfl ?_
      refine x_sub [(2, .int v3)] [0] rfl ?_
      exact hJ1 ()
    · refine x_sub [(2, .int v3)] [0] rfl ?_
      exact hJ1 ()

set_option maxHeartbeats 4000000 in
theorem ct_X3_needs {l : Launch} {G : xw_G} {μ : xw_Mu} (v1 : Nat) (v2 : Int32) (v3 : Int64) : xw_Ct l G (xw_hc G μ) xw_ov yX3_needs cX3_needs 4 none 4 [va_rf (some v1), .int v2, .long v3] (pg_X3_needs v1 v2 v3) := by
  refine xw_metL [(0, va_rf (some v1)), (1, .int v2), (2, .long v3)] (by decide) (Nat.le_trans (Nat.le_of_eq ((xw_l1 rfl).trans (congrArg (1 + ·) ((xw_l1 rfl).trans (congrArg (1 + ·) (xw_l2.trans (congrArg (2 + ·) xw_l0))))))) (by decide)) ((xw_a1 rfl).trans (congrArg (List.cons _) ((xw_a1 rfl).trans (congrArg (List.cons _) (xw_a2.trans (congrArg (List.cons _) xw_a0)))))) (fun E hE hl hG hm => ?_)
  subst hl; subst hG
  have hE : xw_ok E "CrossingWords$Reader" cX3_needs 4 none 4 := hE
  unfold pg_X3_needs
  refine x_aload_n 1 hE dX3_needs_0 rfl 0 rfl ?_
  refine x_gI 4 hE (xw_lk0 hE xkf_CrossingWords_Reader_48) rfl dX3_needs_1 rfl (fun v4 => ?_)
  refine x_if_ne 24 7 hE dX3_needs_4 (by decide) rfl ?_ ?_
  · refine x_aload_n 8 hE dX3_needs_7 rfl 0 rfl ?_
    refine x_gI 11 hE (xw_lk0 hE xkf_CrossingWords_Reader_32) rfl dX3_needs_8 rfl (fun v5 => ?_)
    refine x_iload_n 12 hE dX3_needs_11 rfl 1 rfl ?_
    refine x_icmp_ne 24 15 hE dX3_needs_12 (by decide) rfl ?_ ?_
    · refine x_aload_n 16 hE dX3_needs_15 rfl 0 rfl ?_
      refine x_gJ 19 hE (xw_lk0 hE xkf_CrossingWords_Reader_28) rfl dX3_needs_16 rfl (fun v6 => ?_)
      refine x_lload_n 20 hE dX3_needs_19 rfl 2 rfl ?_
      refine x_lcmp 21 hE dX3_needs_20 rfl ?_
      refine x_if_eq 32 24 hE dX3_needs_21 (by decide) rfl ?_ ?_
      · refine x_aload_n 33 hE dX3_needs_32 rfl 0 rfl ?_
        refine x_callv 36 (xw_goD hE (fun v7 hq => (List.forall_mem_cons.mpr ⟨⟨Nat.le_of_ble_eq_true rfl, xw_rU (owner := "CrossingWords$Reader") (x := ⟨"CrossingWords$Reader", "pass", "()V"⟩) hE (ct_X3_pass v7) xD_CrossingWords_Reader_pass___V (Or.inl (Or.inl rfl)) q412 q414 q415 q413 q98 q417 rfl ⟨Nat.le_of_ble_eq_true rfl, Nat.le_of_ble_eq_true rfl⟩ (congrArg va_rf hq) rfl (by decide) dX3_needs_33⟩, (List.forall_mem_cons.mpr ⟨⟨Nat.le_of_ble_eq_true rfl, xw_rU (owner := "CrossingWords$Reader") (x := ⟨"CrossingWords$Reader", "pass", "()V"⟩) hE (ct_X3_pass v7) xD_CrossingWords_Reader_pass___V (Or.inl (Or.inl rfl)) q412 q414 q416 q413 q98 q417 rfl ⟨Nat.le_of_ble_eq_true rfl, Nat.le_of_ble_eq_true rfl⟩ (congrArg va_rf hq) rfl (by decide) dX3_needs_33⟩, (fun _ h => absurd h List.not_mem_nil)⟩)⟩))) rfl ?_
        exact x_vret hE dX3_needs_36
      · refine x_aload_n 25 hE dX3_needs_24 rfl 0 rfl ?_
        refine x_iconst 26 hE dX3_needs_25 rfl xc_i_1 ?_
        refine x_pZ 29 hE (xw_pkN (xw_lk0 hE xkf_CrossingWords_Reader_48) rfl) ⟨rfl, rfl⟩ dX3_needs_26 rfl ?_
        refine x_goto 36 hE dX3_needs_29 (by decide) ?_
        exact x_vret hE dX3_needs_36
    · refine x_aload_n 25 hE dX3_needs_24 rfl 0 rfl ?_
      refine x_iconst 26 hE dX3_needs_25 rfl xc_i_1 ?_
      refine x_pZ 29 hE (xw_pkN (xw_lk0 hE xkf_CrossingWords_Reader_48) rfl) ⟨rfl, rfl⟩ dX3_needs_26 rfl ?_
      refine x_goto 36 hE dX3_needs_29 (by decide) ?_
      exact x_vret hE dX3_needs_36
  · refine x_aload_n 25 hE dX3_needs_24 rfl 0 rfl ?_
    refine x_iconst 26 hE dX3_needs_25 rfl xc_i_1 ?_
    refine x_pZ 29 hE (xw_pkN (xw_lk0 hE xkf_CrossingWords_Reader_48) rfl) ⟨rfl, rfl⟩ dX3_needs_26 rfl ?_
    refine x_goto 36 hE dX3_needs_29 (by decide) ?_
    exact x_vret hE dX3_needs_36

set_option maxHeartbeats 4000000 in
theorem ct_X17_init {l : Launch} {G : xw_G} {μ : xw_Mu} (v1 : Nat) (v2 : Int32) (v3 : Option Nat) (v4 : Option Nat) (v5 : Option Nat) (v6 : Int32) (v7 : Int32) : xw_Ct l G (xw_hc G μ) xw_ov yX17_init cX17_init 7 none 1 [va_rf (some v1), .int v2, va_rf v3, va_rf v4, va_rf v5, .int v6, .int v7] (pg_X17_init v1 v2 v3 v4 v5 v6 v7) := by
  refine xw_metL [(0, va_rf (some v1)), (1, .int v2), (2, va_rf v3), (3, va_rf v4), (4, va_rf v5), (5, .int v6), (6, .int v7)] (by decide) (Nat.le_trans (Nat.le_of_eq ((xw_l1 rfl).trans (congrArg (1 + ·) ((xw_l1 rfl).trans (congrArg (1 + ·) ((xw_l1 (x_rfc _)).trans (congrArg (1 + ·) ((xw_l1 (x_rfc _)).trans (congrArg (1 + ·) ((xw_l1 (x_rfc _)).trans (congrArg (1 + ·) ((xw_l1 rfl).trans (congrArg (1 + ·) ((xw_l1 rfl).trans (congrArg (1 + ·) xw_l0))))))))))))))) (by decide)) ((xw_a1 rfl).trans (congrArg (List.cons _) ((xw_a1 rfl).trans (congrArg (List.cons _) ((xw_a1 (x_rfc _)).trans (congrArg (List.cons _) ((xw_a1 (x_rfc _)).trans (congrArg (List.cons _) ((xw_a1 (x_rfc _)).trans (congrArg (List.cons _) ((xw_a1 rfl).trans (congrArg (List.cons _) ((xw_a1 rfl).trans (congrArg (List.cons _) xw_a0)))))))))))))) (fun E hE hl hG hm => ?_)
  subst hl; subst hG
  have hE : xw_ok E "CrossingWords$Times" cX17_init 7 none 1 := hE
  have hm : (xe_M E).name = "<init>" := hm
  unfold pg_X17_init
  refine x_aload_n 1 hE dX17_init_0 rfl 0 rfl ?_
  refine x_objInit 4 hE q708 q126 q127 (by decide) dX17_init_1 rfl rfl ?_
  refine x_aload_n 5 hE dX17_init_4 rfl 0 rfl ?_
  refine x_iload_n 6 hE dX17_init_5 rfl 1 rfl ?_
  refine x_pI 9 hE (xw_pkF hE hm xkf_CrossingWords_Times_9 rfl rfl) ⟨rfl, rfl⟩ dX17_init_6 rfl ?_
  refine x_aload_n 10 hE dX17_init_9 rfl 0 rfl ?_
  refine x_aload_n 11 hE dX17_init_10 rfl 2 rfl ?_
  refine x_pR 14 hE (xw_pkF hE hm xkf_CrossingWords_Times_15 rfl rfl) ⟨rfl, rfl⟩ dX17_init_11 rfl ?_
  refine x_aload_n 15 hE dX17_init_14 rfl 0 rfl ?_
  refine x_aload_n 16 hE dX17_init_15 rfl 3 rfl ?_
  refine x_pR 19 hE (xw_pkF hE hm xkf_CrossingWords_Times_19 rfl rfl) ⟨rfl, rfl⟩ dX17_init_16 rfl ?_
  refine x_aload_n 20 hE dX17_init_19 rfl 0 rfl ?_
  refine x_aload 22 hE dX17_init_20 rfl 4 rfl ?_
  refine x_pR 25 hE (xw_pkF hE hm xkf_CrossingWords_Times_22 rfl rfl) ⟨rfl, rfl⟩ dX17_init_22 rfl ?_
  refine x_aload_n 26 hE dX17_init_25 rfl 0 rfl ?_
  refine x_iload 28 hE dX17_init_26 rfl 5 rfl ?_
  refine x_pZ 31 hE (xw_pkF hE hm xkf_CrossingWords_Times_25 rfl rfl) ⟨rfl, rfl⟩ dX17_init_28 rfl ?_
  refine x_aload_n 32 hE dX17_init_31 rfl 0 rfl ?_
  refine x_iload 34 hE dX17_init_32 rfl 6 rfl ?_
  refine x_pZ 37 hE (xw_pkF hE hm xkf_CrossingWords_Times_29 rfl rfl) ⟨rfl, rfl⟩ dX17_init_34 rfl ?_
  exact x_vret hE dX17_init_37

set_option maxHeartbeats 4000000 in
theorem ct_X4_times {l : Launch} {G : xw_G} {μ : xw_Mu} (v1 : Nat) : xw_Ct l G (xw_hc G μ) xw_or yX4_times cX4_times 5 (some (.object "CrossingWords$Times")) 6 [va_rf (some v1)] (pg_X4_times v1) := by
  refine xw_metL [(0, va_rf (some v1))] (by decide) (Nat.le_trans (Nat.le_of_eq ((xw_l1 rfl).trans (congrArg (1 + ·) xw_l0))) (by decide)) ((xw_a1 rfl).trans (congrArg (List.cons _) xw_a0)) (fun E hE hl hG hm => ?_)
  subst hl; subst hG
  have hE : xw_ok E "CrossingWords$CaseReader" cX4_times 5 (some (.object "CrossingWords$Times")) 6 := hE
  unfold pg_X4_times
  refine x_aload_n 1 hE dX4_times_0 rfl 0 rfl ?_
  refine x_gs (j := 3) (n := "WAYS") (d := "[J") 4 hE xsl_3 xkg_CrossingWords_CaseReader_199 dX4_times_1 rfl (fun v2 => ?_)
  refine x_calli 7 (xw_goV hE (c := 3) (by decide) (fun v4 hq => xw_rU (owner := "CrossingWords$Reader") (x := ⟨"CrossingWords$CaseReader", "name", "([J)I"⟩) hE (ct_X3_name v4 v2) xD_CrossingWords_Reader_name___J_I (Or.inl (Or.inl rfl)) q397 q398 q400 q401 q98 q402 rfl ⟨Nat.le_of_ble_eq_true rfl, Nat.le_of_ble_eq_true rfl⟩ (congrArg va_rf hq) rfl (by decide) dX4_times_4)) rfl (fun v3 => ?_)
  refine x_istore_n 8 [(1, .int v3), (0, va_rf (some v1))] hE dX4_times_7 rfl rfl (Nat.le_of_ble_eq_true rfl) rfl ?_
  refine x_aload_n 9 hE dX4_times_8 rfl 1 rfl ?_
  refine x_iconst 10 hE dX4_times_9 rfl xc_i_1 ?_
  refine x_gsl (n := "AT") 13 hE xll_AT xkg_CrossingWords_CaseReader_202 dX4_times_10 rfl ?_
  refine x_callv 16 (xw_goV hE (c := 3) (by decide) (fun v5 hq => xw_rU (owner := "CrossingWords$Reader") (x := ⟨"CrossingWords$CaseReader", "needs", "(IJ)V"⟩) hE (ct_X3_needs v5 1 24948) xD_CrossingWords_Reader_needs__IJ_V (Or.inl (Or.inl rfl)) q672 q673 q675 q676 q98 q677 rfl ⟨Nat.le_of_ble_eq_true rfl, Nat.le_of_ble_eq_true rfl⟩ (congrArg va_rf hq) rfl (by decide) dX4_times_13)) rfl ?_
  refine x_aload_n 17 hE dX4_times_16 rfl 1 rfl ?_
  refine x_sipush 20 hE dX4_times_17 rfl xc_s_1999 ?_
  refine x_callr 23 (xw_goV hE (c := 3) (by decide) (fun v7 hq => xw_rV hE (ct_X4_span v7 1999) xd_X4_span rfl q678 q680 qs10 q99 q681 rfl ⟨Nat.le_of_ble_eq_true rfl, Nat.le_of_ble_eq_true rfl⟩ (congrArg va_rf hq) rfl (by decide) dX4_times_20)) rfl (fun v6 => ?_)
  refine x_astore_n 24 [(2, va_rf v6), (1, .int v3), (0, va_rf (some v1))] hE dX4_times_23 rfl rfl (Nat.le_of_ble_eq_true rfl) rfl ?_
  refine x_iload_n 25 hE dX4_times_24 rfl 1 rfl ?_
  refine x_iconst 26 hE dX4_times_25 rfl xc_i_2 ?_
  refine x_jn 34 (fun (v8 : Unit) => [(1, .int v3), (2, va_rf v6)]) (fun (v8 : Unit) => []) (fun v8 => ?_) (fun J1 hJ1 => ?_)
  · refine x_new (c := 14) 37 hE (by decide) q701 q702 q113 dX4_times_34 rfl (fun v9 => ?_)
    refine x_dup 38 hE dX4_times_37 rfl rfl ?_
    refine x_iload_n 39 hE dX4_times_38 rfl 0 rfl ?_
    refine x_aload_n 40 hE dX4_times_39 rfl 1 rfl ?_
    refine x_gs (j := 12) (n := "AT_ONCE") (d := "LCrossingWords$Span;") 43 hE xsl_12 xkg_CrossingWords_CaseReader_211 dX4_times_40 rfl (fun v10 => ?_)
    refine x_gs (j := 12) (n := "AT_ONCE") (d := "LCrossingWords$Span;") 46 hE xsl_12 xkg_CrossingWords_CaseReader_211 dX4_times_43 rfl (fun v11 => ?_)
    refine x_iconst 47 hE dX4_times_46 rfl xc_i_0 ?_
    refine x_iconst 48 hE dX4_times_47 rfl xc_i_0 ?_
    refine x_callv 51 (xw_goI hE (b := v9) (ct_X17_init v9 v3 v6 v10 v11 0 0) xd_X17_init q705 q706 q113 q707 rfl rfl ⟨Nat.le_of_ble_eq_true rfl, Nat.le_of_ble_eq_true rfl⟩ rfl (Nat.le_trans (xw_sm1 rfl xw_sm0) (by decide)) dX4_times_48) rfl ?_
    exact x_aret hE rfl dX4_times_51
  · refine x_icmp_eq 34 29 hE dX4_times_26 (by decide) rfl ?_ ?_
    · refine x_sub [(1, .int v3), (2, va_rf v6)] [1, 0] rfl ?_
      exact hJ1 ()
    · refine x_iload_n 30 hE dX4_times_29 rfl 1 rfl ?_
      refine x_iconst 31 hE dX4_times_30 rfl xc_i_3 ?_
      refine x_icmp_ne 52 34 hE dX4_times_31 (by decide) rfl ?_ ?_
      · refine x_sub [(1, .int v3), (2, va_rf v6)] [1, 0] rfl ?_
        exact hJ1 ()
      · refine x_aload_n 53 hE dX4_times_52 rfl 2 rfl ?_
        refine x_iconst 54 hE dX4_times_53 rfl xc_i_1 ?_
        refine x_gsl (n := "AFTER") 57 hE xll_AFTER xkg_CrossingWords_CaseReader_218 dX4_times_54 rfl ?_
        refine x_callv 60 (xw_goV hE (c := 3) (by decide) (fun v12 hq => xw_rU (owner := "CrossingWords$Reader") (x := ⟨"CrossingWords$CaseReader", "needs", "(IJ)V"⟩) hE (ct_X3_needs v12 1 418330731890) xD_CrossingWords_Reader_needs__IJ_V (Or.inl (Or.inl rfl)) q672 q673 q675 q676 q98 q677 rfl ⟨Nat.le_of_ble_eq_true rfl, Nat.le_of_ble_eq_true rfl⟩ (congrArg va_rf hq) rfl (by decide) dX4_times_57)) rfl ?_
        refine x_aload_n 61 hE dX4_times_60 rfl 2 rfl ?_
        refine x_sipush 64 hE dX4_times_61 rfl xc_s_999 ?_
        refine x_callr 67 (xw_goV hE (c := 3) (by decide) (fun v14 hq => xw_rV hE (ct_X4_span v14 999) xd_X4_span rfl q678 q680 qs10 q99 q681 rfl ⟨Nat.le_of_ble_eq_true rfl, Nat.le_of_ble_eq_true rfl⟩ (congrArg va_rf hq) rfl (by decide) dX4_times_64)) rfl (fun v13 => ?_)
        refine x_astore_n 68 [(3, va_rf v13), (2, va_rf v6), (1, .int v3), (0, va_rf (some v1))] hE dX4_times_67 rfl rfl (Nat.le_of_ble_eq_true rfl) (congrArg (List.cons _) (xw_f1 (by decide) (x_rfc _) (xw_f1 (by decide) rfl (xw_f1 (by decide) rfl xw_f0)))) ?_
        refine x_aload_n 69 hE dX4_times_68 rfl 3 rfl ?_
        refine x_gsl (n := "READ_WORD") 72 hE xll_READ_WORD xkg_CrossingWords_CaseReader_221 dX4_times_69 rfl ?_
        refine x_calli 75 (xw_goV hE (c := 3) (by decide) (fun v16 hq => xw_rU (owner := "CrossingWords$Reader") (x := ⟨"CrossingWords$CaseReader", "takes", "(J)Z"⟩) hE (ct_X3_takes v16 1919246692) xD_CrossingWords_Reader_takes__J_Z (Or.inl (Or.inl rfl)) q512 q513 q515 q516 q98 q517 rfl ⟨Nat.le_of_ble_eq_true rfl, Nat.le_of_ble_eq_true rfl⟩ (congrArg va_rf hq) rfl (by decide) dX4_times_72)) rfl (fun v15 => ?_)
        refine x_sq 91 (fun (v17 : Option Nat) => [(0, va_rf (some v1)), (1, .int v3), (2, va_rf v6), (3, va_rf v13)]) (fun (v17 : Option Nat) => [va_rf v17]) (fun v17 => ?_) (fun J2 hJ2 => ?_)
        · refine x_astore 93 [(4, va_rf v17), (0, va_rf (some v1)), (1, .int v3), (2, va_rf v6), (3, va_rf v13)] hE dX4_times_91 rfl (Nat.le_of_ble_eq_true rfl) (congrArg (List.cons _) (xw_f1 (by decide) rfl (xw_f1 (by decide) rfl (xw_f1 (by decide) (x_rfc _) (xw_f1 (by decide) (x_rfc _) xw_f0))))) ?_
          refine x_new (c := 14) 96 hE (by decide) q701 q702 q113 dX4_times_93 rfl (fun v18 => ?_)
          refine x_dup 97 hE dX4_times_96 rfl rfl ?_
          refine x_iload_n 98 hE dX4_times_97 rfl 2 rfl ?_
          refine x_aload_n 99 hE dX4_times_98 rfl 3 rfl ?_
          refine x_aload_n 100 hE dX4_times_99 rfl 4 rfl ?_
          refine x_aload 102 hE dX4_times_100 rfl 0 rfl ?_
          refine x_aload_n 103 hE dX4_times_102 rfl 1 rfl ?_
          refine x_gsl (n := "LOST") 106 hE xll_LOST xkg_CrossingWords_CaseReader_224 dX4_times_103 rfl ?_
          refine x_calli 109 (xw_goV hE (c := 3) (by decide) (fun v20 hq => xw_rU (owner := "CrossingWords$Reader") (x := ⟨"CrossingWords$CaseReader", "takes", "(J)Z"⟩) hE (ct_X3_takes v20 1819243380) xD_CrossingWords_Reader_takes__J_Z (Or.inl (Or.inl rfl)) q512 q513 q515 q516 q98 q517 rfl ⟨Nat.le_of_ble_eq_true rfl, Nat.le_of_ble_eq_true rfl⟩ (congrArg va_rf hq) rfl (Nat.le_trans (xw_sm1 (x_rfc _) (xw_sm1 (x_rfc _) (xw_sm1 (x_rfc _) (xw_sm1 rfl (xw_sm1 rfl (xw_sm1 rfl xw_sm0)))))) (by decide)) dX4_times_106)) rfl (fun v19 => ?_)
          refine x_iconst 110 hE dX4_times_109 rfl xc_i_0 ?_
          refine x_callv 113 (xw_goI hE (b := v18) (ct_X17_init v18 v3 v6 v13 v17 v19 0) xd_X17_init q705 q706 q113 q707 rfl rfl ⟨Nat.le_of_ble_eq_true rfl, Nat.le_of_ble_eq_true rfl⟩ rfl (Nat.le_trans (xw_sm1 rfl xw_sm0) (by decide)) dX4_times_110) rfl ?_
          exact x_aret hE rfl dX4_times_113
        · refine x_if_eq 88 78 hE dX4_times_75 (by decide) rfl ?_ ?_
          · refine x_gs (j := 12) (n := "AT_ONCE") (d := "LCrossingWords$Span;") 91 hE xsl_12 xkg_CrossingWords_CaseReader_211 dX4_times_88 rfl (fun v21 => ?_)
            refine x_sub [(0, va_rf (some v1)), (1, .int v3), (2, va_rf v6), (3, va_rf v13)] [3, 2, 1, 0] rfl ?_
            exact hJ2 v21
          · refine x_aload_n 79 hE dX4_times_78 rfl 3 rfl ?_
            refine x_sipush 82 hE dX4_times_79 rfl xc_s_999 ?_
            refine x_callr 85 (xw_goV hE (c := 3) (by decide) (fun v23 hq => xw_rV hE (ct_X4_span v23 999) xd_X4_span rfl q678 q680 qs10 q99 q681 rfl ⟨Nat.le_of_ble_eq_true rfl, Nat.le_of_ble_eq_true rfl⟩ (congrArg va_rf hq) rfl (by decide) dX4_times_82)) rfl (fun v22 => ?_)
            refine x_goto 91 hE dX4_times_85 (by decide) ?_
            refine x_sub [(0, va_rf (some v1)), (1, .int v3), (2, va_rf v6), (3, va_rf v13)] [3, 2, 1, 0] rfl ?_
            exact hJ2 v22

set_option maxHeartbeats 4000000 in
theorem ct_X4_statement {l : Launch} {G : xw_G} {μ : xw_Mu} (v1 : Nat) : xw_Ct l G (xw_hc G μ) xw_ov yX4_statement cX4_statement 5 none 8 [va_rf (some v1)] (pg_X4_statement v1) := by
  refine xw_metL [(0, va_rf (some v1))] (by decide) (Nat.le_trans (Nat.le_of_eq ((xw_l1 rfl).trans (congrArg (1 + ·) xw_l0))) (by decide)) ((xw_a1 rfl).trans (congrArg (List.cons _) xw_a0)) (fun E hE hl hG hm => ?_)
  subst hl; subst hG
  have hE : xw_ok E "CrossingWords$CaseReader" cX4_statement 5 none 8 := hE
  unfold pg_X4_statement
  refine x_aload_n 1 hE dX4_statement_0 rfl 0 rfl ?_
  refine x_gs (j := 0) (n := "KINDS") (d := "[J") 4 hE xsl_0 xkg_CrossingWords_CaseReader_34 dX4_statement_1 rfl (fun v2 => ?_)
  refine x_calli 7 (xw_goV hE (c := 3) (by decide) (fun v4 hq => xw_rU (owner := "CrossingWords$Reader") (x := ⟨"CrossingWords$CaseReader", "name", "([J)I"⟩) hE (ct_X3_name v4 v2) xD_CrossingWords_Reader_name___J_I (Or.inl (Or.inl rfl)) q397 q398 q400 q401 q98 q402 rfl ⟨Nat.le_of_ble_eq_true rfl, Nat.le_of_ble_eq_true rfl⟩ (congrArg va_rf hq) rfl (by decide) dX4_statement_4)) rfl (fun v3 => ?_)
  refine x_istore_n 8 [(1, .int v3), (0, va_rf (some v1))] hE dX4_statement_7 rfl rfl (Nat.le_of_ble_eq_true rfl) rfl ?_
  refine x_aload_n 9 hE dX4_statement_8 rfl 1 rfl ?_
  refine x_gs (j := 1) (n := "HAND_NAMES") (d := "[J") 12 hE xsl_1 xkg_CrossingWords_CaseReader_42 dX4_statement_9 rfl (fun v5 => ?_)
  refine x_calli 15 (xw_goV hE (c := 3) (by decide) (fun v7 hq => xw_rU (owner := "CrossingWords$Reader") (x := ⟨"CrossingWords$CaseReader", "name", "([J)I"⟩) hE (ct_X3_name v7 v5) xD_CrossingWords_Reader_name___J_I (Or.inl (Or.inl rfl)) q397 q398 q400 q401 q98 q402 rfl ⟨Nat.le_of_ble_eq_true rfl, Nat.le_of_ble_eq_true rfl⟩ (congrArg va_rf hq) rfl (by decide) dX4_statement_12)) rfl (fun v6 => ?_)
  refine x_istore_n 16 [(2, .int v6), (1, .int v3), (0, va_rf (some v1))] hE dX4_statement_15 rfl rfl (Nat.le_of_ble_eq_true rfl) rfl ?_
  refine x_iload_n 17 hE dX4_statement_16 rfl 1 rfl ?_
  refine x_sq 40 (fun (v8 : Option Nat) => [(0, va_rf (some v1))]) (fun (v8 : Option Nat) => [va_rf v8]) (fun v8 => ?_) (fun J1 hJ1 => ?_)
  · refine x_astore_n 41 [(3, va_rf v8), (0, va_rf (some v1))] hE dX4_statement_40 rfl rfl (Nat.le_of_ble_eq_true rfl) rfl ?_
    refine x_aload_n 42 hE dX4_statement_41 rfl 1 rfl ?_
    refine x_callr 45 (xw_goV hE (c := 3) (by decide) (fun v10 hq => xw_rV hE (ct_X4_times v10) xd_X4_times rfl q664 q666 qs9 q99 q667 rfl ⟨Nat.le_of_ble_eq_true rfl, Nat.le_of_ble_eq_true rfl⟩ (congrArg va_rf hq) rfl (by decide) dX4_statement_42)) rfl (fun v9 => ?_)
    refine x_astore 47 [(4, va_rf v9), (3, va_rf v8), (0, va_rf (some v1))] hE dX4_statement_45 rfl (Nat.le_of_ble_eq_true rfl) (congrArg (List.cons _) (xw_f1 (by decide) (x_rfc _) (xw_f1 (by decide) rfl xw_f0))) ?_
    refine x_aload_n 48 hE dX4_statement_47 rfl 2 rfl ?_
    refine x_iconst 49 hE dX4_statement_48 rfl xc_i_3 ?_
    refine x_ldc2 52 hE q744 dX4_statement_49 rfl ?_
    refine x_callv 55 (xw_goV hE (c := 3) (by decide) (fun v11 hq => xw_rU (owner := "CrossingWords$Reader") (x := ⟨"CrossingWords$CaseReader", "needs", "(IJ)V"⟩) hE (ct_X3_needs v11 3 59) xD_CrossingWords_Reader_needs__IJ_V (Or.inl (Or.inl rfl)) q672 q673 q675 q676 q98 q677 rfl ⟨Nat.le_of_ble_eq_true rfl, Nat.le_of_ble_eq_true rfl⟩ (congrArg va_rf hq) rfl (by decide) dX4_statement_52)) rfl ?_
    refine x_aload_n 56 hE dX4_statement_55 rfl 2 rfl ?_
    refine x_gI 59 hE (xw_lkS hE xkf_CrossingWords_CaseReader_62 xks_CrossingWords_CaseReader_62) rfl dX4_statement_56 rfl (fun v12 => ?_)
    refine x_if_eq 63 62 hE dX4_statement_59 (by decide) rfl ?_ ?_
    · refine x_aload_n 64 hE dX4_statement_63 rfl 1 rfl ?_
      refine x_aload 66 hE dX4_statement_64 rfl 0 rfl ?_
      refine x_pR 69 hE (xw_pkN (xw_lk0 hE xkf_CrossingWords_CaseReader_66) rfl) ⟨rfl, rfl⟩ dX4_statement_66 rfl ?_
      refine x_aload_n 70 hE dX4_statement_69 rfl 2 rfl ?_
      refine x_gR 73 hE (xw_lk0 hE xkf_CrossingWords_CaseReader_14) rfl dX4_statement_70 rfl (fun v13 => ?_)
      refine x_aload_n 74 hE dX4_statement_73 rfl 1 rfl ?_
      refine x_callv 77 (xw_goV hE (c := 4) (by decide) (fun v14 hq => xw_rV hE (ct_X5_adds v14 v8) xd_X5_adds rfl q745 q317 q318 q100 q319 rfl ⟨Nat.le_of_ble_eq_true rfl, Nat.le_of_ble_eq_true rfl⟩ (congrArg va_rf hq) rfl (by decide) dX4_statement_74)) rfl ?_
      exact x_vret hE dX4_statement_77
    · exact x_vret hE dX4_statement_62
  · refine x_jn 25 (fun (v15 : Unit) => [(0, va_rf (some v1)), (1, .int v3), (2, .int v6)]) (fun (v15 : Unit) => []) (fun v15 => ?_) (fun J2 hJ2 => ?_)
    · refine x_aload_n 26 hE dX4_statement_25 rfl 0 rfl ?_
      refine x_iload_n 27 hE dX4_statement_26 rfl 1 rfl ?_
      refine x_iload_n 28 hE dX4_statement_27 rfl 2 rfl ?_
      refine x_callr 31 (xw_goV hE (c := 3) (by decide) (fun v17 hq => xw_rV hE (ct_X4_opens v17 v3 v6) xd_X4_opens rfl q423 q425 qs2 q99 q426 rfl ⟨Nat.le_of_ble_eq_true rfl, Nat.le_of_ble_eq_true rfl⟩ (congrArg va_rf hq) rfl (by decide) dX4_statement_28)) rfl (fun v16 => ?_)
      refine x_goto 40 hE dX4_statement_31 (by decide) ?_
      refine x_sub [(0, va_rf (some v1))] [0] rfl ?_
      exact hJ1 v16
    · refine x_if_eq 25 20 hE dX4_statement_17 (by decide) rfl ?_ ?_
      · refine x_sub [(0, va_rf (some v1)), (1, .int v3), (2, .int v6)] [2, 1, 0] rfl ?_
        exact hJ2 ()
      · refine x_iload_n 21 hE dX4_statement_20 rfl 1 rfl ?_
        refine x_iconst 22 hE dX4_statement_21 rfl xc_i_1 ?_
        refine x_icmp_ne 34 25 hE dX4_statement_22 (by decide) rfl ?_ ?_
        · refine x_sub [(0, va_rf (some v1)), (1, .int v3), (2, .int v6)] [2, 1, 0] rfl ?_
          exact hJ2 ()
        · refine x_aload_n 35 hE dX4_statement_34 rfl 2 rfl ?_
          refine x_iload_n 36 hE dX4_statement_35 rfl 1 rfl ?_
          refine x_iload_n 37 hE dX4_statement_36 rfl 0 rfl ?_
          refine x_callr 40 (xw_goV hE (c := 3) (by decide) (fun v19 hq => xw_rV hE (ct_X4_answers v19 v3 v6) xd_X4_answers rfl q520 q522 qs5 q99 q523 rfl ⟨Nat.le_of_ble_eq_true rfl, Nat.le_of_ble_eq_true rfl⟩ (congrArg va_rf hq) rfl (by decide) dX4_statement_37)) rfl (fun v18 => ?_)
          refine x_sub [(0, va_rf (some v1))] [2] rfl ?_
          exact hJ1 v18

set_option maxHeartbeats 4000000 in
theorem ct_X18_hasRoom {l : Launch} {G : xw_G} {μ : xw_Mu} (v1 : Nat) : xw_Ct l G (xw_hc G μ) xw_oi yX18_hasRoom cX18_hasRoom 1 (some (.boolean)) 1 [va_rf (some v1)] (pg_X18_hasRoom v1) := by
  refine xw_metL [(0, va_rf (some v1))] (by decide) (Nat.le_trans (Nat.le_of_eq ((xw_l1 rfl).trans (congrArg (1 + ·) xw_l0))) (by decide)) ((xw_a1 rfl).trans (congrArg (List.cons _) xw_a0)) (fun E hE hl hG hm => ?_)
  subst hl; subst hG
  have hE : xw_ok E "CrossingWords$LawReader" cX18_hasRoom 1 (some (.boolean)) 1 := hE
  unfold pg_X18_hasRoom
  refine x_aload_n 1 hE dX18_hasRoom_0 rfl 0 rfl ?_
  refine x_gR 4 hE (xw_lk0 hE xkf_CrossingWords_LawReader_14) rfl dX18_hasRoom_1 rfl (fun v2 => ?_)
  refine x_gI 7 hE (xw_lk0 hE xkf_CrossingWords_LawReader_24) rfl dX18_hasRoom_4 rfl (fun v3 => ?_)
  refine x_bipush 9 hE dX18_hasRoom_7 rfl xc_b_20 ?_
  refine x_icmp_ge 16 12 hE dX18_hasRoom_9 (by decide) rfl ?_ ?_
  · refine x_iconst 17 hE dX18_hasRoom_16 rfl xc_i_0 ?_
    exact x_zretw hE (by decide) dX18_hasRoom_17
  · refine x_iconst 13 hE dX18_hasRoom_12 rfl xc_i_1 ?_
    refine x_goto 17 hE dX18_hasRoom_13 (by decide) ?_
    exact x_zretw hE (by decide) dX18_hasRoom_17

set_option maxHeartbeats 4000000 in
theorem ct_X18_isWhole {l : Launch} {G : xw_G} {μ : xw_Mu} (v1 : Nat) : xw_Ct l G (xw_hc G μ) xw_oi yX18_isWhole cX18_isWhole 1 (some (.boolean)) 1 [va_rf (some v1)] (pg_X18_isWhole v1) := by
  refine xw_metL [(0, va_rf (some v1))] (by decide) (Nat.le_trans (Nat.le_of_eq ((xw_l1 rfl).trans (congrArg (1 + ·) xw_l0))) (by decide)) ((xw_a1 rfl).trans (congrArg (List.cons _) xw_a0)) (fun E hE hl hG hm => ?_)
  subst hl; subst hG
  have hE : xw_ok E "CrossingWords$LawReader" cX18_isWhole 1 (some (.boolean)) 1 := hE
  unfold pg_X18_isWhole
  refine x_aload_n 1 hE dX18_isWhole_0 rfl 0 rfl ?_
  refine x_gR 4 hE (xw_lk0 hE xkf_CrossingWords_LawReader_14) rfl dX18_isWhole_1 rfl (fun v2 => ?_)
  refine x_gI 7 hE (xw_lk0 hE xkf_CrossingWords_LawReader_24) rfl dX18_isWhole_4 rfl (fun v3 => ?_)
  refine x_aload_n 8 hE dX18_isWhole_7 rfl 0 rfl ?_
  refine x_gI 11 hE (xw_lk0 hE xkf_CrossingWords_LawReader_20) rfl dX18_isWhole_8 rfl (fun v4 => ?_)
  refine x_icmp_lt 18 14 hE dX18_isWhole_11 (by decide) rfl ?_ ?_
  · refine x_iconst 19 hE dX18_isWhole_18 rfl xc_i_0 ?_
    exact x_zretw hE (by decide) dX18_isWhole_19
  · refine x_iconst 15 hE dX18_isWhole_14 rfl xc_i_1 ?_
    refine x_goto 19 hE dX18_isWhole_15 (by decide) ?_
    exact x_zretw hE (by decide) dX18_isWhole_19

set_option maxHeartbeats 4000000 in
theorem ct_X19_adds {l : Launch} {G : xw_G} {μ : xw_Mu} (v1 : Nat) (v2 : Int32) (v3 : Int32) : xw_Ct l G (xw_hc G μ) xw_ov yX19_adds cX19_adds 3 none 1 [va_rf (some v1), .int v2, .int v3] (pg_X19_adds v1 v2 v3) := by
  refine xw_metL [(0, va_rf (some v1)), (1, .int v2), (2, .int v3)] (by decide) (Nat.le_trans (Nat.le_of_eq ((xw_l1 rfl).trans (congrArg (1 + ·) ((xw_l1 rfl).trans (congrArg (1 + ·) ((xw_l1 rfl).trans (congrArg (1 + ·) xw_l0))))))) (by decide)) ((xw_a1 rfl).trans (congrArg (List.cons _) ((xw_a1 rfl).trans (congrArg (List.cons _) ((xw_a1 rfl).trans (congrArg (List.cons _) xw_a0)))))) (fun E hE hl hG hm => ?_)
  subst hl; subst hG
  have hE : xw_ok E "CrossingWords$Text" cX19_adds 3 none 1 := hE
  unfold pg_X19_adds
  refine x_aload_n 1 hE dX19_adds_0 rfl 0 rfl ?_
  refine x_gR 4 hE (xw_lk0 hE xkf_CrossingWords_Text_9) rfl dX19_adds_1 rfl (fun v4 => ?_)
  refine x_aload_n 5 hE dX19_adds_4 rfl 0 rfl ?_
  refine x_gI 8 hE (xw_lk0 hE xkf_CrossingWords_Text_18) rfl dX19_adds_5 rfl (fun v5 => ?_)
  refine x_iload_n 9 hE dX19_adds_8 rfl 1 rfl ?_
  refine x_stI 10 hE dX19_adds_9 rfl ?_
  refine x_aload_n 11 hE dX19_adds_10 rfl 0 rfl ?_
  refine x_gR 14 hE (xw_lk0 hE xkf_CrossingWords_Text_15) rfl dX19_adds_11 rfl (fun v6 => ?_)
  refine x_aload_n 15 hE dX19_adds_14 rfl 0 rfl ?_
  refine x_gI 18 hE (xw_lk0 hE xkf_CrossingWords_Text_18) rfl dX19_adds_15 rfl (fun v7 => ?_)
  refine x_iload_n 19 hE dX19_adds_18 rfl 2 rfl ?_
  refine x_stI 20 hE dX19_adds_19 rfl ?_
  refine x_aload_n 21 hE dX19_adds_20 rfl 0 rfl ?_
  refine x_dup 22 hE dX19_adds_21 rfl rfl ?_
  refine x_gI 25 hE (xw_lk0 hE xkf_CrossingWords_Text_18) rfl dX19_adds_22 rfl (fun v8 => ?_)
  refine x_iconst 26 hE dX19_adds_25 rfl xc_i_1 ?_
  refine x_iadd 27 hE dX19_adds_26 rfl ?_
  refine x_pI 30 hE (xw_pkN (xw_lk0 hE xkf_CrossingWords_Text_18) rfl) ⟨rfl, rfl⟩ dX19_adds_27 rfl ?_
  exact x_vret hE dX19_adds_30

set_option maxHeartbeats 4000000 in
theorem ct_X18_yes {l : Launch} {G : xw_G} {μ : xw_Mu} (v1 : Nat) : xw_Ct l G (xw_hc G μ) xw_ov yX18_yes cX18_yes 4 none 6 [va_rf (some v1)] (pg_X18_yes v1) := by
  refine xw_metL [(0, va_rf (some v1))] (by decide) (Nat.le_trans (Nat.le_of_eq ((xw_l1 rfl).trans (congrArg (1 + ·) xw_l0))) (by decide)) ((xw_a1 rfl).trans (congrArg (List.cons _) xw_a0)) (fun E hE hl hG hm => ?_)
  subst hl; subst hG
  have hE : xw_ok E "CrossingWords$LawReader" cX18_yes 4 none 6 := hE
  unfold pg_X18_yes
  refine x_aload_n 1 hE dX18_yes_0 rfl 0 rfl ?_
  refine x_gs (j := 6) (n := "YES_WAYS") (d := "[J") 4 hE xsl_6 xkg_CrossingWords_LawReader_70 dX18_yes_1 rfl (fun v2 => ?_)
  refine x_calli 7 (xw_goV hE (c := 15) (by decide) (fun v4 hq => xw_rU (owner := "CrossingWords$Reader") (x := ⟨"CrossingWords$LawReader", "name", "([J)I"⟩) hE (ct_X3_name v4 v2) xD_CrossingWords_Reader_name___J_I (Or.inl (Or.inl rfl)) q751 q752 q753 q401 q98 q402 rfl ⟨Nat.le_of_ble_eq_true rfl, Nat.le_of_ble_eq_true rfl⟩ (congrArg va_rf hq) rfl (by decide) dX18_yes_4)) rfl (fun v3 => ?_)
  refine x_istore_n 8 [(1, .int v3), (0, va_rf (some v1))] hE dX18_yes_7 rfl rfl (Nat.le_of_ble_eq_true rfl) rfl ?_
  refine x_aload_n 9 hE dX18_yes_8 rfl 1 rfl ?_
  refine x_gs (j := 4) (n := "WHENS") (d := "[J") 12 hE xsl_4 xkg_CrossingWords_LawReader_38 dX18_yes_9 rfl (fun v5 => ?_)
  refine x_calli 15 (xw_goV hE (c := 15) (by decide) (fun v7 hq => xw_rU (owner := "CrossingWords$Reader") (x := ⟨"CrossingWords$LawReader", "name", "([J)I"⟩) hE (ct_X3_name v7 v5) xD_CrossingWords_Reader_name___J_I (Or.inl (Or.inl rfl)) q751 q752 q753 q401 q98 q402 rfl ⟨Nat.le_of_ble_eq_true rfl, Nat.le_of_ble_eq_true rfl⟩ (congrArg va_rf hq) rfl (by decide) dX18_yes_12)) rfl (fun v6 => ?_)
  refine x_istore_n 16 [(2, .int v6), (1, .int v3), (0, va_rf (some v1))] hE dX18_yes_15 rfl rfl (Nat.le_of_ble_eq_true rfl) rfl ?_
  refine x_iconst 17 hE dX18_yes_16 rfl xc_i_0 ?_
  refine x_istore_n 18 [(3, .int 0), (2, .int v6), (1, .int v3), (0, va_rf (some v1))] hE dX18_yes_17 rfl rfl (Nat.le_of_ble_eq_true rfl) rfl ?_
  refine x_sub [(0, va_rf (some v1)), (1, .int v3), (2, .int v6), (3, .int 0)] [3, 2, 1, 0] rfl ?_
  refine x_sq 50 (fun (v9 : Unit) => []) (fun _ => []) (fun v9 => ?_) (fun J2 hJ2 => ?_)
  · exact x_vret hE dX18_yes_50
  · refine x_loop (fun (v8 : Int32) => [(0, va_rf (some v1)), (1, .int v3), (2, .int v6), (3, .int v8)]) (fun JL1 hc1 hx1 v8 => ?_) _ _
    refine x_iload_n 19 hE dX18_yes_18 rfl 3 rfl ?_
    refine x_iconst 20 hE dX18_yes_19 rfl xc_i_3 ?_
    refine x_icmp_ge 50 23 hE dX18_yes_20 (by decide) rfl ?_ ?_
    · refine x_sub [] [] rfl ?_
      refine hx1 _ _ _ _ ?_
      exact hJ2 ()
    · refine x_iload_n 24 hE dX18_yes_23 rfl 1 rfl ?_
      refine x_iconst 25 hE dX18_yes_24 rfl xc_i_3 ?_
      refine x_icmp_eq 33 28 hE dX18_yes_25 (by decide) rfl ?_ ?_
      · refine x_aload_n 34 hE dX18_yes_33 rfl 0 rfl ?_
        refine x_gR 37 hE (xw_lk0 hE xkf_CrossingWords_LawReader_14) rfl dX18_yes_34 rfl (fun v10 => ?_)
        refine x_iconst 38 hE dX18_yes_37 rfl xc_i_0 ?_
        refine x_iload_n 39 hE dX18_yes_38 rfl 3 rfl ?_
        refine x_iadd 40 hE dX18_yes_39 rfl ?_
        refine x_iload_n 41 hE dX18_yes_40 rfl 2 rfl ?_
        refine x_callv 44 (xw_goV hE (c := 16) (by decide) (fun v11 hq => xw_rV hE (ct_X19_adds v11 (0 + v8) v6) xd_X19_adds rfl q763 q764 q765 q115 q766 rfl ⟨Nat.le_of_ble_eq_true rfl, Nat.le_of_ble_eq_true rfl⟩ (congrArg va_rf hq) rfl (by decide) dX18_yes_41)) rfl ?_
        refine x_iinc 47 [(3, .int (v8 + 1)), (0, va_rf (some v1)), (1, .int v3), (2, .int v6)] hE dX18_yes_44 rfl 3 rfl xc_i_1 (Nat.le_of_ble_eq_true rfl) rfl ?_
        refine x_goto 18 hE dX18_yes_47 (by decide) ?_
        refine x_sub [(0, va_rf (some v1)), (1, .int v3), (2, .int v6), (3, .int (v8 + 1))] [1, 2, 3, 0] rfl ?_
        exact hc1 (v8 + 1)
      · refine x_iload_n 29 hE dX18_yes_28 rfl 1 rfl ?_
        refine x_iload_n 30 hE dX18_yes_29 rfl 3 rfl ?_
        refine x_icmp_ne 44 33 hE dX18_yes_30 (by decide) rfl ?_ ?_
        · refine x_aload_n 34 hE dX18_yes_33 rfl 0 rfl ?_
          refine x_gR 37 hE (xw_lk0 hE xkf_CrossingWords_LawReader_14) rfl dX18_yes_34 rfl (fun v12 => ?_)
          refine x_iconst 38 hE dX18_yes_37 rfl xc_i_0 ?_
          refine x_iload_n 39 hE dX18_yes_38 rfl 3 rfl ?_
          refine x_iadd 40 hE dX18_yes_39 rfl ?_
          refine x_iload_n 41 hE dX18_yes_40 rfl 2 rfl ?_
          refine x_callv 44 (xw_goV hE (c := 16) (by decide) (fun v13 hq => xw_rV hE (ct_X19_adds v13 (0 + v8) v6) xd_X19_adds rfl q763 q764 q765 q115 q766 rfl ⟨Nat.le_of_ble_eq_true rfl, Nat.le_of_ble_eq_true rfl⟩ (congrArg va_rf hq) rfl (by decide) dX18_yes_41)) rfl ?_
          refine x_iinc 47 [(3, .int (v8 + 1)), (0, va_rf (some v1)), (1, .int v3), (2, .int v6)] hE dX18_yes_44 rfl 3 rfl xc_i_1 (Nat.le_of_ble_eq_true rfl) rfl ?_
          refine x_goto 18 hE dX18_yes_47 (by decide) ?_
          refine x_sub [(0, va_rf (some v1)), (1, .int v3), (2, .int v6), (3, .int (v8 + 1))] [1, 2, 3, 0] rfl ?_
          exact hc1 (v8 + 1)
        · refine x_iinc 47 [(3, .int (v8 + 1)), (0, va_rf (some v1)), (1, .int v3), (2, .int v6)] hE dX18_yes_44 rfl 3 rfl xc_i_1 (Nat.le_of_ble_eq_true rfl) rfl ?_
          refine x_goto 18 hE dX18_yes_47 (by decide) ?_
          refine x_sub [(0, va_rf (some v1)), (1, .int v3), (2, .int v6), (3, .int (v8 + 1))] [1, 2, 3, 0] rfl ?_
          exact hc1 (v8 + 1)

set_option maxHeartbeats 4000000 in
theorem ct_X18_statement {l : Launch} {G : xw_G} {μ : xw_Mu} (v1 : Nat) : xw_Ct l G (xw_hc G μ) xw_ov yX18_statement cX18_statement 1 none 7 [va_rf (some v1)] (pg_X18_statement v1) := by
  refine xw_metL [(0, va_rf (some v1))] (by decide) (Nat.le_trans (Nat.le_of_eq ((xw_l1 rfl).trans (congrArg (1 + ·) xw_l0))) (by decide)) ((xw_a1 rfl).trans (congrArg (List.cons _) xw_a0)) (fun E hE hl hG hm => ?_)
  subst hl; subst hG
  have hE : xw_ok E "CrossingWords$LawReader" cX18_statement 1 none 7 := hE
  unfold pg_X18_statement
  refine x_aload_n 1 hE dX18_statement_0 rfl 0 rfl ?_
  refine x_gs (j := 5) (n := "RULE_NAMES") (d := "[J") 4 hE xsl_5 xkg_CrossingWords_LawReader_27 dX18_statement_1 rfl (fun v2 => ?_)
  refine x_calli 7 (xw_goV hE (c := 15) (by decide) (fun v4 hq => xw_rU (owner := "CrossingWords$Reader") (x := ⟨"CrossingWords$LawReader", "name", "([J)I"⟩) hE (ct_X3_name v4 v2) xD_CrossingWords_Reader_name___J_I (Or.inl (Or.inl rfl)) q751 q752 q753 q401 q98 q402 rfl ⟨Nat.le_of_ble_eq_true rfl, Nat.le_of_ble_eq_true rfl⟩ (congrArg va_rf hq) rfl (by decide) dX18_statement_4)) rfl (fun v3 => ?_)
  refine x_sq 253 (fun (v5 : Unit) => [(0, va_rf (some v1))]) (fun (v5 : Unit) => []) (fun v5 => ?_) (fun J1 hJ1 => ?_)
  · refine x_aload_n 254 hE dX18_statement_253 rfl 0 rfl ?_
    refine x_iconst 255 hE dX18_statement_254 rfl xc_i_3 ?_
    refine x_ldc2 258 hE q780 dX18_statement_255 rfl ?_
    refine x_callv 261 (xw_goV hE (c := 15) (by decide) (fun v6 hq => xw_rU (owner := "CrossingWords$Reader") (x := ⟨"CrossingWords$LawReader", "needs", "(IJ)V"⟩) hE (ct_X3_needs v6 3 59) xD_CrossingWords_Reader_needs__IJ_V (Or.inl (Or.inl rfl)) q781 q782 q783 q676 q98 q677 rfl ⟨Nat.le_of_ble_eq_true rfl, Nat.le_of_ble_eq_true rfl⟩ (congrArg va_rf hq) rfl (by decide) dX18_statement_258)) rfl ?_
    refine x_aload_n 262 hE dX18_statement_261 rfl 0 rfl ?_
    refine x_gR 265 hE (xw_lk0 hE xkf_CrossingWords_LawReader_14) rfl dX18_statement_262 rfl (fun v7 => ?_)
    refine x_dup 266 hE dX18_statement_265 rfl (x_rfc _) ?_
    refine x_gI 269 hE (xw_lk0 hE xkf_CrossingWords_LawReader_24) rfl dX18_statement_266 rfl (fun v8 => ?_)
    refine x_iconst 270 hE dX18_statement_269 rfl xc_i_1 ?_
    refine x_iadd 271 hE dX18_statement_270 rfl ?_
    refine x_pI 274 hE (xw_pkN (xw_lk0 hE xkf_CrossingWords_LawReader_24) rfl) ⟨rfl, rfl⟩ dX18_statement_271 rfl ?_
    exact x_vret hE dX18_statement_274
  · refine x_sw (fun hs2 => ?_) (fun hs2 => ?_)
    · refine x_swIn 60 hE dX18_statement_7 hs2 ⟨by decide, by decide, rfl⟩ (by decide) ?_
      refine x_aload_n 61 hE dX18_statement_60 rfl 0 rfl ?_
      refine x_callv 64 (xw_goV hE (c := 15) (by decide) (fun v9 hq => xw_rV hE (ct_X18_yes v9) xd_X18_yes rfl q754 q756 qs11 q114 q758 rfl ⟨Nat.le_of_ble_eq_true rfl, Nat.le_of_ble_eq_true rfl⟩ (congrArg va_rf hq) rfl (by decide) dX18_statement_61)) rfl ?_
      refine x_goto 253 hE dX18_statement_64 (by decide) ?_
      refine x_sub [(0, va_rf (some v1))] [0] rfl ?_
      exact hJ1 ()
    · refine x_sw (fun hs3 => ?_) (fun hs3 => ?_)
      · refine x_swIn 67 hE dX18_statement_7 hs3 ⟨by decide, by decide, rfl⟩ (by decide) ?_
        refine x_aload_n 68 hE dX18_statement_67 rfl 0 rfl ?_
        refine x_gR 71 hE (xw_lk0 hE xkf_CrossingWords_LawReader_14) rfl dX18_statement_68 rfl (fun v10 => ?_)
        refine x_iconst 72 hE dX18_statement_71 rfl xc_i_3 ?_
        refine x_aload_n 73 hE dX18_statement_72 rfl 0 rfl ?_
        refine x_gs (j := 4) (n := "WHENS") (d := "[J") 76 hE xsl_4 xkg_CrossingWords_LawReader_38 dX18_statement_73 rfl (fun v11 => ?_)
        refine x_calli 79 (xw_goV hE (c := 15) (by decide) (fun v13 hq => xw_rU (owner := "CrossingWords$Reader") (x := ⟨"CrossingWords$LawReader", "name", "([J)I"⟩) hE (ct_X3_name v13 v11) xD_CrossingWords_Reader_name___J_I (Or.inl (Or.inl rfl)) q751 q752 q753 q401 q98 q402 rfl ⟨Nat.le_of_ble_eq_true rfl, Nat.le_of_ble_eq_true rfl⟩ (congrArg va_rf hq) rfl (Nat.le_trans (xw_sm1 rfl (xw_sm1 (x_rfc _) xw_sm0)) (by decide)) dX18_statement_76)) rfl (fun v12 => ?_)
        refine x_callv 82 (xw_goV hE (c := 16) (by decide) (fun v14 hq => xw_rV hE (ct_X19_adds v14 3 v12) xd_X19_adds rfl q763 q764 q765 q115 q766 rfl ⟨Nat.le_of_ble_eq_true rfl, Nat.le_of_ble_eq_true rfl⟩ (congrArg va_rf hq) rfl (by decide) dX18_statement_79)) rfl ?_
        refine x_goto 253 hE dX18_statement_82 (by decide) ?_
        refine x_sub [(0, va_rf (some v1))] [0] rfl ?_
        exact hJ1 ()
      · refine x_sw (fun hs4 => ?_) (fun hs4 => ?_)
        · refine x_swIn 85 hE dX18_statement_7 hs4 ⟨by decide, by decide, rfl⟩ (by decide) ?_
          refine x_aload_n 86 hE dX18_statement_85 rfl 0 rfl ?_
          refine x_gR 89 hE (xw_lk0 hE xkf_CrossingWords_LawReader_14) rfl dX18_statement_86 rfl (fun v15 => ?_)
          refine x_iconst 90 hE dX18_statement_89 rfl xc_i_4 ?_
          refine x_aload_n 91 hE dX18_statement_90 rfl 0 rfl ?_
          refine x_gs (j := 4) (n := "WHENS") (d := "[J") 94 hE xsl_4 xkg_CrossingWords_LawReader_38 dX18_statement_91 rfl (fun v16 => ?_)
          refine x_calli 97 (xw_goV hE (c := 15) (by decide) (fun v18 hq => xw_rU (owner := "CrossingWords$Reader") (x := ⟨"CrossingWords$LawReader", "name", "([J)I"⟩) hE (ct_X3_name v18 v16) xD_CrossingWords_Reader_name___J_I (Or.inl (Or.inl rfl)) q751 q752 q753 q401 q98 q402 rfl ⟨Nat.le_of_ble_eq_true rfl, Nat.le_of_ble_eq_true rfl⟩ (congrArg va_rf hq) rfl (Nat.le_trans (xw_sm1 rfl (xw_sm1 (x_rfc _) xw_sm0)) (by decide)) dX18_statement_94)) rfl (fun v17 => ?_)
          refine x_callv 100 (xw_goV hE (c := 16) (by decide) (fun v19 hq => xw_rV hE (ct_X19_adds v19 4 v17) xd_X19_adds rfl q763 q764 q765 q115 q766 rfl ⟨Nat.le_of_ble_eq_true rfl, Nat.le_of_ble_eq_true rfl⟩ (congrArg va_rf hq) rfl (by decide) dX18_statement_97)) rfl ?_
          refine x_goto 253 hE dX18_statement_100 (by decide) ?_
          refine x_sub [(0, va_rf (some v1))] [0] rfl ?_
          exact hJ1 ()
        · refine x_sw (fun hs5 => ?_) (fun hs5 => ?_)
          · refine x_swIn 103 hE dX18_statement_7 hs5 ⟨by decide, by decide, rfl⟩ (by decide) ?_
            refine x_aload_n 104 hE dX18_statement_103 rfl 0 rfl ?_
            refine x_gR 107 hE (xw_lk0 hE xkf_CrossingWords_LawReader_14) rfl dX18_statement_104 rfl (fun v20 => ?_)
            refine x_iconst 108 hE dX18_statement_107 rfl xc_i_5 ?_
            refine x_aload_n 109 hE dX18_statement_108 rfl 0 rfl ?_
            refine x_gs (j := 4) (n := "WHENS") (d := "[J") 112 hE xsl_4 xkg_CrossingWords_LawReader_38 dX18_statement_109 rfl (fun v21 => ?_)
            refine x_calli 115 (xw_goV hE (c := 15) (by decide) (fun v23 hq => xw_rU (owner := "CrossingWords$Reader") (x := ⟨"CrossingWords$LawReader", "name", "([J)I"⟩) hE (ct_X3_name v23 v21) xD_CrossingWords_Reader_name___J_I (Or.inl (Or.inl rfl)) q751 q752 q753 q401 q98 q402 rfl ⟨Nat.le_of_ble_eq_true rfl, Nat.le_of_ble_eq_true rfl⟩ (congrArg va_rf hq) rfl (Nat.le_trans (xw_sm1 rfl (xw_sm1 (x_rfc _) xw_sm0)) (by decide)) dX18_statement_112)) rfl (fun v22 => ?_)
            refine x_callv 118 (xw_goV hE (c := 16) (by decide) (fun v24 hq => xw_rV hE (ct_X19_adds v24 5 v22) xd_X19_adds rfl q763 q764 q765 q115 q766 rfl ⟨Nat.le_of_ble_eq_true rfl, Nat.le_of_ble_eq_true rfl⟩ (congrArg va_rf hq) rfl (by decide) dX18_statement_115)) rfl ?_
            refine x_goto 253 hE dX18_statement_118 (by decide) ?_
            refine x_sub [(0, va_rf (some v1))] [0] rfl ?_
            exact hJ1 ()
          · refine x_sw (fun hs6 => ?_) (fun hs6 => ?_)
            · refine x_swIn 121 hE dX18_statement_7 hs6 ⟨by decide, by decide, rfl⟩ (by decide) ?_
              refine x_aload_n 122 hE dX18_statement_121 rfl 0 rfl ?_
              refine x_gR 125 hE (xw_lk0 hE xkf_CrossingWords_LawReader_14) rfl dX18_statement_122 rfl (fun v25 => ?_)
              refine x_bipush 127 hE dX18_statement_125 rfl xc_b_6 ?_
              refine x_aload_n 128 hE dX18_statement_127 rfl 0 rfl ?_
              refine x_gs (j := 7) (n := "HOLDS") (d := "[J") 131 hE xsl_7 xkg_CrossingWords_LawReader_45 dX18_statement_128 rfl (fun v26 => ?_)
              refine x_calli 134 (xw_goV hE (c := 15) (by decide) (fun v28 hq => xw_rU (owner := "CrossingWords$Reader") (x := ⟨"CrossingWords$LawReader", "name", "([J)I"⟩) hE (ct_X3_name v28 v26) xD_CrossingWords_Reader_name___J_I (Or.inl (Or.inl rfl)) q751 q752 q753 q401 q98 q402 rfl ⟨Nat.le_of_ble_eq_true rfl, Nat.le_of_ble_eq_true rfl⟩ (congrArg va_rf hq) rfl (Nat.le_trans (xw_sm1 rfl (xw_sm1 (x_rfc _) xw_sm0)) (by decide)) dX18_statement_131)) rfl (fun v27 => ?_)
              refine x_callv 137 (xw_goV hE (c := 16) (by decide) (fun v29 hq => xw_rV hE (ct_X19_adds v29 6 v27) xd_X19_adds rfl q763 q764 q765 q115 q766 rfl ⟨Nat.le_of_ble_eq_true rfl, Nat.le_of_ble_eq_true rfl⟩ (congrArg va_rf hq) rfl (by decide) dX18_statement_134)) rfl ?_
              refine x_goto 253 hE dX18_statement_137 (by decide) ?_
              refine x_sub [(0, va_rf (some v1))] [0] rfl ?_
              exact hJ1 ()
            · refine x_sw (fun hs7 => ?_) (fun hs7 => ?_)
              · refine x_swIn 140 hE dX18_statement_7 hs7 ⟨by decide, by decide, rfl⟩ (by decide) ?_
                refine x_aload_n 141 hE dX18_statement_140 rfl 0 rfl ?_
                refine x_gR 144 hE (xw_lk0 hE xkf_CrossingWords_LawReader_14) rfl dX18_statement_141 rfl (fun v30 => ?_)
                refine x_bipush 146 hE dX18_statement_144 rfl xc_b_7 ?_
                refine x_aload_n 147 hE dX18_statement_146 rfl 0 rfl ?_
                refine x_iconst 148 hE dX18_statement_147 rfl xc_i_0 ?_
                refine x_sipush 151 hE dX18_statement_148 rfl xc_s_999 ?_
                refine x_calli 154 (xw_goV hE (c := 15) (by decide) (fun v32 hq => xw_rU (owner := "CrossingWords$Reader") (x := ⟨"CrossingWords$LawReader", "number", "(II)I"⟩) hE (ct_X3_number v32 0 999) xD_CrossingWords_Reader_number__II_I (Or.inl (Or.inl rfl)) q769 q770 q771 q485 q98 q486 rfl ⟨Nat.le_of_ble_eq_true rfl, Nat.le_of_ble_eq_true rfl⟩ (congrArg va_rf hq) rfl (Nat.le_trans (xw_sm1 rfl (xw_sm1 (x_rfc _) xw_sm0)) (by decide)) dX18_statement_151)) rfl (fun v31 => ?_)
                refine x_callv 157 (xw_goV hE (c := 16) (by decide) (fun v33 hq => xw_rV hE (ct_X19_adds v33 7 v31) xd_X19_adds rfl q763 q764 q765 q115 q766 rfl ⟨Nat.le_of_ble_eq_true rfl, Nat.le_of_ble_eq_true rfl⟩ (congrArg va_rf hq) rfl (by decide) dX18_statement_154)) rfl ?_
                refine x_goto 253 hE dX18_statement_157 (by decide) ?_
                refine x_sub [(0, va_rf (some v1))] [0] rfl ?_
                exact hJ1 ()
              · refine x_sw (fun hs8 => ?_) (fun hs8 => ?_)
                · refine x_swIn 160 hE dX18_statement_7 hs8 ⟨by decide, by decide, rfl⟩ (by decide) ?_
                  refine x_aload_n 161 hE dX18_statement_160 rfl 0 rfl ?_
                  refine x_gR 164 hE (xw_lk0 hE xkf_CrossingWords_LawReader_14) rfl dX18_statement_161 rfl (fun v34 => ?_)
                  refine x_bipush 166 hE dX18_statement_164 rfl xc_b_8 ?_
                  refine x_aload_n 167 hE dX18_statement_166 rfl 0 rfl ?_
                  refine x_iconst 168 hE dX18_statement_167 rfl xc_i_0 ?_
                  refine x_sipush 171 hE dX18_statement_168 rfl xc_s_999 ?_
                  refine x_calli 174 (xw_goV hE (c := 15) (by decide) (fun v36 hq => xw_rU (owner := "CrossingWords$Reader") (x := ⟨"CrossingWords$LawReader", "number", "(II)I"⟩) hE (ct_X3_number v36 0 999) xD_CrossingWords_Reader_number__II_I (Or.inl (Or.inl rfl)) q769 q770 q771 q485 q98 q486 rfl ⟨Nat.le_of_ble_eq_true rfl, Nat.le_of_ble_eq_true rfl⟩ (congrArg va_rf hq) rfl (Nat.le_trans (xw_sm1 rfl (xw_sm1 (x_rfc _) xw_sm0)) (by decide)) dX18_statement_171)) rfl (fun v35 => ?_)
                  refine x_callv 177 (xw_goV hE (c := 16) (by decide) (fun v37 hq => xw_rV hE (ct_X19_adds v37 8 v35) xd_X19_adds rfl q763 q764 q765 q115 q766 rfl ⟨Nat.le_of_ble_eq_true rfl, Nat.le_of_ble_eq_true rfl⟩ (congrArg va_rf hq) rfl (by decide) dX18_statement_174)) rfl ?_
                  refine x_goto 253 hE dX18_statement_177 (by decide) ?_
                  refine x_sub [(0, va_rf (some v1))] [0] rfl ?_
                  exact hJ1 ()
                · refine x_sw (fun hs9 => ?_) (fun hs9 => ?_)
                  · refine x_swIn 180 hE dX18_statement_7 hs9 ⟨by decide, by decide, rfl⟩ (by decide) ?_
                    refine x_aload_n 181 hE dX18_statement_180 rfl 0 rfl ?_
                    refine x_gR 184 hE (xw_lk0 hE xkf_CrossingWords_LawReader_14) rfl dX18_statement_181 rfl (fun v38 => ?_)
                    refine x_bipush 186 hE dX18_statement_184 rfl xc_b_9 ?_
                    refine x_aload_n 187 hE dX18_statement_186 rfl 0 rfl ?_
                    refine x_gs (j := 8) (n := "BUTS") (d := "[J") 190 hE xsl_8 xkg_CrossingWords_LawReader_52 dX18_statement_187 rfl (fun v39 => ?_)
                    refine x_calli 193 (xw_goV hE (c := 15) (by decide) (fun v41 hq => xw_rU (owner := "CrossingWords$Reader") (x := ⟨"CrossingWords$LawReader", "name", "([J)I"⟩) hE (ct_X3_name v41 v39) xD_CrossingWords_Reader_name___J_I (Or.inl (Or.inl rfl)) q751 q752 q753 q401 q98 q402 rfl ⟨Nat.le_of_ble_eq_true rfl, Nat.le_of_ble_eq_true rfl⟩ (congrArg va_rf hq) rfl (Nat.le_trans (xw_sm1 rfl (xw_sm1 (x_rfc _) xw_sm0)) (by decide)) dX18_statement_190)) rfl (fun v40 => ?_)
                    refine x_callv 196 (xw_goV hE (c := 16) (by decide) (fun v42 hq => xw_rV hE (ct_X19_adds v42 9 v40) xd_X19_adds rfl q763 q764 q765 q115 q766 rfl ⟨Nat.le_of_ble_eq_true rfl, Nat.le_of_ble_eq_true rfl⟩ (congrArg va_rf hq) rfl (by decide) dX18_statement_193)) rfl ?_
                    refine x_goto 253 hE dX18_statement_196 (by decide) ?_
                    refine x_sub [(0, va_rf (some v1))] [0] rfl ?_
                    exact hJ1 ()
                  · refine x_sw (fun hs10 => ?_) (fun hs10 => ?_)
                    · refine x_swIn 199 hE dX18_statement_7 hs10 ⟨by decide, by decide, rfl⟩ (by decide) ?_
                      refine x_aload_n 200 hE dX18_statement_199 rfl 0 rfl ?_
                      refine x_gR 203 hE (xw_lk0 hE xkf_CrossingWords_LawReader_14) rfl dX18_statement_200 rfl (fun v43 => ?_)
                      refine x_bipush 205 hE dX18_statement_203 rfl xc_b_10 ?_
                      refine x_aload_n 206 hE dX18_statement_205 rfl 0 rfl ?_
                      refine x_gs (j := 9) (n := "FORMS") (d := "[J") 209 hE xsl_9 xkg_CrossingWords_LawReader_55 dX18_statement_206 rfl (fun v44 => ?_)
                      refine x_calli 212 (xw_goV hE (c := 15) (by decide) (fun v46 hq => xw_rU (owner := "CrossingWords$Reader") (x := ⟨"CrossingWords$LawReader", "name", "([J)I"⟩) hE (ct_X3_name v46 v44) xD_CrossingWords_Reader_name___J_I (Or.inl (Or.inl rfl)) q751 q752 q753 q401 q98 q402 rfl ⟨Nat.le_of_ble_eq_true rfl, Nat.le_of_ble_eq_true rfl⟩ (congrArg va_rf hq) rfl (Nat.le_trans (xw_sm1 rfl (xw_sm1 (x_rfc _) xw_sm0)) (by decide)) dX18_statement_209)) rfl (fun v45 => ?_)
                      refine x_callv 215 (xw_goV hE (c := 16) (by decide) (fun v47 hq => xw_rV hE (ct_X19_adds v47 10 v45) xd_X19_adds rfl q763 q764 q765 q115 q766 rfl ⟨Nat.le_of_ble_eq_true rfl, Nat.le_of_ble_eq_true rfl⟩ (congrArg va_rf hq) rfl (by decide) dX18_statement_212)) rfl ?_
                      refine x_goto 253 hE dX18_statement_215 (by decide) ?_
                      refine x_sub [(0, va_rf (some v1))] [0] rfl ?_
                      exact hJ1 ()
                    · refine x_sw (fun hs11 => ?_) (fun hs11 => ?_)
                      · refine x_swIn 218 hE dX18_statement_7 hs11 ⟨by decide, by decide, rfl⟩ (by decide) ?_
                        refine x_aload_n 219 hE dX18_statement_218 rfl 0 rfl ?_
                        refine x_gR 222 hE (xw_lk0 hE xkf_CrossingWords_LawReader_14) rfl dX18_statement_219 rfl (fun v48 => ?_)
                        refine x_bipush 224 hE dX18_statement_222 rfl xc_b_11 ?_
                        refine x_aload_n 225 hE dX18_statement_224 rfl 0 rfl ?_
                        refine x_gs (j := 10) (n := "DEEDS") (d := "[J") 228 hE xsl_10 xkg_CrossingWords_LawReader_58 dX18_statement_225 rfl (fun v49 => ?_)
                        refine x_calli 231 (xw_goV hE (c := 15) (by decide) (fun v51 hq => xw_rU (owner := "CrossingWords$Reader") (x := ⟨"CrossingWords$LawReader", "name", "([J)I"⟩) hE (ct_X3_name v51 v49) xD_CrossingWords_Reader_name___J_I (Or.inl (Or.inl rfl)) q751 q752 q753 q401 q98 q402 rfl ⟨Nat.le_of_ble_eq_true rfl, Nat.le_of_ble_eq_true rfl⟩ (congrArg va_rf hq) rfl (Nat.le_trans (xw_sm1 rfl (xw_sm1 (x_rfc _) xw_sm0)) (by decide)) dX18_statement_228)) rfl (fun v50 => ?_)
                        refine x_callv 234 (xw_goV hE (c := 16) (by decide) (fun v52 hq => xw_rV hE (ct_X19_adds v52 11 v50) xd_X19_adds rfl q763 q764 q765 q115 q766 rfl ⟨Nat.le_of_ble_eq_true rfl, Nat.le_of_ble_eq_true rfl⟩ (congrArg va_rf hq) rfl (by decide) dX18_statement_231)) rfl ?_
                        refine x_goto 253 hE dX18_statement_234 (by decide) ?_
                        refine x_sub [(0, va_rf (some v1))] [0] rfl ?_
                        exact hJ1 ()
                      · refine x_swOut 237 hE dX18_statement_7 (xw_out0_9 hs2 hs3 hs4 hs5 hs6 hs7 hs8 hs9 hs10 hs11) (by decide) ?_
                        refine x_aload_n 238 hE dX18_statement_237 rfl 0 rfl ?_
                        refine x_gR 241 hE (xw_lk0 hE xkf_CrossingWords_LawReader_14) rfl dX18_statement_238 rfl (fun v53 => ?_)
                        refine x_bipush 243 hE dX18_statement_241 rfl xc_b_12 ?_
                        refine x_aload_n 244 hE dX18_statement_243 rfl 0 rfl ?_
                        refine x_gs (j := 11) (n := "RISKS") (d := "[J") 247 hE xsl_11 xkg_CrossingWords_LawReader_61 dX18_statement_244 rfl (fun v54 => ?_)
                        refine x_calli 250 (xw_goV hE (c := 15) (by decide) (fun v56 hq => xw_rU (owner := "CrossingWords$Reader") (x := ⟨"CrossingWords$LawReader", "name", "([J)I"⟩) hE (ct_X3_name v56 v54) xD_CrossingWords_Reader_name___J_I (Or.inl (Or.inl rfl)) q751 q752 q753 q401 q98 q402 rfl ⟨Nat.le_of_ble_eq_true rfl, Nat.le_of_ble_eq_true rfl⟩ (congrArg va_rf hq) rfl (Nat.le_trans (xw_sm1 rfl (xw_sm1 (x_rfc _) xw_sm0)) (by decide)) dX18_statement_247)) rfl (fun v55 => ?_)
                        refine x_callv 253 (xw_goV hE (c := 16) (by decide) (fun v57 hq => xw_rV hE (ct_X19_adds v57 12 v55) xd_X19_adds rfl q763 q764 q765 q115 q766 rfl ⟨Nat.le_of_ble_eq_true rfl, Nat.le_of_ble_eq_true rfl⟩ (congrArg va_rf hq) rfl (by decide) dX18_statement_250)) rfl ?_
                        refine x_sub [(0, va_rf (some v1))] [0] rfl ?_
                        exact hJ1 ()

set_option maxHeartbeats 4000000 in
theorem ct_X3_reads {l : Launch} {G : xw_G} {μ : xw_Mu} (v1 : Nat) : xw_Ct l G (xw_hc G μ) xw_oi yX3_reads cX3_reads 1 (some (.boolean)) 9 [va_rf (some v1)] (pg_X3_reads v1) := by
  refine xw_metL [(0, va_rf (some v1))] (by decide) (Nat.le_trans (Nat.le_of_eq ((xw_l1 rfl).trans (congrArg (1 + ·) xw_l0))) (by decide)) ((xw_a1 rfl).trans (congrArg (List.cons _) xw_a0)) (fun E hE hl hG hm => ?_)
  subst hl; subst hG
  have hE : xw_ok E "CrossingWords$Reader" cX3_reads 1 (some (.boolean)) 9 := hE
  unfold pg_X3_reads
  refine x_sub [(0, va_rf (some v1))] [0] rfl ?_
  refine x_sq 36 (fun (v3 : Unit) => [(0, va_rf (some v1))]) (fun _ => []) (fun v3 => ?_) (fun J2 hJ2 => ?_)
  · refine x_aload_n 37 hE dX3_reads_36 rfl 0 rfl ?_
    refine x_gI 40 hE (xw_lk0 hE xkf_CrossingWords_Reader_48) rfl dX3_reads_37 rfl (fun v4 => ?_)
    refine x_if_ne 54 43 hE dX3_reads_40 (by decide) rfl ?_ ?_
    · refine x_aload_n 44 hE dX3_reads_43 rfl 0 rfl ?_
      refine x_calli 47 (xw_goD hE (fun v6 hq => (List.forall_mem_cons.mpr ⟨⟨Nat.le_of_ble_eq_true rfl, xw_rU (owner := "CrossingWords$Reader") (x := ⟨"CrossingWords$Reader", "isWhole", "()Z"⟩) hE (ct_X4_isWhole v6) xD_CrossingWords_Reader_isWhole___Z (Or.inr xkd_CrossingWords_ReaderisWhole_) q784 q786 q787 q788 q99 q789 rfl ⟨Nat.le_of_ble_eq_true rfl, Nat.le_of_ble_eq_true rfl⟩ (congrArg va_rf hq) rfl (by decide) dX3_reads_44⟩, (List.forall_mem_cons.mpr ⟨⟨Nat.le_of_ble_eq_true rfl, xw_rU (owner := "CrossingWords$Reader") (x := ⟨"CrossingWords$Reader", "isWhole", "()Z"⟩) hE (ct_X18_isWhole v6) xD_CrossingWords_Reader_isWhole___Z (Or.inr xkd_CrossingWords_ReaderisWhole_) q784 q786 q790 q791 q114 q792 rfl ⟨Nat.le_of_ble_eq_true rfl, Nat.le_of_ble_eq_true rfl⟩ (congrArg va_rf hq) rfl (by decide) dX3_reads_44⟩, (fun _ h => absurd h List.not_mem_nil)⟩)⟩))) rfl (fun v5 => ?_)
      refine x_if_eq 54 50 hE dX3_reads_47 (by decide) rfl ?_ ?_
      · refine x_iconst 55 hE dX3_reads_54 rfl xc_i_0 ?_
        exact x_zretw hE (by decide) dX3_reads_55
      · refine x_iconst 51 hE dX3_reads_50 rfl xc_i_1 ?_
        refine x_goto 55 hE dX3_reads_51 (by decide) ?_
        exact x_zretw hE (by decide) dX3_reads_55
    · refine x_iconst 55 hE dX3_reads_54 rfl xc_i_0 ?_
      exact x_zretw hE (by decide) dX3_reads_55
  · refine x_loop (fun (v2 : Unit) => [(0, va_rf (some v1))]) (fun JL1 hc1 hx1 v2 => ?_) _ _
    refine x_aload_n 1 hE dX3_reads_0 rfl 0 rfl ?_
    refine x_gI 4 hE (xw_lk0 hE xkf_CrossingWords_Reader_48) rfl dX3_reads_1 rfl (fun v7 => ?_)
    refine x_if_ne 36 7 hE dX3_reads_4 (by decide) rfl ?_ ?_
    · refine x_aload_n 8 hE dX3_reads_7 rfl 0 rfl ?_
      refine x_gI 11 hE (xw_lk0 hE xkf_CrossingWords_Reader_32) rfl dX3_reads_8 rfl (fun v8 => ?_)
      refine x_if_eq 36 14 hE dX3_reads_11 (by decide) rfl ?_ ?_
      · refine x_sub [(0, va_rf (some v1))] [0] rfl ?_
        refine hx1 _ _ _ _ ?_
        exact hJ2 ()
      · refine x_aload_n 15 hE dX3_reads_14 rfl 0 rfl ?_
        refine x_calli 18 (xw_goD hE (fun v10 hq => (List.forall_mem_cons.mpr ⟨⟨Nat.le_of_ble_eq_true rfl, xw_rU (owner := "CrossingWords$Reader") (x := ⟨"CrossingWords$Reader", "hasRoom", "()Z"⟩) hE (ct_X4_hasRoom v10) xD_CrossingWords_Reader_hasRoom___Z (Or.inr xkd_CrossingWords_ReaderhasRoom_) q380 q382 q383 q384 q99 q385 rfl ⟨Nat.le_of_ble_eq_true rfl, Nat.le_of_ble_eq_true rfl⟩ (congrArg va_rf hq) rfl (by decide) dX3_reads_15⟩, (List.forall_mem_cons.mpr ⟨⟨Nat.le_of_ble_eq_true rfl, xw_rU (owner := "CrossingWords$Reader") (x := ⟨"CrossingWords$Reader", "hasRoom", "()Z"⟩) hE (ct_X18_hasRoom v10) xD_CrossingWords_Reader_hasRoom___Z (Or.inr xkd_CrossingWords_ReaderhasRoom_) q380 q382 q386 q387 q114 q388 rfl ⟨Nat.le_of_ble_eq_true rfl, Nat.le_of_ble_eq_true rfl⟩ (congrArg va_rf hq) rfl (by decide) dX3_reads_15⟩, (fun _ h => absurd h List.not_mem_nil)⟩)⟩))) rfl (fun v9 => ?_)
        refine x_if_ne 29 21 hE dX3_reads_18 (by decide) rfl ?_ ?_
        · refine x_aload_n 22 hE dX3_reads_21 rfl 0 rfl ?_
          refine x_iconst 23 hE dX3_reads_22 rfl xc_i_1 ?_
          refine x_pZ 26 hE (xw_pkN (xw_lk0 hE xkf_CrossingWords_Reader_48) rfl) ⟨rfl, rfl⟩ dX3_reads_23 rfl ?_
          refine x_goto 0 hE dX3_reads_26 (by decide) ?_
          refine x_sub [(0, va_rf (some v1))] [0] rfl ?_
          exact hc1 ()
        · refine x_aload_n 30 hE dX3_reads_29 rfl 0 rfl ?_
          refine x_callv 33 (xw_goD hE (fun v11 hq => (List.forall_mem_cons.mpr ⟨⟨Nat.le_of_ble_eq_true rfl, xw_rU (owner := "CrossingWords$Reader") (x := ⟨"CrossingWords$Reader", "statement", "()V"⟩) hE (ct_X4_statement v11) xD_CrossingWords_Reader_statement___V (Or.inr xkd_CrossingWords_Readerstatement_) q389 q391 q392 q393 q99 q394 rfl ⟨Nat.le_of_ble_eq_true rfl, Nat.le_of_ble_eq_true rfl⟩ (congrArg va_rf hq) rfl (by decide) dX3_reads_30⟩, (List.forall_mem_cons.mpr ⟨⟨Nat.le_of_ble_eq_true rfl, xw_rU (owner := "CrossingWords$Reader") (x := ⟨"CrossingWords$Reader", "statement", "()V"⟩) hE (ct_X18_statement v11) xD_CrossingWords_Reader_statement___V (Or.inr xkd_CrossingWords_Readerstatement_) q389 q391 q746 q747 q114 q748 rfl ⟨Nat.le_of_ble_eq_true rfl, Nat.le_of_ble_eq_true rfl⟩ (congrArg va_rf hq) rfl (by decide) dX3_reads_30⟩, (fun _ h => absurd h List.not_mem_nil)⟩)⟩))) rfl ?_
          refine x_goto 0 hE dX3_reads_33 (by decide) ?_
          refine x_sub [(0, va_rf (some v1))] [0] rfl ?_
          exact hc1 ()
    · refine x_sub [(0, va_rf (some v1))] [0] rfl ?_
      refine hx1 _ _ _ _ ?_
      exact hJ2 ()

set_option maxHeartbeats 4000000 in
theorem ct_X0_isTaken {l : Launch} {G : xw_G} {μ : xw_Mu} (v1 : Nat) (v2 : Option Nat) : xw_Ct l G (xw_hc G μ) xw_oi yX0_isTaken cX0_isTaken 3 (some (.boolean)) 10 [va_rf (some v1), va_rf v2] (pg_X0_isTaken v1 v2) := by
  refine xw_metL [(0, va_rf (some v1)), (1, va_rf v2)] (by decide) (Nat.le_trans (Nat.le_of_eq ((xw_l1 rfl).trans (congrArg (1 + ·) ((xw_l1 (x_rfc _)).trans (congrArg (1 + ·) xw_l0))))) (by decide)) ((xw_a1 rfl).trans (congrArg (List.cons _) ((xw_a1 (x_rfc _)).trans (congrArg (List.cons _) xw_a0)))) (fun E hE hl hG hm => ?_)
  subst hl; subst hG
  have hE : xw_ok E "CrossingWords" cX0_isTaken 3 (some (.boolean)) 10 := hE
  unfold pg_X0_isTaken
  refine x_aload_n 1 hE dX0_isTaken_0 rfl 1 rfl ?_
  refine x_calli 4 (xw_goD hE (fun v4 hq => (List.forall_mem_cons.mpr ⟨⟨Nat.le_of_ble_eq_true rfl, xw_rU (owner := "CrossingWords$Reader") (x := ⟨"CrossingWords$Reader", "reads", "()Z"⟩) hE (ct_X3_reads v4) xD_CrossingWords_Reader_reads___Z (Or.inl (Or.inl rfl)) q374 q376 q377 q375 q98 q379 rfl ⟨Nat.le_of_ble_eq_true rfl, Nat.le_of_ble_eq_true rfl⟩ (congrArg va_rf hq) rfl (by decide) dX0_isTaken_1⟩, (List.forall_mem_cons.mpr ⟨⟨Nat.le_of_ble_eq_true rfl, xw_rU (owner := "CrossingWords$Reader") (x := ⟨"CrossingWords$Reader", "reads", "()Z"⟩) hE (ct_X3_reads v4) xD_CrossingWords_Reader_reads___Z (Or.inl (Or.inl rfl)) q374 q376 q378 q375 q98 q379 rfl ⟨Nat.le_of_ble_eq_true rfl, Nat.le_of_ble_eq_true rfl⟩ (congrArg va_rf hq) rfl (by decide) dX0_isTaken_1⟩, (fun _ h => absurd h List.not_mem_nil)⟩)⟩))) rfl (fun v3 => ?_)
  refine x_istore_n 5 [(2, .int v3), (0, va_rf (some v1)), (1, va_rf v2)] hE dX0_isTaken_4 rfl rfl (Nat.le_of_ble_eq_true rfl) (congrArg (List.cons _) (xw_f1 (by decide) rfl (xw_f1 (by decide) (x_rfc _) xw_f0))) ?_
  refine x_aload_n 6 hE dX0_isTaken_5 rfl 1 rfl ?_
  refine x_iconst 7 hE dX0_isTaken_6 rfl xc_i_0 ?_
  refine x_pI 10 hE (xw_pkN (xw_lk0 hE xkf_CrossingWords_91) rfl) ⟨rfl, rfl⟩ dX0_isTaken_7 rfl ?_
  refine x_aload_n 11 hE dX0_isTaken_10 rfl 1 rfl ?_
  refine x_iload_n 12 hE dX0_isTaken_11 rfl 0 rfl ?_
  refine x_sq 23 (fun (v5 : Int32) => [(2, .int v3)]) (fun (v5 : Int32) => [.int v5, va_rf (some v1)]) (fun v5 => ?_) (fun J1 hJ1 => ?_)
  · refine x_pI 26 hE (xw_pkN (xw_lk0 hE xkf_CrossingWords_44) rfl) ⟨rfl, rfl⟩ dX0_isTaken_23 rfl ?_
    refine x_iload_n 27 hE dX0_isTaken_26 rfl 0 rfl ?_
    exact x_zretw hE rfl dX0_isTaken_27
  · refine x_if_eq 19 15 hE dX0_isTaken_12 (by decide) rfl ?_ ?_
    · refine x_aload_n 20 hE dX0_isTaken_19 rfl 2 rfl ?_
      refine x_calli 23 (xw_goD hE (fun v7 hq => (List.forall_mem_cons.mpr ⟨⟨Nat.le_of_ble_eq_true rfl, xw_rU (owner := "CrossingWords$Reader") (x := ⟨"CrossingWords$Reader", "place", "()I"⟩) hE (ct_X3_place v7) xD_CrossingWords_Reader_place___I (Or.inl (Or.inl rfl)) q793 q795 q796 q794 q98 q798 rfl ⟨Nat.le_of_ble_eq_true rfl, Nat.le_of_ble_eq_true rfl⟩ (congrArg va_rf hq) rfl (Nat.le_trans (xw_sm1 rfl xw_sm0) (by decide)) dX0_isTaken_20⟩, (List.forall_mem_cons.mpr ⟨⟨Nat.le_of_ble_eq_true rfl, xw_rU (owner := "CrossingWords$Reader") (x := ⟨"CrossingWords$Reader", "place", "()I"⟩) hE (ct_X3_place v7) xD_CrossingWords_Reader_place___I (Or.inl (Or.inl rfl)) q793 q795 q797 q794 q98 q798 rfl ⟨Nat.le_of_ble_eq_true rfl, Nat.le_of_ble_eq_true rfl⟩ (congrArg va_rf hq) rfl (Nat.le_trans (xw_sm1 rfl xw_sm0) (by decide)) dX0_isTaken_20⟩, (fun _ h => absurd h List.not_mem_nil)⟩)⟩))) rfl (fun v6 => ?_)
      refine x_sub [(2, .int v3)] [0] rfl ?_
      exact hJ1 v6
    · refine x_iconst 16 hE dX0_isTaken_15 rfl xc_i_m1 ?_
      refine x_goto 23 hE dX0_isTaken_16 (by decide) ?_
      refine x_sub [(2, .int v3)] [0] rfl ?_
      exact hJ1 (-1)

set_option maxHeartbeats 4000000 in
theorem ct_X5_init {l : Launch} {G : xw_G} {μ : xw_Mu} (v1 : Nat) : xw_Ct l G (xw_hc G μ) xw_ov yX5_init cX5_init 1 none 1 [va_rf (some v1)] (pg_X5_init v1) := by
  refine xw_metL [(0, va_rf (some v1))] (by decide) (Nat.le_trans (Nat.le_of_eq ((xw_l1 rfl).trans (congrArg (1 + ·) xw_l0))) (by decide)) ((xw_a1 rfl).trans (congrArg (List.cons _) xw_a0)) (fun E hE hl hG hm => ?_)
  subst hl; subst hG
  have hE : xw_ok E "CrossingWords$Case" cX5_init 1 none 1 := hE
  have hm : (xe_M E).name = "<init>" := hm
  unfold pg_X5_init
  refine x_aload_n 1 hE dX5_init_0 rfl 0 rfl ?_
  refine x_objInit 4 hE q276 q126 q127 (by decide) dX5_init_1 rfl rfl ?_
  refine x_aload_n 5 hE dX5_init_4 rfl 0 rfl ?_
  refine x_bipush 7 hE dX5_init_5 rfl xc_b_12 ?_
  refine x_nwR (t := 117) 10 hE xsA_117 rfl q277 dX5_init_7 rfl (fun v2 => ?_)
  refine x_pR 13 hE (xw_pkF hE hm xkf_CrossingWords_Case_11 rfl rfl) ⟨rfl, rfl⟩ dX5_init_10 rfl ?_
  refine x_aload_n 14 hE dX5_init_13 rfl 0 rfl ?_
  refine x_bipush 16 hE dX5_init_14 rfl xc_b_48 ?_
  refine x_nwa (t := 118) 18 hE xsA_118 rfl xsB_118 dX5_init_16 rfl (fun v3 => ?_)
  refine x_pR 21 hE (xw_pkF hE hm xkf_CrossingWords_Case_17 rfl rfl) ⟨rfl, rfl⟩ dX5_init_18 rfl ?_
  refine x_aload_n 22 hE dX5_init_21 rfl 0 rfl ?_
  refine x_bipush 24 hE dX5_init_22 rfl xc_b_48 ?_
  refine x_nwa (t := 119) 26 hE xsA_119 rfl xsB_119 dX5_init_24 rfl (fun v4 => ?_)
  refine x_pR 29 hE (xw_pkF hE hm xkf_CrossingWords_Case_21 rfl rfl) ⟨rfl, rfl⟩ dX5_init_26 rfl ?_
  refine x_aload_n 30 hE dX5_init_29 rfl 0 rfl ?_
  refine x_bipush 32 hE dX5_init_30 rfl xc_b_48 ?_
  refine x_nwa (t := 120) 34 hE xsA_120 rfl xsB_120 dX5_init_32 rfl (fun v5 => ?_)
  refine x_pR 37 hE (xw_pkF hE hm xkf_CrossingWords_Case_24 rfl rfl) ⟨rfl, rfl⟩ dX5_init_34 rfl ?_
  refine x_aload_n 38 hE dX5_init_37 rfl 0 rfl ?_
  refine x_lconst 39 hE dX5_init_38 rfl xc_l_1 ?_
  refine x_pJ 42 hE (xw_pkN (xw_lk0 hE xkf_CrossingWords_Case_27) rfl) ⟨rfl, rfl⟩ dX5_init_39 rfl ?_
  exact x_vret hE dX5_init_42

set_option maxHeartbeats 4000000 in
theorem ct_X5_is {l : Launch} {G : xw_G} {μ : xw_Mu} (v1 : Nat) (v2 : Option Nat) : xw_Ct l G (xw_hc G μ) xw_ov yX5_is cX5_is 3 none 3 [va_rf (some v1), va_rf v2] (pg_X5_is v1 v2) := by
  refine xw_metL [(0, va_rf (some v1)), (1, va_rf v2)] (by decide) (Nat.le_trans (Nat.le_of_eq ((xw_l1 rfl).trans (congrArg (1 + ·) ((xw_l1 (x_rfc _)).trans (congrArg (1 + ·) xw_l0))))) (by decide)) ((xw_a1 rfl).trans (congrArg (List.cons _) ((xw_a1 (x_rfc _)).trans (congrArg (List.cons _) xw_a0)))) (fun E hE hl hG hm => ?_)
  subst hl; subst hG
  have hE : xw_ok E "CrossingWords$Case" cX5_is 3 none 3 := hE
  unfold pg_X5_is
  refine x_aload_n 1 hE dX5_is_0 rfl 0 rfl ?_
  refine x_iconst 2 hE dX5_is_1 rfl xc_i_0 ?_
  refine x_pI 5 hE (xw_pkN (xw_lk0 hE xkf_CrossingWords_Case_31) rfl) ⟨rfl, rfl⟩ dX5_is_2 rfl ?_
  refine x_aload_n 6 hE dX5_is_5 rfl 0 rfl ?_
  refine x_iconst 7 hE dX5_is_6 rfl xc_i_0 ?_
  refine x_pI 10 hE (xw_pkN (xw_lk0 hE xkf_CrossingWords_Case_35) rfl) ⟨rfl, rfl⟩ dX5_is_7 rfl ?_
  refine x_aload_n 11 hE dX5_is_10 rfl 0 rfl ?_
  refine x_lconst 12 hE dX5_is_11 rfl xc_l_1 ?_
  refine x_pJ 15 hE (xw_pkN (xw_lk0 hE xkf_CrossingWords_Case_27) rfl) ⟨rfl, rfl⟩ dX5_is_12 rfl ?_
  refine x_iconst 16 hE dX5_is_15 rfl xc_i_0 ?_
  refine x_istore_n 17 [(2, .int 0), (0, va_rf (some v1)), (1, va_rf v2)] hE dX5_is_16 rfl rfl (Nat.le_of_ble_eq_true rfl) (congrArg (List.cons _) (xw_f1 (by decide) rfl (xw_f1 (by decide) (x_rfc _) xw_f0))) ?_
  refine x_sub [(0, va_rf (some v1)), (1, va_rf v2), (2, .int 0)] [1, 2, 0] rfl ?_
  refine x_sq 41 (fun (v4 : Unit) => []) (fun _ => []) (fun v4 => ?_) (fun J2 hJ2 => ?_)
  · exact x_vret hE dX5_is_41
  · refine x_loop (fun (v3 : Int32) => [(0, va_rf (some v1)), (1, va_rf v2), (2, .int v3)]) (fun JL1 hc1 hx1 v3 => ?_) _ _
    refine x_iload_n 18 hE dX5_is_17 rfl 2 rfl ?_
    refine x_aload_n 19 hE dX5_is_18 rfl 1 rfl ?_
    refine x_gI 22 hE (xw_lk0 hE xkf_CrossingWords_Case_31) rfl dX5_is_19 rfl (fun v5 => ?_)
    refine x_icmp_ge 41 25 hE dX5_is_22 (by decide) rfl ?_ ?_
    · refine x_sub [] [] rfl ?_
      refine hx1 _ _ _ _ ?_
      exact hJ2 ()
    · refine x_aload_n 26 hE dX5_is_25 rfl 0 rfl ?_
      refine x_aload_n 27 hE dX5_is_26 rfl 1 rfl ?_
      refine x_gR 30 hE (xw_lk0 hE xkf_CrossingWords_Case_11) rfl dX5_is_27 rfl (fun v6 => ?_)
      refine x_iload_n 31 hE dX5_is_30 rfl 2 rfl ?_
      refine x_ldR 32 hE dX5_is_31 rfl (fun v7 => ?_)
      refine x_callv 35 (xw_goV hE (c := 4) (by decide) (fun v8 hq => xw_rV hE (ct_X5_adds v8 v7) xd_X5_adds rfl q316 q317 q318 q100 q319 rfl ⟨Nat.le_of_ble_eq_true rfl, Nat.le_of_ble_eq_true rfl⟩ (congrArg va_rf hq) rfl (by decide) dX5_is_32)) rfl ?_
      refine x_iinc 38 [(2, .int (v3 + 1)), (0, va_rf (some v1)), (1, va_rf v2)] hE dX5_is_35 rfl 2 rfl xc_i_1 (Nat.le_of_ble_eq_true rfl) (congrArg (List.cons _) (xw_f1 (by decide) rfl (xw_f1 (by decide) (x_rfc _) (xw_f2 xw_f0)))) ?_
      refine x_goto 17 hE dX5_is_38 (by decide) ?_
      refine x_sub [(0, va_rf (some v1)), (1, va_rf v2), (2, .int (v3 + 1))] [1, 2, 0] rfl ?_
      exact hc1 (v3 + 1)

set_option maxHeartbeats 4000000 in
theorem ct_X3_init {l : Launch} {G : xw_G} {μ : xw_Mu} (v1 : Nat) (v2 : Option Nat) (v3 : Int32) : xw_Ct l G (xw_hc G μ) xw_ov yX3_init cX3_init 3 none 3 [va_rf (some v1), va_rf v2, .int v3] (pg_X3_init v1 v2 v3) := by
  refine xw_metL [(0, va_rf (some v1)), (1, va_rf v2), (2, .int v3)] (by decide) (Nat.le_trans (Nat.le_of_eq ((xw_l1 rfl).trans (congrArg (1 + ·) ((xw_l1 (x_rfc _)).trans (congrArg (1 + ·) ((xw_l1 rfl).trans (congrArg (1 + ·) xw_l0))))))) (by decide)) ((xw_a1 rfl).trans (congrArg (List.cons _) ((xw_a1 (x_rfc _)).trans (congrArg (List.cons _) ((xw_a1 rfl).trans (congrArg (List.cons _) xw_a0)))))) (fun E hE hl hG hm => ?_)
  subst hl; subst hG
  have hE : xw_ok E "CrossingWords$Reader" cX3_init 3 none 3 := hE
  have hm : (xe_M E).name = "<init>" := hm
  unfold pg_X3_init
  refine x_aload_n 1 hE dX3_init_0 rfl 0 rfl ?_
  refine x_objInit 4 hE q255 q126 q127 (by decide) dX3_init_1 rfl rfl ?_
  refine x_aload_n 5 hE dX3_init_4 rfl 0 rfl ?_
  refine x_aload_n 6 hE dX3_init_5 rfl 1 rfl ?_
  refine x_pR 9 hE (xw_pkF hE hm xkf_CrossingWords_Reader_9 rfl rfl) ⟨rfl, rfl⟩ dX3_init_6 rfl ?_
  refine x_aload_n 10 hE dX3_init_9 rfl 0 rfl ?_
  refine x_iload_n 11 hE dX3_init_10 rfl 2 rfl ?_
  refine x_pI 14 hE (xw_pkF hE hm xkf_CrossingWords_Reader_15 rfl rfl) ⟨rfl, rfl⟩ dX3_init_11 rfl ?_
  refine x_aload_n 15 hE dX3_init_14 rfl 0 rfl ?_
  refine x_callv 18 (xw_goD hE (fun v4 hq => (List.forall_mem_cons.mpr ⟨⟨Nat.le_of_ble_eq_true rfl, xw_rP hE (ct_X3_look v4) xd_X3_look q256 q258 (List.mem_of_getElem? (i := 0) rfl) q98 q259 rfl ⟨Nat.le_of_ble_eq_true rfl, Nat.le_of_ble_eq_true rfl⟩ (congrArg va_rf hq) rfl (by decide) dX3_init_15⟩, (List.forall_mem_cons.mpr ⟨⟨Nat.le_of_ble_eq_true rfl, xw_rP hE (ct_X3_look v4) xd_X3_look q256 q258 (List.mem_of_getElem? (i := 1) rfl) q98 q259 rfl ⟨Nat.le_of_ble_eq_true rfl, Nat.le_of_ble_eq_true rfl⟩ (congrArg va_rf hq) rfl (by decide) dX3_init_15⟩, (fun _ h => absurd h List.not_mem_nil)⟩)⟩))) rfl ?_
  exact x_vret hE dX3_init_18

set_option maxHeartbeats 4000000 in
theorem ct_X4_init {l : Launch} {G : xw_G} {μ : xw_Mu} (v1 : Nat) (v2 : Option Nat) (v3 : Int32) (v4 : Option Nat) (v5 : Int32) : xw_Ct l G (xw_hc G μ) xw_ov yX4_init cX4_init 5 none 4 [va_rf (some v1), va_rf v2, .int v3, va_rf v4, .int v5] (pg_X4_init v1 v2 v3 v4 v5) := by
  refine xw_metL [(0, va_rf (some v1)), (1, va_rf v2), (2, .int v3), (3, va_rf v4), (4, .int v5)] (by decide) (Nat.le_trans (Nat.le_of_eq ((xw_l1 rfl).trans (congrArg (1 + ·) ((xw_l1 (x_rfc _)).trans (congrArg (1 + ·) ((xw_l1 rfl).trans (congrArg (1 + ·) ((xw_l1 (x_rfc _)).trans (congrArg (1 + ·) ((xw_l1 rfl).trans (congrArg (1 + ·) xw_l0))))))))))) (by decide)) ((xw_a1 rfl).trans (congrArg (List.cons _) ((xw_a1 (x_rfc _)).trans (congrArg (List.cons _) ((xw_a1 rfl).trans (congrArg (List.cons _) ((xw_a1 (x_rfc _)).trans (congrArg (List.cons _) ((xw_a1 rfl).trans (congrArg (List.cons _) xw_a0)))))))))) (fun E hE hl hG hm => ?_)
  subst hl; subst hG
  have hE : xw_ok E "CrossingWords$CaseReader" cX4_init 5 none 4 := hE
  have hm : (xe_M E).name = "<init>" := hm
  unfold pg_X4_init
  refine x_aload_n 1 hE dX4_init_0 rfl 0 rfl ?_
  refine x_aload_n 2 hE dX4_init_1 rfl 1 rfl ?_
  refine x_iload_n 3 hE dX4_init_2 rfl 2 rfl ?_
  refine x_callv 6 (xw_goI hE (b := v1) (ct_X3_init v1 v2 v3) xd_X3_init q252 q253 q98 q254 rfl rfl ⟨Nat.le_of_ble_eq_true rfl, Nat.le_of_ble_eq_true rfl⟩ rfl (by decide) dX4_init_3) rfl ?_
  refine x_aload_n 7 hE dX4_init_6 rfl 0 rfl ?_
  refine x_new (c := 4) 10 hE (by decide) q271 q272 q100 dX4_init_7 rfl (fun v6 => ?_)
  refine x_dup 11 hE dX4_init_10 rfl rfl ?_
  refine x_callv 14 (xw_goIN hE (b := v6) (ct_X5_init v6) xd_X5_init xkm_CrossingWords_CaseReader_11 q274 q100 q275 rfl rfl ⟨Nat.le_of_ble_eq_true rfl, Nat.le_of_ble_eq_true rfl⟩ rfl (Nat.le_trans (xw_sm1 rfl (xw_sm1 rfl xw_sm0)) (by decide)) dX4_init_11) rfl ?_
  refine x_pR 17 hE (xw_pkF hE hm xkf_CrossingWords_CaseReader_14 rfl rfl) ⟨rfl, rfl⟩ dX4_init_14 rfl ?_
  refine x_aload_n 18 hE dX4_init_17 rfl 0 rfl ?_
  refine x_iload 20 hE dX4_init_18 rfl 4 rfl ?_
  refine x_pI 23 hE (xw_pkF hE hm xkf_CrossingWords_CaseReader_20 rfl rfl) ⟨rfl, rfl⟩ dX4_init_20 rfl ?_
  refine x_aload_n 24 hE dX4_init_23 rfl 3 rfl ?_
  refine x_sq 35 (fun (v7 : Unit) => [(0, va_rf (some v1))]) (fun (v7 : Unit) => []) (fun v7 => ?_) (fun J1 hJ1 => ?_)
  · refine x_aload_n 36 hE dX4_init_35 rfl 0 rfl ?_
    refine x_aload_n 37 hE dX4_init_36 rfl 0 rfl ?_
    refine x_gR 40 hE (xw_lk0 hE xkf_CrossingWords_CaseReader_14) rfl dX4_init_37 rfl (fun v8 => ?_)
    refine x_gI 43 hE (xw_lk0 hE xkf_CrossingWords_CaseReader_28) rfl dX4_init_40 rfl (fun v9 => ?_)
    refine x_pI 46 hE (xw_pkF hE hm xkf_CrossingWords_CaseReader_31 rfl rfl) ⟨rfl, rfl⟩ dX4_init_43 rfl ?_
    exact x_vret hE dX4_init_46
  · refine x_ifnull 35 27 hE dX4_init_24 (by decide) rfl ?_ ?_
    · refine x_sub [(0, va_rf (some v1))] [0] rfl ?_
      exact hJ1 ()
    · refine x_aload_n 28 hE dX4_init_27 rfl 0 rfl ?_
      refine x_gR 31 hE (xw_lk0 hE xkf_CrossingWords_CaseReader_14) rfl dX4_init_28 rfl (fun v10 => ?_)
      refine x_aload_n 32 hE dX4_init_31 rfl 3 rfl ?_
      refine x_callv 35 (xw_goV hE (c := 4) (by decide) (fun v11 hq => xw_rV hE (ct_X5_is v11 v4) xd_X5_is rfl q312 q313 q314 q100 q315 rfl ⟨Nat.le_of_ble_eq_true rfl, Nat.le_of_ble_eq_true rfl⟩ (congrArg va_rf hq) rfl (by decide) dX4_init_32)) rfl ?_
      refine x_sub [(0, va_rf (some v1))] [0] rfl ?_
      exact hJ1 ()

set_option maxHeartbeats 4000000 in
theorem ct_X0_tell {l : Launch} {G : xw_G} {μ : xw_Mu} (v1 : Nat) (v2 : Int32) : xw_Ct l G (xw_hc G μ) xw_oi yX0_tell cX0_tell 3 (some (.int)) 11 [va_rf (some v1), .int v2] (pg_X0_tell v1 v2) := by
  refine xw_metL [(0, va_rf (some v1)), (1, .int v2)] (by decide) (Nat.le_trans (Nat.le_of_eq ((xw_l1 rfl).trans (congrArg (1 + ·) ((xw_l1 rfl).trans (congrArg (1 + ·) xw_l0))))) (by decide)) ((xw_a1 rfl).trans (congrArg (List.cons _) ((xw_a1 rfl).trans (congrArg (List.cons _) xw_a0)))) (fun E hE hl hG hm => ?_)
  subst hl; subst hG
  have hE : xw_ok E "CrossingWords" cX0_tell 3 (some (.int)) 11 := hE
  unfold pg_X0_tell
  refine x_iload_n 1 hE dX0_tell_0 rfl 1 rfl ?_
  refine x_iconst 2 hE dX0_tell_1 rfl xc_i_0 ?_
  refine x_aload_n 3 hE dX0_tell_2 rfl 0 rfl ?_
  refine x_gI 6 hE (xw_lk0 hE xkf_CrossingWords_91) rfl dX0_tell_3 rfl (fun v3 => ?_)
  refine x_calli 9 (xw_goS hE (ct_X0_isIn v2 0 v3) xd_X0_isIn q244 q245 q95 q246 rfl ⟨Nat.le_of_ble_eq_true rfl, Nat.le_of_ble_eq_true rfl⟩ rfl (by decide) dX0_tell_6) rfl (fun v4 => ?_)
  refine x_if_ne 15 12 hE dX0_tell_9 (by decide) rfl ?_ ?_
  · refine x_bipush 14 hE dX0_tell_12 rfl xc_b_m2 ?_
    exact x_iret hE dX0_tell_14
  · refine x_aload_n 16 hE dX0_tell_15 rfl 0 rfl ?_
    refine x_gI 19 hE (xw_lk0 hE xkf_CrossingWords_106) rfl dX0_tell_16 rfl (fun v5 => ?_)
    refine x_bipush 21 hE dX0_tell_19 rfl xc_b_16 ?_
    refine x_icmp_ne 27 24 hE dX0_tell_21 (by decide) rfl ?_ ?_
    · refine x_bipush 26 hE dX0_tell_24 rfl xc_b_m3 ?_
      exact x_iret hE dX0_tell_26
    · refine x_new (c := 3) 30 hE (by decide) q247 q248 q99 dX0_tell_27 rfl (fun v6 => ?_)
      refine x_dup 31 hE dX0_tell_30 rfl rfl ?_
      refine x_aload_n 32 hE dX0_tell_31 rfl 0 rfl ?_
      refine x_gR 35 hE (xw_lk0 hE xkf_CrossingWords_34) rfl dX0_tell_32 rfl (fun v7 => ?_)
      refine x_iload_n 36 hE dX0_tell_35 rfl 1 rfl ?_
      refine x_null 37 hE dX0_tell_36 rfl ?_
      refine x_aload_n 38 hE dX0_tell_37 rfl 0 rfl ?_
      refine x_gI 41 hE (xw_lk0 hE xkf_CrossingWords_106) rfl dX0_tell_38 rfl (fun v8 => ?_)
      refine x_callv 44 (xw_goI hE (b := v6) (ct_X4_init v6 v7 v2 none v8) xd_X4_init q249 q250 q99 q251 rfl rfl ⟨Nat.le_of_ble_eq_true rfl, Nat.le_of_ble_eq_true rfl⟩ rfl (Nat.le_trans (xw_sm1 rfl xw_sm0) (by decide)) dX0_tell_41) rfl ?_
      refine x_astore_n 45 [(2, va_rf (some v6)), (0, va_rf (some v1)), (1, .int v2)] hE dX0_tell_44 rfl rfl (Nat.le_of_ble_eq_true rfl) rfl ?_
      refine x_aload_n 46 hE dX0_tell_45 rfl 1 rfl ?_
      refine x_aload_n 47 hE dX0_tell_46 rfl 0 rfl ?_
      refine x_calli 50 (xw_goV hE (c := 0) (by decide) (fun v10 hq => xw_rV hE (ct_X0_isTaken v10 (some v6)) xd_X0_isTaken rfl q370 q372 qs1 q95 q373 rfl ⟨Nat.le_of_ble_eq_true rfl, Nat.le_of_ble_eq_true rfl⟩ (congrArg va_rf hq) rfl (by decide) dX0_tell_47)) rfl (fun v9 => ?_)
      refine x_if_ne 55 53 hE dX0_tell_50 (by decide) rfl ?_ ?_
      · refine x_iconst 54 hE dX0_tell_53 rfl xc_i_m1 ?_
        exact x_iret hE dX0_tell_54
      · refine x_aload_n 56 hE dX0_tell_55 rfl 1 rfl ?_
        refine x_gR 59 hE (xw_lk0 hE xkf_CrossingWords_21) rfl dX0_tell_56 rfl (fun v11 => ?_)
        refine x_aload_n 60 hE dX0_tell_59 rfl 1 rfl ?_
        refine x_gI 63 hE (xw_lk0 hE xkf_CrossingWords_106) rfl dX0_tell_60 rfl (fun v12 => ?_)
        refine x_aload_n 64 hE dX0_tell_63 rfl 0 rfl ?_
        refine x_gR 67 hE (xw_lk0 hE xkf_CrossingWords_118) rfl dX0_tell_64 rfl (fun v13 => ?_)
        refine x_stR 68 hE dX0_tell_67 rfl ?_
        refine x_aload_n 69 hE dX0_tell_68 rfl 1 rfl ?_
        refine x_dup 70 hE dX0_tell_69 rfl rfl ?_
        refine x_gI 73 hE (xw_lk0 hE xkf_CrossingWords_106) rfl dX0_tell_70 rfl (fun v14 => ?_)
        refine x_iconst 74 hE dX0_tell_73 rfl xc_i_1 ?_
        refine x_iadd 75 hE dX0_tell_74 rfl ?_
        refine x_pI 78 hE (xw_pkN (xw_lk0 hE xkf_CrossingWords_106) rfl) ⟨rfl, rfl⟩ dX0_tell_75 rfl ?_
        refine x_aload_n 79 hE dX0_tell_78 rfl 1 rfl ?_
        refine x_gI 82 hE (xw_lk0 hE xkf_CrossingWords_106) rfl dX0_tell_79 rfl (fun v15 => ?_)
        refine x_iconst 83 hE dX0_tell_82 rfl xc_i_1 ?_
        refine x_isub 84 hE dX0_tell_83 rfl ?_
        exact x_iret hE dX0_tell_84

set_option maxHeartbeats 4000000 in
theorem ct_X0_isCase {l : Launch} {G : xw_G} {μ : xw_Mu} (v1 : Nat) (v2 : Int32) : xw_Ct l G (xw_hc G μ) xw_oi yX0_isCase cX0_isCase 2 (some (.boolean)) 2 [va_rf (some v1), .int v2] (pg_X0_isCase v1 v2) := by
  refine xw_metL [(0, va_rf (some v1)), (1, .int v2)] (by decide) (Nat.le_trans (Nat.le_of_eq ((xw_l1 rfl).trans (congrArg (1 + ·) ((xw_l1 rfl).trans (congrArg (1 + ·) xw_l0))))) (by decide)) ((xw_a1 rfl).trans (congrArg (List.cons _) ((xw_a1 rfl).trans (congrArg (List.cons _) xw_a0)))) (fun E hE hl hG hm => ?_)
  subst hl; subst hG
  have hE : xw_ok E "CrossingWords" cX0_isCase 2 (some (.boolean)) 2 := hE
  unfold pg_X0_isCase
  refine x_iload_n 1 hE dX0_isCase_0 rfl 1 rfl ?_
  refine x_iconst 2 hE dX0_isCase_1 rfl xc_i_0 ?_
  refine x_aload_n 3 hE dX0_isCase_2 rfl 0 rfl ?_
  refine x_gI 6 hE (xw_lk0 hE xkf_CrossingWords_106) rfl dX0_isCase_3 rfl (fun v3 => ?_)
  refine x_iconst 7 hE dX0_isCase_6 rfl xc_i_1 ?_
  refine x_isub 8 hE dX0_isCase_7 rfl ?_
  refine x_calli 11 (xw_goS hE (ct_X0_isIn v2 0 (v3 - 1)) xd_X0_isIn q244 q245 q95 q246 rfl ⟨Nat.le_of_ble_eq_true rfl, Nat.le_of_ble_eq_true rfl⟩ rfl (by decide) dX0_isCase_8) rfl (fun v4 => ?_)
  exact x_zretw hE rfl dX0_isCase_11

set_option maxHeartbeats 4000000 in
theorem ct_X0_more {l : Launch} {G : xw_G} {μ : xw_Mu} (v1 : Nat) (v2 : Int32) (v3 : Int32) : xw_Ct l G (xw_hc G μ) xw_oi yX0_more cX0_more 4 (some (.int)) 11 [va_rf (some v1), .int v2, .int v3] (pg_X0_more v1 v2 v3) := by
  refine xw_metL [(0, va_rf (some v1)), (1, .int v2), (2, .int v3)] (by decide) (Nat.le_trans (Nat.le_of_eq ((xw_l1 rfl).trans (congrArg (1 + ·) ((xw_l1 rfl).trans (congrArg (1 + ·) ((xw_l1 rfl).trans (congrArg (1 + ·) xw_l0))))))) (by decide)) ((xw_a1 rfl).trans (congrArg (List.cons _) ((xw_a1 rfl).trans (congrArg (List.cons _) ((xw_a1 rfl).trans (congrArg (List.cons _) xw_a0)))))) (fun E hE hl hG hm => ?_)
  subst hl; subst hG
  have hE : xw_ok E "CrossingWords" cX0_more 4 (some (.int)) 11 := hE
  unfold pg_X0_more
  refine x_aload_n 1 hE dX0_more_0 rfl 0 rfl ?_
  refine x_iload_n 2 hE dX0_more_1 rfl 1 rfl ?_
  refine x_calli 5 (xw_goV hE (c := 0) (by decide) (fun v5 hq => xw_rV hE (ct_X0_isCase v5 v2) xd_X0_isCase rfl q803 q805 qs12 q95 q806 rfl ⟨Nat.le_of_ble_eq_true rfl, Nat.le_of_ble_eq_true rfl⟩ (congrArg va_rf hq) rfl (by decide) dX0_more_2)) rfl (fun v4 => ?_)
  refine x_if_eq 20 8 hE dX0_more_5 (by decide) rfl ?_ ?_
  · refine x_bipush 22 hE dX0_more_20 rfl xc_b_m2 ?_
    exact x_iret hE dX0_more_22
  · refine x_iload_n 9 hE dX0_more_8 rfl 2 rfl ?_
    refine x_iconst 10 hE dX0_more_9 rfl xc_i_0 ?_
    refine x_aload_n 11 hE dX0_more_10 rfl 0 rfl ?_
    refine x_gI 14 hE (xw_lk0 hE xkf_CrossingWords_91) rfl dX0_more_11 rfl (fun v6 => ?_)
    refine x_calli 17 (xw_goS hE (ct_X0_isIn v3 0 v6) xd_X0_isIn q244 q245 q95 q246 rfl ⟨Nat.le_of_ble_eq_true rfl, Nat.le_of_ble_eq_true rfl⟩ rfl (by decide) dX0_more_14) rfl (fun v7 => ?_)
    refine x_if_ne 23 20 hE dX0_more_17 (by decide) rfl ?_ ?_
    · refine x_bipush 22 hE dX0_more_20 rfl xc_b_m2 ?_
      exact x_iret hE dX0_more_22
    · refine x_new (c := 3) 26 hE (by decide) q247 q248 q99 dX0_more_23 rfl (fun v8 => ?_)
      refine x_dup 27 hE dX0_more_26 rfl rfl ?_
      refine x_aload_n 28 hE dX0_more_27 rfl 0 rfl ?_
      refine x_gR 31 hE (xw_lk0 hE xkf_CrossingWords_34) rfl dX0_more_28 rfl (fun v9 => ?_)
      refine x_iload_n 32 hE dX0_more_31 rfl 2 rfl ?_
      refine x_aload_n 33 hE dX0_more_32 rfl 0 rfl ?_
      refine x_gR 36 hE (xw_lk0 hE xkf_CrossingWords_21) rfl dX0_more_33 rfl (fun v10 => ?_)
      refine x_iload_n 37 hE dX0_more_36 rfl 1 rfl ?_
      refine x_ldR 38 hE dX0_more_37 rfl (fun v11 => ?_)
      refine x_iload_n 39 hE dX0_more_38 rfl 1 rfl ?_
      refine x_callv 42 (xw_goI hE (b := v8) (ct_X4_init v8 v9 v3 v11 v2) xd_X4_init q249 q250 q99 q251 rfl rfl ⟨Nat.le_of_ble_eq_true rfl, Nat.le_of_ble_eq_true rfl⟩ rfl (Nat.le_trans (xw_sm1 rfl xw_sm0) (by decide)) dX0_more_39) rfl ?_
      refine x_astore_n 43 [(3, va_rf (some v8)), (0, va_rf (some v1)), (1, .int v2), (2, .int v3)] hE dX0_more_42 rfl rfl (Nat.le_of_ble_eq_true rfl) rfl ?_
      refine x_aload_n 44 hE dX0_more_43 rfl 1 rfl ?_
      refine x_aload_n 45 hE dX0_more_44 rfl 0 rfl ?_
      refine x_calli 48 (xw_goV hE (c := 0) (by decide) (fun v13 hq => xw_rV hE (ct_X0_isTaken v13 (some v8)) xd_X0_isTaken rfl q370 q372 qs1 q95 q373 rfl ⟨Nat.le_of_ble_eq_true rfl, Nat.le_of_ble_eq_true rfl⟩ (congrArg va_rf hq) rfl (by decide) dX0_more_45)) rfl (fun v12 => ?_)
      refine x_if_ne 53 51 hE dX0_more_48 (by decide) rfl ?_ ?_
      · refine x_iconst 52 hE dX0_more_51 rfl xc_i_m1 ?_
        exact x_iret hE dX0_more_52
      · refine x_aload_n 54 hE dX0_more_53 rfl 1 rfl ?_
        refine x_gR 57 hE (xw_lk0 hE xkf_CrossingWords_21) rfl dX0_more_54 rfl (fun v14 => ?_)
        refine x_iload_n 58 hE dX0_more_57 rfl 2 rfl ?_
        refine x_aload_n 59 hE dX0_more_58 rfl 0 rfl ?_
        refine x_gR 62 hE (xw_lk0 hE xkf_CrossingWords_118) rfl dX0_more_59 rfl (fun v15 => ?_)
        refine x_stR 63 hE dX0_more_62 rfl ?_
        refine x_aload_n 64 hE dX0_more_63 rfl 0 rfl ?_
        refine x_gR 67 hE (xw_lk0 hE xkf_CrossingWords_118) rfl dX0_more_64 rfl (fun v16 => ?_)
        refine x_gI 70 hE (xw_lk0 hE xkf_CrossingWords_126) rfl dX0_more_67 rfl (fun v17 => ?_)
        exact x_iret hE dX0_more_70

set_option maxHeartbeats 4000000 in
theorem ct_X19_init {l : Launch} {G : xw_G} {μ : xw_Mu} (v1 : Nat) : xw_Ct l G (xw_hc G μ) xw_ov yX19_init cX19_init 1 none 1 [va_rf (some v1)] (pg_X19_init v1) := by
  refine xw_metL [(0, va_rf (some v1))] (by decide) (Nat.le_trans (Nat.le_of_eq ((xw_l1 rfl).trans (congrArg (1 + ·) xw_l0))) (by decide)) ((xw_a1 rfl).trans (congrArg (List.cons _) xw_a0)) (fun E hE hl hG hm => ?_)
  subst hl; subst hG
  have hE : xw_ok E "CrossingWords$Text" cX19_init 1 none 1 := hE
  have hm : (xe_M E).name = "<init>" := hm
  unfold pg_X19_init
  refine x_aload_n 1 hE dX19_init_0 rfl 0 rfl ?_
  refine x_objInit 4 hE q821 q126 q127 (by decide) dX19_init_1 rfl rfl ?_
  refine x_aload_n 5 hE dX19_init_4 rfl 0 rfl ?_
  refine x_bipush 7 hE dX19_init_5 rfl xc_b_60 ?_
  refine x_nwa (t := 132) 9 hE xsA_132 rfl xsB_132 dX19_init_7 rfl (fun v2 => ?_)
  refine x_pR 12 hE (xw_pkF hE hm xkf_CrossingWords_Text_9 rfl rfl) ⟨rfl, rfl⟩ dX19_init_9 rfl ?_
  refine x_aload_n 13 hE dX19_init_12 rfl 0 rfl ?_
  refine x_bipush 15 hE dX19_init_13 rfl xc_b_60 ?_
  refine x_nwa (t := 133) 17 hE xsA_133 rfl xsB_133 dX19_init_15 rfl (fun v3 => ?_)
  refine x_pR 20 hE (xw_pkF hE hm xkf_CrossingWords_Text_15 rfl rfl) ⟨rfl, rfl⟩ dX19_init_17 rfl ?_
  exact x_vret hE dX19_init_20

set_option maxHeartbeats 4000000 in
theorem ct_X18_init {l : Launch} {G : xw_G} {μ : xw_Mu} (v1 : Nat) (v2 : Option Nat) (v3 : Int32) (v4 : Int32) : xw_Ct l G (xw_hc G μ) xw_ov yX18_init cX18_init 4 none 4 [va_rf (some v1), va_rf v2, .int v3, .int v4] (pg_X18_init v1 v2 v3 v4) := by
  refine xw_metL [(0, va_rf (some v1)), (1, va_rf v2), (2, .int v3), (3, .int v4)] (by decide) (Nat.le_trans (Nat.le_of_eq ((xw_l1 rfl).trans (congrArg (1 + ·) ((xw_l1 (x_rfc _)).trans (congrArg (1 + ·) ((xw_l1 rfl).trans (congrArg (1 + ·) ((xw_l1 rfl).trans (congrArg (1 + ·) xw_l0))))))))) (by decide)) ((xw_a1 rfl).trans (congrArg (List.cons _) ((xw_a1 (x_rfc _)).trans (congrArg (List.cons _) ((xw_a1 rfl).trans (congrArg (List.cons _) ((xw_a1 rfl).trans (congrArg (List.cons _) xw_a0)))))))) (fun E hE hl hG hm => ?_)
  subst hl; subst hG
  have hE : xw_ok E "CrossingWords$LawReader" cX18_init 4 none 4 := hE
  have hm : (xe_M E).name = "<init>" := hm
  unfold pg_X18_init
  refine x_aload_n 1 hE dX18_init_0 rfl 0 rfl ?_
  refine x_aload_n 2 hE dX18_init_1 rfl 1 rfl ?_
  refine x_iload_n 3 hE dX18_init_2 rfl 2 rfl ?_
  refine x_callv 6 (xw_goI hE (b := v1) (ct_X3_init v1 v2 v3) xd_X3_init q815 q253 q98 q254 rfl rfl ⟨Nat.le_of_ble_eq_true rfl, Nat.le_of_ble_eq_true rfl⟩ rfl (by decide) dX18_init_3) rfl ?_
  refine x_aload_n 7 hE dX18_init_6 rfl 0 rfl ?_
  refine x_new (c := 16) 10 hE (by decide) q816 q817 q115 dX18_init_7 rfl (fun v5 => ?_)
  refine x_dup 11 hE dX18_init_10 rfl rfl ?_
  refine x_callv 14 (xw_goIN hE (b := v5) (ct_X19_init v5) xd_X19_init xkm_CrossingWords_LawReader_11 q819 q115 q820 rfl rfl ⟨Nat.le_of_ble_eq_true rfl, Nat.le_of_ble_eq_true rfl⟩ rfl (Nat.le_trans (xw_sm1 rfl (xw_sm1 rfl xw_sm0)) (by decide)) dX18_init_11) rfl ?_
  refine x_pR 17 hE (xw_pkF hE hm xkf_CrossingWords_LawReader_14 rfl rfl) ⟨rfl, rfl⟩ dX18_init_14 rfl ?_
  refine x_aload_n 18 hE dX18_init_17 rfl 0 rfl ?_
  refine x_iload_n 19 hE dX18_init_18 rfl 3 rfl ?_
  refine x_pI 22 hE (xw_pkF hE hm xkf_CrossingWords_LawReader_20 rfl rfl) ⟨rfl, rfl⟩ dX18_init_19 rfl ?_
  exact x_vret hE dX18_init_22

set_option maxHeartbeats 4000000 in
theorem ct_X0_law {l : Launch} {G : xw_G} {μ : xw_Mu} (v1 : Nat) (v2 : Int32) : xw_Ct l G (xw_hc G μ) xw_oi yX0_law cX0_law 3 (some (.int)) 11 [va_rf (some v1), .int v2] (pg_X0_law v1 v2) := by
  refine xw_metL [(0, va_rf (some v1)), (1, .int v2)] (by decide) (Nat.le_trans (Nat.le_of_eq ((xw_l1 rfl).trans (congrArg (1 + ·) ((xw_l1 rfl).trans (congrArg (1 + ·) xw_l0))))) (by decide)) ((xw_a1 rfl).trans (congrArg (List.cons _) ((xw_a1 rfl).trans (congrArg (List.cons _) xw_a0)))) (fun E hE hl hG hm => ?_)
  subst hl; subst hG
  have hE : xw_ok E "CrossingWords" cX0_law 3 (some (.int)) 11 := hE
  unfold pg_X0_law
  refine x_iload_n 1 hE dX0_law_0 rfl 1 rfl ?_
  refine x_iconst 2 hE dX0_law_1 rfl xc_i_0 ?_
  refine x_aload_n 3 hE dX0_law_2 rfl 0 rfl ?_
  refine x_gI 6 hE (xw_lk0 hE xkf_CrossingWords_91) rfl dX0_law_3 rfl (fun v3 => ?_)
  refine x_calli 9 (xw_goS hE (ct_X0_isIn v2 0 v3) xd_X0_isIn q244 q245 q95 q246 rfl ⟨Nat.le_of_ble_eq_true rfl, Nat.le_of_ble_eq_true rfl⟩ rfl (by decide) dX0_law_6) rfl (fun v4 => ?_)
  refine x_if_ne 15 12 hE dX0_law_9 (by decide) rfl ?_ ?_
  · refine x_bipush 14 hE dX0_law_12 rfl xc_b_m2 ?_
    exact x_iret hE dX0_law_14
  · refine x_aload_n 16 hE dX0_law_15 rfl 0 rfl ?_
    refine x_gI 19 hE (xw_lk0 hE xkf_CrossingWords_129) rfl dX0_law_16 rfl (fun v5 => ?_)
    refine x_bipush 21 hE dX0_law_19 rfl xc_b_8 ?_
    refine x_icmp_ne 27 24 hE dX0_law_21 (by decide) rfl ?_ ?_
    · refine x_bipush 26 hE dX0_law_24 rfl xc_b_m3 ?_
      exact x_iret hE dX0_law_26
    · refine x_new (c := 15) 30 hE (by decide) q811 q757 q114 dX0_law_27 rfl (fun v6 => ?_)
      refine x_dup 31 hE dX0_law_30 rfl rfl ?_
      refine x_aload_n 32 hE dX0_law_31 rfl 0 rfl ?_
      refine x_gR 35 hE (xw_lk0 hE xkf_CrossingWords_34) rfl dX0_law_32 rfl (fun v7 => ?_)
      refine x_iload_n 36 hE dX0_law_35 rfl 1 rfl ?_
      refine x_iconst 37 hE dX0_law_36 rfl xc_i_0 ?_
      refine x_callv 40 (xw_goI hE (b := v6) (ct_X18_init v6 v7 v2 0) xd_X18_init q812 q813 q114 q814 rfl rfl ⟨Nat.le_of_ble_eq_true rfl, Nat.le_of_ble_eq_true rfl⟩ rfl (Nat.le_trans (xw_sm1 rfl xw_sm0) (by decide)) dX0_law_37) rfl ?_
      refine x_astore_n 41 [(2, va_rf (some v6)), (0, va_rf (some v1)), (1, .int v2)] hE dX0_law_40 rfl rfl (Nat.le_of_ble_eq_true rfl) rfl ?_
      refine x_aload_n 42 hE dX0_law_41 rfl 1 rfl ?_
      refine x_aload_n 43 hE dX0_law_42 rfl 0 rfl ?_
      refine x_calli 46 (xw_goV hE (c := 0) (by decide) (fun v9 hq => xw_rV hE (ct_X0_isTaken v9 (some v6)) xd_X0_isTaken rfl q370 q372 qs1 q95 q373 rfl ⟨Nat.le_of_ble_eq_true rfl, Nat.le_of_ble_eq_true rfl⟩ (congrArg va_rf hq) rfl (by decide) dX0_law_43)) rfl (fun v8 => ?_)
      refine x_if_ne 51 49 hE dX0_law_46 (by decide) rfl ?_ ?_
      · refine x_iconst 50 hE dX0_law_49 rfl xc_i_m1 ?_
        exact x_iret hE dX0_law_50
      · refine x_aload_n 52 hE dX0_law_51 rfl 1 rfl ?_
        refine x_gR 55 hE (xw_lk0 hE xkf_CrossingWords_27) rfl dX0_law_52 rfl (fun v10 => ?_)
        refine x_aload_n 56 hE dX0_law_55 rfl 1 rfl ?_
        refine x_gI 59 hE (xw_lk0 hE xkf_CrossingWords_129) rfl dX0_law_56 rfl (fun v11 => ?_)
        refine x_aload_n 60 hE dX0_law_59 rfl 0 rfl ?_
        refine x_gR 63 hE (xw_lk0 hE xkf_CrossingWords_137) rfl dX0_law_60 rfl (fun v12 => ?_)
        refine x_stR 64 hE dX0_law_63 rfl ?_
        refine x_aload_n 65 hE dX0_law_64 rfl 1 rfl ?_
        refine x_dup 66 hE dX0_law_65 rfl rfl ?_
        refine x_gI 69 hE (xw_lk0 hE xkf_CrossingWords_129) rfl dX0_law_66 rfl (fun v13 => ?_)
        refine x_iconst 70 hE dX0_law_69 rfl xc_i_1 ?_
        refine x_iadd 71 hE dX0_law_70 rfl ?_
        refine x_pI 74 hE (xw_pkN (xw_lk0 hE xkf_CrossingWords_129) rfl) ⟨rfl, rfl⟩ dX0_law_71 rfl ?_
        refine x_aload_n 75 hE dX0_law_74 rfl 1 rfl ?_
        refine x_gI 78 hE (xw_lk0 hE xkf_CrossingWords_129) rfl dX0_law_75 rfl (fun v14 => ?_)
        refine x_iconst 79 hE dX0_law_78 rfl xc_i_1 ?_
        refine x_isub 80 hE dX0_law_79 rfl ?_
        exact x_iret hE dX0_law_80

set_option maxHeartbeats 4000000 in
theorem ct_X0_clause {l : Launch} {G : xw_G} {μ : xw_Mu} (v1 : Nat) (v2 : Int32) : xw_Ct l G (xw_hc G μ) xw_oi yX0_clause cX0_clause 3 (some (.int)) 11 [va_rf (some v1), .int v2] (pg_X0_clause v1 v2) := by
  refine xw_metL [(0, va_rf (some v1)), (1, .int v2)] (by decide) (Nat.le_trans (Nat.le_of_eq ((xw_l1 rfl).trans (congrArg (1 + ·) ((xw_l1 rfl).trans (congrArg (1 + ·) xw_l0))))) (by decide)) ((xw_a1 rfl).trans (congrArg (List.cons _) ((xw_a1 rfl).trans (congrArg (List.cons _) xw_a0)))) (fun E hE hl hG hm => ?_)
  subst hl; subst hG
  have hE : xw_ok E "CrossingWords" cX0_clause 3 (some (.int)) 11 := hE
  unfold pg_X0_clause
  refine x_iload_n 1 hE dX0_clause_0 rfl 1 rfl ?_
  refine x_iconst 2 hE dX0_clause_1 rfl xc_i_0 ?_
  refine x_aload_n 3 hE dX0_clause_2 rfl 0 rfl ?_
  refine x_gI 6 hE (xw_lk0 hE xkf_CrossingWords_91) rfl dX0_clause_3 rfl (fun v3 => ?_)
  refine x_calli 9 (xw_goS hE (ct_X0_isIn v2 0 v3) xd_X0_isIn q244 q245 q95 q246 rfl ⟨Nat.le_of_ble_eq_true rfl, Nat.le_of_ble_eq_true rfl⟩ rfl (by decide) dX0_clause_6) rfl (fun v4 => ?_)
  refine x_if_ne 15 12 hE dX0_clause_9 (by decide) rfl ?_ ?_
  · refine x_bipush 14 hE dX0_clause_12 rfl xc_b_m2 ?_
    exact x_iret hE dX0_clause_14
  · refine x_aload_n 16 hE dX0_clause_15 rfl 0 rfl ?_
    refine x_gI 19 hE (xw_lk0 hE xkf_CrossingWords_140) rfl dX0_clause_16 rfl (fun v5 => ?_)
    refine x_bipush 21 hE dX0_clause_19 rfl xc_b_6 ?_
    refine x_icmp_ne 27 24 hE dX0_clause_21 (by decide) rfl ?_ ?_
    · refine x_bipush 26 hE dX0_clause_24 rfl xc_b_m3 ?_
      exact x_iret hE dX0_clause_26
    · refine x_new (c := 15) 30 hE (by decide) q811 q757 q114 dX0_clause_27 rfl (fun v6 => ?_)
      refine x_dup 31 hE dX0_clause_30 rfl rfl ?_
      refine x_aload_n 32 hE dX0_clause_31 rfl 0 rfl ?_
      refine x_gR 35 hE (xw_lk0 hE xkf_CrossingWords_34) rfl dX0_clause_32 rfl (fun v7 => ?_)
      refine x_iload_n 36 hE dX0_clause_35 rfl 1 rfl ?_
      refine x_iconst 37 hE dX0_clause_36 rfl xc_i_1 ?_
      refine x_callv 40 (xw_goI hE (b := v6) (ct_X18_init v6 v7 v2 1) xd_X18_init q812 q813 q114 q814 rfl rfl ⟨Nat.le_of_ble_eq_true rfl, Nat.le_of_ble_eq_true rfl⟩ rfl (Nat.le_trans (xw_sm1 rfl xw_sm0) (by decide)) dX0_clause_37) rfl ?_
      refine x_astore_n 41 [(2, va_rf (some v6)), (0, va_rf (some v1)), (1, .int v2)] hE dX0_clause_40 rfl rfl (Nat.le_of_ble_eq_true rfl) rfl ?_
      refine x_aload_n 42 hE dX0_clause_41 rfl 1 rfl ?_
      refine x_aload_n 43 hE dX0_clause_42 rfl 0 rfl ?_
      refine x_calli 46 (xw_goV hE (c := 0) (by decide) (fun v9 hq => xw_rV hE (ct_X0_isTaken v9 (some v6)) xd_X0_isTaken rfl q370 q372 qs1 q95 q373 rfl ⟨Nat.le_of_ble_eq_true rfl, Nat.le_of_ble_eq_true rfl⟩ (congrArg va_rf hq) rfl (by decide) dX0_clause_43)) rfl (fun v8 => ?_)
      refine x_if_ne 51 49 hE dX0_clause_46 (by decide) rfl ?_ ?_
      · refine x_iconst 50 hE dX0_clause_49 rfl xc_i_m1 ?_
        exact x_iret hE dX0_clause_50
      · refine x_aload_n 52 hE dX0_clause_51 rfl 1 rfl ?_
        refine x_gR 55 hE (xw_lk0 hE xkf_CrossingWords_31) rfl dX0_clause_52 rfl (fun v10 => ?_)
        refine x_aload_n 56 hE dX0_clause_55 rfl 1 rfl ?_
        refine x_gI 59 hE (xw_lk0 hE xkf_CrossingWords_140) rfl dX0_clause_56 rfl (fun v11 => ?_)
        refine x_aload_n 60 hE dX0_clause_59 rfl 0 rfl ?_
        refine x_gR 63 hE (xw_lk0 hE xkf_CrossingWords_137) rfl dX0_clause_60 rfl (fun v12 => ?_)
        refine x_stR 64 hE dX0_clause_63 rfl ?_
        refine x_aload_n 65 hE dX0_clause_64 rfl 1 rfl ?_
        refine x_dup 66 hE dX0_clause_65 rfl rfl ?_
        refine x_gI 69 hE (xw_lk0 hE xkf_CrossingWords_140) rfl dX0_clause_66 rfl (fun v13 => ?_)
        refine x_iconst 70 hE dX0_clause_69 rfl xc_i_1 ?_
        refine x_iadd 71 hE dX0_clause_70 rfl ?_
        refine x_pI 74 hE (xw_pkN (xw_lk0 hE xkf_CrossingWords_140) rfl) ⟨rfl, rfl⟩ dX0_clause_71 rfl ?_
        refine x_aload_n 75 hE dX0_clause_74 rfl 1 rfl ?_
        refine x_gI 78 hE (xw_lk0 hE xkf_CrossingWords_140) rfl dX0_clause_75 rfl (fun v14 => ?_)
        refine x_iconst 79 hE dX0_clause_78 rfl xc_i_1 ?_
        refine x_isub 80 hE dX0_clause_79 rfl ?_
        exact x_iret hE dX0_clause_80

set_option maxHeartbeats 4000000 in
theorem ct_X0_fault {l : Launch} {G : xw_G} {μ : xw_Mu} (v1 : Nat) : xw_Ct l G (xw_hc G μ) xw_oi yX0_fault cX0_fault 1 (some (.int)) 1 [va_rf (some v1)] (pg_X0_fault v1) := by
  refine xw_metL [(0, va_rf (some v1))] (by decide) (Nat.le_trans (Nat.le_of_eq ((xw_l1 rfl).trans (congrArg (1 + ·) xw_l0))) (by decide)) ((xw_a1 rfl).trans (congrArg (List.cons _) xw_a0)) (fun E hE hl hG hm => ?_)
  subst hl; subst hG
  have hE : xw_ok E "CrossingWords" cX0_fault 1 (some (.int)) 1 := hE
  unfold pg_X0_fault
  refine x_aload_n 1 hE dX0_fault_0 rfl 0 rfl ?_
  refine x_gI 4 hE (xw_lk0 hE xkf_CrossingWords_44) rfl dX0_fault_1 rfl (fun v2 => ?_)
  exact x_iret hE dX0_fault_4

set_option maxHeartbeats 4000000 in
theorem ct_X11_own {l : Launch} {G : xw_G} {μ : xw_Mu} (v1 : Nat) (v2 : Int32) : xw_Ct l G (xw_hc G μ) xw_oi yX11_own cX11_own 2 (some (.int)) 1 [va_rf (some v1), .int v2] (pg_X11_own v1 v2) := by
  refine xw_metL [(0, va_rf (some v1)), (1, .int v2)] (by decide) (Nat.le_trans (Nat.le_of_eq ((xw_l1 rfl).trans (congrArg (1 + ·) ((xw_l1 rfl).trans (congrArg (1 + ·) xw_l0))))) (by decide)) ((xw_a1 rfl).trans (congrArg (List.cons _) ((xw_a1 rfl).trans (congrArg (List.cons _) xw_a0)))) (fun E hE hl hG hm => ?_)
  subst hl; subst hG
  have hE : xw_ok E "CrossingWords$But" cX11_own 2 (some (.int)) 1 := hE
  unfold pg_X11_own
  refine x_aload_n 1 hE dX11_own_0 rfl 0 rfl ?_
  refine x_gR 4 hE (xw_lk0 hE xkf_CrossingWords_But_9) rfl dX11_own_1 rfl (fun v3 => ?_)
  refine x_iload_n 5 hE dX11_own_4 rfl 1 rfl ?_
  refine x_ldI 6 hE dX11_own_5 rfl (fun v4 => ?_)
  exact x_iret hE dX11_own_6

set_option maxHeartbeats 4000000 in
theorem ct_X8_own {l : Launch} {G : xw_G} {μ : xw_Mu} (v1 : Nat) (v2 : Int32) : xw_Ct l G (xw_hc G μ) xw_oi yX8_own cX8_own 2 (some (.int)) 1 [va_rf (some v1), .int v2] (pg_X8_own v1 v2) := by
  refine xw_metL [(0, va_rf (some v1)), (1, .int v2)] (by decide) (Nat.le_trans (Nat.le_of_eq ((xw_l1 rfl).trans (congrArg (1 + ·) ((xw_l1 rfl).trans (congrArg (1 + ·) xw_l0))))) (by decide)) ((xw_a1 rfl).trans (congrArg (List.cons _) ((xw_a1 rfl).trans (congrArg (List.cons _) xw_a0)))) (fun E hE hl hG hm => ?_)
  subst hl; subst hG
  have hE : xw_ok E "CrossingWords$Offer" cX8_own 2 (some (.int)) 1 := hE
  unfold pg_X8_own
  refine x_aload_n 1 hE dX8_own_0 rfl 0 rfl ?_
  refine x_gR 4 hE (xw_lk0 hE xkf_CrossingWords_Offer_21) rfl dX8_own_1 rfl (fun v3 => ?_)
  refine x_iload_n 5 hE dX8_own_4 rfl 1 rfl ?_
  refine x_ldI 6 hE dX8_own_5 rfl (fun v4 => ?_)
  exact x_iret hE dX8_own_6

set_option maxHeartbeats 4000000 in
theorem ct_X6_own {l : Launch} {G : xw_G} {μ : xw_Mu} (v1 : Nat) (v2 : Int32) : xw_Ct l G (xw_hc G μ) xw_oi yX6_own cX6_own 2 (some (.int)) 1 [va_rf (some v1), .int v2] (pg_X6_own v1 v2) := by
  refine xw_metL [(0, va_rf (some v1)), (1, .int v2)] (by decide) (Nat.le_trans (Nat.le_of_eq ((xw_l1 rfl).trans (congrArg (1 + ·) ((xw_l1 rfl).trans (congrArg (1 + ·) xw_l0))))) (by decide)) ((xw_a1 rfl).trans (congrArg (List.cons _) ((xw_a1 rfl).trans (congrArg (List.cons _) xw_a0)))) (fun E hE hl hG hm => ?_)
  subst hl; subst hG
  have hE : xw_ok E "CrossingWords$Saying" cX6_own 2 (some (.int)) 1 := hE
  unfold pg_X6_own
  refine x_iconst 1 hE dX6_own_0 rfl xc_i_m1 ?_
  exact x_iret hE dX6_own_1

set_option maxHeartbeats 4000000 in
theorem ct_X0_saying {l : Launch} {G : xw_G} {μ : xw_Mu} (v1 : Nat) (v2 : Int32) (v3 : Int32) (v4 : Int32) : xw_Ct l G (xw_hc G μ) xw_oi yX0_saying cX0_saying 5 (some (.int)) 3 [va_rf (some v1), .int v2, .int v3, .int v4] (pg_X0_saying v1 v2 v3 v4) := by
  refine xw_metL [(0, va_rf (some v1)), (1, .int v2), (2, .int v3), (3, .int v4)] (by decide) (Nat.le_trans (Nat.le_of_eq ((xw_l1 rfl).trans (congrArg (1 + ·) ((xw_l1 rfl).trans (congrArg (1 + ·) ((xw_l1 rfl).trans (congrArg (1 + ·) ((xw_l1 rfl).trans (congrArg (1 + ·) xw_l0))))))))) (by decide)) ((xw_a1 rfl).trans (congrArg (List.cons _) ((xw_a1 rfl).trans (congrArg (List.cons _) ((xw_a1 rfl).trans (congrArg (List.cons _) ((xw_a1 rfl).trans (congrArg (List.cons _) xw_a0)))))))) (fun E hE hl hG hm => ?_)
  subst hl; subst hG
  have hE : xw_ok E "CrossingWords" cX0_saying 5 (some (.int)) 3 := hE
  unfold pg_X0_saying
  refine x_aload_n 1 hE dX0_saying_0 rfl 0 rfl ?_
  refine x_iload_n 2 hE dX0_saying_1 rfl 1 rfl ?_
  refine x_calli 5 (xw_goV hE (c := 0) (by decide) (fun v6 hq => xw_rV hE (ct_X0_isCase v6 v2) xd_X0_isCase rfl q803 q805 qs12 q95 q806 rfl ⟨Nat.le_of_ble_eq_true rfl, Nat.le_of_ble_eq_true rfl⟩ (congrArg va_rf hq) rfl (by decide) dX0_saying_2)) rfl (fun v5 => ?_)
  refine x_if_eq 27 8 hE dX0_saying_5 (by decide) rfl ?_ ?_
  · refine x_bipush 29 hE dX0_saying_27 rfl xc_b_m2 ?_
    exact x_iret hE dX0_saying_29
  · refine x_iload_n 9 hE dX0_saying_8 rfl 2 rfl ?_
    refine x_iconst 10 hE dX0_saying_9 rfl xc_i_0 ?_
    refine x_aload_n 11 hE dX0_saying_10 rfl 0 rfl ?_
    refine x_gR 14 hE (xw_lk0 hE xkf_CrossingWords_21) rfl dX0_saying_11 rfl (fun v7 => ?_)
    refine x_iload_n 15 hE dX0_saying_14 rfl 1 rfl ?_
    refine x_ldR 16 hE dX0_saying_15 rfl (fun v8 => ?_)
    refine x_gI 19 hE (xw_lk0 hE xkf_CrossingWords_126) rfl dX0_saying_16 rfl (fun v9 => ?_)
    refine x_iconst 20 hE dX0_saying_19 rfl xc_i_1 ?_
    refine x_isub 21 hE dX0_saying_20 rfl ?_
    refine x_calli 24 (xw_goS hE (ct_X0_isIn v3 0 (v9 - 1)) xd_X0_isIn q244 q245 q95 q246 rfl ⟨Nat.le_of_ble_eq_true rfl, Nat.le_of_ble_eq_true rfl⟩ rfl (by decide) dX0_saying_21) rfl (fun v10 => ?_)
    refine x_if_ne 30 27 hE dX0_saying_24 (by decide) rfl ?_ ?_
    · refine x_bipush 29 hE dX0_saying_27 rfl xc_b_m2 ?_
      exact x_iret hE dX0_saying_29
    · refine x_aload_n 31 hE dX0_saying_30 rfl 0 rfl ?_
      refine x_gR 34 hE (xw_lk0 hE xkf_CrossingWords_21) rfl dX0_saying_31 rfl (fun v11 => ?_)
      refine x_iload_n 35 hE dX0_saying_34 rfl 1 rfl ?_
      refine x_ldR 36 hE dX0_saying_35 rfl (fun v12 => ?_)
      refine x_gR 39 hE (xw_lk0 hE xkf_CrossingWords_143) rfl dX0_saying_36 rfl (fun v13 => ?_)
      refine x_iload_n 40 hE dX0_saying_39 rfl 2 rfl ?_
      refine x_ldR 41 hE dX0_saying_40 rfl (fun v14 => ?_)
      refine x_astore 43 [(4, va_rf v14), (0, va_rf (some v1)), (1, .int v2), (2, .int v3), (3, .int v4)] hE dX0_saying_41 rfl (Nat.le_of_ble_eq_true rfl) rfl ?_
      refine x_iload_n 44 hE dX0_saying_43 rfl 4 rfl ?_
      refine x_sw (fun hs1 => ?_) (fun hs1 => ?_)
      · refine x_swIn 88 hE dX0_saying_44 hs1 ⟨by decide, by decide, rfl⟩ (by decide) ?_
        refine x_aload 90 hE dX0_saying_88 rfl 0 rfl ?_
        refine x_calli 93 (xw_goD hE (fun v16 hq => (List.forall_mem_cons.mpr ⟨⟨Nat.le_of_ble_eq_true rfl, xw_rU (owner := "CrossingWords$Saying") (x := ⟨"CrossingWords$Saying", "kind", "()I"⟩) hE (ct_X7_kind v16) xD_CrossingWords_Saying_kind___I (Or.inr xkd_CrossingWords_Sayingkind_) q866 q535 q536 q537 q103 q538 rfl ⟨Nat.le_of_ble_eq_true rfl, Nat.le_of_ble_eq_true rfl⟩ (congrArg va_rf hq) rfl (by decide) dX0_saying_90⟩, (List.forall_mem_cons.mpr ⟨⟨Nat.le_of_ble_eq_true rfl, xw_rU (owner := "CrossingWords$Saying") (x := ⟨"CrossingWords$Saying", "kind", "()I"⟩) hE (ct_X8_kind v16) xD_CrossingWords_Saying_kind___I (Or.inr xkd_CrossingWords_Sayingkind_) q866 q535 q551 q552 q104 q553 rfl ⟨Nat.le_of_ble_eq_true rfl, Nat.le_of_ble_eq_true rfl⟩ (congrArg va_rf hq) rfl (by decide) dX0_saying_90⟩, (List.forall_mem_cons.mpr ⟨⟨Nat.le_of_ble_eq_true rfl, xw_rU (owner := "CrossingWords$Saying") (x := ⟨"CrossingWords$Saying", "kind", "()I"⟩) hE (ct_X10_kind v16) xD_CrossingWords_Saying_kind___I (Or.inr xkd_CrossingWords_Sayingkind_) q866 q535 q557 q558 q106 q559 rfl ⟨Nat.le_of_ble_eq_true rfl, Nat.le_of_ble_eq_true rfl⟩ (congrArg va_rf hq) rfl (by decide) dX0_saying_90⟩, (List.forall_mem_cons.mpr ⟨⟨Nat.le_of_ble_eq_true rfl, xw_rU (owner := "CrossingWords$Saying") (x := ⟨"CrossingWords$Saying", "kind", "()I"⟩) hE (ct_X11_kind v16) xD_CrossingWords_Saying_kind___I (Or.inr xkd_CrossingWords_Sayingkind_) q866 q535 q542 q543 q107 q544 rfl ⟨Nat.le_of_ble_eq_true rfl, Nat.le_of_ble_eq_true rfl⟩ (congrArg va_rf hq) rfl (by decide) dX0_saying_90⟩, (List.forall_mem_cons.mpr ⟨⟨Nat.le_of_ble_eq_true rfl, xw_rU (owner := "CrossingWords$Saying") (x := ⟨"CrossingWords$Saying", "kind", "()I"⟩) hE (ct_X12_kind v16) xD_CrossingWords_Saying_kind___I (Or.inr xkd_CrossingWords_Sayingkind_) q866 q535 q548 q549 q108 q550 rfl ⟨Nat.le_of_ble_eq_true rfl, Nat.le_of_ble_eq_true rfl⟩ (congrArg va_rf hq) rfl (by decide) dX0_saying_90⟩, (List.forall_mem_cons.mpr ⟨⟨Nat.le_of_ble_eq_true rfl, xw_rU (owner := "CrossingWords$Saying") (x := ⟨"CrossingWords$Saying", "kind", "()I"⟩) hE (ct_X13_kind v16) xD_CrossingWords_Saying_kind___I (Or.inr xkd_CrossingWords_Sayingkind_) q866 q535 q539 q540 q109 q541 rfl ⟨Nat.le_of_ble_eq_true rfl, Nat.le_of_ble_eq_true rfl⟩ (congrArg va_rf hq) rfl (by decide) dX0_saying_90⟩, (List.forall_mem_cons.mpr ⟨⟨Nat.le_of_ble_eq_true rfl, xw_rU (owner := "CrossingWords$Saying") (x := ⟨"CrossingWords$Saying", "kind", "()I"⟩) hE (ct_X14_kind v16) xD_CrossingWords_Saying_kind___I (Or.inr xkd_CrossingWords_Sayingkind_) q866 q535 q545 q546 q110 q547 rfl ⟨Nat.le_of_ble_eq_true rfl, Nat.le_of_ble_eq_true rfl⟩ (congrArg va_rf hq) rfl (by decide) dX0_saying_90⟩, (List.forall_mem_cons.mpr ⟨⟨Nat.le_of_ble_eq_true rfl, xw_rU (owner := "CrossingWords$Saying") (x := ⟨"CrossingWords$Saying", "kind", "()I"⟩) hE (ct_X15_kind v16) xD_CrossingWords_Saying_kind___I (Or.inr xkd_CrossingWords_Sayingkind_) q866 q535 q554 q555 q111 q556 rfl ⟨Nat.le_of_ble_eq_true rfl, Nat.le_of_ble_eq_true rfl⟩ (congrArg va_rf hq) rfl (by decide) dX0_saying_90⟩, (fun _ h => absurd h List.not_mem_nil)⟩)⟩)⟩)⟩)⟩)⟩)⟩)⟩))) rfl (fun v15 => ?_)
        exact x_iret hE dX0_saying_93
      · refine x_sw (fun hs2 => ?_) (fun hs2 => ?_)
        · refine x_swIn 94 hE dX0_saying_44 hs2 ⟨by decide, by decide, rfl⟩ (by decide) ?_
          refine x_aload 96 hE dX0_saying_94 rfl 0 rfl ?_
          refine x_gI 99 hE (xw_lk0 hE xkf_CrossingWords_152) rfl dX0_saying_96 rfl (fun v17 => ?_)
          exact x_iret hE dX0_saying_99
        · refine x_sw (fun hs3 => ?_) (fun hs3 => ?_)
          · refine x_swIn 100 hE dX0_saying_44 hs3 ⟨by decide, by decide, rfl⟩ (by decide) ?_
            refine x_aload 102 hE dX0_saying_100 rfl 0 rfl ?_
            refine x_calli 105 (xw_goD hE (fun v19 hq => (List.forall_mem_cons.mpr ⟨⟨Nat.le_of_ble_eq_true rfl, xw_rU (owner := "CrossingWords$Saying") (x := ⟨"CrossingWords$Saying", "to", "()I"⟩) hE (ct_X7_to v19) xD_CrossingWords_Saying_to___I (Or.inl (Or.inr ⟨_, _, _, q561, q583⟩)) q867 q562 q563 q564 q103 q565 rfl ⟨Nat.le_of_ble_eq_true rfl, Nat.le_of_ble_eq_true rfl⟩ (congrArg va_rf hq) rfl (by decide) dX0_saying_102⟩, (List.forall_mem_cons.mpr ⟨⟨Nat.le_of_ble_eq_true rfl, xw_rU (owner := "CrossingWords$Saying") (x := ⟨"CrossingWords$Saying", "to", "()I"⟩) hE (ct_X8_to v19) xD_CrossingWords_Saying_to___I (Or.inl (Or.inr ⟨_, _, _, q561, q583⟩)) q867 q562 q578 q579 q104 q580 rfl ⟨Nat.le_of_ble_eq_true rfl, Nat.le_of_ble_eq_true rfl⟩ (congrArg va_rf hq) rfl (by decide) dX0_saying_102⟩, (List.forall_mem_cons.mpr ⟨⟨Nat.le_of_ble_eq_true rfl, xw_rU (owner := "CrossingWords$Saying") (x := ⟨"CrossingWords$Saying", "to", "()I"⟩) hE (ct_X6_to v19) xD_CrossingWords_Saying_to___I (Or.inl (Or.inl rfl)) q867 q562 q582 q561 q102 q583 rfl ⟨Nat.le_of_ble_eq_true rfl, Nat.le_of_ble_eq_true rfl⟩ (congrArg va_rf hq) rfl (by decide) dX0_saying_102⟩, (List.forall_mem_cons.mpr ⟨⟨Nat.le_of_ble_eq_true rfl, xw_rU (owner := "CrossingWords$Saying") (x := ⟨"CrossingWords$Saying", "to", "()I"⟩) hE (ct_X11_to v19) xD_CrossingWords_Saying_to___I (Or.inl (Or.inr ⟨_, _, _, q561, q583⟩)) q867 q562 q567 q568 q107 q569 rfl ⟨Nat.le_of_ble_eq_true rfl, Nat.le_of_ble_eq_true rfl⟩ (congrArg va_rf hq) rfl (by decide) dX0_saying_102⟩, (List.forall_mem_cons.mpr ⟨⟨Nat.le_of_ble_eq_true rfl, xw_rU (owner := "CrossingWords$Saying") (x := ⟨"CrossingWords$Saying", "to", "()I"⟩) hE (ct_X6_to v19) xD_CrossingWords_Saying_to___I (Or.inl (Or.inl rfl)) q867 q562 q577 q561 q102 q583 rfl ⟨Nat.le_of_ble_eq_true rfl, Nat.le_of_ble_eq_true rfl⟩ (congrArg va_rf hq) rfl (by decide) dX0_saying_102⟩, (List.forall_mem_cons.mpr ⟨⟨Nat.le_of_ble_eq_true rfl, xw_rU (owner := "CrossingWords$Saying") (x := ⟨"CrossingWords$Saying", "to", "()I"⟩) hE (ct_X6_to v19) xD_CrossingWords_Saying_to___I (Or.inl (Or.inl rfl)) q867 q562 q566 q561 q102 q583 rfl ⟨Nat.le_of_ble_eq_true rfl, Nat.le_of_ble_eq_true rfl⟩ (congrArg va_rf hq) rfl (by decide) dX0_saying_102⟩, (List.forall_mem_cons.mpr ⟨⟨Nat.le_of_ble_eq_true rfl, xw_rU (owner := "CrossingWords$Saying") (x := ⟨"CrossingWords$Saying", "to", "()I"⟩) hE (ct_X6_to v19) xD_CrossingWords_Saying_to___I (Or.inl (Or.inl rfl)) q867 q562 q576 q561 q102 q583 rfl ⟨Nat.le_of_ble_eq_true rfl, Nat.le_of_ble_eq_true rfl⟩ (congrArg va_rf hq) rfl (by decide) dX0_saying_102⟩, (List.forall_mem_cons.mpr ⟨⟨Nat.le_of_ble_eq_true rfl, xw_rU (owner := "CrossingWords$Saying") (x := ⟨"CrossingWords$Saying", "to", "()I"⟩) hE (ct_X6_to v19) xD_CrossingWords_Saying_to___I (Or.inl (Or.inl rfl)) q867 q562 q581 q561 q102 q583 rfl ⟨Nat.le_of_ble_eq_true rfl, Nat.le_of_ble_eq_true rfl⟩ (congrArg va_rf hq) rfl (by decide) dX0_saying_102⟩, (fun _ h => absurd h List.not_mem_nil)⟩)⟩)⟩)⟩)⟩)⟩)⟩)⟩))) rfl (fun v18 => ?_)
            exact x_iret hE dX0_saying_105
          · refine x_sw (fun hs4 => ?_) (fun hs4 => ?_)
            · refine x_swIn 106 hE dX0_saying_44 hs4 ⟨by decide, by decide, rfl⟩ (by decide) ?_
              refine x_aload 108 hE dX0_saying_106 rfl 0 rfl ?_
              refine x_callr 111 (xw_goD hE (fun v21 hq => (List.forall_mem_cons.mpr ⟨⟨Nat.le_of_ble_eq_true rfl, xw_rU (owner := "CrossingWords$Saying") (x := ⟨"CrossingWords$Saying", "said", "()LCrossingWords$Saying;"⟩) hE (ct_X6_said v21) xD_CrossingWords_Saying_said___LCrossingWords_Saying_ (Or.inl (Or.inl rfl)) q868 q870 q871 q869 q102 q879 rfl ⟨Nat.le_of_ble_eq_true rfl, Nat.le_of_ble_eq_true rfl⟩ (congrArg va_rf hq) rfl (by decide) dX0_saying_108⟩, (List.forall_mem_cons.mpr ⟨⟨Nat.le_of_ble_eq_true rfl, xw_rU (owner := "CrossingWords$Saying") (x := ⟨"CrossingWords$Saying", "said", "()LCrossingWords$Saying;"⟩) hE (ct_X6_said v21) xD_CrossingWords_Saying_said___LCrossingWords_Saying_ (Or.inl (Or.inl rfl)) q868 q870 q876 q869 q102 q879 rfl ⟨Nat.le_of_ble_eq_true rfl, Nat.le_of_ble_eq_true rfl⟩ (congrArg va_rf hq) rfl (by decide) dX0_saying_108⟩, (List.forall_mem_cons.mpr ⟨⟨Nat.le_of_ble_eq_true rfl, xw_rU (owner := "CrossingWords$Saying") (x := ⟨"CrossingWords$Saying", "said", "()LCrossingWords$Saying;"⟩) hE (ct_X9_said v21) xD_CrossingWords_Saying_said___LCrossingWords_Saying_ (Or.inl (Or.inr ⟨_, _, _, q869, q879⟩)) q868 q870 q878 q574 q105 q575 rfl ⟨Nat.le_of_ble_eq_true rfl, Nat.le_of_ble_eq_true rfl⟩ (congrArg va_rf hq) rfl (by decide) dX0_saying_108⟩, (List.forall_mem_cons.mpr ⟨⟨Nat.le_of_ble_eq_true rfl, xw_rU (owner := "CrossingWords$Saying") (x := ⟨"CrossingWords$Saying", "said", "()LCrossingWords$Saying;"⟩) hE (ct_X9_said v21) xD_CrossingWords_Saying_said___LCrossingWords_Saying_ (Or.inl (Or.inr ⟨_, _, _, q869, q879⟩)) q868 q870 q873 q574 q105 q575 rfl ⟨Nat.le_of_ble_eq_true rfl, Nat.le_of_ble_eq_true rfl⟩ (congrArg va_rf hq) rfl (by decide) dX0_saying_108⟩, (List.forall_mem_cons.mpr ⟨⟨Nat.le_of_ble_eq_true rfl, xw_rU (owner := "CrossingWords$Saying") (x := ⟨"CrossingWords$Saying", "said", "()LCrossingWords$Saying;"⟩) hE (ct_X9_said v21) xD_CrossingWords_Saying_said___LCrossingWords_Saying_ (Or.inl (Or.inr ⟨_, _, _, q869, q879⟩)) q868 q870 q875 q574 q105 q575 rfl ⟨Nat.le_of_ble_eq_true rfl, Nat.le_of_ble_eq_true rfl⟩ (congrArg va_rf hq) rfl (by decide) dX0_saying_108⟩, (List.forall_mem_cons.mpr ⟨⟨Nat.le_of_ble_eq_true rfl, xw_rU (owner := "CrossingWords$Saying") (x := ⟨"CrossingWords$Saying", "said", "()LCrossingWords$Saying;"⟩) hE (ct_X9_said v21) xD_CrossingWords_Saying_said___LCrossingWords_Saying_ (Or.inl (Or.inr ⟨_, _, _, q869, q879⟩)) q868 q870 q872 q574 q105 q575 rfl ⟨Nat.le_of_ble_eq_true rfl, Nat.le_of_ble_eq_true rfl⟩ (congrArg va_rf hq) rfl (by decide) dX0_saying_108⟩, (List.forall_mem_cons.mpr ⟨⟨Nat.le_of_ble_eq_true rfl, xw_rU (owner := "CrossingWords$Saying") (x := ⟨"CrossingWords$Saying", "said", "()LCrossingWords$Saying;"⟩) hE (ct_X9_said v21) xD_CrossingWords_Saying_said___LCrossingWords_Saying_ (Or.inl (Or.inr ⟨_, _, _, q869, q879⟩)) q868 q870 q874 q574 q105 q575 rfl ⟨Nat.le_of_ble_eq_true rfl, Nat.le_of_ble_eq_true rfl⟩ (congrArg va_rf hq) rfl (by decide) dX0_saying_108⟩, (List.forall_mem_cons.mpr ⟨⟨Nat.le_of_ble_eq_true rfl, xw_rU (owner := "CrossingWords$Saying") (x := ⟨"CrossingWords$Saying", "said", "()LCrossingWords$Saying;"⟩) hE (ct_X9_said v21) xD_CrossingWords_Saying_said___LCrossingWords_Saying_ (Or.inl (Or.inr ⟨_, _, _, q869, q879⟩)) q868 q870 q877 q574 q105 q575 rfl ⟨Nat.le_of_ble_eq_true rfl, Nat.le_of_ble_eq_true rfl⟩ (congrArg va_rf hq) rfl (by decide) dX0_saying_108⟩, (fun _ h => absurd h List.not_mem_nil)⟩)⟩)⟩)⟩)⟩)⟩)⟩)⟩))) rfl (fun v20 => ?_)
              refine x_ifnonnull 118 114 hE dX0_saying_111 (by decide) rfl ?_ ?_
              · refine x_iconst 115 hE dX0_saying_114 rfl xc_i_m1 ?_
                refine x_goto 126 hE dX0_saying_115 (by decide) ?_
                exact x_iret hE dX0_saying_126
              · refine x_aload 120 hE dX0_saying_118 rfl 0 rfl ?_
                refine x_callr 123 (xw_goD hE (fun v23 hq => (List.forall_mem_cons.mpr ⟨⟨Nat.le_of_ble_eq_true rfl, xw_rU (owner := "CrossingWords$Saying") (x := ⟨"CrossingWords$Saying", "said", "()LCrossingWords$Saying;"⟩) hE (ct_X6_said v23) xD_CrossingWords_Saying_said___LCrossingWords_Saying_ (Or.inl (Or.inl rfl)) q868 q870 q871 q869 q102 q879 rfl ⟨Nat.le_of_ble_eq_true rfl, Nat.le_of_ble_eq_true rfl⟩ (congrArg va_rf hq) rfl (by decide) dX0_saying_120⟩, (List.forall_mem_cons.mpr ⟨⟨Nat.le_of_ble_eq_true rfl, xw_rU (owner := "CrossingWords$Saying") (x := ⟨"CrossingWords$Saying", "said", "()LCrossingWords$Saying;"⟩) hE (ct_X6_said v23) xD_CrossingWords_Saying_said___LCrossingWords_Saying_ (Or.inl (Or.inl rfl)) q868 q870 q876 q869 q102 q879 rfl ⟨Nat.le_of_ble_eq_true rfl, Nat.le_of_ble_eq_true rfl⟩ (congrArg va_rf hq) rfl (by decide) dX0_saying_120⟩, (List.forall_mem_cons.mpr ⟨⟨Nat.le_of_ble_eq_true rfl, xw_rU (owner := "CrossingWords$Saying") (x := ⟨"CrossingWords$Saying", "said", "()LCrossingWords$Saying;"⟩) hE (ct_X9_said v23) xD_CrossingWords_Saying_said___LCrossingWords_Saying_ (Or.inl (Or.inr ⟨_, _, _, q869, q879⟩)) q868 q870 q878 q574 q105 q575 rfl ⟨Nat.le_of_ble_eq_true rfl, Nat.le_of_ble_eq_true rfl⟩ (congrArg va_rf hq) rfl (by decide) dX0_saying_120⟩, (List.forall_mem_cons.mpr ⟨⟨Nat.le_of_ble_eq_true rfl, xw_rU (owner := "CrossingWords$Saying") (x := ⟨"CrossingWords$Saying", "said", "()LCrossingWords$Saying;"⟩) hE (ct_X9_said v23) xD_CrossingWords_Saying_said___LCrossingWords_Saying_ (Or.inl (Or.inr ⟨_, _, _, q869, q879⟩)) q868 q870 q873 q574 q105 q575 rfl ⟨Nat.le_of_ble_eq_true rfl, Nat.le_of_ble_eq_true rfl⟩ (congrArg va_rf hq) rfl (by decide) dX0_saying_120⟩, (List.forall_mem_cons.mpr ⟨⟨Nat.le_of_ble_eq_true rfl, xw_rU (owner := "CrossingWords$Saying") (x := ⟨"CrossingWords$Saying", "said", "()LCrossingWords$Saying;"⟩) hE (ct_X9_said v23) xD_CrossingWords_Saying_said___LCrossingWords_Saying_ (Or.inl (Or.inr ⟨_, _, _, q869, q879⟩)) q868 q870 q875 q574 q105 q575 rfl ⟨Nat.le_of_ble_eq_true rfl, Nat.le_of_ble_eq_true rfl⟩ (congrArg va_rf hq) rfl (by decide) dX0_saying_120⟩, (List.forall_mem_cons.mpr ⟨⟨Nat.le_of_ble_eq_true rfl, xw_rU (owner := "CrossingWords$Saying") (x := ⟨"CrossingWords$Saying", "said", "()LCrossingWords$Saying;"⟩) hE (ct_X9_said v23) xD_CrossingWords_Saying_said___LCrossingWords_Saying_ (Or.inl (Or.inr ⟨_, _, _, q869, q879⟩)) q868 q870 q872 q574 q105 q575 rfl ⟨Nat.le_of_ble_eq_true rfl, Nat.le_of_ble_eq_true rfl⟩ (congrArg va_rf hq) rfl (by decide) dX0_saying_120⟩, (List.forall_mem_cons.mpr ⟨⟨Nat.le_of_ble_eq_true rfl, xw_rU (owner := "CrossingWords$Saying") (x := ⟨"CrossingWords$Saying", "said", "()LCrossingWords$Saying;"⟩) hE (ct_X9_said v23) xD_CrossingWords_Saying_said___LCrossingWords_Saying_ (Or.inl (Or.inr ⟨_, _, _, q869, q879⟩)) q868 q870 q874 q574 q105 q575 rfl ⟨Nat.le_of_ble_eq_true rfl, Nat.le_of_ble_eq_true rfl⟩ (congrArg va_rf hq) rfl (by decide) dX0_saying_120⟩, (List.forall_mem_cons.mpr ⟨⟨Nat.le_of_ble_eq_true rfl, xw_rU (owner := "CrossingWords$Saying") (x := ⟨"CrossingWords$Saying", "said", "()LCrossingWords$Saying;"⟩) hE (ct_X9_said v23) xD_CrossingWords_Saying_said___LCrossingWords_Saying_ (Or.inl (Or.inr ⟨_, _, _, q869, q879⟩)) q868 q870 q877 q574 q105 q575 rfl ⟨Nat.le_of_ble_eq_true rfl, Nat.le_of_ble_eq_true rfl⟩ (congrArg va_rf hq) rfl (by decide) dX0_saying_120⟩, (fun _ h => absurd h List.not_mem_nil)⟩)⟩)⟩)⟩)⟩)⟩)⟩)⟩))) rfl (fun v22 => ?_)
                refine x_gI 126 hE (xw_lk0 hE xkf_CrossingWords_162) rfl dX0_saying_123 rfl (fun v24 => ?_)
                exact x_iret hE dX0_saying_126
            · refine x_sw (fun hs5 => ?_) (fun hs5 => ?_)
              · refine x_swIn 127 hE dX0_saying_44 hs5 ⟨by decide, by decide, rfl⟩ (by decide) ?_
                refine x_aload 129 hE dX0_saying_127 rfl 0 rfl ?_
                refine x_gR 132 hE (xw_lk0 hE xkf_CrossingWords_165) rfl dX0_saying_129 rfl (fun v25 => ?_)
                refine x_gI 135 hE (xw_lk0 hE xkf_CrossingWords_169) rfl dX0_saying_132 rfl (fun v26 => ?_)
                exact x_iret hE dX0_saying_135
              · refine x_sw (fun hs6 => ?_) (fun hs6 => ?_)
                · refine x_swIn 136 hE dX0_saying_44 hs6 ⟨by decide, by decide, rfl⟩ (by decide) ?_
                  refine x_aload 138 hE dX0_saying_136 rfl 0 rfl ?_
                  refine x_calli 141 (xw_goD hE (fun v28 hq => (List.forall_mem_cons.mpr ⟨⟨Nat.le_of_ble_eq_true rfl, xw_rU (owner := "CrossingWords$Saying") (x := ⟨"CrossingWords$Saying", "hold", "()I"⟩) hE (ct_X6_hold v28) xD_CrossingWords_Saying_hold___I (Or.inl (Or.inl rfl)) q880 q882 q883 q881 q102 q893 rfl ⟨Nat.le_of_ble_eq_true rfl, Nat.le_of_ble_eq_true rfl⟩ (congrArg va_rf hq) rfl (by decide) dX0_saying_138⟩, (List.forall_mem_cons.mpr ⟨⟨Nat.le_of_ble_eq_true rfl, xw_rU (owner := "CrossingWords$Saying") (x := ⟨"CrossingWords$Saying", "hold", "()I"⟩) hE (ct_X8_hold v28) xD_CrossingWords_Saying_hold___I (Or.inl (Or.inr ⟨_, _, _, q881, q893⟩)) q880 q882 q888 q889 q104 q890 rfl ⟨Nat.le_of_ble_eq_true rfl, Nat.le_of_ble_eq_true rfl⟩ (congrArg va_rf hq) rfl (by decide) dX0_saying_138⟩, (List.forall_mem_cons.mpr ⟨⟨Nat.le_of_ble_eq_true rfl, xw_rU (owner := "CrossingWords$Saying") (x := ⟨"CrossingWords$Saying", "hold", "()I"⟩) hE (ct_X6_hold v28) xD_CrossingWords_Saying_hold___I (Or.inl (Or.inl rfl)) q880 q882 q892 q881 q102 q893 rfl ⟨Nat.le_of_ble_eq_true rfl, Nat.le_of_ble_eq_true rfl⟩ (congrArg va_rf hq) rfl (by decide) dX0_saying_138⟩, (List.forall_mem_cons.mpr ⟨⟨Nat.le_of_ble_eq_true rfl, xw_rU (owner := "CrossingWords$Saying") (x := ⟨"CrossingWords$Saying", "hold", "()I"⟩) hE (ct_X6_hold v28) xD_CrossingWords_Saying_hold___I (Or.inl (Or.inl rfl)) q880 q882 q885 q881 q102 q893 rfl ⟨Nat.le_of_ble_eq_true rfl, Nat.le_of_ble_eq_true rfl⟩ (congrArg va_rf hq) rfl (by decide) dX0_saying_138⟩, (List.forall_mem_cons.mpr ⟨⟨Nat.le_of_ble_eq_true rfl, xw_rU (owner := "CrossingWords$Saying") (x := ⟨"CrossingWords$Saying", "hold", "()I"⟩) hE (ct_X6_hold v28) xD_CrossingWords_Saying_hold___I (Or.inl (Or.inl rfl)) q880 q882 q887 q881 q102 q893 rfl ⟨Nat.le_of_ble_eq_true rfl, Nat.le_of_ble_eq_true rfl⟩ (congrArg va_rf hq) rfl (by decide) dX0_saying_138⟩, (List.forall_mem_cons.mpr ⟨⟨Nat.le_of_ble_eq_true rfl, xw_rU (owner := "CrossingWords$Saying") (x := ⟨"CrossingWords$Saying", "hold", "()I"⟩) hE (ct_X6_hold v28) xD_CrossingWords_Saying_hold___I (Or.inl (Or.inl rfl)) q880 q882 q884 q881 q102 q893 rfl ⟨Nat.le_of_ble_eq_true rfl, Nat.le_of_ble_eq_true rfl⟩ (congrArg va_rf hq) rfl (by decide) dX0_saying_138⟩, (List.forall_mem_cons.mpr ⟨⟨Nat.le_of_ble_eq_true rfl, xw_rU (owner := "CrossingWords$Saying") (x := ⟨"CrossingWords$Saying", "hold", "()I"⟩) hE (ct_X6_hold v28) xD_CrossingWords_Saying_hold___I (Or.inl (Or.inl rfl)) q880 q882 q886 q881 q102 q893 rfl ⟨Nat.le_of_ble_eq_true rfl, Nat.le_of_ble_eq_true rfl⟩ (congrArg va_rf hq) rfl (by decide) dX0_saying_138⟩, (List.forall_mem_cons.mpr ⟨⟨Nat.le_of_ble_eq_true rfl, xw_rU (owner := "CrossingWords$Saying") (x := ⟨"CrossingWords$Saying", "hold", "()I"⟩) hE (ct_X6_hold v28) xD_CrossingWords_Saying_hold___I (Or.inl (Or.inl rfl)) q880 q882 q891 q881 q102 q893 rfl ⟨Nat.le_of_ble_eq_true rfl, Nat.le_of_ble_eq_true rfl⟩ (congrArg va_rf hq) rfl (by decide) dX0_saying_138⟩, (fun _ h => absurd h List.not_mem_nil)⟩)⟩)⟩)⟩)⟩)⟩)⟩)⟩))) rfl (fun v27 => ?_)
                  exact x_iret hE dX0_saying_141
                · refine x_sw (fun hs7 => ?_) (fun hs7 => ?_)
                  · refine x_swIn 142 hE dX0_saying_44 hs7 ⟨by decide, by decide, rfl⟩ (by decide) ?_
                    refine x_aload 144 hE dX0_saying_142 rfl 0 rfl ?_
                    refine x_calli 147 (xw_goD hE (fun v30 hq => (List.forall_mem_cons.mpr ⟨⟨Nat.le_of_ble_eq_true rfl, xw_rU (owner := "CrossingWords$Saying") (x := ⟨"CrossingWords$Saying", "given", "()I"⟩) hE (ct_X6_given v30) xD_CrossingWords_Saying_given___I (Or.inl (Or.inl rfl)) q894 q896 q897 q895 q102 q907 rfl ⟨Nat.le_of_ble_eq_true rfl, Nat.le_of_ble_eq_true rfl⟩ (congrArg va_rf hq) rfl (by decide) dX0_saying_144⟩, (List.forall_mem_cons.mpr ⟨⟨Nat.le_of_ble_eq_true rfl, xw_rU (owner := "CrossingWords$Saying") (x := ⟨"CrossingWords$Saying", "given", "()I"⟩) hE (ct_X8_given v30) xD_CrossingWords_Saying_given___I (Or.inl (Or.inr ⟨_, _, _, q895, q907⟩)) q894 q896 q902 q903 q104 q904 rfl ⟨Nat.le_of_ble_eq_true rfl, Nat.le_of_ble_eq_true rfl⟩ (congrArg va_rf hq) rfl (by decide) dX0_saying_144⟩, (List.forall_mem_cons.mpr ⟨⟨Nat.le_of_ble_eq_true rfl, xw_rU (owner := "CrossingWords$Saying") (x := ⟨"CrossingWords$Saying", "given", "()I"⟩) hE (ct_X6_given v30) xD_CrossingWords_Saying_given___I (Or.inl (Or.inl rfl)) q894 q896 q906 q895 q102 q907 rfl ⟨Nat.le_of_ble_eq_true rfl, Nat.le_of_ble_eq_true rfl⟩ (congrArg va_rf hq) rfl (by decide) dX0_saying_144⟩, (List.forall_mem_cons.mpr ⟨⟨Nat.le_of_ble_eq_true rfl, xw_rU (owner := "CrossingWords$Saying") (x := ⟨"CrossingWords$Saying", "given", "()I"⟩) hE (ct_X6_given v30) xD_CrossingWords_Saying_given___I (Or.inl (Or.inl rfl)) q894 q896 q899 q895 q102 q907 rfl ⟨Nat.le_of_ble_eq_true rfl, Nat.le_of_ble_eq_true rfl⟩ (congrArg va_rf hq) rfl (by decide) dX0_saying_144⟩, (List.forall_mem_cons.mpr ⟨⟨Nat.le_of_ble_eq_true rfl, xw_rU (owner := "CrossingWords$Saying") (x := ⟨"CrossingWords$Saying", "given", "()I"⟩) hE (ct_X6_given v30) xD_CrossingWords_Saying_given___I (Or.inl (Or.inl rfl)) q894 q896 q901 q895 q102 q907 rfl ⟨Nat.le_of_ble_eq_true rfl, Nat.le_of_ble_eq_true rfl⟩ (congrArg va_rf hq) rfl (by decide) dX0_saying_144⟩, (List.forall_mem_cons.mpr ⟨⟨Nat.le_of_ble_eq_true rfl, xw_rU (owner := "CrossingWords$Saying") (x := ⟨"CrossingWords$Saying", "given", "()I"⟩) hE (ct_X6_given v30) xD_CrossingWords_Saying_given___I (Or.inl (Or.inl rfl)) q894 q896 q898 q895 q102 q907 rfl ⟨Nat.le_of_ble_eq_true rfl, Nat.le_of_ble_eq_true rfl⟩ (congrArg va_rf hq) rfl (by decide) dX0_saying_144⟩, (List.forall_mem_cons.mpr ⟨⟨Nat.le_of_ble_eq_true rfl, xw_rU (owner := "CrossingWords$Saying") (x := ⟨"CrossingWords$Saying", "given", "()I"⟩) hE (ct_X6_given v30) xD_CrossingWords_Saying_given___I (Or.inl (Or.inl rfl)) q894 q896 q900 q895 q102 q907 rfl ⟨Nat.le_of_ble_eq_true rfl, Nat.le_of_ble_eq_true rfl⟩ (congrArg va_rf hq) rfl (by decide) dX0_saying_144⟩, (List.forall_mem_cons.mpr ⟨⟨Nat.le_of_ble_eq_true rfl, xw_rU (owner := "CrossingWords$Saying") (x := ⟨"CrossingWords$Saying", "given", "()I"⟩) hE (ct_X6_given v30) xD_CrossingWords_Saying_given___I (Or.inl (Or.inl rfl)) q894 q896 q905 q895 q102 q907 rfl ⟨Nat.le_of_ble_eq_true rfl, Nat.le_of_ble_eq_true rfl⟩ (congrArg va_rf hq) rfl (by decide) dX0_saying_144⟩, (fun _ h => absurd h List.not_mem_nil)⟩)⟩)⟩)⟩)⟩)⟩)⟩)⟩))) rfl (fun v29 => ?_)
                    exact x_iret hE dX0_saying_147
                  · refine x_swOut 148 hE dX0_saying_44 (xw_out0_6 hs1 hs2 hs3 hs4 hs5 hs6 hs7) (by decide) ?_
                    refine x_iload_n 149 hE dX0_saying_148 rfl 4 rfl ?_
                    refine x_bipush 151 hE dX0_saying_149 rfl xc_b_10 ?_
                    refine x_bipush 153 hE dX0_saying_151 rfl xc_b_14 ?_
                    refine x_calli 156 (xw_goS hE (ct_X0_isIn v4 10 14) xd_X0_isIn q244 q245 q95 q246 rfl ⟨Nat.le_of_ble_eq_true rfl, Nat.le_of_ble_eq_true rfl⟩ rfl (by decide) dX0_saying_153) rfl (fun v31 => ?_)
                    refine x_if_eq 171 159 hE dX0_saying_156 (by decide) rfl ?_ ?_
                    · refine x_bipush 173 hE dX0_saying_171 rfl xc_b_m2 ?_
                      exact x_iret hE dX0_saying_173
                    · refine x_aload 161 hE dX0_saying_159 rfl 0 rfl ?_
                      refine x_iload_n 162 hE dX0_saying_161 rfl 4 rfl ?_
                      refine x_bipush 164 hE dX0_saying_162 rfl xc_b_10 ?_
                      refine x_isub 165 hE dX0_saying_164 rfl ?_
                      refine x_calli 168 (xw_goD hE (fun v33 hq => (List.forall_mem_cons.mpr ⟨⟨Nat.le_of_ble_eq_true rfl, xw_rU (owner := "CrossingWords$Saying") (x := ⟨"CrossingWords$Saying", "own", "(I)I"⟩) hE (ct_X6_own v33 (v4 - 10)) xD_CrossingWords_Saying_own__I_I (Or.inl (Or.inl rfl)) q908 q910 q911 q909 q102 q923 rfl ⟨Nat.le_of_ble_eq_true rfl, Nat.le_of_ble_eq_true rfl⟩ (congrArg va_rf hq) rfl (by decide) dX0_saying_165⟩, (List.forall_mem_cons.mpr ⟨⟨Nat.le_of_ble_eq_true rfl, xw_rU (owner := "CrossingWords$Saying") (x := ⟨"CrossingWords$Saying", "own", "(I)I"⟩) hE (ct_X8_own v33 (v4 - 10)) xD_CrossingWords_Saying_own__I_I (Or.inl (Or.inr ⟨_, _, _, q909, q923⟩)) q908 q910 q918 q919 q104 q920 rfl ⟨Nat.le_of_ble_eq_true rfl, Nat.le_of_ble_eq_true rfl⟩ (congrArg va_rf hq) rfl (by decide) dX0_saying_165⟩, (List.forall_mem_cons.mpr ⟨⟨Nat.le_of_ble_eq_true rfl, xw_rU (owner := "CrossingWords$Saying") (x := ⟨"CrossingWords$Saying", "own", "(I)I"⟩) hE (ct_X6_own v33 (v4 - 10)) xD_CrossingWords_Saying_own__I_I (Or.inl (Or.inl rfl)) q908 q910 q922 q909 q102 q923 rfl ⟨Nat.le_of_ble_eq_true rfl, Nat.le_of_ble_eq_true rfl⟩ (congrArg va_rf hq) rfl (by decide) dX0_saying_165⟩, (List.forall_mem_cons.mpr ⟨⟨Nat.le_of_ble_eq_true rfl, xw_rU (owner := "CrossingWords$Saying") (x := ⟨"CrossingWords$Saying", "own", "(I)I"⟩) hE (ct_X11_own v33 (v4 - 10)) xD_CrossingWords_Saying_own__I_I (Or.inl (Or.inr ⟨_, _, _, q909, q923⟩)) q908 q910 q913 q914 q107 q915 rfl ⟨Nat.le_of_ble_eq_true rfl, Nat.le_of_ble_eq_true rfl⟩ (congrArg va_rf hq) rfl (by decide) dX0_saying_165⟩, (List.forall_mem_cons.mpr ⟨⟨Nat.le_of_ble_eq_true rfl, xw_rU (owner := "CrossingWords$Saying") (x := ⟨"CrossingWords$Saying", "own", "(I)I"⟩) hE (ct_X6_own v33 (v4 - 10)) xD_CrossingWords_Saying_own__I_I (Or.inl (Or.inl rfl)) q908 q910 q917 q909 q102 q923 rfl ⟨Nat.le_of_ble_eq_true rfl, Nat.le_of_ble_eq_true rfl⟩ (congrArg va_rf hq) rfl (by decide) dX0_saying_165⟩, (List.forall_mem_cons.mpr ⟨⟨Nat.le_of_ble_eq_true rfl, xw_rU (owner := "CrossingWords$Saying") (x := ⟨"CrossingWords$Saying", "own", "(I)I"⟩) hE (ct_X6_own v33 (v4 - 10)) xD_CrossingWords_Saying_own__I_I (Or.inl (Or.inl rfl)) q908 q910 q912 q909 q102 q923 rfl ⟨Nat.le_of_ble_eq_true rfl, Nat.le_of_ble_eq_true rfl⟩ (congrArg va_rf hq) rfl (by decide) dX0_saying_165⟩, (List.forall_mem_cons.mpr ⟨⟨Nat.le_of_ble_eq_true rfl, xw_rU (owner := "CrossingWords$Saying") (x := ⟨"CrossingWords$Saying", "own", "(I)I"⟩) hE (ct_X6_own v33 (v4 - 10)) xD_CrossingWords_Saying_own__I_I (Or.inl (Or.inl rfl)) q908 q910 q916 q909 q102 q923 rfl ⟨Nat.le_of_ble_eq_true rfl, Nat.le_of_ble_eq_true rfl⟩ (congrArg va_rf hq) rfl (by decide) dX0_saying_165⟩, (List.forall_mem_cons.mpr ⟨⟨Nat.le_of_ble_eq_true rfl, xw_rU (owner := "CrossingWords$Saying") (x := ⟨"CrossingWords$Saying", "own", "(I)I"⟩) hE (ct_X6_own v33 (v4 - 10)) xD_CrossingWords_Saying_own__I_I (Or.inl (Or.inl rfl)) q908 q910 q921 q909 q102 q923 rfl ⟨Nat.le_of_ble_eq_true rfl, Nat.le_of_ble_eq_true rfl⟩ (congrArg va_rf hq) rfl (by decide) dX0_saying_165⟩, (fun _ h => absurd h List.not_mem_nil)⟩)⟩)⟩)⟩)⟩)⟩)⟩)⟩))) rfl (fun v32 => ?_)
                      refine x_goto 173 hE dX0_saying_168 (by decide) ?_
                      exact x_iret hE dX0_saying_173

set_option maxHeartbeats 4000000 in
theorem ct_X0_asked {l : Launch} {G : xw_G} {μ : xw_Mu} (v1 : Nat) (v2 : Int32) (v3 : Int32) : xw_Ct l G (xw_hc G μ) xw_oi yX0_asked cX0_asked 4 (some (.int)) 3 [va_rf (some v1), .int v2, .int v3] (pg_X0_asked v1 v2 v3) := by
  refine xw_metL [(0, va_rf (some v1)), (1, .int v2), (2, .int v3)] (by decide) (Nat.le_trans (Nat.le_of_eq ((xw_l1 rfl).trans (congrArg (1 + ·) ((xw_l1 rfl).trans (congrArg (1 + ·) ((xw_l1 rfl).trans (congrArg (1 + ·) xw_l0))))))) (by decide)) ((xw_a1 rfl).trans (congrArg (List.cons _) ((xw_a1 rfl).trans (congrArg (List.cons _) ((xw_a1 rfl).trans (congrArg (List.cons _) xw_a0)))))) (fun E hE hl hG hm => ?_)
  subst hl; subst hG
  have hE : xw_ok E "CrossingWords" cX0_asked 4 (some (.int)) 3 := hE
  unfold pg_X0_asked
  refine x_aload_n 1 hE dX0_asked_0 rfl 0 rfl ?_
  refine x_iload_n 2 hE dX0_asked_1 rfl 1 rfl ?_
  refine x_calli 5 (xw_goV hE (c := 0) (by decide) (fun v5 hq => xw_rV hE (ct_X0_isCase v5 v2) xd_X0_isCase rfl q803 q805 qs12 q95 q806 rfl ⟨Nat.le_of_ble_eq_true rfl, Nat.le_of_ble_eq_true rfl⟩ (congrArg va_rf hq) rfl (by decide) dX0_asked_2)) rfl (fun v4 => ?_)
  refine x_if_eq 17 8 hE dX0_asked_5 (by decide) rfl ?_ ?_
  · refine x_bipush 19 hE dX0_asked_17 rfl xc_b_m2 ?_
    exact x_iret hE dX0_asked_19
  · refine x_iload_n 9 hE dX0_asked_8 rfl 2 rfl ?_
    refine x_iconst 10 hE dX0_asked_9 rfl xc_i_0 ?_
    refine x_iconst 11 hE dX0_asked_10 rfl xc_i_2 ?_
    refine x_calli 14 (xw_goS hE (ct_X0_isIn v3 0 2) xd_X0_isIn q244 q245 q95 q246 rfl ⟨Nat.le_of_ble_eq_true rfl, Nat.le_of_ble_eq_true rfl⟩ rfl (by decide) dX0_asked_11) rfl (fun v6 => ?_)
    refine x_if_ne 20 17 hE dX0_asked_14 (by decide) rfl ?_ ?_
    · refine x_bipush 19 hE dX0_asked_17 rfl xc_b_m2 ?_
      exact x_iret hE dX0_asked_19
    · refine x_aload_n 21 hE dX0_asked_20 rfl 0 rfl ?_
      refine x_gR 24 hE (xw_lk0 hE xkf_CrossingWords_21) rfl dX0_asked_21 rfl (fun v7 => ?_)
      refine x_iload_n 25 hE dX0_asked_24 rfl 1 rfl ?_
      refine x_ldR 26 hE dX0_asked_25 rfl (fun v8 => ?_)
      refine x_astore_n 27 [(3, va_rf v8), (0, va_rf (some v1)), (1, .int v2), (2, .int v3)] hE dX0_asked_26 rfl rfl (Nat.le_of_ble_eq_true rfl) rfl ?_
      refine x_iload_n 28 hE dX0_asked_27 rfl 3 rfl ?_
      refine x_if_ne 38 31 hE dX0_asked_28 (by decide) rfl ?_ ?_
      · refine x_aload_n 32 hE dX0_asked_31 rfl 0 rfl ?_
        refine x_gI 35 hE (xw_lk0 hE xkf_CrossingWords_126) rfl dX0_asked_32 rfl (fun v14 => ?_)
        refine x_goto 65 hE dX0_asked_35 (by decide) ?_
        exact x_iret hE dX0_asked_65
      · refine x_iload_n 39 hE dX0_asked_38 rfl 3 rfl ?_
        refine x_iconst 40 hE dX0_asked_39 rfl xc_i_1 ?_
        refine x_icmp_ne 50 43 hE dX0_asked_40 (by decide) rfl ?_ ?_
        · refine x_aload_n 44 hE dX0_asked_43 rfl 0 rfl ?_
          refine x_gI 47 hE (xw_lk0 hE xkf_CrossingWords_182) rfl dX0_asked_44 rfl (fun v13 => ?_)
          refine x_goto 65 hE dX0_asked_47 (by decide) ?_
          exact x_iret hE dX0_asked_65
        · refine x_aload_n 51 hE dX0_asked_50 rfl 0 rfl ?_
          refine x_calli 54 (xw_goV hE (c := 4) (by decide) (fun v10 hq => xw_rV hE (ct_X5_isLooked v10) xd_X5_isLooked rfl q928 q929 q930 q100 q931 rfl ⟨Nat.le_of_ble_eq_true rfl, Nat.le_of_ble_eq_true rfl⟩ (congrArg va_rf hq) rfl (by decide) dX0_asked_51)) rfl (fun v9 => ?_)
          refine x_if_eq 64 57 hE dX0_asked_54 (by decide) rfl ?_ ?_
          · refine x_iconst 65 hE dX0_asked_64 rfl xc_i_m1 ?_
            exact x_iret hE dX0_asked_65
          · refine x_aload_n 58 hE dX0_asked_57 rfl 0 rfl ?_
            refine x_calli 61 (xw_goV hE (c := 4) (by decide) (fun v12 hq => xw_rV hE (ct_X5_combos v12) xd_X5_combos rfl q933 q934 q935 q100 q936 rfl ⟨Nat.le_of_ble_eq_true rfl, Nat.le_of_ble_eq_true rfl⟩ (congrArg va_rf hq) rfl (by decide) dX0_asked_58)) rfl (fun v11 => ?_)
            refine x_goto 65 hE dX0_asked_61 (by decide) ?_
            exact x_iret hE dX0_asked_65

set_option maxHeartbeats 4000000 in
theorem ct_X0_isCombo {l : Launch} {G : xw_G} {μ : xw_Mu} (v1 : Nat) (v2 : Int32) (v3 : Int32) : xw_Ct l G (xw_hc G μ) xw_oi yX0_isCombo cX0_isCombo 3 (some (.boolean)) 3 [va_rf (some v1), .int v2, .int v3] (pg_X0_isCombo v1 v2 v3) := by
  refine xw_metL [(0, va_rf (some v1)), (1, .int v2), (2, .int v3)] (by decide) (Nat.le_trans (Nat.le_of_eq ((xw_l1 rfl).trans (congrArg (1 + ·) ((xw_l1 rfl).trans (congrArg (1 + ·) ((xw_l1 rfl).trans (congrArg (1 + ·) xw_l0))))))) (by decide)) ((xw_a1 rfl).trans (congrArg (List.cons _) ((xw_a1 rfl).trans (congrArg (List.cons _) ((xw_a1 rfl).trans (congrArg (List.cons _) xw_a0)))))) (fun E hE hl hG hm => ?_)
  subst hl; subst hG
  have hE : xw_ok E "CrossingWords" cX0_isCombo 3 (some (.boolean)) 3 := hE
  unfold pg_X0_isCombo
  refine x_aload_n 1 hE dX0_isCombo_0 rfl 0 rfl ?_
  refine x_iload_n 2 hE dX0_isCombo_1 rfl 1 rfl ?_
  refine x_calli 5 (xw_goV hE (c := 0) (by decide) (fun v5 hq => xw_rV hE (ct_X0_isCase v5 v2) xd_X0_isCase rfl q803 q805 qs12 q95 q806 rfl ⟨Nat.le_of_ble_eq_true rfl, Nat.le_of_ble_eq_true rfl⟩ (congrArg va_rf hq) rfl (by decide) dX0_isCombo_2)) rfl (fun v4 => ?_)
  refine x_if_eq 43 8 hE dX0_isCombo_5 (by decide) rfl ?_ ?_
  · refine x_iconst 44 hE dX0_isCombo_43 rfl xc_i_0 ?_
    exact x_zretw hE (by decide) dX0_isCombo_44
  · refine x_aload_n 9 hE dX0_isCombo_8 rfl 0 rfl ?_
    refine x_gR 12 hE (xw_lk0 hE xkf_CrossingWords_21) rfl dX0_isCombo_9 rfl (fun v6 => ?_)
    refine x_iload_n 13 hE dX0_isCombo_12 rfl 1 rfl ?_
    refine x_ldR 14 hE dX0_isCombo_13 rfl (fun v7 => ?_)
    refine x_calli 17 (xw_goV hE (c := 4) (by decide) (fun v9 hq => xw_rV hE (ct_X5_isLooked v9) xd_X5_isLooked rfl q928 q929 q930 q100 q931 rfl ⟨Nat.le_of_ble_eq_true rfl, Nat.le_of_ble_eq_true rfl⟩ (congrArg va_rf hq) rfl (by decide) dX0_isCombo_14)) rfl (fun v8 => ?_)
    refine x_if_eq 43 20 hE dX0_isCombo_17 (by decide) rfl ?_ ?_
    · refine x_iconst 44 hE dX0_isCombo_43 rfl xc_i_0 ?_
      exact x_zretw hE (by decide) dX0_isCombo_44
    · refine x_iload_n 21 hE dX0_isCombo_20 rfl 2 rfl ?_
      refine x_iconst 22 hE dX0_isCombo_21 rfl xc_i_0 ?_
      refine x_aload_n 23 hE dX0_isCombo_22 rfl 0 rfl ?_
      refine x_gR 26 hE (xw_lk0 hE xkf_CrossingWords_21) rfl dX0_isCombo_23 rfl (fun v10 => ?_)
      refine x_iload_n 27 hE dX0_isCombo_26 rfl 1 rfl ?_
      refine x_ldR 28 hE dX0_isCombo_27 rfl (fun v11 => ?_)
      refine x_calli 31 (xw_goV hE (c := 4) (by decide) (fun v13 hq => xw_rV hE (ct_X5_combos v13) xd_X5_combos rfl q933 q934 q935 q100 q936 rfl ⟨Nat.le_of_ble_eq_true rfl, Nat.le_of_ble_eq_true rfl⟩ (congrArg va_rf hq) rfl (Nat.le_trans (xw_sm1 rfl (xw_sm1 rfl xw_sm0)) (by decide)) dX0_isCombo_28)) rfl (fun v12 => ?_)
      refine x_iconst 32 hE dX0_isCombo_31 rfl xc_i_1 ?_
      refine x_isub 33 hE dX0_isCombo_32 rfl ?_
      refine x_calli 36 (xw_goS hE (ct_X0_isIn v3 0 (v12 - 1)) xd_X0_isIn q244 q245 q95 q246 rfl ⟨Nat.le_of_ble_eq_true rfl, Nat.le_of_ble_eq_true rfl⟩ rfl (by decide) dX0_isCombo_33) rfl (fun v14 => ?_)
      refine x_if_eq 43 39 hE dX0_isCombo_36 (by decide) rfl ?_ ?_
      · refine x_iconst 44 hE dX0_isCombo_43 rfl xc_i_0 ?_
        exact x_zretw hE (by decide) dX0_isCombo_44
      · refine x_iconst 40 hE dX0_isCombo_39 rfl xc_i_1 ?_
        refine x_goto 44 hE dX0_isCombo_40 (by decide) ?_
        exact x_zretw hE (by decide) dX0_isCombo_44

set_option maxHeartbeats 4000000 in
theorem ct_X0_isLaw {l : Launch} {G : xw_G} {μ : xw_Mu} (v1 : Nat) (v2 : Int32) : xw_Ct l G (xw_hc G μ) xw_oi yX0_isLaw cX0_isLaw 2 (some (.boolean)) 2 [va_rf (some v1), .int v2] (pg_X0_isLaw v1 v2) := by
  refine xw_metL [(0, va_rf (some v1)), (1, .int v2)] (by decide) (Nat.le_trans (Nat.le_of_eq ((xw_l1 rfl).trans (congrArg (1 + ·) ((xw_l1 rfl).trans (congrArg (1 + ·) xw_l0))))) (by decide)) ((xw_a1 rfl).trans (congrArg (List.cons _) ((xw_a1 rfl).trans (congrArg (List.cons _) xw_a0)))) (fun E hE hl hG hm => ?_)
  subst hl; subst hG
  have hE : xw_ok E "CrossingWords" cX0_isLaw 2 (some (.boolean)) 2 := hE
  unfold pg_X0_isLaw
  refine x_iload_n 1 hE dX0_isLaw_0 rfl 1 rfl ?_
  refine x_iconst 2 hE dX0_isLaw_1 rfl xc_i_0 ?_
  refine x_aload_n 3 hE dX0_isLaw_2 rfl 0 rfl ?_
  refine x_gI 6 hE (xw_lk0 hE xkf_CrossingWords_129) rfl dX0_isLaw_3 rfl (fun v3 => ?_)
  refine x_iconst 7 hE dX0_isLaw_6 rfl xc_i_1 ?_
  refine x_isub 8 hE dX0_isLaw_7 rfl ?_
  refine x_calli 11 (xw_goS hE (ct_X0_isIn v2 0 (v3 - 1)) xd_X0_isIn q244 q245 q95 q246 rfl ⟨Nat.le_of_ble_eq_true rfl, Nat.le_of_ble_eq_true rfl⟩ rfl (by decide) dX0_isLaw_8) rfl (fun v4 => ?_)
  exact x_zretw hE rfl dX0_isLaw_11

set_option maxHeartbeats 4000000 in
theorem ct_X0_isRun {l : Launch} {G : xw_G} {μ : xw_Mu} (v1 : Nat) (v2 : Int32) (v3 : Int32) (v4 : Int32) : xw_Ct l G (xw_hc G μ) xw_oi yX0_isRun cX0_isRun 4 (some (.boolean)) 4 [va_rf (some v1), .int v2, .int v3, .int v4] (pg_X0_isRun v1 v2 v3 v4) := by
  refine xw_metL [(0, va_rf (some v1)), (1, .int v2), (2, .int v3), (3, .int v4)] (by decide) (Nat.le_trans (Nat.le_of_eq ((xw_l1 rfl).trans (congrArg (1 + ·) ((xw_l1 rfl).trans (congrArg (1 + ·) ((xw_l1 rfl).trans (congrArg (1 + ·) ((xw_l1 rfl).trans (congrArg (1 + ·) xw_l0))))))))) (by decide)) ((xw_a1 rfl).trans (congrArg (List.cons _) ((xw_a1 rfl).trans (congrArg (List.cons _) ((xw_a1 rfl).trans (congrArg (List.cons _) ((xw_a1 rfl).trans (congrArg (List.cons _) xw_a0)))))))) (fun E hE hl hG hm => ?_)
  subst hl; subst hG
  have hE : xw_ok E "CrossingWords" cX0_isRun 4 (some (.boolean)) 4 := hE
  unfold pg_X0_isRun
  refine x_aload_n 1 hE dX0_isRun_0 rfl 0 rfl ?_
  refine x_iload_n 2 hE dX0_isRun_1 rfl 2 rfl ?_
  refine x_calli 5 (xw_goV hE (c := 0) (by decide) (fun v6 hq => xw_rV hE (ct_X0_isLaw v6 v3) xd_X0_isLaw rfl q961 q963 qs14 q95 q964 rfl ⟨Nat.le_of_ble_eq_true rfl, Nat.le_of_ble_eq_true rfl⟩ (congrArg va_rf hq) rfl (by decide) dX0_isRun_2)) rfl (fun v5 => ?_)
  refine x_if_eq 21 8 hE dX0_isRun_5 (by decide) rfl ?_ ?_
  · refine x_iconst 22 hE dX0_isRun_21 rfl xc_i_0 ?_
    exact x_zretw hE (by decide) dX0_isRun_22
  · refine x_aload_n 9 hE dX0_isRun_8 rfl 0 rfl ?_
    refine x_iload_n 10 hE dX0_isRun_9 rfl 1 rfl ?_
    refine x_iload_n 11 hE dX0_isRun_10 rfl 3 rfl ?_
    refine x_calli 14 (xw_goV hE (c := 0) (by decide) (fun v8 hq => xw_rV hE (ct_X0_isCombo v8 v2 v4) xd_X0_isCombo rfl q941 q943 qs13 q95 q944 rfl ⟨Nat.le_of_ble_eq_true rfl, Nat.le_of_ble_eq_true rfl⟩ (congrArg va_rf hq) rfl (by decide) dX0_isRun_11)) rfl (fun v7 => ?_)
    refine x_if_eq 21 17 hE dX0_isRun_14 (by decide) rfl ?_ ?_
    · refine x_iconst 22 hE dX0_isRun_21 rfl xc_i_0 ?_
      exact x_zretw hE (by decide) dX0_isRun_22
    · refine x_iconst 18 hE dX0_isRun_17 rfl xc_i_1 ?_
      refine x_goto 22 hE dX0_isRun_18 (by decide) ?_
      exact x_zretw hE (by decide) dX0_isRun_22

set_option maxHeartbeats 4000000 in
theorem ct_X0_hour {l : Launch} {G : xw_G} {μ : xw_Mu} (v1 : Nat) (v2 : Int32) (v3 : Int32) (v4 : Int32) (v5 : Int32) : xw_Ct l G (xw_hc G μ) xw_oi yX0_hour cX0_hour 6 (some (.int)) 4 [va_rf (some v1), .int v2, .int v3, .int v4, .int v5] (pg_X0_hour v1 v2 v3 v4 v5) := by
  refine xw_metL [(0, va_rf (some v1)), (1, .int v2), (2, .int v3), (3, .int v4), (4, .int v5)] (by decide) (Nat.le_trans (Nat.le_of_eq ((xw_l1 rfl).trans (congrArg (1 + ·) ((xw_l1 rfl).trans (congrArg (1 + ·) ((xw_l1 rfl).trans (congrArg (1 + ·) ((xw_l1 rfl).trans (congrArg (1 + ·) ((xw_l1 rfl).trans (congrArg (1 + ·) xw_l0))))))))))) (by decide)) ((xw_a1 rfl).trans (congrArg (List.cons _) ((xw_a1 rfl).trans (congrArg (List.cons _) ((xw_a1 rfl).trans (congrArg (List.cons _) ((xw_a1 rfl).trans (congrArg (List.cons _) ((xw_a1 rfl).trans (congrArg (List.cons _) xw_a0)))))))))) (fun E hE hl hG hm => ?_)
  subst hl; subst hG
  have hE : xw_ok E "CrossingWords" cX0_hour 6 (some (.int)) 4 := hE
  unfold pg_X0_hour
  refine x_aload_n 1 hE dX0_hour_0 rfl 0 rfl ?_
  refine x_iload_n 2 hE dX0_hour_1 rfl 1 rfl ?_
  refine x_iload_n 3 hE dX0_hour_2 rfl 2 rfl ?_
  refine x_calli 6 (xw_goV hE (c := 0) (by decide) (fun v7 hq => xw_rV hE (ct_X0_isCombo v7 v2 v3) xd_X0_isCombo rfl q941 q943 qs13 q95 q944 rfl ⟨Nat.le_of_ble_eq_true rfl, Nat.le_of_ble_eq_true rfl⟩ (congrArg va_rf hq) rfl (by decide) dX0_hour_3)) rfl (fun v6 => ?_)
  refine x_if_eq 38 9 hE dX0_hour_6 (by decide) rfl ?_ ?_
  · refine x_bipush 40 hE dX0_hour_38 rfl xc_b_m2 ?_
    exact x_iret hE dX0_hour_40
  · refine x_iload_n 10 hE dX0_hour_9 rfl 3 rfl ?_
    refine x_iconst 11 hE dX0_hour_10 rfl xc_i_0 ?_
    refine x_aload_n 12 hE dX0_hour_11 rfl 0 rfl ?_
    refine x_gR 15 hE (xw_lk0 hE xkf_CrossingWords_21) rfl dX0_hour_12 rfl (fun v8 => ?_)
    refine x_iload_n 16 hE dX0_hour_15 rfl 1 rfl ?_
    refine x_ldR 17 hE dX0_hour_16 rfl (fun v9 => ?_)
    refine x_gI 20 hE (xw_lk0 hE xkf_CrossingWords_126) rfl dX0_hour_17 rfl (fun v10 => ?_)
    refine x_iconst 21 hE dX0_hour_20 rfl xc_i_1 ?_
    refine x_isub 22 hE dX0_hour_21 rfl ?_
    refine x_calli 25 (xw_goS hE (ct_X0_isIn v4 0 (v10 - 1)) xd_X0_isIn q244 q245 q95 q246 rfl ⟨Nat.le_of_ble_eq_true rfl, Nat.le_of_ble_eq_true rfl⟩ rfl (by decide) dX0_hour_22) rfl (fun v11 => ?_)
    refine x_if_eq 38 28 hE dX0_hour_25 (by decide) rfl ?_ ?_
    · refine x_bipush 40 hE dX0_hour_38 rfl xc_b_m2 ?_
      exact x_iret hE dX0_hour_40
    · refine x_iload 30 hE dX0_hour_28 rfl 4 rfl ?_
      refine x_iconst 31 hE dX0_hour_30 rfl xc_i_0 ?_
      refine x_iconst 32 hE dX0_hour_31 rfl xc_i_2 ?_
      refine x_calli 35 (xw_goS hE (ct_X0_isIn v5 0 2) xd_X0_isIn q244 q245 q95 q246 rfl ⟨Nat.le_of_ble_eq_true rfl, Nat.le_of_ble_eq_true rfl⟩ rfl (by decide) dX0_hour_32) rfl (fun v12 => ?_)
      refine x_if_ne 41 38 hE dX0_hour_35 (by decide) rfl ?_ ?_
      · refine x_bipush 40 hE dX0_hour_38 rfl xc_b_m2 ?_
        exact x_iret hE dX0_hour_40
      · refine x_aload_n 42 hE dX0_hour_41 rfl 0 rfl ?_
        refine x_gR 45 hE (xw_lk0 hE xkf_CrossingWords_40) rfl dX0_hour_42 rfl (fun v13 => ?_)
        refine x_iconst 46 hE dX0_hour_45 rfl xc_i_0 ?_
        refine x_ldR 47 hE dX0_hour_46 rfl (fun v14 => ?_)
        refine x_aload_n 48 hE dX0_hour_47 rfl 0 rfl ?_
        refine x_gR 51 hE (xw_lk0 hE xkf_CrossingWords_21) rfl dX0_hour_48 rfl (fun v15 => ?_)
        refine x_iload_n 52 hE dX0_hour_51 rfl 1 rfl ?_
        refine x_ldR 53 hE dX0_hour_52 rfl (fun v16 => ?_)
        refine x_iload_n 54 hE dX0_hour_53 rfl 2 rfl ?_
        refine x_callv 57 (xw_goV hE (c := 1) (by decide) (fun v17 hq => xw_rV hE (ct_X1_lays v17 v16 v3) xd_X1_lays rfl q945 q946 q947 q96 q948 rfl ⟨Nat.le_of_ble_eq_true rfl, Nat.le_of_ble_eq_true rfl⟩ (congrArg va_rf hq) rfl (by decide) dX0_hour_54)) rfl ?_
        refine x_aload_n 58 hE dX0_hour_57 rfl 0 rfl ?_
        refine x_gR 61 hE (xw_lk0 hE xkf_CrossingWords_40) rfl dX0_hour_58 rfl (fun v18 => ?_)
        refine x_iconst 62 hE dX0_hour_61 rfl xc_i_0 ?_
        refine x_ldR 63 hE dX0_hour_62 rfl (fun v19 => ?_)
        refine x_aload_n 64 hE dX0_hour_63 rfl 0 rfl ?_
        refine x_gR 67 hE (xw_lk0 hE xkf_CrossingWords_21) rfl dX0_hour_64 rfl (fun v20 => ?_)
        refine x_iload_n 68 hE dX0_hour_67 rfl 1 rfl ?_
        refine x_ldR 69 hE dX0_hour_68 rfl (fun v21 => ?_)
        refine x_gR 72 hE (xw_lk0 hE xkf_CrossingWords_143) rfl dX0_hour_69 rfl (fun v22 => ?_)
        refine x_iload_n 73 hE dX0_hour_72 rfl 3 rfl ?_
        refine x_ldR 74 hE dX0_hour_73 rfl (fun v23 => ?_)
        refine x_iload 76 hE dX0_hour_74 rfl 4 rfl ?_
        refine x_calli 79 (xw_goV hE (c := 1) (by decide) (fun v25 hq => xw_rV hE (ct_X1_hour v25 v23 v5) xd_X1_hour rfl q953 q954 q955 q96 q956 rfl ⟨Nat.le_of_ble_eq_true rfl, Nat.le_of_ble_eq_true rfl⟩ (congrArg va_rf hq) rfl (by decide) dX0_hour_76)) rfl (fun v24 => ?_)
        refine x_istore 81 [(5, .int v24), (0, va_rf (some v1)), (1, .int v2), (2, .int v3), (3, .int v4), (4, .int v5)] hE dX0_hour_79 rfl (Nat.le_of_ble_eq_true rfl) rfl ?_
        refine x_iload 83 hE dX0_hour_81 rfl 0 rfl ?_
        refine x_sipush 86 hE dX0_hour_83 rfl xc_s_9999 ?_
        refine x_icmp_ne 93 89 hE dX0_hour_86 (by decide) rfl ?_ ?_
        · refine x_iconst 90 hE dX0_hour_89 rfl xc_i_m1 ?_
          refine x_goto 95 hE dX0_hour_90 (by decide) ?_
          exact x_iret hE dX0_hour_95
        · refine x_iload 95 hE dX0_hour_93 rfl 0 rfl ?_
          exact x_iret hE dX0_hour_95

set_option maxHeartbeats 4000000 in
theorem ct_X0_rule {l : Launch} {G : xw_G} {μ : xw_Mu} (v1 : Nat) (v2 : Int32) (v3 : Int32) : xw_Ct l G (xw_hc G μ) xw_oi yX0_rule cX0_rule 3 (some (.int)) 3 [va_rf (some v1), .int v2, .int v3] (pg_X0_rule v1 v2 v3) := by
  refine xw_metL [(0, va_rf (some v1)), (1, .int v2), (2, .int v3)] (by decide) (Nat.le_trans (Nat.le_of_eq ((xw_l1 rfl).trans (congrArg (1 + ·) ((xw_l1 rfl).trans (congrArg (1 + ·) ((xw_l1 rfl).trans (congrArg (1 + ·) xw_l0))))))) (by decide)) ((xw_a1 rfl).trans (congrArg (List.cons _) ((xw_a1 rfl).trans (congrArg (List.cons _) ((xw_a1 rfl).trans (congrArg (List.cons _) xw_a0)))))) (fun E hE hl hG hm => ?_)
  subst hl; subst hG
  have hE : xw_ok E "CrossingWords" cX0_rule 3 (some (.int)) 3 := hE
  unfold pg_X0_rule
  refine x_aload_n 1 hE dX0_rule_0 rfl 0 rfl ?_
  refine x_iload_n 2 hE dX0_rule_1 rfl 1 rfl ?_
  refine x_calli 5 (xw_goV hE (c := 0) (by decide) (fun v5 hq => xw_rV hE (ct_X0_isLaw v5 v2) xd_X0_isLaw rfl q961 q963 qs14 q95 q964 rfl ⟨Nat.le_of_ble_eq_true rfl, Nat.le_of_ble_eq_true rfl⟩ (congrArg va_rf hq) rfl (by decide) dX0_rule_2)) rfl (fun v4 => ?_)
  refine x_if_eq 18 8 hE dX0_rule_5 (by decide) rfl ?_ ?_
  · refine x_bipush 20 hE dX0_rule_18 rfl xc_b_m2 ?_
    exact x_iret hE dX0_rule_20
  · refine x_iload_n 9 hE dX0_rule_8 rfl 2 rfl ?_
    refine x_iconst 10 hE dX0_rule_9 rfl xc_i_0 ?_
    refine x_bipush 12 hE dX0_rule_10 rfl xc_b_13 ?_
    refine x_calli 15 (xw_goS hE (ct_X0_isIn v3 0 13) xd_X0_isIn q244 q245 q95 q246 rfl ⟨Nat.le_of_ble_eq_true rfl, Nat.le_of_ble_eq_true rfl⟩ rfl (by decide) dX0_rule_12) rfl (fun v6 => ?_)
    refine x_if_ne 21 18 hE dX0_rule_15 (by decide) rfl ?_ ?_
    · refine x_bipush 20 hE dX0_rule_18 rfl xc_b_m2 ?_
      exact x_iret hE dX0_rule_20
    · refine x_iload_n 22 hE dX0_rule_21 rfl 2 rfl ?_
      refine x_bipush 24 hE dX0_rule_22 rfl xc_b_13 ?_
      refine x_icmp_ne 39 27 hE dX0_rule_24 (by decide) rfl ?_ ?_
      · refine x_aload_n 28 hE dX0_rule_27 rfl 0 rfl ?_
        refine x_gR 31 hE (xw_lk0 hE xkf_CrossingWords_27) rfl dX0_rule_28 rfl (fun v11 => ?_)
        refine x_iload_n 32 hE dX0_rule_31 rfl 1 rfl ?_
        refine x_ldR 33 hE dX0_rule_32 rfl (fun v12 => ?_)
        refine x_gI 36 hE (xw_lk0 hE xkf_CrossingWords_200) rfl dX0_rule_33 rfl (fun v13 => ?_)
        refine x_goto 48 hE dX0_rule_36 (by decide) ?_
        exact x_iret hE dX0_rule_48
      · refine x_aload_n 40 hE dX0_rule_39 rfl 0 rfl ?_
        refine x_iload_n 41 hE dX0_rule_40 rfl 1 rfl ?_
        refine x_callr 44 (xw_goV hE (c := 0) (by decide) (fun v8 hq => xw_rV hE (ct_X0_rulesOf v8 v2) xd_X0_rulesOf rfl q965 q967 qs15 q95 q968 rfl ⟨Nat.le_of_ble_eq_true rfl, Nat.le_of_ble_eq_true rfl⟩ (congrArg va_rf hq) rfl (by decide) dX0_rule_41)) rfl (fun v7 => ?_)
        refine x_iload_n 45 hE dX0_rule_44 rfl 2 rfl ?_
        refine x_calli 48 (xw_goV hE (c := 17) (by decide) (fun v10 hq => xw_rV hE (ct_X20_at v10 v3) xd_X20_at rfl q987 q988 q989 q116 q990 rfl ⟨Nat.le_of_ble_eq_true rfl, Nat.le_of_ble_eq_true rfl⟩ (congrArg va_rf hq) rfl (by decide) dX0_rule_45)) rfl (fun v9 => ?_)
        exact x_iret hE dX0_rule_48

set_option maxHeartbeats 4000000 in
theorem ct_X6_term {l : Launch} {G : xw_G} {μ : xw_Mu} (v1 : Nat) (v2 : Int32) : xw_Ct l G (xw_hc G μ) xw_oi yX6_term cX6_term 2 (some (.int)) 2 [va_rf (some v1), .int v2] (pg_X6_term v1 v2) := by
  refine xw_metL [(0, va_rf (some v1)), (1, .int v2)] (by decide) (Nat.le_trans (Nat.le_of_eq ((xw_l1 rfl).trans (congrArg (1 + ·) ((xw_l1 rfl).trans (congrArg (1 + ·) xw_l0))))) (by decide)) ((xw_a1 rfl).trans (congrArg (List.cons _) ((xw_a1 rfl).trans (congrArg (List.cons _) xw_a0)))) (fun E hE hl hG hm => ?_)
  subst hl; subst hG
  have hE : xw_ok E "CrossingWords$Saying" cX6_term 2 (some (.int)) 2 := hE
  unfold pg_X6_term
  refine x_aload_n 1 hE dX6_term_0 rfl 0 rfl ?_
  refine x_iload_n 2 hE dX6_term_1 rfl 1 rfl ?_
  refine x_calli 5 (xw_goD hE (fun v4 hq => (List.forall_mem_cons.mpr ⟨⟨Nat.le_of_ble_eq_true rfl, xw_rU (owner := "CrossingWords$Saying") (x := ⟨"CrossingWords$Saying", "own", "(I)I"⟩) hE (ct_X6_own v4 v2) xD_CrossingWords_Saying_own__I_I (Or.inl (Or.inl rfl)) q1163 q910 q911 q909 q102 q923 rfl ⟨Nat.le_of_ble_eq_true rfl, Nat.le_of_ble_eq_true rfl⟩ (congrArg va_rf hq) rfl (by decide) dX6_term_2⟩, (List.forall_mem_cons.mpr ⟨⟨Nat.le_of_ble_eq_true rfl, xw_rU (owner := "CrossingWords$Saying") (x := ⟨"CrossingWords$Saying", "own", "(I)I"⟩) hE (ct_X8_own v4 v2) xD_CrossingWords_Saying_own__I_I (Or.inl (Or.inr ⟨_, _, _, q909, q923⟩)) q1163 q910 q918 q919 q104 q920 rfl ⟨Nat.le_of_ble_eq_true rfl, Nat.le_of_ble_eq_true rfl⟩ (congrArg va_rf hq) rfl (by decide) dX6_term_2⟩, (List.forall_mem_cons.mpr ⟨⟨Nat.le_of_ble_eq_true rfl, xw_rU (owner := "CrossingWords$Saying") (x := ⟨"CrossingWords$Saying", "own", "(I)I"⟩) hE (ct_X6_own v4 v2) xD_CrossingWords_Saying_own__I_I (Or.inl (Or.inl rfl)) q1163 q910 q922 q909 q102 q923 rfl ⟨Nat.le_of_ble_eq_true rfl, Nat.le_of_ble_eq_true rfl⟩ (congrArg va_rf hq) rfl (by decide) dX6_term_2⟩, (List.forall_mem_cons.mpr ⟨⟨Nat.le_of_ble_eq_true rfl, xw_rU (owner := "CrossingWords$Saying") (x := ⟨"CrossingWords$Saying", "own", "(I)I"⟩) hE (ct_X11_own v4 v2) xD_CrossingWords_Saying_own__I_I (Or.inl (Or.inr ⟨_, _, _, q909, q923⟩)) q1163 q910 q913 q914 q107 q915 rfl ⟨Nat.le_of_ble_eq_true rfl, Nat.le_of_ble_eq_true rfl⟩ (congrArg va_rf hq) rfl (by decide) dX6_term_2⟩, (List.forall_mem_cons.mpr ⟨⟨Nat.le_of_ble_eq_true rfl, xw_rU (owner := "CrossingWords$Saying") (x := ⟨"CrossingWords$Saying", "own", "(I)I"⟩) hE (ct_X6_own v4 v2) xD_CrossingWords_Saying_own__I_I (Or.inl (Or.inl rfl)) q1163 q910 q917 q909 q102 q923 rfl ⟨Nat.le_of_ble_eq_true rfl, Nat.le_of_ble_eq_true rfl⟩ (congrArg va_rf hq) rfl (by decide) dX6_term_2⟩, (List.forall_mem_cons.mpr ⟨⟨Nat.le_of_ble_eq_true rfl, xw_rU (owner := "CrossingWords$Saying") (x := ⟨"CrossingWords$Saying", "own", "(I)I"⟩) hE (ct_X6_own v4 v2) xD_CrossingWords_Saying_own__I_I (Or.inl (Or.inl rfl)) q1163 q910 q912 q909 q102 q923 rfl ⟨Nat.le_of_ble_eq_true rfl, Nat.le_of_ble_eq_true rfl⟩ (congrArg va_rf hq) rfl (by decide) dX6_term_2⟩, (List.forall_mem_cons.mpr ⟨⟨Nat.le_of_ble_eq_true rfl, xw_rU (owner := "CrossingWords$Saying") (x := ⟨"CrossingWords$Saying", "own", "(I)I"⟩) hE (ct_X6_own v4 v2) xD_CrossingWords_Saying_own__I_I (Or.inl (Or.inl rfl)) q1163 q910 q916 q909 q102 q923 rfl ⟨Nat.le_of_ble_eq_true rfl, Nat.le_of_ble_eq_true rfl⟩ (congrArg va_rf hq) rfl (by decide) dX6_term_2⟩, (List.forall_mem_cons.mpr ⟨⟨Nat.le_of_ble_eq_true rfl, xw_rU (owner := "CrossingWords$Saying") (x := ⟨"CrossingWords$Saying", "own", "(I)I"⟩) hE (ct_X6_own v4 v2) xD_CrossingWords_Saying_own__I_I (Or.inl (Or.inl rfl)) q1163 q910 q921 q909 q102 q923 rfl ⟨Nat.le_of_ble_eq_true rfl, Nat.le_of_ble_eq_true rfl⟩ (congrArg va_rf hq) rfl (by decide) dX6_term_2⟩, (fun _ h => absurd h List.not_mem_nil)⟩)⟩)⟩)⟩)⟩)⟩)⟩)⟩))) rfl (fun v3 => ?_)
  exact x_iret hE dX6_term_5

set_option maxHeartbeats 4000000 in
theorem ct_X11_term {l : Launch} {G : xw_G} {μ : xw_Mu} : ∀ (d : Nat) (v1 : Nat) (v2 : Int32), xw_Ct l G (xw_hc G μ) xw_oi yX11_term cX11_term 2 (some (.int)) (5 + d) [va_rf (some v1), .int v2] (pg_X11_term d v1 v2) := by
  intro d
  induction d with
  | zero => intro v1 v2 σ r σ' k n h; cases h
  | succ d ih =>
  intro v1 v2
  refine xw_metL [(0, va_rf (some v1)), (1, .int v2)] (by decide) (Nat.le_trans (Nat.le_of_eq ((xw_l1 rfl).trans (congrArg (1 + ·) ((xw_l1 rfl).trans (congrArg (1 + ·) xw_l0))))) (by decide)) ((xw_a1 rfl).trans (congrArg (List.cons _) ((xw_a1 rfl).trans (congrArg (List.cons _) xw_a0)))) (fun E hE hl hG hm => ?_)
  subst hl; subst hG
  have hE : xw_ok E "CrossingWords$But" cX11_term 2 (some (.int)) (5 + (d + 1)) := hE
  unfold pg_X11_term
  refine x_aload_n 1 hE dX11_term_0 rfl 0 rfl ?_
  refine x_gR 4 hE (xw_lk0 hE xkf_CrossingWords_But_9) rfl dX11_term_1 rfl (fun v3 => ?_)
  refine x_iload_n 5 hE dX11_term_4 rfl 1 rfl ?_
  refine x_ldI 6 hE dX11_term_5 rfl (fun v4 => ?_)
  refine x_iconst 7 hE dX11_term_6 rfl xc_i_m1 ?_
  refine x_icmp_eq 19 10 hE dX11_term_7 (by decide) rfl ?_ ?_
  · refine x_aload_n 20 hE dX11_term_19 rfl 0 rfl ?_
    refine x_callr 23 (xw_goV hE (c := 8) (by decide) (fun v6 hq => xw_rU (owner := "CrossingWords$Answer") (x := ⟨"CrossingWords$But", "said", "()LCrossingWords$Saying;"⟩) hE (ct_X9_said v6) xD_CrossingWords_Answer_said___LCrossingWords_Saying_ (Or.inl (Or.inl rfl)) q570 q571 q573 q574 q105 q575 rfl ⟨by omega, Nat.le_of_ble_eq_true rfl⟩ (congrArg va_rf hq) rfl (by decide) dX11_term_20)) rfl (fun v5 => ?_)
    refine x_iload_n 24 hE dX11_term_23 rfl 1 rfl ?_
    refine x_calli 27 (xw_goD hE (fun v8 hq => (List.forall_mem_cons.mpr ⟨⟨Nat.le_of_ble_eq_true rfl, xw_rU (owner := "CrossingWords$Saying") (x := ⟨"CrossingWords$Saying", "term", "(I)I"⟩) hE (ct_X6_term v8 v2) xD_CrossingWords_Saying_term__I_I (Or.inl (Or.inl rfl)) q1156 q1150 q1151 q1149 q102 q1162 rfl ⟨by omega, Nat.le_of_ble_eq_true rfl⟩ (congrArg va_rf hq) rfl (by decide) dX11_term_24⟩, (List.forall_mem_cons.mpr ⟨⟨Nat.le_of_ble_eq_true rfl, xw_rU (owner := "CrossingWords$Saying") (x := ⟨"CrossingWords$Saying", "term", "(I)I"⟩) hE (ct_X6_term v8 v2) xD_CrossingWords_Saying_term__I_I (Or.inl (Or.inl rfl)) q1156 q1150 q1159 q1149 q102 q1162 rfl ⟨by omega, Nat.le_of_ble_eq_true rfl⟩ (congrArg va_rf hq) rfl (by decide) dX11_term_24⟩, (List.forall_mem_cons.mpr ⟨⟨Nat.le_of_ble_eq_true rfl, xw_rU (owner := "CrossingWords$Saying") (x := ⟨"CrossingWords$Saying", "term", "(I)I"⟩) hE (ct_X6_term v8 v2) xD_CrossingWords_Saying_term__I_I (Or.inl (Or.inl rfl)) q1156 q1150 q1161 q1149 q102 q1162 rfl ⟨by omega, Nat.le_of_ble_eq_true rfl⟩ (congrArg va_rf hq) rfl (by decide) dX11_term_24⟩, (List.forall_mem_cons.mpr ⟨⟨Nat.le_of_ble_eq_true rfl, xw_rU (owner := "CrossingWords$Saying") (x := ⟨"CrossingWords$Saying", "term", "(I)I"⟩) hE (ih v8 v2) xD_CrossingWords_Saying_term__I_I (Or.inl (Or.inr ⟨_, _, _, q1149, q1162⟩)) q1156 q1150 q1153 q1154 q107 q1155 rfl ⟨by omega, Nat.le_of_ble_eq_true rfl⟩ (congrArg va_rf hq) rfl (by decide) dX11_term_24⟩, (List.forall_mem_cons.mpr ⟨⟨Nat.le_of_ble_eq_true rfl, xw_rU (owner := "CrossingWords$Saying") (x := ⟨"CrossingWords$Saying", "term", "(I)I"⟩) hE (ct_X6_term v8 v2) xD_CrossingWords_Saying_term__I_I (Or.inl (Or.inl rfl)) q1156 q1150 q1158 q1149 q102 q1162 rfl ⟨by omega, Nat.le_of_ble_eq_true rfl⟩ (congrArg va_rf hq) rfl (by decide) dX11_term_24⟩, (List.forall_mem_cons.mpr ⟨⟨Nat.le_of_ble_eq_true rfl, xw_rU (owner := "CrossingWords$Saying") (x := ⟨"CrossingWords$Saying", "term", "(I)I"⟩) hE (ct_X6_term v8 v2) xD_CrossingWords_Saying_term__I_I (Or.inl (Or.inl rfl)) q1156 q1150 q1152 q1149 q102 q1162 rfl ⟨by omega, Nat.le_of_ble_eq_true rfl⟩ (congrArg va_rf hq) rfl (by decide) dX11_term_24⟩, (List.forall_mem_cons.mpr ⟨⟨Nat.le_of_ble_eq_true rfl, xw_rU (owner := "CrossingWords$Saying") (x := ⟨"CrossingWords$Saying", "term", "(I)I"⟩) hE (ct_X6_term v8 v2) xD_CrossingWords_Saying_term__I_I (Or.inl (Or.inl rfl)) q1156 q1150 q1157 q1149 q102 q1162 rfl ⟨by omega, Nat.le_of_ble_eq_true rfl⟩ (congrArg va_rf hq) rfl (by decide) dX11_term_24⟩, (List.forall_mem_cons.mpr ⟨⟨Nat.le_of_ble_eq_true rfl, xw_rU (owner := "CrossingWords$Saying") (x := ⟨"CrossingWords$Saying", "term", "(I)I"⟩) hE (ct_X6_term v8 v2) xD_CrossingWords_Saying_term__I_I (Or.inl (Or.inl rfl)) q1156 q1150 q1160 q1149 q102 q1162 rfl ⟨by omega, Nat.le_of_ble_eq_true rfl⟩ (congrArg va_rf hq) rfl (by decide) dX11_term_24⟩, (fun _ h => absurd h List.not_mem_nil)⟩)⟩)⟩)⟩)⟩)⟩)⟩)⟩))) rfl (fun v7 => ?_)
    exact x_iret hE dX11_term_27
  · refine x_aload_n 11 hE dX11_term_10 rfl 0 rfl ?_
    refine x_gR 14 hE (xw_lk0 hE xkf_CrossingWords_But_9) rfl dX11_term_11 rfl (fun v9 => ?_)
    refine x_iload_n 15 hE dX11_term_14 rfl 1 rfl ?_
    refine x_ldI 16 hE dX11_term_15 rfl (fun v10 => ?_)
    refine x_goto 27 hE dX11_term_16 (by decide) ?_
    exact x_iret hE dX11_term_27

set_option maxHeartbeats 4000000 in
theorem ct_X1_term {l : Launch} {G : xw_G} {μ : xw_Mu} (v1 : Nat) (v2 : Int32) : xw_Ct l G (xw_hc G μ) xw_oi yX1_term cX1_term 3 (some (.int)) 19 [va_rf (some v1), .int v2] (pg_X1_term v1 v2) := by
  refine xw_metL [(0, va_rf (some v1)), (1, .int v2)] (by decide) (Nat.le_trans (Nat.le_of_eq ((xw_l1 rfl).trans (congrArg (1 + ·) ((xw_l1 rfl).trans (congrArg (1 + ·) xw_l0))))) (by decide)) ((xw_a1 rfl).trans (congrArg (List.cons _) ((xw_a1 rfl).trans (congrArg (List.cons _) xw_a0)))) (fun E hE hl hG hm => ?_)
  subst hl; subst hG
  have hE : xw_ok E "CrossingWords$Run" cX1_term 3 (some (.int)) 19 := hE
  unfold pg_X1_term
  refine x_aload_n 1 hE dX1_term_0 rfl 0 rfl ?_
  refine x_gI 4 hE (xw_lk0 hE xkf_CrossingWords_Run_148) rfl dX1_term_1 rfl (fun v3 => ?_)
  refine x_iconst 5 hE dX1_term_4 rfl xc_i_m1 ?_
  refine x_sq 28 (fun (v4 : Int32) => [(0, va_rf (some v1)), (1, .int v2)]) (fun (v4 : Int32) => [.int v4]) (fun v4 => ?_) (fun J1 hJ1 => ?_)
  · refine x_istore_n 29 [(2, .int v4), (0, va_rf (some v1)), (1, .int v2)] hE dX1_term_28 rfl rfl (Nat.le_of_ble_eq_true rfl) rfl ?_
    refine x_iload_n 30 hE dX1_term_29 rfl 0 rfl ?_
    refine x_iconst 31 hE dX1_term_30 rfl xc_i_m1 ?_
    refine x_jn 46 (fun (v5 : Unit) => [(0, va_rf (some v1)), (1, .int v2)]) (fun (v5 : Unit) => []) (fun v5 => ?_) (fun J2 hJ2 => ?_)
    · refine x_aload_n 47 hE dX1_term_46 rfl 0 rfl ?_
      refine x_gR 50 hE (xw_lk0 hE xkf_CrossingWords_Run_151) rfl dX1_term_47 rfl (fun v6 => ?_)
      refine x_iload_n 51 hE dX1_term_50 rfl 1 rfl ?_
      refine x_calli 54 (xw_goD hE (fun v8 hq => (List.forall_mem_cons.mpr ⟨⟨Nat.le_of_ble_eq_true rfl, xw_rU (owner := "CrossingWords$Saying") (x := ⟨"CrossingWords$Saying", "term", "(I)I"⟩) hE (ct_X6_term v8 v2) xD_CrossingWords_Saying_term__I_I (Or.inl (Or.inl rfl)) q1148 q1150 q1151 q1149 q102 q1162 rfl ⟨Nat.le_of_ble_eq_true rfl, Nat.le_of_ble_eq_true rfl⟩ (congrArg va_rf hq) rfl (by decide) dX1_term_51⟩, (List.forall_mem_cons.mpr ⟨⟨Nat.le_of_ble_eq_true rfl, xw_rU (owner := "CrossingWords$Saying") (x := ⟨"CrossingWords$Saying", "term", "(I)I"⟩) hE (ct_X6_term v8 v2) xD_CrossingWords_Saying_term__I_I (Or.inl (Or.inl rfl)) q1148 q1150 q1159 q1149 q102 q1162 rfl ⟨Nat.le_of_ble_eq_true rfl, Nat.le_of_ble_eq_true rfl⟩ (congrArg va_rf hq) rfl (by decide) dX1_term_51⟩, (List.forall_mem_cons.mpr ⟨⟨Nat.le_of_ble_eq_true rfl, xw_rU (owner := "CrossingWords$Saying") (x := ⟨"CrossingWords$Saying", "term", "(I)I"⟩) hE (ct_X6_term v8 v2) xD_CrossingWords_Saying_term__I_I (Or.inl (Or.inl rfl)) q1148 q1150 q1161 q1149 q102 q1162 rfl ⟨Nat.le_of_ble_eq_true rfl, Nat.le_of_ble_eq_true rfl⟩ (congrArg va_rf hq) rfl (by decide) dX1_term_51⟩, (List.forall_mem_cons.mpr ⟨⟨Nat.le_of_ble_eq_true rfl, xw_rU (owner := "CrossingWords$Saying") (x := ⟨"CrossingWords$Saying", "term", "(I)I"⟩) hE (ct_X11_term 13 v8 v2) xD_CrossingWords_Saying_term__I_I (Or.inl (Or.inr ⟨_, _, _, q1149, q1162⟩)) q1148 q1150 q1153 q1154 q107 q1155 rfl ⟨Nat.le_of_ble_eq_true rfl, Nat.le_of_ble_eq_true rfl⟩ (congrArg va_rf hq) rfl (by decide) dX1_term_51⟩, (List.forall_mem_cons.mpr ⟨⟨Nat.le_of_ble_eq_true rfl, xw_rU (owner := "CrossingWords$Saying") (x := ⟨"CrossingWords$Saying", "term", "(I)I"⟩) hE (ct_X6_term v8 v2) xD_CrossingWords_Saying_term__I_I (Or.inl (Or.inl rfl)) q1148 q1150 q1158 q1149 q102 q1162 rfl ⟨Nat.le_of_ble_eq_true rfl, Nat.le_of_ble_eq_true rfl⟩ (congrArg va_rf hq) rfl (by decide) dX1_term_51⟩, (List.forall_mem_cons.mpr ⟨⟨Nat.le_of_ble_eq_true rfl, xw_rU (owner := "CrossingWords$Saying") (x := ⟨"CrossingWords$Saying", "term", "(I)I"⟩) hE (ct_X6_term v8 v2) xD_CrossingWords_Saying_term__I_I (Or.inl (Or.inl rfl)) q1148 q1150 q1152 q1149 q102 q1162 rfl ⟨Nat.le_of_ble_eq_true rfl, Nat.le_of_ble_eq_true rfl⟩ (congrArg va_rf hq) rfl (by decide) dX1_term_51⟩, (List.forall_mem_cons.mpr ⟨⟨Nat.le_of_ble_eq_true rfl, xw_rU (owner := "CrossingWords$Saying") (x := ⟨"CrossingWords$Saying", "term", "(I)I"⟩) hE (ct_X6_term v8 v2) xD_CrossingWords_Saying_term__I_I (Or.inl (Or.inl rfl)) q1148 q1150 q1157 q1149 q102 q1162 rfl ⟨Nat.le_of_ble_eq_true rfl, Nat.le_of_ble_eq_true rfl⟩ (congrArg va_rf hq) rfl (by decide) dX1_term_51⟩, (List.forall_mem_cons.mpr ⟨⟨Nat.le_of_ble_eq_true rfl, xw_rU (owner := "CrossingWords$Saying") (x := ⟨"CrossingWords$Saying", "term", "(I)I"⟩) hE (ct_X6_term v8 v2) xD_CrossingWords_Saying_term__I_I (Or.inl (Or.inl rfl)) q1148 q1150 q1160 q1149 q102 q1162 rfl ⟨Nat.le_of_ble_eq_true rfl, Nat.le_of_ble_eq_true rfl⟩ (congrArg va_rf hq) rfl (by decide) dX1_term_51⟩, (fun _ h => absurd h List.not_mem_nil)⟩)⟩)⟩)⟩)⟩)⟩)⟩)⟩))) rfl (fun v7 => ?_)
      exact x_iret hE dX1_term_54
    · refine x_icmp_eq 46 34 hE dX1_term_31 (by decide) rfl ?_ ?_
      · refine x_sub [(0, va_rf (some v1)), (1, .int v2)] [1, 2] rfl ?_
        exact hJ2 ()
      · refine x_aload_n 35 hE dX1_term_34 rfl 1 rfl ?_
        refine x_gR 38 hE (xw_lk0 hE xkf_CrossingWords_Run_92) rfl dX1_term_35 rfl (fun v9 => ?_)
        refine x_bipush 40 hE dX1_term_38 rfl xc_b_10 ?_
        refine x_calli 43 (xw_goV hE (c := 17) (by decide) (fun v11 hq => xw_rV hE (ct_X20_at v11 10) xd_X20_at rfl q1045 q988 q989 q116 q990 rfl ⟨Nat.le_of_ble_eq_true rfl, Nat.le_of_ble_eq_true rfl⟩ (congrArg va_rf hq) rfl (by decide) dX1_term_40)) rfl (fun v10 => ?_)
        refine x_if_ne 55 46 hE dX1_term_43 (by decide) rfl ?_ ?_
        · refine x_sub [(0, va_rf (some v1)), (1, .int v2)] [1, 2] rfl ?_
          exact hJ2 ()
        · refine x_aload_n 56 hE dX1_term_55 rfl 1 rfl ?_
          refine x_gR 59 hE (xw_lk0 hE xkf_CrossingWords_Run_92) rfl dX1_term_56 rfl (fun v12 => ?_)
          refine x_bipush 61 hE dX1_term_59 rfl xc_b_10 ?_
          refine x_calli 64 (xw_goV hE (c := 17) (by decide) (fun v14 hq => xw_rV hE (ct_X20_at v14 10) xd_X20_at rfl q1045 q988 q989 q116 q990 rfl ⟨Nat.le_of_ble_eq_true rfl, Nat.le_of_ble_eq_true rfl⟩ (congrArg va_rf hq) rfl (by decide) dX1_term_61)) rfl (fun v13 => ?_)
          refine x_iconst 65 hE dX1_term_64 rfl xc_i_1 ?_
          refine x_icmp_ne 72 68 hE dX1_term_65 (by decide) rfl ?_ ?_
          · refine x_iload_n 69 hE dX1_term_68 rfl 0 rfl ?_
            refine x_goto 73 hE dX1_term_69 (by decide) ?_
            exact x_iret hE dX1_term_73
          · refine x_iconst 73 hE dX1_term_72 rfl xc_i_m1 ?_
            exact x_iret hE dX1_term_73
  · refine x_icmp_ne 12 8 hE dX1_term_5 (by decide) rfl ?_ ?_
    · refine x_iconst 9 hE dX1_term_8 rfl xc_i_m1 ?_
      refine x_goto 28 hE dX1_term_9 (by decide) ?_
      refine x_sub [(0, va_rf (some v1)), (1, .int v2)] [0, 1] rfl ?_
      exact hJ1 (-1)
    · refine x_aload_n 13 hE dX1_term_12 rfl 0 rfl ?_
      refine x_gR 16 hE (xw_lk0 hE xkf_CrossingWords_Run_31) rfl dX1_term_13 rfl (fun v15 => ?_)
      refine x_gR 19 hE (xw_lk0 hE xkf_CrossingWords_Run_54) rfl dX1_term_16 rfl (fun v16 => ?_)
      refine x_aload_n 20 hE dX1_term_19 rfl 0 rfl ?_
      refine x_gI 23 hE (xw_lk0 hE xkf_CrossingWords_Run_148) rfl dX1_term_20 rfl (fun v17 => ?_)
      refine x_ldR 24 hE dX1_term_23 rfl (fun v18 => ?_)
      refine x_iload_n 25 hE dX1_term_24 rfl 1 rfl ?_
      refine x_calli 28 (xw_goD hE (fun v20 hq => (List.forall_mem_cons.mpr ⟨⟨Nat.le_of_ble_eq_true rfl, xw_rU (owner := "CrossingWords$Saying") (x := ⟨"CrossingWords$Saying", "own", "(I)I"⟩) hE (ct_X6_own v20 v2) xD_CrossingWords_Saying_own__I_I (Or.inl (Or.inl rfl)) q1147 q910 q911 q909 q102 q923 rfl ⟨Nat.le_of_ble_eq_true rfl, Nat.le_of_ble_eq_true rfl⟩ (congrArg va_rf hq) rfl (by decide) dX1_term_25⟩, (List.forall_mem_cons.mpr ⟨⟨Nat.le_of_ble_eq_true rfl, xw_rU (owner := "CrossingWords$Saying") (x := ⟨"CrossingWords$Saying", "own", "(I)I"⟩) hE (ct_X8_own v20 v2) xD_CrossingWords_Saying_own__I_I (Or.inl (Or.inr ⟨_, _, _, q909, q923⟩)) q1147 q910 q918 q919 q104 q920 rfl ⟨Nat.le_of_ble_eq_true rfl, Nat.le_of_ble_eq_true rfl⟩ (congrArg va_rf hq) rfl (by decide) dX1_term_25⟩, (List.forall_mem_cons.mpr ⟨⟨Nat.le_of_ble_eq_true rfl, xw_rU (owner := "CrossingWords$Saying") (x := ⟨"CrossingWords$Saying", "own", "(I)I"⟩) hE (ct_X6_own v20 v2) xD_CrossingWords_Saying_own__I_I (Or.inl (Or.inl rfl)) q1147 q910 q922 q909 q102 q923 rfl ⟨Nat.le_of_ble_eq_true rfl, Nat.le_of_ble_eq_true rfl⟩ (congrArg va_rf hq) rfl (by decide) dX1_term_25⟩, (List.forall_mem_cons.mpr ⟨⟨Nat.le_of_ble_eq_true rfl, xw_rU (owner := "CrossingWords$Saying") (x := ⟨"CrossingWords$Saying", "own", "(I)I"⟩) hE (ct_X11_own v20 v2) xD_CrossingWords_Saying_own__I_I (Or.inl (Or.inr ⟨_, _, _, q909, q923⟩)) q1147 q910 q913 q914 q107 q915 rfl ⟨Nat.le_of_ble_eq_true rfl, Nat.le_of_ble_eq_true rfl⟩ (congrArg va_rf hq) rfl (by decide) dX1_term_25⟩, (List.forall_mem_cons.mpr ⟨⟨Nat.le_of_ble_eq_true rfl, xw_rU (owner := "CrossingWords$Saying") (x := ⟨"CrossingWords$Saying", "own", "(I)I"⟩) hE (ct_X6_own v20 v2) xD_CrossingWords_Saying_own__I_I (Or.inl (Or.inl rfl)) q1147 q910 q917 q909 q102 q923 rfl ⟨Nat.le_of_ble_eq_true rfl, Nat.le_of_ble_eq_true rfl⟩ (congrArg va_rf hq) rfl (by decide) dX1_term_25⟩, (List.forall_mem_cons.mpr ⟨⟨Nat.le_of_ble_eq_true rfl, xw_rU (owner := "CrossingWords$Saying") (x := ⟨"CrossingWords$Saying", "own", "(I)I"⟩) hE (ct_X6_own v20 v2) xD_CrossingWords_Saying_own__I_I (Or.inl (Or.inl rfl)) q1147 q910 q912 q909 q102 q923 rfl ⟨Nat.le_of_ble_eq_true rfl, Nat.le_of_ble_eq_true rfl⟩ (congrArg va_rf hq) rfl (by decide) dX1_term_25⟩, (List.forall_mem_cons.mpr ⟨⟨Nat.le_of_ble_eq_true rfl, xw_rU (owner := "CrossingWords$Saying") (x := ⟨"CrossingWords$Saying", "own", "(I)I"⟩) hE (ct_X6_own v20 v2) xD_CrossingWords_Saying_own__I_I (Or.inl (Or.inl rfl)) q1147 q910 q916 q909 q102 q923 rfl ⟨Nat.le_of_ble_eq_true rfl, Nat.le_of_ble_eq_true rfl⟩ (congrArg va_rf hq) rfl (by decide) dX1_term_25⟩, (List.forall_mem_cons.mpr ⟨⟨Nat.le_of_ble_eq_true rfl, xw_rU (owner := "CrossingWords$Saying") (x := ⟨"CrossingWords$Saying", "own", "(I)I"⟩) hE (ct_X6_own v20 v2) xD_CrossingWords_Saying_own__I_I (Or.inl (Or.inl rfl)) q1147 q910 q921 q909 q102 q923 rfl ⟨Nat.le_of_ble_eq_true rfl, Nat.le_of_ble_eq_true rfl⟩ (congrArg va_rf hq) rfl (by decide) dX1_term_25⟩, (fun _ h => absurd h List.not_mem_nil)⟩)⟩)⟩)⟩)⟩)⟩)⟩)⟩))) rfl (fun v19 => ?_)
      refine x_sub [(0, va_rf (some v1)), (1, .int v2)] [0, 1] rfl ?_
      exact hJ1 v19

set_option maxHeartbeats 4000000 in
theorem ct_X0_run {l : Launch} {G : xw_G} {μ : xw_Mu} (v1 : Nat) (v2 : Int32) (v3 : Int32) (v4 : Int32) (v5 : Int32) : xw_Ct l G (xw_hc G μ) xw_oi yX0_run cX0_run 6 (some (.int)) 95 [va_rf (some v1), .int v2, .int v3, .int v4, .int v5] (pg_X0_run v1 v2 v3 v4 v5) := by
  refine xw_metL [(0, va_rf (some v1)), (1, .int v2), (2, .int v3), (3, .int v4), (4, .int v5)] (by decide) (Nat.le_trans (Nat.le_of_eq ((xw_l1 rfl).trans (congrArg (1 + ·) ((xw_l1 rfl).trans (congrArg (1 + ·) ((xw_l1 rfl).trans (congrArg (1 + ·) ((xw_l1 rfl).trans (congrArg (1 + ·) ((xw_l1 rfl).trans (congrArg (1 + ·) xw_l0))))))))))) (by decide)) ((xw_a1 rfl).trans (congrArg (List.cons _) ((xw_a1 rfl).trans (congrArg (List.cons _) ((xw_a1 rfl).trans (congrArg (List.cons _) ((xw_a1 rfl).trans (congrArg (List.cons _) ((xw_a1 rfl).trans (congrArg (List.cons _) xw_a0)))))))))) (fun E hE hl hG hm => ?_)
  subst hl; subst hG
  have hE : xw_ok E "CrossingWords" cX0_run 6 (some (.int)) 95 := hE
  unfold pg_X0_run
  refine x_aload_n 1 hE dX0_run_0 rfl 0 rfl ?_
  refine x_iload_n 2 hE dX0_run_1 rfl 1 rfl ?_
  refine x_iload_n 3 hE dX0_run_2 rfl 2 rfl ?_
  refine x_iload_n 4 hE dX0_run_3 rfl 3 rfl ?_
  refine x_calli 7 (xw_goV hE (c := 0) (by decide) (fun v7 hq => xw_rV hE (ct_X0_isRun v7 v2 v3 v4) xd_X0_isRun rfl q995 q997 qs16 q95 q998 rfl ⟨Nat.le_of_ble_eq_true rfl, Nat.le_of_ble_eq_true rfl⟩ (congrArg va_rf hq) rfl (by decide) dX0_run_4)) rfl (fun v6 => ?_)
  refine x_if_eq 32 10 hE dX0_run_7 (by decide) rfl ?_ ?_
  · refine x_bipush 34 hE dX0_run_32 rfl xc_b_m3 ?_
    exact x_iret hE dX0_run_34
  · refine x_iload 12 hE dX0_run_10 rfl 4 rfl ?_
    refine x_iconst 13 hE dX0_run_12 rfl xc_i_0 ?_
    refine x_iconst 14 hE dX0_run_13 rfl xc_i_2 ?_
    refine x_calli 17 (xw_goS hE (ct_X0_isIn v5 0 2) xd_X0_isIn q244 q245 q95 q246 rfl ⟨Nat.le_of_ble_eq_true rfl, Nat.le_of_ble_eq_true rfl⟩ rfl (by decide) dX0_run_14) rfl (fun v8 => ?_)
    refine x_jn 35 (fun (v9 : Unit) => [(0, va_rf (some v1)), (1, .int v2), (2, .int v3), (3, .int v4), (4, .int v5)]) (fun (v9 : Unit) => []) (fun v9 => ?_) (fun J1 hJ1 => ?_)
    · refine x_aload_n 36 hE dX0_run_35 rfl 0 rfl ?_
      refine x_aload_n 37 hE dX0_run_36 rfl 0 rfl ?_
      refine x_gR 40 hE (xw_lk0 hE xkf_CrossingWords_21) rfl dX0_run_37 rfl (fun v10 => ?_)
      refine x_iload_n 41 hE dX0_run_40 rfl 1 rfl ?_
      refine x_ldR 42 hE dX0_run_41 rfl (fun v11 => ?_)
      refine x_aload_n 43 hE dX0_run_42 rfl 0 rfl ?_
      refine x_iload_n 44 hE dX0_run_43 rfl 2 rfl ?_
      refine x_callr 47 (xw_goV hE (c := 0) (by decide) (fun v13 hq => xw_rV hE (ct_X0_rulesOf v13 v3) xd_X0_rulesOf rfl q965 q967 qs15 q95 q968 rfl ⟨Nat.le_of_ble_eq_true rfl, Nat.le_of_ble_eq_true rfl⟩ (congrArg va_rf hq) rfl (Nat.le_trans (xw_sm1 (x_rfc _) (xw_sm1 rfl xw_sm0)) (by decide)) dX0_run_44)) rfl (fun v12 => ?_)
      refine x_iload_n 48 hE dX0_run_47 rfl 3 rfl ?_
      refine x_callr 51 (xw_goV hE (c := 0) (by decide) (fun v15 hq => xw_rV hE (ct_X0_ran v15 v11 v12 v4) xd_X0_ran rfl q999 q1001 qs17 q95 q1002 rfl ⟨Nat.le_of_ble_eq_true rfl, Nat.le_of_ble_eq_true rfl⟩ (congrArg va_rf hq) rfl (by decide) dX0_run_48)) rfl (fun v14 => ?_)
      refine x_astore 53 [(5, va_rf v14), (0, va_rf (some v1)), (1, .int v2), (2, .int v3), (3, .int v4), (4, .int v5)] hE dX0_run_51 rfl (Nat.le_of_ble_eq_true rfl) rfl ?_
      refine x_aload 55 hE dX0_run_53 rfl 0 rfl ?_
      refine x_calli 58 (xw_goV hE (c := 1) (by decide) (fun v17 hq => xw_rV hE (ct_X1_isBargain v17) xd_X1_isBargain rfl q1041 q1042 q1043 q96 q1044 rfl ⟨Nat.le_of_ble_eq_true rfl, Nat.le_of_ble_eq_true rfl⟩ (congrArg va_rf hq) rfl (by decide) dX0_run_55)) rfl (fun v16 => ?_)
      refine x_if_ne 64 61 hE dX0_run_58 (by decide) rfl ?_ ?_
      · refine x_bipush 63 hE dX0_run_61 rfl xc_b_m2 ?_
        exact x_iret hE dX0_run_63
      · refine x_iload 66 hE dX0_run_64 rfl 5 rfl ?_
        refine x_if_ne 77 69 hE dX0_run_66 (by decide) rfl ?_ ?_
        · refine x_aload 71 hE dX0_run_69 rfl 0 rfl ?_
          refine x_gI 74 hE (xw_lk0 hE xkf_CrossingWords_217) rfl dX0_run_71 rfl (fun v23 => ?_)
          refine x_goto 118 hE dX0_run_74 (by decide) ?_
          exact x_iret hE dX0_run_118
        · refine x_iload 79 hE dX0_run_77 rfl 5 rfl ?_
          refine x_iconst 80 hE dX0_run_79 rfl xc_i_1 ?_
          refine x_icmp_ne 94 83 hE dX0_run_80 (by decide) rfl ?_ ?_
          · refine x_aload 85 hE dX0_run_83 rfl 0 rfl ?_
            refine x_gR 88 hE (xw_lk0 hE xkf_CrossingWords_220) rfl dX0_run_85 rfl (fun v21 => ?_)
            refine x_gI 91 hE (xw_lk0 hE xkf_CrossingWords_162) rfl dX0_run_88 rfl (fun v22 => ?_)
            refine x_goto 118 hE dX0_run_91 (by decide) ?_
            exact x_iret hE dX0_run_118
          · refine x_iload 96 hE dX0_run_94 rfl 5 rfl ?_
            refine x_iconst 97 hE dX0_run_96 rfl xc_i_2 ?_
            refine x_icmp_ne 108 100 hE dX0_run_97 (by decide) rfl ?_ ?_
            · refine x_aload 102 hE dX0_run_100 rfl 0 rfl ?_
              refine x_gI 105 hE (xw_lk0 hE xkf_CrossingWords_224) rfl dX0_run_102 rfl (fun v20 => ?_)
              refine x_goto 118 hE dX0_run_105 (by decide) ?_
              exact x_iret hE dX0_run_118
            · refine x_aload 110 hE dX0_run_108 rfl 0 rfl ?_
              refine x_iload 112 hE dX0_run_110 rfl 5 rfl ?_
              refine x_bipush 114 hE dX0_run_112 rfl xc_b_10 ?_
              refine x_isub 115 hE dX0_run_114 rfl ?_
              refine x_calli 118 (xw_goV hE (c := 1) (by decide) (fun v19 hq => xw_rV hE (ct_X1_term v19 (v5 - 10)) xd_X1_term rfl q1143 q1144 q1145 q96 q1146 rfl ⟨Nat.le_of_ble_eq_true rfl, Nat.le_of_ble_eq_true rfl⟩ (congrArg va_rf hq) rfl (by decide) dX0_run_115)) rfl (fun v18 => ?_)
              exact x_iret hE dX0_run_118
    · refine x_if_ne 35 20 hE dX0_run_17 (by decide) rfl ?_ ?_
      · refine x_iload 22 hE dX0_run_20 rfl 4 rfl ?_
        refine x_bipush 24 hE dX0_run_22 rfl xc_b_10 ?_
        refine x_bipush 26 hE dX0_run_24 rfl xc_b_14 ?_
        refine x_calli 29 (xw_goS hE (ct_X0_isIn v5 10 14) xd_X0_isIn q244 q245 q95 q246 rfl ⟨Nat.le_of_ble_eq_true rfl, Nat.le_of_ble_eq_true rfl⟩ rfl (by decide) dX0_run_26) rfl (fun v24 => ?_)
        refine x_if_ne 35 32 hE dX0_run_29 (by decide) rfl ?_ ?_
        · refine x_bipush 34 hE dX0_run_32 rfl xc_b_m3 ?_
          exact x_iret hE dX0_run_34
        · refine x_sub [(0, va_rf (some v1)), (1, .int v2), (2, .int v3), (3, .int v4), (4, .int v5)] [0, 1, 2, 3, 4] rfl ?_
          exact hJ1 ()
      · refine x_sub [(0, va_rf (some v1)), (1, .int v2), (2, .int v3), (3, .int v4), (4, .int v5)] [0, 1, 2, 3, 4] rfl ?_
        exact hJ1 ()

set_option maxHeartbeats 4000000 in
theorem ct_X0_open {l : Launch} {G : xw_G} {μ : xw_Mu} (v1 : Nat) (v2 : Int32) (v3 : Int32) (v4 : Int32) (v5 : Int32) (v6 : Int32) : xw_Ct l G (xw_hc G μ) xw_oi yX0_open cX0_open 8 (some (.int)) 95 [va_rf (some v1), .int v2, .int v3, .int v4, .int v5, .int v6] (pg_X0_open v1 v2 v3 v4 v5 v6) := by
  refine xw_metL [(0, va_rf (some v1)), (1, .int v2), (2, .int v3), (3, .int v4), (4, .int v5), (5, .int v6)] (by decide) (Nat.le_trans (Nat.le_of_eq ((xw_l1 rfl).trans (congrArg (1 + ·) ((xw_l1 rfl).trans (congrArg (1 + ·) ((xw_l1 rfl).trans (congrArg (1 + ·) ((xw_l1 rfl).trans (congrArg (1 + ·) ((xw_l1 rfl).trans (congrArg (1 + ·) ((xw_l1 rfl).trans (congrArg (1 + ·) xw_l0))))))))))))) (by decide)) ((xw_a1 rfl).trans (congrArg (List.cons _) ((xw_a1 rfl).trans (congrArg (List.cons _) ((xw_a1 rfl).trans (congrArg (List.cons _) ((xw_a1 rfl).trans (congrArg (List.cons _) ((xw_a1 rfl).trans (congrArg (List.cons _) ((xw_a1 rfl).trans (congrArg (List.cons _) xw_a0)))))))))))) (fun E hE hl hG hm => ?_)
  subst hl; subst hG
  have hE : xw_ok E "CrossingWords" cX0_open 8 (some (.int)) 95 := hE
  unfold pg_X0_open
  refine x_aload_n 1 hE dX0_open_0 rfl 0 rfl ?_
  refine x_iload_n 2 hE dX0_open_1 rfl 1 rfl ?_
  refine x_iload_n 3 hE dX0_open_2 rfl 2 rfl ?_
  refine x_iload_n 4 hE dX0_open_3 rfl 3 rfl ?_
  refine x_calli 7 (xw_goV hE (c := 0) (by decide) (fun v8 hq => xw_rV hE (ct_X0_isRun v8 v2 v3 v4) xd_X0_isRun rfl q995 q997 qs16 q95 q998 rfl ⟨Nat.le_of_ble_eq_true rfl, Nat.le_of_ble_eq_true rfl⟩ (congrArg va_rf hq) rfl (by decide) dX0_open_4)) rfl (fun v7 => ?_)
  refine x_if_eq 40 10 hE dX0_open_7 (by decide) rfl ?_ ?_
  · refine x_bipush 42 hE dX0_open_40 rfl xc_b_m2 ?_
    exact x_iret hE dX0_open_42
  · refine x_iload 12 hE dX0_open_10 rfl 4 rfl ?_
    refine x_iconst 13 hE dX0_open_12 rfl xc_i_0 ?_
    refine x_aload_n 14 hE dX0_open_13 rfl 0 rfl ?_
    refine x_gR 17 hE (xw_lk0 hE xkf_CrossingWords_21) rfl dX0_open_14 rfl (fun v9 => ?_)
    refine x_iload_n 18 hE dX0_open_17 rfl 1 rfl ?_
    refine x_ldR 19 hE dX0_open_18 rfl (fun v10 => ?_)
    refine x_gI 22 hE (xw_lk0 hE xkf_CrossingWords_126) rfl dX0_open_19 rfl (fun v11 => ?_)
    refine x_iconst 23 hE dX0_open_22 rfl xc_i_1 ?_
    refine x_isub 24 hE dX0_open_23 rfl ?_
    refine x_calli 27 (xw_goS hE (ct_X0_isIn v5 0 (v11 - 1)) xd_X0_isIn q244 q245 q95 q246 rfl ⟨Nat.le_of_ble_eq_true rfl, Nat.le_of_ble_eq_true rfl⟩ rfl (by decide) dX0_open_24) rfl (fun v12 => ?_)
    refine x_if_eq 40 30 hE dX0_open_27 (by decide) rfl ?_ ?_
    · refine x_bipush 42 hE dX0_open_40 rfl xc_b_m2 ?_
      exact x_iret hE dX0_open_42
    · refine x_iload 32 hE dX0_open_30 rfl 5 rfl ?_
      refine x_iconst 33 hE dX0_open_32 rfl xc_i_0 ?_
      refine x_iconst 34 hE dX0_open_33 rfl xc_i_2 ?_
      refine x_calli 37 (xw_goS hE (ct_X0_isIn v6 0 2) xd_X0_isIn q244 q245 q95 q246 rfl ⟨Nat.le_of_ble_eq_true rfl, Nat.le_of_ble_eq_true rfl⟩ rfl (by decide) dX0_open_34) rfl (fun v13 => ?_)
      refine x_if_ne 43 40 hE dX0_open_37 (by decide) rfl ?_ ?_
      · refine x_bipush 42 hE dX0_open_40 rfl xc_b_m2 ?_
        exact x_iret hE dX0_open_42
      · refine x_aload_n 44 hE dX0_open_43 rfl 0 rfl ?_
        refine x_iload_n 45 hE dX0_open_44 rfl 2 rfl ?_
        refine x_callr 48 (xw_goV hE (c := 0) (by decide) (fun v15 hq => xw_rV hE (ct_X0_rulesOf v15 v3) xd_X0_rulesOf rfl q965 q967 qs15 q95 q968 rfl ⟨Nat.le_of_ble_eq_true rfl, Nat.le_of_ble_eq_true rfl⟩ (congrArg va_rf hq) rfl (by decide) dX0_open_45)) rfl (fun v14 => ?_)
        refine x_astore 50 [(6, va_rf v14), (0, va_rf (some v1)), (1, .int v2), (2, .int v3), (3, .int v4), (4, .int v5), (5, .int v6)] hE dX0_open_48 rfl (Nat.le_of_ble_eq_true rfl) rfl ?_
        refine x_aload_n 51 hE dX0_open_50 rfl 1 rfl ?_
        refine x_gR 54 hE (xw_lk0 hE xkf_CrossingWords_21) rfl dX0_open_51 rfl (fun v16 => ?_)
        refine x_iload_n 55 hE dX0_open_54 rfl 2 rfl ?_
        refine x_ldR 56 hE dX0_open_55 rfl (fun v17 => ?_)
        refine x_gR 59 hE (xw_lk0 hE xkf_CrossingWords_143) rfl dX0_open_56 rfl (fun v18 => ?_)
        refine x_iload 61 hE dX0_open_59 rfl 5 rfl ?_
        refine x_ldR 62 hE dX0_open_61 rfl (fun v19 => ?_)
        refine x_aload 64 hE dX0_open_62 rfl 0 rfl ?_
        refine x_calli 67 (xw_goD hE (fun v21 hq => (List.forall_mem_cons.mpr ⟨⟨Nat.le_of_ble_eq_true rfl, xw_rU (owner := "CrossingWords$Saying") (x := ⟨"CrossingWords$Saying", "isOffer", "(LCrossingWords$Rules;)Z"⟩) hE (ct_X6_isOffer v21 v14) xD_CrossingWords_Saying_isOffer__LCrossingWords_Rules__Z (Or.inl (Or.inl rfl)) q1168 q1010 q1011 q1009 q102 q1031 rfl ⟨Nat.le_of_ble_eq_true rfl, Nat.le_of_ble_eq_true rfl⟩ (congrArg va_rf hq) rfl (by decide) dX0_open_64⟩, (List.forall_mem_cons.mpr ⟨⟨Nat.le_of_ble_eq_true rfl, xw_rU (owner := "CrossingWords$Saying") (x := ⟨"CrossingWords$Saying", "isOffer", "(LCrossingWords$Rules;)Z"⟩) hE (ct_X8_isOffer v21 v14) xD_CrossingWords_Saying_isOffer__LCrossingWords_Rules__Z (Or.inl (Or.inr ⟨_, _, _, q1009, q1031⟩)) q1168 q1010 q1026 q1027 q104 q1028 rfl ⟨Nat.le_of_ble_eq_true rfl, Nat.le_of_ble_eq_true rfl⟩ (congrArg va_rf hq) rfl (by decide) dX0_open_64⟩, (List.forall_mem_cons.mpr ⟨⟨Nat.le_of_ble_eq_true rfl, xw_rU (owner := "CrossingWords$Saying") (x := ⟨"CrossingWords$Saying", "isOffer", "(LCrossingWords$Rules;)Z"⟩) hE (ct_X6_isOffer v21 v14) xD_CrossingWords_Saying_isOffer__LCrossingWords_Rules__Z (Or.inl (Or.inl rfl)) q1168 q1010 q1030 q1009 q102 q1031 rfl ⟨Nat.le_of_ble_eq_true rfl, Nat.le_of_ble_eq_true rfl⟩ (congrArg va_rf hq) rfl (by decide) dX0_open_64⟩, (List.forall_mem_cons.mpr ⟨⟨Nat.le_of_ble_eq_true rfl, xw_rU (owner := "CrossingWords$Saying") (x := ⟨"CrossingWords$Saying", "isOffer", "(LCrossingWords$Rules;)Z"⟩) hE (ct_X11_isOffer v21 v14) xD_CrossingWords_Saying_isOffer__LCrossingWords_Rules__Z (Or.inl (Or.inr ⟨_, _, _, q1009, q1031⟩)) q1168 q1010 q1013 q1014 q107 q1015 rfl ⟨Nat.le_of_ble_eq_true rfl, Nat.le_of_ble_eq_true rfl⟩ (congrArg va_rf hq) rfl (by decide) dX0_open_64⟩, (List.forall_mem_cons.mpr ⟨⟨Nat.le_of_ble_eq_true rfl, xw_rU (owner := "CrossingWords$Saying") (x := ⟨"CrossingWords$Saying", "isOffer", "(LCrossingWords$Rules;)Z"⟩) hE (ct_X6_isOffer v21 v14) xD_CrossingWords_Saying_isOffer__LCrossingWords_Rules__Z (Or.inl (Or.inl rfl)) q1168 q1010 q1025 q1009 q102 q1031 rfl ⟨Nat.le_of_ble_eq_true rfl, Nat.le_of_ble_eq_true rfl⟩ (congrArg va_rf hq) rfl (by decide) dX0_open_64⟩, (List.forall_mem_cons.mpr ⟨⟨Nat.le_of_ble_eq_true rfl, xw_rU (owner := "CrossingWords$Saying") (x := ⟨"CrossingWords$Saying", "isOffer", "(LCrossingWords$Rules;)Z"⟩) hE (ct_X6_isOffer v21 v14) xD_CrossingWords_Saying_isOffer__LCrossingWords_Rules__Z (Or.inl (Or.inl rfl)) q1168 q1010 q1012 q1009 q102 q1031 rfl ⟨Nat.le_of_ble_eq_true rfl, Nat.le_of_ble_eq_true rfl⟩ (congrArg va_rf hq) rfl (by decide) dX0_open_64⟩, (List.forall_mem_cons.mpr ⟨⟨Nat.le_of_ble_eq_true rfl, xw_rU (owner := "CrossingWords$Saying") (x := ⟨"CrossingWords$Saying", "isOffer", "(LCrossingWords$Rules;)Z"⟩) hE (ct_X6_isOffer v21 v14) xD_CrossingWords_Saying_isOffer__LCrossingWords_Rules__Z (Or.inl (Or.inl rfl)) q1168 q1010 q1024 q1009 q102 q1031 rfl ⟨Nat.le_of_ble_eq_true rfl, Nat.le_of_ble_eq_true rfl⟩ (congrArg va_rf hq) rfl (by decide) dX0_open_64⟩, (List.forall_mem_cons.mpr ⟨⟨Nat.le_of_ble_eq_true rfl, xw_rU (owner := "CrossingWords$Saying") (x := ⟨"CrossingWords$Saying", "isOffer", "(LCrossingWords$Rules;)Z"⟩) hE (ct_X6_isOffer v21 v14) xD_CrossingWords_Saying_isOffer__LCrossingWords_Rules__Z (Or.inl (Or.inl rfl)) q1168 q1010 q1029 q1009 q102 q1031 rfl ⟨Nat.le_of_ble_eq_true rfl, Nat.le_of_ble_eq_true rfl⟩ (congrArg va_rf hq) rfl (by decide) dX0_open_64⟩, (fun _ h => absurd h List.not_mem_nil)⟩)⟩)⟩)⟩)⟩)⟩)⟩)⟩))) rfl (fun v20 => ?_)
        refine x_if_ne 73 70 hE dX0_open_67 (by decide) rfl ?_ ?_
        · refine x_bipush 72 hE dX0_open_70 rfl xc_b_m2 ?_
          exact x_iret hE dX0_open_72
        · refine x_aload_n 74 hE dX0_open_73 rfl 1 rfl ?_
          refine x_aload_n 75 hE dX0_open_74 rfl 1 rfl ?_
          refine x_gR 78 hE (xw_lk0 hE xkf_CrossingWords_21) rfl dX0_open_75 rfl (fun v22 => ?_)
          refine x_iload_n 79 hE dX0_open_78 rfl 2 rfl ?_
          refine x_ldR 80 hE dX0_open_79 rfl (fun v23 => ?_)
          refine x_aload 82 hE dX0_open_80 rfl 0 rfl ?_
          refine x_iload_n 83 hE dX0_open_82 rfl 4 rfl ?_
          refine x_callr 86 (xw_goV hE (c := 0) (by decide) (fun v25 hq => xw_rV hE (ct_X0_ran v25 v23 v14 v4) xd_X0_ran rfl q999 q1001 qs17 q95 q1002 rfl ⟨Nat.le_of_ble_eq_true rfl, Nat.le_of_ble_eq_true rfl⟩ (congrArg va_rf hq) rfl (by decide) dX0_open_83)) rfl (fun v24 => ?_)
          refine x_astore 88 [(7, va_rf v24), (6, va_rf v14), (0, va_rf (some v1)), (1, .int v2), (2, .int v3), (3, .int v4), (4, .int v5), (5, .int v6)] hE dX0_open_86 rfl (Nat.le_of_ble_eq_true rfl) (congrArg (List.cons _) (xw_f1 (by decide) (x_rfc _) (xw_f1 (by decide) rfl (xw_f1 (by decide) rfl (xw_f1 (by decide) rfl (xw_f1 (by decide) rfl (xw_f1 (by decide) rfl (xw_f1 (by decide) rfl xw_f0)))))))) ?_
          refine x_iload 90 hE dX0_open_88 rfl 7 rfl ?_
          refine x_if_ne 122 93 hE dX0_open_90 (by decide) rfl ?_ ?_
          · refine x_aload 95 hE dX0_open_93 rfl 0 rfl ?_
            refine x_gR 98 hE (xw_lkN hE xkn_CrossingWords_234) rfl dX0_open_95 rfl (fun v30 => ?_)
            refine x_iload 100 hE dX0_open_98 rfl 6 rfl ?_
            refine x_ldI 101 hE dX0_open_100 rfl (fun v31 => ?_)
            refine x_sipush 104 hE dX0_open_101 rfl xc_s_9999 ?_
            refine x_icmp_ne 111 107 hE dX0_open_104 (by decide) rfl ?_ ?_
            · refine x_iconst 108 hE dX0_open_107 rfl xc_i_m1 ?_
              refine x_goto 147 hE dX0_open_108 (by decide) ?_
              exact x_iret hE dX0_open_147
            · refine x_aload 113 hE dX0_open_111 rfl 0 rfl ?_
              refine x_gR 116 hE (xw_lkN hE xkn_CrossingWords_234) rfl dX0_open_113 rfl (fun v32 => ?_)
              refine x_iload 118 hE dX0_open_116 rfl 6 rfl ?_
              refine x_ldI 119 hE dX0_open_118 rfl (fun v33 => ?_)
              refine x_goto 147 hE dX0_open_119 (by decide) ?_
              exact x_iret hE dX0_open_147
          · refine x_iload 124 hE dX0_open_122 rfl 7 rfl ?_
            refine x_iconst 125 hE dX0_open_124 rfl xc_i_1 ?_
            refine x_icmp_ne 139 128 hE dX0_open_125 (by decide) rfl ?_ ?_
            · refine x_aload 130 hE dX0_open_128 rfl 0 rfl ?_
              refine x_gR 133 hE (xw_lkN hE xkn_CrossingWords_237) rfl dX0_open_130 rfl (fun v28 => ?_)
              refine x_iload 135 hE dX0_open_133 rfl 6 rfl ?_
              refine x_ldI 136 hE dX0_open_135 rfl (fun v29 => ?_)
              refine x_goto 147 hE dX0_open_136 (by decide) ?_
              exact x_iret hE dX0_open_147
            · refine x_aload 141 hE dX0_open_139 rfl 0 rfl ?_
              refine x_gR 144 hE (xw_lkN hE xkn_CrossingWords_240) rfl dX0_open_141 rfl (fun v26 => ?_)
              refine x_iload 146 hE dX0_open_144 rfl 6 rfl ?_
              refine x_ldI 147 hE dX0_open_146 rfl (fun v27 => ?_)
              exact x_iret hE dX0_open_147

set_option maxHeartbeats 4000000 in
theorem ct_X0_binds {l : Launch} {G : xw_G} {μ : xw_Mu} (v1 : Nat) (v2 : Int32) (v3 : Int32) (v4 : Int32) : xw_Ct l G (xw_hc G μ) xw_oi yX0_binds cX0_binds 5 (some (.int)) 95 [va_rf (some v1), .int v2, .int v3, .int v4] (pg_X0_binds v1 v2 v3 v4) := by
  refine xw_metL [(0, va_rf (some v1)), (1, .int v2), (2, .int v3), (3, .int v4)] (by decide) (Nat.le_trans (Nat.le_of_eq ((xw_l1 rfl).trans (congrArg (1 + ·) ((xw_l1 rfl).trans (congrArg (1 + ·) ((xw_l1 rfl).trans (congrArg (1 + ·) ((xw_l1 rfl).trans (congrArg (1 + ·) xw_l0))))))))) (by decide)) ((xw_a1 rfl).trans (congrArg (List.cons _) ((xw_a1 rfl).trans (congrArg (List.cons _) ((xw_a1 rfl).trans (congrArg (List.cons _) ((xw_a1 rfl).trans (congrArg (List.cons _) xw_a0)))))))) (fun E hE hl hG hm => ?_)
  subst hl; subst hG
  have hE : xw_ok E "CrossingWords" cX0_binds 5 (some (.int)) 95 := hE
  unfold pg_X0_binds
  refine x_aload_n 1 hE dX0_binds_0 rfl 0 rfl ?_
  refine x_iload_n 2 hE dX0_binds_1 rfl 1 rfl ?_
  refine x_iload_n 3 hE dX0_binds_2 rfl 2 rfl ?_
  refine x_iload_n 4 hE dX0_binds_3 rfl 3 rfl ?_
  refine x_calli 7 (xw_goV hE (c := 0) (by decide) (fun v6 hq => xw_rV hE (ct_X0_isRun v6 v2 v3 v4) xd_X0_isRun rfl q995 q997 qs16 q95 q998 rfl ⟨Nat.le_of_ble_eq_true rfl, Nat.le_of_ble_eq_true rfl⟩ (congrArg va_rf hq) rfl (by decide) dX0_binds_4)) rfl (fun v5 => ?_)
  refine x_if_ne 13 10 hE dX0_binds_7 (by decide) rfl ?_ ?_
  · refine x_bipush 12 hE dX0_binds_10 rfl xc_b_m2 ?_
    exact x_iret hE dX0_binds_12
  · refine x_aload_n 14 hE dX0_binds_13 rfl 0 rfl ?_
    refine x_aload_n 15 hE dX0_binds_14 rfl 0 rfl ?_
    refine x_gR 18 hE (xw_lk0 hE xkf_CrossingWords_21) rfl dX0_binds_15 rfl (fun v7 => ?_)
    refine x_iload_n 19 hE dX0_binds_18 rfl 1 rfl ?_
    refine x_ldR 20 hE dX0_binds_19 rfl (fun v8 => ?_)
    refine x_aload_n 21 hE dX0_binds_20 rfl 0 rfl ?_
    refine x_iload_n 22 hE dX0_binds_21 rfl 2 rfl ?_
    refine x_callr 25 (xw_goV hE (c := 0) (by decide) (fun v10 hq => xw_rV hE (ct_X0_rulesOf v10 v3) xd_X0_rulesOf rfl q965 q967 qs15 q95 q968 rfl ⟨Nat.le_of_ble_eq_true rfl, Nat.le_of_ble_eq_true rfl⟩ (congrArg va_rf hq) rfl (Nat.le_trans (xw_sm1 (x_rfc _) (xw_sm1 rfl xw_sm0)) (by decide)) dX0_binds_22)) rfl (fun v9 => ?_)
    refine x_iload_n 26 hE dX0_binds_25 rfl 3 rfl ?_
    refine x_callr 29 (xw_goV hE (c := 0) (by decide) (fun v12 hq => xw_rV hE (ct_X0_ran v12 v8 v9 v4) xd_X0_ran rfl q999 q1001 qs17 q95 q1002 rfl ⟨Nat.le_of_ble_eq_true rfl, Nat.le_of_ble_eq_true rfl⟩ (congrArg va_rf hq) rfl (by decide) dX0_binds_26)) rfl (fun v11 => ?_)
    refine x_astore 31 [(4, va_rf v11), (0, va_rf (some v1)), (1, .int v2), (2, .int v3), (3, .int v4)] hE dX0_binds_29 rfl (Nat.le_of_ble_eq_true rfl) rfl ?_
    refine x_aload 33 hE dX0_binds_31 rfl 0 rfl ?_
    refine x_calli 36 (xw_goV hE (c := 1) (by decide) (fun v14 hq => xw_rV hE (ct_X1_isBargain v14) xd_X1_isBargain rfl q1041 q1042 q1043 q96 q1044 rfl ⟨Nat.le_of_ble_eq_true rfl, Nat.le_of_ble_eq_true rfl⟩ (congrArg va_rf hq) rfl (by decide) dX0_binds_33)) rfl (fun v13 => ?_)
    refine x_if_eq 63 39 hE dX0_binds_36 (by decide) rfl ?_ ?_
    · refine x_iconst 64 hE dX0_binds_63 rfl xc_i_0 ?_
      exact x_iret hE dX0_binds_64
    · refine x_iconst 40 hE dX0_binds_39 rfl xc_i_1 ?_
      refine x_aload 42 hE dX0_binds_40 rfl 0 rfl ?_
      refine x_gR 45 hE (xw_lk0 hE xkf_CrossingWords_220) rfl dX0_binds_42 rfl (fun v15 => ?_)
      refine x_gI 48 hE (xw_lk0 hE xkf_CrossingWords_152) rfl dX0_binds_45 rfl (fun v16 => ?_)
      refine x_ishl 49 hE dX0_binds_48 rfl ?_
      refine x_iconst 50 hE dX0_binds_49 rfl xc_i_1 ?_
      refine x_aload 52 hE dX0_binds_50 rfl 0 rfl ?_
      refine x_gR 55 hE (xw_lk0 hE xkf_CrossingWords_220) rfl dX0_binds_52 rfl (fun v17 => ?_)
      refine x_calli 58 (xw_goD hE (fun v19 hq => (List.forall_mem_cons.mpr ⟨⟨Nat.le_of_ble_eq_true rfl, xw_rU (owner := "CrossingWords$Saying") (x := ⟨"CrossingWords$Saying", "to", "()I"⟩) hE (ct_X7_to v19) xD_CrossingWords_Saying_to___I (Or.inl (Or.inr ⟨_, _, _, q561, q583⟩)) q867 q562 q563 q564 q103 q565 rfl ⟨Nat.le_of_ble_eq_true rfl, Nat.le_of_ble_eq_true rfl⟩ (congrArg va_rf hq) rfl (Nat.le_trans (xw_sm1 rfl (xw_sm1 rfl xw_sm0)) (by decide)) dX0_binds_55⟩, (List.forall_mem_cons.mpr ⟨⟨Nat.le_of_ble_eq_true rfl, xw_rU (owner := "CrossingWords$Saying") (x := ⟨"CrossingWords$Saying", "to", "()I"⟩) hE (ct_X8_to v19) xD_CrossingWords_Saying_to___I (Or.inl (Or.inr ⟨_, _, _, q561, q583⟩)) q867 q562 q578 q579 q104 q580 rfl ⟨Nat.le_of_ble_eq_true rfl, Nat.le_of_ble_eq_true rfl⟩ (congrArg va_rf hq) rfl (Nat.le_trans (xw_sm1 rfl (xw_sm1 rfl xw_sm0)) (by decide)) dX0_binds_55⟩, (List.forall_mem_cons.mpr ⟨⟨Nat.le_of_ble_eq_true rfl, xw_rU (owner := "CrossingWords$Saying") (x := ⟨"CrossingWords$Saying", "to", "()I"⟩) hE (ct_X6_to v19) xD_CrossingWords_Saying_to___I (Or.inl (Or.inl rfl)) q867 q562 q582 q561 q102 q583 rfl ⟨Nat.le_of_ble_eq_true rfl, Nat.le_of_ble_eq_true rfl⟩ (congrArg va_rf hq) rfl (Nat.le_trans (xw_sm1 rfl (xw_sm1 rfl xw_sm0)) (by decide)) dX0_binds_55⟩, (List.forall_mem_cons.mpr ⟨⟨Nat.le_of_ble_eq_true rfl, xw_rU (owner := "CrossingWords$Saying") (x := ⟨"CrossingWords$Saying", "to", "()I"⟩) hE (ct_X11_to v19) xD_CrossingWords_Saying_to___I (Or.inl (Or.inr ⟨_, _, _, q561, q583⟩)) q867 q562 q567 q568 q107 q569 rfl ⟨Nat.le_of_ble_eq_true rfl, Nat.le_of_ble_eq_true rfl⟩ (congrArg va_rf hq) rfl (Nat.le_trans (xw_sm1 rfl (xw_sm1 rfl xw_sm0)) (by decide)) dX0_binds_55⟩, (List.forall_mem_cons.mpr ⟨⟨Nat.le_of_ble_eq_true rfl, xw_rU (owner := "CrossingWords$Saying") (x := ⟨"CrossingWords$Saying", "to", "()I"⟩) hE (ct_X6_to v19) xD_CrossingWords_Saying_to___I (Or.inl (Or.inl rfl)) q867 q562 q577 q561 q102 q583 rfl ⟨Nat.le_of_ble_eq_true rfl, Nat.le_of_ble_eq_true rfl⟩ (congrArg va_rf hq) rfl (Nat.le_trans (xw_sm1 rfl (xw_sm1 rfl xw_sm0)) (by decide)) dX0_binds_55⟩, (List.forall_mem_cons.mpr ⟨⟨Nat.le_of_ble_eq_true rfl, xw_rU (owner := "CrossingWords$Saying") (x := ⟨"CrossingWords$Saying", "to", "()I"⟩) hE (ct_X6_to v19) xD_CrossingWords_Saying_to___I (Or.inl (Or.inl rfl)) q867 q562 q566 q561 q102 q583 rfl ⟨Nat.le_of_ble_eq_true rfl, Nat.le_of_ble_eq_true rfl⟩ (congrArg va_rf hq) rfl (Nat.le_trans (xw_sm1 rfl (xw_sm1 rfl xw_sm0)) (by decide)) dX0_binds_55⟩, (List.forall_mem_cons.mpr ⟨⟨Nat.le_of_ble_eq_true rfl, xw_rU (owner := "CrossingWords$Saying") (x := ⟨"CrossingWords$Saying", "to", "()I"⟩) hE (ct_X6_to v19) xD_CrossingWords_Saying_to___I (Or.inl (Or.inl rfl)) q867 q562 q576 q561 q102 q583 rfl ⟨Nat.le_of_ble_eq_true rfl, Nat.le_of_ble_eq_true rfl⟩ (congrArg va_rf hq) rfl (Nat.le_trans (xw_sm1 rfl (xw_sm1 rfl xw_sm0)) (by decide)) dX0_binds_55⟩, (List.forall_mem_cons.mpr ⟨⟨Nat.le_of_ble_eq_true rfl, xw_rU (owner := "CrossingWords$Saying") (x := ⟨"CrossingWords$Saying", "to", "()I"⟩) hE (ct_X6_to v19) xD_CrossingWords_Saying_to___I (Or.inl (Or.inl rfl)) q867 q562 q581 q561 q102 q583 rfl ⟨Nat.le_of_ble_eq_true rfl, Nat.le_of_ble_eq_true rfl⟩ (congrArg va_rf hq) rfl (Nat.le_trans (xw_sm1 rfl (xw_sm1 rfl xw_sm0)) (by decide)) dX0_binds_55⟩, (fun _ h => absurd h List.not_mem_nil)⟩)⟩)⟩)⟩)⟩)⟩)⟩)⟩))) rfl (fun v18 => ?_)
      refine x_ishl 59 hE dX0_binds_58 rfl ?_
      refine x_ior 60 hE dX0_binds_59 rfl ?_
      refine x_goto 64 hE dX0_binds_60 (by decide) ?_
      exact x_iret hE dX0_binds_64

set_option maxHeartbeats 4000000 in
theorem ct_X0_sure {l : Launch} {G : xw_G} {μ : xw_Mu} (v1 : Nat) (v2 : Int32) (v3 : Int32) (v4 : Int32) : xw_Ct l G (xw_hc G μ) xw_oi yX0_sure cX0_sure 13 (some (.int)) 95 [va_rf (some v1), .int v2, .int v3, .int v4] (pg_X0_sure v1 v2 v3 v4) := by
  refine xw_metL [(0, va_rf (some v1)), (1, .int v2), (2, .int v3), (3, .int v4)] (by decide) (Nat.le_trans (Nat.le_of_eq ((xw_l1 rfl).trans (congrArg (1 + ·) ((xw_l1 rfl).trans (congrArg (1 + ·) ((xw_l1 rfl).trans (congrArg (1 + ·) ((xw_l1 rfl).trans (congrArg (1 + ·) xw_l0))))))))) (by decide)) ((xw_a1 rfl).trans (congrArg (List.cons _) ((xw_a1 rfl).trans (congrArg (List.cons _) ((xw_a1 rfl).trans (congrArg (List.cons _) ((xw_a1 rfl).trans (congrArg (List.cons _) xw_a0)))))))) (fun E hE hl hG hm => ?_)
  subst hl; subst hG
  have hE : xw_ok E "CrossingWords" cX0_sure 13 (some (.int)) 95 := hE
  unfold pg_X0_sure
  refine x_aload_n 1 hE dX0_sure_0 rfl 0 rfl ?_
  refine x_iload_n 2 hE dX0_sure_1 rfl 1 rfl ?_
  refine x_iload_n 3 hE dX0_sure_2 rfl 2 rfl ?_
  refine x_iconst 4 hE dX0_sure_3 rfl xc_i_0 ?_
  refine x_calli 7 (xw_goV hE (c := 0) (by decide) (fun v6 hq => xw_rV hE (ct_X0_isRun v6 v2 v3 0) xd_X0_isRun rfl q995 q997 qs16 q95 q998 rfl ⟨Nat.le_of_ble_eq_true rfl, Nat.le_of_ble_eq_true rfl⟩ (congrArg va_rf hq) rfl (by decide) dX0_sure_4)) rfl (fun v5 => ?_)
  refine x_if_eq 19 10 hE dX0_sure_7 (by decide) rfl ?_ ?_
  · refine x_bipush 21 hE dX0_sure_19 rfl xc_b_m2 ?_
    exact x_iret hE dX0_sure_21
  · refine x_iload_n 11 hE dX0_sure_10 rfl 3 rfl ?_
    refine x_iconst 12 hE dX0_sure_11 rfl xc_i_0 ?_
    refine x_iconst 13 hE dX0_sure_12 rfl xc_i_4 ?_
    refine x_calli 16 (xw_goS hE (ct_X0_isIn v4 0 4) xd_X0_isIn q244 q245 q95 q246 rfl ⟨Nat.le_of_ble_eq_true rfl, Nat.le_of_ble_eq_true rfl⟩ rfl (by decide) dX0_sure_13) rfl (fun v7 => ?_)
    refine x_if_ne 22 19 hE dX0_sure_16 (by decide) rfl ?_ ?_
    · refine x_bipush 21 hE dX0_sure_19 rfl xc_b_m2 ?_
      exact x_iret hE dX0_sure_21
    · refine x_aload_n 23 hE dX0_sure_22 rfl 0 rfl ?_
      refine x_gR 26 hE (xw_lk0 hE xkf_CrossingWords_21) rfl dX0_sure_23 rfl (fun v8 => ?_)
      refine x_iload_n 27 hE dX0_sure_26 rfl 1 rfl ?_
      refine x_ldR 28 hE dX0_sure_27 rfl (fun v9 => ?_)
      refine x_astore 30 [(4, va_rf v9), (0, va_rf (some v1)), (1, .int v2), (2, .int v3), (3, .int v4)] hE dX0_sure_28 rfl (Nat.le_of_ble_eq_true rfl) rfl ?_
      refine x_aload_n 31 hE dX0_sure_30 rfl 1 rfl ?_
      refine x_iload_n 32 hE dX0_sure_31 rfl 3 rfl ?_
      refine x_callr 35 (xw_goV hE (c := 0) (by decide) (fun v11 hq => xw_rV hE (ct_X0_rulesOf v11 v3) xd_X0_rulesOf rfl q965 q967 qs15 q95 q968 rfl ⟨Nat.le_of_ble_eq_true rfl, Nat.le_of_ble_eq_true rfl⟩ (congrArg va_rf hq) rfl (by decide) dX0_sure_32)) rfl (fun v10 => ?_)
      refine x_astore 37 [(5, va_rf v10), (4, va_rf v9), (0, va_rf (some v1)), (1, .int v2), (2, .int v3), (3, .int v4)] hE dX0_sure_35 rfl (Nat.le_of_ble_eq_true rfl) (congrArg (List.cons _) (xw_f1 (by decide) (x_rfc _) (xw_f1 (by decide) rfl (xw_f1 (by decide) rfl (xw_f1 (by decide) rfl (xw_f1 (by decide) rfl xw_f0)))))) ?_
      refine x_iconst 38 hE dX0_sure_37 rfl xc_i_0 ?_
      refine x_istore 40 [(6, .int 0), (5, va_rf v10), (4, va_rf v9), (0, va_rf (some v1)), (1, .int v2), (2, .int v3), (3, .int v4)] hE dX0_sure_38 rfl (Nat.le_of_ble_eq_true rfl) (congrArg (List.cons _) (xw_f1 (by decide) (x_rfc _) (xw_f1 (by decide) (x_rfc _) (xw_f1 (by decide) rfl (xw_f1 (by decide) rfl (xw_f1 (by decide) rfl (xw_f1 (by decide) rfl xw_f0))))))) ?_
      refine x_iconst 41 hE dX0_sure_40 rfl xc_i_m1 ?_
      refine x_istore 43 [(7, .int (-1)), (6, .int 0), (5, va_rf v10), (4, va_rf v9), (0, va_rf (some v1)), (1, .int v2), (2, .int v3), (3, .int v4)] hE dX0_sure_41 rfl (Nat.le_of_ble_eq_true rfl) rfl ?_
      refine x_iconst 44 hE dX0_sure_43 rfl xc_i_m1 ?_
      refine x_istore 46 [(8, .int (-1)), (7, .int (-1)), (6, .int 0), (5, va_rf v10), (4, va_rf v9), (0, va_rf (some v1)), (1, .int v2), (2, .int v3), (3, .int v4)] hE dX0_sure_44 rfl (Nat.le_of_ble_eq_true rfl) rfl ?_
      refine x_iconst 47 hE dX0_sure_46 rfl xc_i_m1 ?_
      refine x_istore 49 [(9, .int (-1)), (8, .int (-1)), (7, .int (-1)), (6, .int 0), (5, va_rf v10), (4, va_rf v9), (0, va_rf (some v1)), (1, .int v2), (2, .int v3), (3, .int v4)] hE dX0_sure_47 rfl (Nat.le_of_ble_eq_true rfl) rfl ?_
      refine x_iconst 50 hE dX0_sure_49 rfl xc_i_m1 ?_
      refine x_istore 52 [(10, .int (-1)), (9, .int (-1)), (8, .int (-1)), (7, .int (-1)), (6, .int 0), (5, va_rf v10), (4, va_rf v9), (0, va_rf (some v1)), (1, .int v2), (2, .int v3), (3, .int v4)] hE dX0_sure_50 rfl (Nat.le_of_ble_eq_true rfl) rfl ?_
      refine x_iconst 53 hE dX0_sure_52 rfl xc_i_0 ?_
      refine x_istore 55 [(11, .int 0), (10, .int (-1)), (9, .int (-1)), (8, .int (-1)), (7, .int (-1)), (6, .int 0), (5, va_rf v10), (4, va_rf v9), (0, va_rf (some v1)), (1, .int v2), (2, .int v3), (3, .int v4)] hE dX0_sure_53 rfl (Nat.le_of_ble_eq_true rfl) rfl ?_
      refine x_sub [(0, va_rf (some v1)), (3, .int v4), (4, va_rf v9), (5, va_rf v10), (6, .int 0), (7, .int (-1)), (8, .int (-1)), (9, .int (-1)), (10, .int (-1)), (11, .int 0)] [8, 11, 7, 6, 5, 4, 3, 2, 1, 0] rfl ?_
      refine x_sq 152 (fun (v13 : Int32 × Int32 × Int32 × Int32 × Int32) => [(3, .int v4), (6, .int v13.1), (7, .int v13.2.1), (8, .int v13.2.2.1), (9, .int v13.2.2.2.1), (10, .int v13.2.2.2.2)]) (fun _ => []) (fun v13 => ?_) (fun J2 hJ2 => ?_)
      · refine x_iload_n 153 hE dX0_sure_152 rfl 0 rfl ?_
        refine x_if_ne 161 156 hE dX0_sure_153 (by decide) rfl ?_ ?_
        · refine x_iload 158 hE dX0_sure_156 rfl 1 rfl ?_
          refine x_goto 193 hE dX0_sure_158 (by decide) ?_
          exact x_iret hE dX0_sure_193
        · refine x_iload_n 162 hE dX0_sure_161 rfl 0 rfl ?_
          refine x_iconst 163 hE dX0_sure_162 rfl xc_i_1 ?_
          refine x_icmp_ne 171 166 hE dX0_sure_163 (by decide) rfl ?_ ?_
          · refine x_iload 168 hE dX0_sure_166 rfl 2 rfl ?_
            refine x_goto 193 hE dX0_sure_168 (by decide) ?_
            exact x_iret hE dX0_sure_193
          · refine x_iload_n 172 hE dX0_sure_171 rfl 0 rfl ?_
            refine x_iconst 173 hE dX0_sure_172 rfl xc_i_2 ?_
            refine x_icmp_ne 181 176 hE dX0_sure_173 (by decide) rfl ?_ ?_
            · refine x_iload 178 hE dX0_sure_176 rfl 3 rfl ?_
              refine x_goto 193 hE dX0_sure_178 (by decide) ?_
              exact x_iret hE dX0_sure_193
            · refine x_iload_n 182 hE dX0_sure_181 rfl 0 rfl ?_
              refine x_iconst 183 hE dX0_sure_182 rfl xc_i_3 ?_
              refine x_icmp_ne 191 186 hE dX0_sure_183 (by decide) rfl ?_ ?_
              · refine x_iload 188 hE dX0_sure_186 rfl 4 rfl ?_
                refine x_goto 193 hE dX0_sure_188 (by decide) ?_
                exact x_iret hE dX0_sure_193
              · refine x_iload 193 hE dX0_sure_191 rfl 5 rfl ?_
                exact x_iret hE dX0_sure_193
      · refine x_loop (fun (v12 : Int32 × Int32 × Int32 × Int32 × Int32 × Int32) => [(0, va_rf (some v1)), (3, .int v4), (4, va_rf v9), (5, va_rf v10), (6, .int v12.1), (7, .int v12.2.1), (8, .int v12.2.2.1), (9, .int v12.2.2.2.1), (10, .int v12.2.2.2.2.1), (11, .int v12.2.2.2.2.2)]) (fun JL1 hc1 hx1 v12 => ?_) _ _
        refine x_iload 57 hE dX0_sure_55 rfl 9 rfl ?_
        refine x_aload 59 hE dX0_sure_57 rfl 2 rfl ?_
        refine x_calli 62 (xw_goV hE (c := 4) (by decide) (fun v15 hq => xw_rV hE (ct_X5_combos v15) xd_X5_combos rfl q933 q934 q935 q100 q936 rfl ⟨Nat.le_of_ble_eq_true rfl, Nat.le_of_ble_eq_true rfl⟩ (congrArg va_rf hq) rfl (Nat.le_trans (xw_sm1 rfl xw_sm0) (by decide)) dX0_sure_59)) rfl (fun v14 => ?_)
        refine x_icmp_ge 152 65 hE dX0_sure_62 (by decide) rfl ?_ ?_
        · refine x_sub [(3, .int v4), (6, .int v12.1), (7, .int v12.2.1), (8, .int v12.2.2.1), (9, .int v12.2.2.2.1), (10, .int v12.2.2.2.2.1)] [1, 4, 5, 6, 7, 8] rfl ?_
          refine hx1 _ _ _ _ ?_
          exact hJ2 (v12.1, v12.2.1, v12.2.2.1, v12.2.2.2.1, v12.2.2.2.2.1)
        · refine x_aload_n 66 hE dX0_sure_65 rfl 0 rfl ?_
          refine x_aload 68 hE dX0_sure_66 rfl 2 rfl ?_
          refine x_aload 70 hE dX0_sure_68 rfl 3 rfl ?_
          refine x_iload 72 hE dX0_sure_70 rfl 9 rfl ?_
          refine x_callr 75 (xw_goV hE (c := 0) (by decide) (fun v17 hq => xw_rV hE (ct_X0_ran v17 v9 v10 v12.2.2.2.2.2) xd_X0_ran rfl q999 q1001 qs17 q95 q1002 rfl ⟨Nat.le_of_ble_eq_true rfl, Nat.le_of_ble_eq_true rfl⟩ (congrArg va_rf hq) rfl (by decide) dX0_sure_72)) rfl (fun v16 => ?_)
          refine x_astore 77 [(12, va_rf v16), (0, va_rf (some v1)), (3, .int v4), (4, va_rf v9), (5, va_rf v10), (6, .int v12.1), (7, .int v12.2.1), (8, .int v12.2.2.1), (9, .int v12.2.2.2.1), (10, .int v12.2.2.2.2.1), (11, .int v12.2.2.2.2.2)] hE dX0_sure_75 rfl (Nat.le_of_ble_eq_true rfl) rfl ?_
          refine x_aload 79 hE dX0_sure_77 rfl 0 rfl ?_
          refine x_calli 82 (xw_goV hE (c := 1) (by decide) (fun v19 hq => xw_rV hE (ct_X1_isBargain v19) xd_X1_isBargain rfl q1041 q1042 q1043 q96 q1044 rfl ⟨Nat.le_of_ble_eq_true rfl, Nat.le_of_ble_eq_true rfl⟩ (congrArg va_rf hq) rfl (by decide) dX0_sure_79)) rfl (fun v18 => ?_)
          refine x_if_ne 98 85 hE dX0_sure_82 (by decide) rfl ?_ ?_
          · refine x_iload 87 hE dX0_sure_85 rfl 7 rfl ?_
            refine x_iconst 88 hE dX0_sure_87 rfl xc_i_m1 ?_
            refine x_icmp_ne 146 91 hE dX0_sure_88 (by decide) rfl ?_ ?_
            · refine x_iload 93 hE dX0_sure_91 rfl 10 rfl ?_
              refine x_istore 95 [(8, .int v12.2.2.2.2.2), (12, va_rf v16), (0, va_rf (some v1)), (3, .int v4), (4, va_rf v9), (5, va_rf v10), (6, .int v12.1), (7, .int v12.2.1), (9, .int v12.2.2.2.1), (10, .int v12.2.2.2.2.1), (11, .int v12.2.2.2.2.2)] hE dX0_sure_93 rfl (Nat.le_of_ble_eq_true rfl) rfl ?_
              refine x_goto 146 hE dX0_sure_95 (by decide) ?_
              refine x_iinc 149 [(11, .int (v12.2.2.2.2.2 + 1)), (8, .int v12.2.2.2.2.2), (12, va_rf v16), (0, va_rf (some v1)), (3, .int v4), (4, va_rf v9), (5, va_rf v10), (6, .int v12.1), (7, .int v12.2.1), (9, .int v12.2.2.2.1), (10, .int v12.2.2.2.2.1)] hE dX0_sure_146 rfl 10 rfl xc_i_1 (Nat.le_of_ble_eq_true rfl) rfl ?_
              refine x_goto 55 hE dX0_sure_149 (by decide) ?_
              refine x_sub [(0, va_rf (some v1)), (3, .int v4), (4, va_rf v9), (5, va_rf v10), (6, .int v12.1), (7, .int v12.2.1), (8, .int v12.2.2.2.2.2), (9, .int v12.2.2.2.1), (10, .int v12.2.2.2.2.1), (11, .int (v12.2.2.2.2.2 + 1))] [3, 4, 5, 6, 7, 8, 1, 9, 10, 0] rfl ?_
              exact hc1 (v12.1, v12.2.1, v12.2.2.2.2.2, v12.2.2.2.1, v12.2.2.2.2.1, v12.2.2.2.2.2 + 1)
            · refine x_iinc 149 [(11, .int (v12.2.2.2.2.2 + 1)), (12, va_rf v16), (0, va_rf (some v1)), (3, .int v4), (4, va_rf v9), (5, va_rf v10), (6, .int v12.1), (7, .int v12.2.1), (8, .int v12.2.2.1), (9, .int v12.2.2.2.1), (10, .int v12.2.2.2.2.1)] hE dX0_sure_146 rfl 10 rfl xc_i_1 (Nat.le_of_ble_eq_true rfl) rfl ?_
              refine x_goto 55 hE dX0_sure_149 (by decide) ?_
              refine x_sub [(0, va_rf (some v1)), (3, .int v4), (4, va_rf v9), (5, va_rf v10), (6, .int v12.1), (7, .int v12.2.1), (8, .int v12.2.2.1), (9, .int v12.2.2.2.1), (10, .int v12.2.2.2.2.1), (11, .int (v12.2.2.2.2.2 + 1))] [2, 3, 4, 5, 6, 7, 8, 9, 10, 0] rfl ?_
              exact hc1 (v12.1, v12.2.1, v12.2.2.1, v12.2.2.2.1, v12.2.2.2.2.1, v12.2.2.2.2.2 + 1)
          · refine x_iload 100 hE dX0_sure_98 rfl 6 rfl ?_
            refine x_iconst 101 hE dX0_sure_100 rfl xc_i_m1 ?_
            refine x_sq 108 (fun (v20 : Int32) => [(0, va_rf (some v1)), (3, .int v4), (4, va_rf v9), (5, va_rf v10), (6, .int v12.1), (7, .int v20), (8, .int v12.2.2.1), (9, .int v12.2.2.2.1), (10, .int v12.2.2.2.2.1), (11, .int v12.2.2.2.2.2), (12, va_rf v16)]) (fun (v20 : Int32) => []) (fun v20 => ?_) (fun J3 hJ3 => ?_)
            · refine x_iinc 111 [(6, .int (v12.1 + 1)), (0, va_rf (some v1)), (3, .int v4), (4, va_rf v9), (5, va_rf v10), (7, .int v20), (8, .int v12.2.2.1), (9, .int v12.2.2.2.1), (10, .int v12.2.2.2.2.1), (11, .int v12.2.2.2.2.2), (12, va_rf v16)] hE dX0_sure_108 rfl 4 rfl xc_i_1 (Nat.le_of_ble_eq_true rfl) (congrArg (List.cons _) (xw_f1 (by decide) rfl (xw_f1 (by decide) rfl (xw_f1 (by decide) (x_rfc _) (xw_f1 (by decide) (x_rfc _) (xw_f2 (xw_f1 (by decide) rfl (xw_f1 (by decide) rfl (xw_f1 (by decide) rfl (xw_f1 (by decide) rfl (xw_f1 (by decide) rfl (xw_f1 (by decide) (x_rfc _) xw_f0)))))))))))) ?_
              refine x_iload 113 hE dX0_sure_111 rfl 7 rfl ?_
              refine x_iconst 114 hE dX0_sure_113 rfl xc_i_m1 ?_
              refine x_sq 134 (fun (v21 : Int32) => [(0, va_rf (some v1)), (3, .int v4), (4, va_rf v9), (5, va_rf v10), (6, .int (v12.1 + 1)), (7, .int v20), (8, .int v12.2.2.1), (9, .int v21), (10, .int v12.2.2.2.2.1), (11, .int v12.2.2.2.2.2), (12, va_rf v16)]) (fun (v21 : Int32) => []) (fun v21 => ?_) (fun J4 hJ4 => ?_)
              · refine x_iload 136 hE dX0_sure_134 rfl 8 rfl ?_
                refine x_aload 138 hE dX0_sure_136 rfl 10 rfl ?_
                refine x_gI 141 hE (xw_lk0 hE xkf_CrossingWords_224) rfl dX0_sure_138 rfl (fun v22 => ?_)
                refine x_mmax 144 hE q1177 q419 q101 xm_mmax (by decide) (by decide) dX0_sure_141 rfl ?_
                refine x_lti (fun v23 => ?_)
                refine x_istore 146 [(10, .int v23), (0, va_rf (some v1)), (3, .int v4), (4, va_rf v9), (5, va_rf v10), (6, .int (v12.1 + 1)), (7, .int v20), (8, .int v12.2.2.1), (9, .int v21), (11, .int v12.2.2.2.2.2), (12, va_rf v16)] hE dX0_sure_144 rfl (Nat.le_of_ble_eq_true rfl) rfl ?_
                refine x_iinc 149 [(11, .int (v12.2.2.2.2.2 + 1)), (10, .int v23), (0, va_rf (some v1)), (3, .int v4), (4, va_rf v9), (5, va_rf v10), (6, .int (v12.1 + 1)), (7, .int v20), (8, .int v12.2.2.1), (9, .int v21), (12, va_rf v16)] hE dX0_sure_146 rfl 9 rfl xc_i_1 (Nat.le_of_ble_eq_true rfl) rfl ?_
                refine x_goto 55 hE dX0_sure_149 (by decide) ?_
                refine x_sub [(0, va_rf (some v1)), (3, .int v4), (4, va_rf v9), (5, va_rf v10), (6, .int (v12.1 + 1)), (7, .int v20), (8, .int v12.2.2.1), (9, .int v21), (10, .int v23), (11, .int (v12.2.2.2.2.2 + 1))] [2, 3, 4, 5, 6, 7, 8, 9, 1, 0] rfl ?_
                exact hc1 (v12.1 + 1, v20, v12.2.2.1, v21, v23, v12.2.2.2.2.2 + 1)
              · refine x_jn 127 (fun (v24 : Unit) => [(0, va_rf (some v1)), (3, .int v4), (4, va_rf v9), (5, va_rf v10), (6, .int (v12.1 + 1)), (7, .int v20), (8, .int v12.2.2.1), (10, .int v12.2.2.2.2.1), (11, .int v12.2.2.2.2.2), (12, va_rf v16)]) (fun (v24 : Unit) => []) (fun v24 => ?_) (fun J5 hJ5 => ?_)
                · refine x_aload 129 hE dX0_sure_127 rfl 9 rfl ?_
                  refine x_gI 132 hE (xw_lk0 hE xkf_CrossingWords_224) rfl dX0_sure_129 rfl (fun v25 => ?_)
                  refine x_istore 134 [(9, .int v25), (0, va_rf (some v1)), (3, .int v4), (4, va_rf v9), (5, va_rf v10), (6, .int (v12.1 + 1)), (7, .int v20), (8, .int v12.2.2.1), (10, .int v12.2.2.2.2.1), (11, .int v12.2.2.2.2.2), (12, va_rf v16)] hE dX0_sure_132 rfl (Nat.le_of_ble_eq_true rfl) rfl ?_
                  refine x_sub [(0, va_rf (some v1)), (3, .int v4), (4, va_rf v9), (5, va_rf v10), (6, .int (v12.1 + 1)), (7, .int v20), (8, .int v12.2.2.1), (9, .int v25), (10, .int v12.2.2.2.2.1), (11, .int v12.2.2.2.2.2), (12, va_rf v16)] [1, 2, 3, 4, 5, 6, 7, 0, 8, 9, 10] rfl ?_
                  exact hJ4 v25
                · refine x_icmp_eq 127 117 hE dX0_sure_114 (by decide) rfl ?_ ?_
                  · refine x_sub [(0, va_rf (some v1)), (3, .int v4), (4, va_rf v9), (5, va_rf v10), (6, .int (v12.1 + 1)), (7, .int v20), (8, .int v12.2.2.1), (10, .int v12.2.2.2.2.1), (11, .int v12.2.2.2.2.2), (12, va_rf v16)] [1, 2, 3, 4, 0, 5, 6, 8, 9, 10] rfl ?_
                    exact hJ5 ()
                  · refine x_aload 119 hE dX0_sure_117 rfl 10 rfl ?_
                    refine x_gI 122 hE (xw_lk0 hE xkf_CrossingWords_224) rfl dX0_sure_119 rfl (fun v26 => ?_)
                    refine x_iload 124 hE dX0_sure_122 rfl 7 rfl ?_
                    refine x_icmp_ge 134 127 hE dX0_sure_124 (by decide) rfl ?_ ?_
                    · refine x_sub [(0, va_rf (some v1)), (3, .int v4), (4, va_rf v9), (5, va_rf v10), (6, .int (v12.1 + 1)), (7, .int v20), (8, .int v12.2.2.1), (9, .int v12.2.2.2.1), (10, .int v12.2.2.2.2.1), (11, .int v12.2.2.2.2.2), (12, va_rf v16)] [1, 2, 3, 4, 0, 5, 6, 7, 8, 9, 10] rfl ?_
                      exact hJ4 (v12.2.2.2.1)
                    · refine x_sub [(0, va_rf (some v1)), (3, .int v4), (4, va_rf v9), (5, va_rf v10), (6, .int (v12.1 + 1)), (7, .int v20), (8, .int v12.2.2.1), (10, .int v12.2.2.2.2.1), (11, .int v12.2.2.2.2.2), (12, va_rf v16)] [1, 2, 3, 4, 0, 5, 6, 8, 9, 10] rfl ?_
                      exact hJ5 ()
            · refine x_icmp_ne 108 104 hE dX0_sure_101 (by decide) rfl ?_ ?_
              · refine x_iload 106 hE dX0_sure_104 rfl 10 rfl ?_
                refine x_istore 108 [(7, .int v12.2.2.2.2.2), (12, va_rf v16), (0, va_rf (some v1)), (3, .int v4), (4, va_rf v9), (5, va_rf v10), (6, .int v12.1), (8, .int v12.2.2.1), (9, .int v12.2.2.2.1), (10, .int v12.2.2.2.2.1), (11, .int v12.2.2.2.2.2)] hE dX0_sure_106 rfl (Nat.le_of_ble_eq_true rfl) rfl ?_
                refine x_sub [(0, va_rf (some v1)), (3, .int v4), (4, va_rf v9), (5, va_rf v10), (6, .int v12.1), (7, .int v12.2.2.2.2.2), (8, .int v12.2.2.1), (9, .int v12.2.2.2.1), (10, .int v12.2.2.2.2.1), (11, .int v12.2.2.2.2.2), (12, va_rf v16)] [2, 3, 4, 5, 6, 0, 7, 8, 9, 10, 1] rfl ?_
                exact hJ3 (v12.2.2.2.2.2)
              · refine x_sub [(0, va_rf (some v1)), (3, .int v4), (4, va_rf v9), (5, va_rf v10), (6, .int v12.1), (7, .int v12.2.1), (8, .int v12.2.2.1), (9, .int v12.2.2.2.1), (10, .int v12.2.2.2.2.1), (11, .int v12.2.2.2.2.2), (12, va_rf v16)] [1, 2, 3, 4, 5, 6, 7, 8, 9, 10, 0] rfl ?_
                exact hJ3 (v12.2.1)
