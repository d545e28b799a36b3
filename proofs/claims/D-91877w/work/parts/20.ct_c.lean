set_option maxRecDepth 100000
/-! the walks: printed by wip/D-91877w/gen/gen2.py -/
set_option maxHeartbeats 4000000 in
theorem ct_X1_isEnd {l : Launch} {G : xw_G} {μ : xw_Mu} (v1 : Nat) (v2 : Option Nat) (v3 : Option Nat) : xw_Ct l G (xw_hc G μ) xw_oi yX1_isEnd cX1_isEnd 8 (some (.boolean)) 4 [va_rf (some v1), va_rf v2, va_rf v3] (pg_X1_isEnd v1 v2 v3) := by
  refine xw_metL [(0, va_rf (some v1)), (1, va_rf v2), (2, va_rf v3)] (by decide) (Nat.le_trans (Nat.le_of_eq ((xw_l1 rfl).trans (congrArg (1 + ·) ((xw_l1 (x_rfc _)).trans (congrArg (1 + ·) ((xw_l1 (x_rfc _)).trans (congrArg (1 + ·) xw_l0))))))) (by decide)) ((xw_a1 rfl).trans (congrArg (List.cons _) ((xw_a1 (x_rfc _)).trans (congrArg (List.cons _) ((xw_a1 (x_rfc _)).trans (congrArg (List.cons _) xw_a0)))))) (fun E hE hl hG hm => ?_)
  subst hl; subst hG
  have hE : xw_ok E "CrossingWords$Run" cX1_isEnd 8 (some (.boolean)) 4 := hE
  unfold pg_X1_isEnd
  refine x_aload_n 1 hE dX1_isEnd_0 rfl 1 rfl ?_
  refine x_calli 4 (xw_goD hE (fun v5 hq => (List.forall_mem_cons.mpr ⟨⟨Nat.le_of_ble_eq_true rfl, xw_rU (owner := "CrossingWords$Saying") (x := ⟨"CrossingWords$Saying", "kind", "()I"⟩) hE (ct_X7_kind v5) xD_CrossingWords_Saying_kind___I (Or.inr xkd_CrossingWords_Sayingkind_) q1047 q535 q536 q537 q103 q538 rfl ⟨Nat.le_of_ble_eq_true rfl, Nat.le_of_ble_eq_true rfl⟩ (congrArg va_rf hq) rfl (by decide) dX1_isEnd_1⟩, (List.forall_mem_cons.mpr ⟨⟨Nat.le_of_ble_eq_true rfl, xw_rU (owner := "CrossingWords$Saying") (x := ⟨"CrossingWords$Saying", "kind", "()I"⟩) hE (ct_X8_kind v5) xD_CrossingWords_Saying_kind___I (Or.inr xkd_CrossingWords_Sayingkind_) q1047 q535 q551 q552 q104 q553 rfl ⟨Nat.le_of_ble_eq_true rfl, Nat.le_of_ble_eq_true rfl⟩ (congrArg va_rf hq) rfl (by decide) dX1_isEnd_1⟩, (List.forall_mem_cons.mpr ⟨⟨Nat.le_of_ble_eq_true rfl, xw_rU (owner := "CrossingWords$Saying") (x := ⟨"CrossingWords$Saying", "kind", "()I"⟩) hE (ct_X10_kind v5) xD_CrossingWords_Saying_kind___I (Or.inr xkd_CrossingWords_Sayingkind_) q1047 q535 q557 q558 q106 q559 rfl ⟨Nat.le_of_ble_eq_true rfl, Nat.le_of_ble_eq_true rfl⟩ (congrArg va_rf hq) rfl (by decide) dX1_isEnd_1⟩, (List.forall_mem_cons.mpr ⟨⟨Nat.le_of_ble_eq_true rfl, xw_rU (owner := "CrossingWords$Saying") (x := ⟨"CrossingWords$Saying", "kind", "()I"⟩) hE (ct_X11_kind v5) xD_CrossingWords_Saying_kind___I (Or.inr xkd_CrossingWords_Sayingkind_) q1047 q535 q542 q543 q107 q544 rfl ⟨Nat.le_of_ble_eq_true rfl, Nat.le_of_ble_eq_true rfl⟩ (congrArg va_rf hq) rfl (by decide) dX1_isEnd_1⟩, (List.forall_mem_cons.mpr ⟨⟨Nat.le_of_ble_eq_true rfl, xw_rU (owner := "CrossingWords$Saying") (x := ⟨"CrossingWords$Saying", "kind", "()I"⟩) hE (ct_X12_kind v5) xD_CrossingWords_Saying_kind___I (Or.inr xkd_CrossingWords_Sayingkind_) q1047 q535 q548 q549 q108 q550 rfl ⟨Nat.le_of_ble_eq_true rfl, Nat.le_of_ble_eq_true rfl⟩ (congrArg va_rf hq) rfl (by decide) dX1_isEnd_1⟩, (List.forall_mem_cons.mpr ⟨⟨Nat.le_of_ble_eq_true rfl, xw_rU (owner := "CrossingWords$Saying") (x := ⟨"CrossingWords$Saying", "kind", "()I"⟩) hE (ct_X13_kind v5) xD_CrossingWords_Saying_kind___I (Or.inr xkd_CrossingWords_Sayingkind_) q1047 q535 q539 q540 q109 q541 rfl ⟨Nat.le_of_ble_eq_true rfl, Nat.le_of_ble_eq_true rfl⟩ (congrArg va_rf hq) rfl (by decide) dX1_isEnd_1⟩, (List.forall_mem_cons.mpr ⟨⟨Nat.le_of_ble_eq_true rfl, xw_rU (owner := "CrossingWords$Saying") (x := ⟨"CrossingWords$Saying", "kind", "()I"⟩) hE (ct_X14_kind v5) xD_CrossingWords_Saying_kind___I (Or.inr xkd_CrossingWords_Sayingkind_) q1047 q535 q545 q546 q110 q547 rfl ⟨Nat.le_of_ble_eq_true rfl, Nat.le_of_ble_eq_true rfl⟩ (congrArg va_rf hq) rfl (by decide) dX1_isEnd_1⟩, (List.forall_mem_cons.mpr ⟨⟨Nat.le_of_ble_eq_true rfl, xw_rU (owner := "CrossingWords$Saying") (x := ⟨"CrossingWords$Saying", "kind", "()I"⟩) hE (ct_X15_kind v5) xD_CrossingWords_Saying_kind___I (Or.inr xkd_CrossingWords_Sayingkind_) q1047 q535 q554 q555 q111 q556 rfl ⟨Nat.le_of_ble_eq_true rfl, Nat.le_of_ble_eq_true rfl⟩ (congrArg va_rf hq) rfl (by decide) dX1_isEnd_1⟩, (fun _ h => absurd h List.not_mem_nil)⟩)⟩)⟩)⟩)⟩)⟩)⟩)⟩))) rfl (fun v4 => ?_)
  refine x_iconst 5 hE dX1_isEnd_4 rfl xc_i_5 ?_
  refine x_sq 13 (fun (v6 : Int32) => [(0, va_rf (some v1)), (1, va_rf v2), (2, va_rf v3)]) (fun (v6 : Int32) => [.int v6]) (fun v6 => ?_) (fun J1 hJ1 => ?_)
  · refine x_istore_n 14 [(3, .int v6), (0, va_rf (some v1)), (1, va_rf v2), (2, va_rf v3)] hE dX1_isEnd_13 rfl rfl (Nat.le_of_ble_eq_true rfl) (congrArg (List.cons _) (xw_f1 (by decide) rfl (xw_f1 (by decide) (x_rfc _) (xw_f1 (by decide) (x_rfc _) xw_f0)))) ?_
    refine x_aload_n 15 hE dX1_isEnd_14 rfl 2 rfl ?_
    refine x_aload_n 16 hE dX1_isEnd_15 rfl 3 rfl ?_
    refine x_calli 19 (xw_goD hE (fun v8 hq => (List.forall_mem_cons.mpr ⟨⟨Nat.le_of_ble_eq_true rfl, xw_rU (owner := "CrossingWords$Saying") (x := ⟨"CrossingWords$Saying", "isSaid", "(LCrossingWords$Saying;)Z"⟩) hE (ct_X6_isSaid v8 v3) xD_CrossingWords_Saying_isSaid__LCrossingWords_Saying__Z (Or.inl (Or.inl rfl)) q1048 q1050 q1051 q1049 q102 q1059 rfl ⟨Nat.le_of_ble_eq_true rfl, Nat.le_of_ble_eq_true rfl⟩ (congrArg va_rf hq) rfl (by decide) dX1_isEnd_16⟩, (List.forall_mem_cons.mpr ⟨⟨Nat.le_of_ble_eq_true rfl, xw_rU (owner := "CrossingWords$Saying") (x := ⟨"CrossingWords$Saying", "isSaid", "(LCrossingWords$Saying;)Z"⟩) hE (ct_X6_isSaid v8 v3) xD_CrossingWords_Saying_isSaid__LCrossingWords_Saying__Z (Or.inl (Or.inl rfl)) q1048 q1050 q1056 q1049 q102 q1059 rfl ⟨Nat.le_of_ble_eq_true rfl, Nat.le_of_ble_eq_true rfl⟩ (congrArg va_rf hq) rfl (by decide) dX1_isEnd_16⟩, (List.forall_mem_cons.mpr ⟨⟨Nat.le_of_ble_eq_true rfl, xw_rU (owner := "CrossingWords$Saying") (x := ⟨"CrossingWords$Saying", "isSaid", "(LCrossingWords$Saying;)Z"⟩) hE (ct_X6_isSaid v8 v3) xD_CrossingWords_Saying_isSaid__LCrossingWords_Saying__Z (Or.inl (Or.inl rfl)) q1048 q1050 q1058 q1049 q102 q1059 rfl ⟨Nat.le_of_ble_eq_true rfl, Nat.le_of_ble_eq_true rfl⟩ (congrArg va_rf hq) rfl (by decide) dX1_isEnd_16⟩, (List.forall_mem_cons.mpr ⟨⟨Nat.le_of_ble_eq_true rfl, xw_rU (owner := "CrossingWords$Saying") (x := ⟨"CrossingWords$Saying", "isSaid", "(LCrossingWords$Saying;)Z"⟩) hE (ct_X6_isSaid v8 v3) xD_CrossingWords_Saying_isSaid__LCrossingWords_Saying__Z (Or.inl (Or.inl rfl)) q1048 q1050 q1053 q1049 q102 q1059 rfl ⟨Nat.le_of_ble_eq_true rfl, Nat.le_of_ble_eq_true rfl⟩ (congrArg va_rf hq) rfl (by decide) dX1_isEnd_16⟩, (List.forall_mem_cons.mpr ⟨⟨Nat.le_of_ble_eq_true rfl, xw_rU (owner := "CrossingWords$Saying") (x := ⟨"CrossingWords$Saying", "isSaid", "(LCrossingWords$Saying;)Z"⟩) hE (ct_X6_isSaid v8 v3) xD_CrossingWords_Saying_isSaid__LCrossingWords_Saying__Z (Or.inl (Or.inl rfl)) q1048 q1050 q1055 q1049 q102 q1059 rfl ⟨Nat.le_of_ble_eq_true rfl, Nat.le_of_ble_eq_true rfl⟩ (congrArg va_rf hq) rfl (by decide) dX1_isEnd_16⟩, (List.forall_mem_cons.mpr ⟨⟨Nat.le_of_ble_eq_true rfl, xw_rU (owner := "CrossingWords$Saying") (x := ⟨"CrossingWords$Saying", "isSaid", "(LCrossingWords$Saying;)Z"⟩) hE (ct_X6_isSaid v8 v3) xD_CrossingWords_Saying_isSaid__LCrossingWords_Saying__Z (Or.inl (Or.inl rfl)) q1048 q1050 q1052 q1049 q102 q1059 rfl ⟨Nat.le_of_ble_eq_true rfl, Nat.le_of_ble_eq_true rfl⟩ (congrArg va_rf hq) rfl (by decide) dX1_isEnd_16⟩, (List.forall_mem_cons.mpr ⟨⟨Nat.le_of_ble_eq_true rfl, xw_rU (owner := "CrossingWords$Saying") (x := ⟨"CrossingWords$Saying", "isSaid", "(LCrossingWords$Saying;)Z"⟩) hE (ct_X6_isSaid v8 v3) xD_CrossingWords_Saying_isSaid__LCrossingWords_Saying__Z (Or.inl (Or.inl rfl)) q1048 q1050 q1054 q1049 q102 q1059 rfl ⟨Nat.le_of_ble_eq_true rfl, Nat.le_of_ble_eq_true rfl⟩ (congrArg va_rf hq) rfl (by decide) dX1_isEnd_16⟩, (List.forall_mem_cons.mpr ⟨⟨Nat.le_of_ble_eq_true rfl, xw_rU (owner := "CrossingWords$Saying") (x := ⟨"CrossingWords$Saying", "isSaid", "(LCrossingWords$Saying;)Z"⟩) hE (ct_X6_isSaid v8 v3) xD_CrossingWords_Saying_isSaid__LCrossingWords_Saying__Z (Or.inl (Or.inl rfl)) q1048 q1050 q1057 q1049 q102 q1059 rfl ⟨Nat.le_of_ble_eq_true rfl, Nat.le_of_ble_eq_true rfl⟩ (congrArg va_rf hq) rfl (by decide) dX1_isEnd_16⟩, (fun _ h => absurd h List.not_mem_nil)⟩)⟩)⟩)⟩)⟩)⟩)⟩)⟩))) rfl (fun v7 => ?_)
    refine x_if_eq 69 22 hE dX1_isEnd_19 (by decide) rfl ?_ ?_
    · refine x_iconst 70 hE dX1_isEnd_69 rfl xc_i_0 ?_
      exact x_zretw hE (by decide) dX1_isEnd_70
    · refine x_aload_n 23 hE dX1_isEnd_22 rfl 3 rfl ?_
      refine x_aload_n 24 hE dX1_isEnd_23 rfl 1 rfl ?_
      refine x_gR 27 hE (xw_lk0 hE xkf_CrossingWords_Run_92) rfl dX1_isEnd_24 rfl (fun v9 => ?_)
      refine x_calli 30 (xw_goD hE (fun v11 hq => (List.forall_mem_cons.mpr ⟨⟨Nat.le_of_ble_eq_true rfl, xw_rU (owner := "CrossingWords$Saying") (x := ⟨"CrossingWords$Saying", "isOffer", "(LCrossingWords$Rules;)Z"⟩) hE (ct_X6_isOffer v11 v9) xD_CrossingWords_Saying_isOffer__LCrossingWords_Rules__Z (Or.inl (Or.inl rfl)) q1008 q1010 q1011 q1009 q102 q1031 rfl ⟨Nat.le_of_ble_eq_true rfl, Nat.le_of_ble_eq_true rfl⟩ (congrArg va_rf hq) rfl (by decide) dX1_isEnd_27⟩, (List.forall_mem_cons.mpr ⟨⟨Nat.le_of_ble_eq_true rfl, xw_rU (owner := "CrossingWords$Saying") (x := ⟨"CrossingWords$Saying", "isOffer", "(LCrossingWords$Rules;)Z"⟩) hE (ct_X8_isOffer v11 v9) xD_CrossingWords_Saying_isOffer__LCrossingWords_Rules__Z (Or.inl (Or.inr ⟨_, _, _, q1009, q1031⟩)) q1008 q1010 q1026 q1027 q104 q1028 rfl ⟨Nat.le_of_ble_eq_true rfl, Nat.le_of_ble_eq_true rfl⟩ (congrArg va_rf hq) rfl (by decide) dX1_isEnd_27⟩, (List.forall_mem_cons.mpr ⟨⟨Nat.le_of_ble_eq_true rfl, xw_rU (owner := "CrossingWords$Saying") (x := ⟨"CrossingWords$Saying", "isOffer", "(LCrossingWords$Rules;)Z"⟩) hE (ct_X6_isOffer v11 v9) xD_CrossingWords_Saying_isOffer__LCrossingWords_Rules__Z (Or.inl (Or.inl rfl)) q1008 q1010 q1030 q1009 q102 q1031 rfl ⟨Nat.le_of_ble_eq_true rfl, Nat.le_of_ble_eq_true rfl⟩ (congrArg va_rf hq) rfl (by decide) dX1_isEnd_27⟩, (List.forall_mem_cons.mpr ⟨⟨Nat.le_of_ble_eq_true rfl, xw_rU (owner := "CrossingWords$Saying") (x := ⟨"CrossingWords$Saying", "isOffer", "(LCrossingWords$Rules;)Z"⟩) hE (ct_X11_isOffer v11 v9) xD_CrossingWords_Saying_isOffer__LCrossingWords_Rules__Z (Or.inl (Or.inr ⟨_, _, _, q1009, q1031⟩)) q1008 q1010 q1013 q1014 q107 q1015 rfl ⟨Nat.le_of_ble_eq_true rfl, Nat.le_of_ble_eq_true rfl⟩ (congrArg va_rf hq) rfl (by decide) dX1_isEnd_27⟩, (List.forall_mem_cons.mpr ⟨⟨Nat.le_of_ble_eq_true rfl, xw_rU (owner := "CrossingWords$Saying") (x := ⟨"CrossingWords$Saying", "isOffer", "(LCrossingWords$Rules;)Z"⟩) hE (ct_X6_isOffer v11 v9) xD_CrossingWords_Saying_isOffer__LCrossingWords_Rules__Z (Or.inl (Or.inl rfl)) q1008 q1010 q1025 q1009 q102 q1031 rfl ⟨Nat.le_of_ble_eq_true rfl, Nat.le_of_ble_eq_true rfl⟩ (congrArg va_rf hq) rfl (by decide) dX1_isEnd_27⟩, (List.forall_mem_cons.mpr ⟨⟨Nat.le_of_ble_eq_true rfl, xw_rU (owner := "CrossingWords$Saying") (x := ⟨"CrossingWords$Saying", "isOffer", "(LCrossingWords$Rules;)Z"⟩) hE (ct_X6_isOffer v11 v9) xD_CrossingWords_Saying_isOffer__LCrossingWords_Rules__Z (Or.inl (Or.inl rfl)) q1008 q1010 q1012 q1009 q102 q1031 rfl ⟨Nat.le_of_ble_eq_true rfl, Nat.le_of_ble_eq_true rfl⟩ (congrArg va_rf hq) rfl (by decide) dX1_isEnd_27⟩, (List.forall_mem_cons.mpr ⟨⟨Nat.le_of_ble_eq_true rfl, xw_rU (owner := "CrossingWords$Saying") (x := ⟨"CrossingWords$Saying", "isOffer", "(LCrossingWords$Rules;)Z"⟩) hE (ct_X6_isOffer v11 v9) xD_CrossingWords_Saying_isOffer__LCrossingWords_Rules__Z (Or.inl (Or.inl rfl)) q1008 q1010 q1024 q1009 q102 q1031 rfl ⟨Nat.le_of_ble_eq_true rfl, Nat.le_of_ble_eq_true rfl⟩ (congrArg va_rf hq) rfl (by decide) dX1_isEnd_27⟩, (List.forall_mem_cons.mpr ⟨⟨Nat.le_of_ble_eq_true rfl, xw_rU (owner := "CrossingWords$Saying") (x := ⟨"CrossingWords$Saying", "isOffer", "(LCrossingWords$Rules;)Z"⟩) hE (ct_X6_isOffer v11 v9) xD_CrossingWords_Saying_isOffer__LCrossingWords_Rules__Z (Or.inl (Or.inl rfl)) q1008 q1010 q1029 q1009 q102 q1031 rfl ⟨Nat.le_of_ble_eq_true rfl, Nat.le_of_ble_eq_true rfl⟩ (congrArg va_rf hq) rfl (by decide) dX1_isEnd_27⟩, (fun _ h => absurd h List.not_mem_nil)⟩)⟩)⟩)⟩)⟩)⟩)⟩)⟩))) rfl (fun v10 => ?_)
      refine x_if_eq 69 33 hE dX1_isEnd_30 (by decide) rfl ?_ ?_
      · refine x_iconst 70 hE dX1_isEnd_69 rfl xc_i_0 ?_
        exact x_zretw hE (by decide) dX1_isEnd_70
      · refine x_aload_n 34 hE dX1_isEnd_33 rfl 1 rfl ?_
        refine x_gR 37 hE (xw_lk0 hE xkf_CrossingWords_Run_25) rfl dX1_isEnd_34 rfl (fun v12 => ?_)
        refine x_aload_n 38 hE dX1_isEnd_37 rfl 3 rfl ?_
        refine x_gI 41 hE (xw_lk0 hE xkf_CrossingWords_Run_85) rfl dX1_isEnd_38 rfl (fun v13 => ?_)
        refine x_ldI 42 hE dX1_isEnd_41 rfl (fun v14 => ?_)
        refine x_iload_n 43 hE dX1_isEnd_42 rfl 0 rfl ?_
        refine x_sq 51 (fun (v15 : Int32) => [(0, va_rf (some v1)), (1, va_rf v2), (2, va_rf v3), (3, .int v6)]) (fun (v15 : Int32) => [.int v15, .int v14]) (fun v15 => ?_) (fun J2 hJ2 => ?_)
        · refine x_icmp_ne 69 54 hE dX1_isEnd_51 (by decide) rfl ?_ ?_
          · refine x_iload_n 55 hE dX1_isEnd_54 rfl 3 rfl ?_
            refine x_jn 71 (fun (v16 : Unit) => [(0, va_rf (some v1)), (1, va_rf v2), (2, va_rf v3), (3, .int v6)]) (fun (v16 : Unit) => []) (fun v16 => ?_) (fun J3 hJ3 => ?_)
            · refine x_aload_n 72 hE dX1_isEnd_71 rfl 0 rfl ?_
              refine x_gR 75 hE (xw_lk0 hE xkf_CrossingWords_Run_92) rfl dX1_isEnd_72 rfl (fun v17 => ?_)
              refine x_iload_n 76 hE dX1_isEnd_75 rfl 3 rfl ?_
              refine x_sq 84 (fun (v18 : Int32) => [(0, va_rf (some v1)), (1, va_rf v2), (2, va_rf v3), (3, .int v6)]) (fun (v18 : Int32) => [.int v18, va_rf v17]) (fun v18 => ?_) (fun J4 hJ4 => ?_)
              · refine x_calli 87 (xw_goV hE (c := 17) (by decide) (fun v20 hq => xw_rV hE (ct_X20_at v20 v18) xd_X20_at rfl q1045 q988 q989 q116 q990 rfl ⟨Nat.le_of_ble_eq_true rfl, Nat.le_of_ble_eq_true rfl⟩ (congrArg va_rf hq) rfl (by decide) dX1_isEnd_84)) rfl (fun v19 => ?_)
                refine x_istore 89 [(4, .int v19), (0, va_rf (some v1)), (1, va_rf v2), (2, va_rf v3), (3, .int v6)] hE dX1_isEnd_87 rfl (Nat.le_of_ble_eq_true rfl) rfl ?_
                refine x_aload_n 90 hE dX1_isEnd_89 rfl 1 rfl ?_
                refine x_aload_n 91 hE dX1_isEnd_90 rfl 2 rfl ?_
                refine x_iload 93 hE dX1_isEnd_91 rfl 0 rfl ?_
                refine x_calli 96 (xw_goV hE (c := 1) (by decide) (fun v22 hq => xw_rV hE (ct_X1_hour v22 v2 v19) xd_X1_hour rfl q1046 q954 q955 q96 q956 rfl ⟨Nat.le_of_ble_eq_true rfl, Nat.le_of_ble_eq_true rfl⟩ (congrArg va_rf hq) rfl (by decide) dX1_isEnd_93)) rfl (fun v21 => ?_)
                refine x_aload_n 97 hE dX1_isEnd_96 rfl 1 rfl ?_
                refine x_gR 100 hE (xw_lk0 hE xkf_CrossingWords_Run_22) rfl dX1_isEnd_97 rfl (fun v23 => ?_)
                refine x_aload_n 101 hE dX1_isEnd_100 rfl 3 rfl ?_
                refine x_gI 104 hE (xw_lk0 hE xkf_CrossingWords_Run_85) rfl dX1_isEnd_101 rfl (fun v24 => ?_)
                refine x_ldI 105 hE dX1_isEnd_104 rfl (fun v25 => ?_)
                refine x_icmp_eq 110 108 hE dX1_isEnd_105 (by decide) rfl ?_ ?_
                · refine x_iconst 111 hE dX1_isEnd_110 rfl xc_i_0 ?_
                  refine x_istore 113 [(5, .int 0), (4, .int v19), (0, va_rf (some v1)), (1, va_rf v2), (2, va_rf v3), (3, .int v6)] hE dX1_isEnd_111 rfl (Nat.le_of_ble_eq_true rfl) rfl ?_
                  refine x_sub [(0, va_rf (some v1)), (1, va_rf v2), (2, va_rf v3), (3, .int v6), (4, .int v19), (5, .int 0)] [2, 3, 4, 5, 1, 0] rfl ?_
                  refine x_loop (fun (v26 : Int32) => [(0, va_rf (some v1)), (1, va_rf v2), (2, va_rf v3), (3, .int v6), (4, .int v19), (5, .int v26)]) (fun JL5 hc5 hx5 v26 => ?_) _ _
                  refine x_iload 115 hE dX1_isEnd_113 rfl 5 rfl ?_
                  refine x_aload_n 116 hE dX1_isEnd_115 rfl 1 rfl ?_
                  refine x_gI 119 hE (xw_lk0 hE xkf_CrossingWords_Run_85) rfl dX1_isEnd_116 rfl (fun v27 => ?_)
                  refine x_icmp_ge 208 122 hE dX1_isEnd_119 (by decide) rfl ?_ ?_
                  · refine x_iconst 209 hE dX1_isEnd_208 rfl xc_i_1 ?_
                    refine hx5 _ _ _ _ ?_
                    exact x_zretw hE (by decide) dX1_isEnd_209
                  · refine x_aload_n 123 hE dX1_isEnd_122 rfl 0 rfl ?_
                    refine x_gR 126 hE (xw_lk0 hE xkf_CrossingWords_Run_31) rfl dX1_isEnd_123 rfl (fun v28 => ?_)
                    refine x_gR 129 hE (xw_lk0 hE xkf_CrossingWords_Run_54) rfl dX1_isEnd_126 rfl (fun v29 => ?_)
                    refine x_iload 131 hE dX1_isEnd_129 rfl 5 rfl ?_
                    refine x_ldR 132 hE dX1_isEnd_131 rfl (fun v30 => ?_)
                    refine x_astore 134 [(6, va_rf v30), (0, va_rf (some v1)), (1, va_rf v2), (2, va_rf v3), (3, .int v6), (4, .int v19), (5, .int v26)] hE dX1_isEnd_132 rfl (Nat.le_of_ble_eq_true rfl) rfl ?_
                    refine x_iload_n 135 hE dX1_isEnd_134 rfl 4 rfl ?_
                    refine x_sq 164 (fun (v31 : Int32) => [(0, va_rf (some v1)), (1, va_rf v2), (2, va_rf v3), (3, .int v6), (4, .int v19), (5, .int v26), (6, va_rf v30)]) (fun (v31 : Int32) => [.int v31]) (fun v31 => ?_) (fun J6 hJ6 => ?_)
                    · refine x_istore 166 [(7, .int v31), (0, va_rf (some v1)), (1, va_rf v2), (2, va_rf v3), (3, .int v6), (4, .int v19), (5, .int v26), (6, va_rf v30)] hE dX1_isEnd_164 rfl (Nat.le_of_ble_eq_true rfl) (congrArg (List.cons _) (xw_f1 (by decide) rfl (xw_f1 (by decide) (x_rfc _) (xw_f1 (by decide) (x_rfc _) (xw_f1 (by decide) rfl (xw_f1 (by decide) rfl (xw_f1 (by decide) rfl (xw_f1 (by decide) (x_rfc _) xw_f0)))))))) ?_
                      refine x_iload 168 hE dX1_isEnd_166 rfl 0 rfl ?_
                      refine x_if_eq 202 171 hE dX1_isEnd_168 (by decide) rfl ?_ ?_
                      · refine x_iinc 205 [(5, .int (v26 + 1)), (7, .int v31), (0, va_rf (some v1)), (1, va_rf v2), (2, va_rf v3), (3, .int v6), (4, .int v19), (6, va_rf v30)] hE dX1_isEnd_202 rfl 6 rfl xc_i_1 (Nat.le_of_ble_eq_true rfl) rfl ?_
                        refine x_goto 113 hE dX1_isEnd_205 (by decide) ?_
                        refine x_sub [(0, va_rf (some v1)), (1, va_rf v2), (2, va_rf v3), (3, .int v6), (4, .int v19), (5, .int (v26 + 1))] [2, 3, 4, 5, 6, 0] rfl ?_
                        exact hc5 (v26 + 1)
                      · refine x_aload 173 hE dX1_isEnd_171 rfl 7 rfl ?_
                        refine x_aload_n 174 hE dX1_isEnd_173 rfl 3 rfl ?_
                        refine x_calli 177 (xw_goD hE (fun v33 hq => (List.forall_mem_cons.mpr ⟨⟨Nat.le_of_ble_eq_true rfl, xw_rU (owner := "CrossingWords$Saying") (x := ⟨"CrossingWords$Saying", "isSaid", "(LCrossingWords$Saying;)Z"⟩) hE (ct_X6_isSaid v33 v3) xD_CrossingWords_Saying_isSaid__LCrossingWords_Saying__Z (Or.inl (Or.inl rfl)) q1048 q1050 q1051 q1049 q102 q1059 rfl ⟨Nat.le_of_ble_eq_true rfl, Nat.le_of_ble_eq_true rfl⟩ (congrArg va_rf hq) rfl (by decide) dX1_isEnd_174⟩, (List.forall_mem_cons.mpr ⟨⟨Nat.le_of_ble_eq_true rfl, xw_rU (owner := "CrossingWords$Saying") (x := ⟨"CrossingWords$Saying", "isSaid", "(LCrossingWords$Saying;)Z"⟩) hE (ct_X6_isSaid v33 v3) xD_CrossingWords_Saying_isSaid__LCrossingWords_Saying__Z (Or.inl (Or.inl rfl)) q1048 q1050 q1056 q1049 q102 q1059 rfl ⟨Nat.le_of_ble_eq_true rfl, Nat.le_of_ble_eq_true rfl⟩ (congrArg va_rf hq) rfl (by decide) dX1_isEnd_174⟩, (List.forall_mem_cons.mpr ⟨⟨Nat.le_of_ble_eq_true rfl, xw_rU (owner := "CrossingWords$Saying") (x := ⟨"CrossingWords$Saying", "isSaid", "(LCrossingWords$Saying;)Z"⟩) hE (ct_X6_isSaid v33 v3) xD_CrossingWords_Saying_isSaid__LCrossingWords_Saying__Z (Or.inl (Or.inl rfl)) q1048 q1050 q1058 q1049 q102 q1059 rfl ⟨Nat.le_of_ble_eq_true rfl, Nat.le_of_ble_eq_true rfl⟩ (congrArg va_rf hq) rfl (by decide) dX1_isEnd_174⟩, (List.forall_mem_cons.mpr ⟨⟨Nat.le_of_ble_eq_true rfl, xw_rU (owner := "CrossingWords$Saying") (x := ⟨"CrossingWords$Saying", "isSaid", "(LCrossingWords$Saying;)Z"⟩) hE (ct_X6_isSaid v33 v3) xD_CrossingWords_Saying_isSaid__LCrossingWords_Saying__Z (Or.inl (Or.inl rfl)) q1048 q1050 q1053 q1049 q102 q1059 rfl ⟨Nat.le_of_ble_eq_true rfl, Nat.le_of_ble_eq_true rfl⟩ (congrArg va_rf hq) rfl (by decide) dX1_isEnd_174⟩, (List.forall_mem_cons.mpr ⟨⟨Nat.le_of_ble_eq_true rfl, xw_rU (owner := "CrossingWords$Saying") (x := ⟨"CrossingWords$Saying", "isSaid", "(LCrossingWords$Saying;)Z"⟩) hE (ct_X6_isSaid v33 v3) xD_CrossingWords_Saying_isSaid__LCrossingWords_Saying__Z (Or.inl (Or.inl rfl)) q1048 q1050 q1055 q1049 q102 q1059 rfl ⟨Nat.le_of_ble_eq_true rfl, Nat.le_of_ble_eq_true rfl⟩ (congrArg va_rf hq) rfl (by decide) dX1_isEnd_174⟩, (List.forall_mem_cons.mpr ⟨⟨Nat.le_of_ble_eq_true rfl, xw_rU (owner := "CrossingWords$Saying") (x := ⟨"CrossingWords$Saying", "isSaid", "(LCrossingWords$Saying;)Z"⟩) hE (ct_X6_isSaid v33 v3) xD_CrossingWords_Saying_isSaid__LCrossingWords_Saying__Z (Or.inl (Or.inl rfl)) q1048 q1050 q1052 q1049 q102 q1059 rfl ⟨Nat.le_of_ble_eq_true rfl, Nat.le_of_ble_eq_true rfl⟩ (congrArg va_rf hq) rfl (by decide) dX1_isEnd_174⟩, (List.forall_mem_cons.mpr ⟨⟨Nat.le_of_ble_eq_true rfl, xw_rU (owner := "CrossingWords$Saying") (x := ⟨"CrossingWords$Saying", "isSaid", "(LCrossingWords$Saying;)Z"⟩) hE (ct_X6_isSaid v33 v3) xD_CrossingWords_Saying_isSaid__LCrossingWords_Saying__Z (Or.inl (Or.inl rfl)) q1048 q1050 q1054 q1049 q102 q1059 rfl ⟨Nat.le_of_ble_eq_true rfl, Nat.le_of_ble_eq_true rfl⟩ (congrArg va_rf hq) rfl (by decide) dX1_isEnd_174⟩, (List.forall_mem_cons.mpr ⟨⟨Nat.le_of_ble_eq_true rfl, xw_rU (owner := "CrossingWords$Saying") (x := ⟨"CrossingWords$Saying", "isSaid", "(LCrossingWords$Saying;)Z"⟩) hE (ct_X6_isSaid v33 v3) xD_CrossingWords_Saying_isSaid__LCrossingWords_Saying__Z (Or.inl (Or.inl rfl)) q1048 q1050 q1057 q1049 q102 q1059 rfl ⟨Nat.le_of_ble_eq_true rfl, Nat.le_of_ble_eq_true rfl⟩ (congrArg va_rf hq) rfl (by decide) dX1_isEnd_174⟩, (fun _ h => absurd h List.not_mem_nil)⟩)⟩)⟩)⟩)⟩)⟩)⟩)⟩))) rfl (fun v32 => ?_)
                        refine x_if_eq 202 180 hE dX1_isEnd_177 (by decide) rfl ?_ ?_
                        · refine x_iinc 205 [(5, .int (v26 + 1)), (7, .int v31), (0, va_rf (some v1)), (1, va_rf v2), (2, va_rf v3), (3, .int v6), (4, .int v19), (6, va_rf v30)] hE dX1_isEnd_202 rfl 6 rfl xc_i_1 (Nat.le_of_ble_eq_true rfl) rfl ?_
                          refine x_goto 113 hE dX1_isEnd_205 (by decide) ?_
                          refine x_sub [(0, va_rf (some v1)), (1, va_rf v2), (2, va_rf v3), (3, .int v6), (4, .int v19), (5, .int (v26 + 1))] [2, 3, 4, 5, 6, 0] rfl ?_
                          exact hc5 (v26 + 1)
                        · refine x_aload_n 181 hE dX1_isEnd_180 rfl 1 rfl ?_
                          refine x_aload 183 hE dX1_isEnd_181 rfl 7 rfl ?_
                          refine x_iload 185 hE dX1_isEnd_183 rfl 5 rfl ?_
                          refine x_calli 188 (xw_goV hE (c := 1) (by decide) (fun v35 hq => xw_rV hE (ct_X1_hour v35 v30 v19) xd_X1_hour rfl q1046 q954 q955 q96 q956 rfl ⟨Nat.le_of_ble_eq_true rfl, Nat.le_of_ble_eq_true rfl⟩ (congrArg va_rf hq) rfl (by decide) dX1_isEnd_185)) rfl (fun v34 => ?_)
                          refine x_aload_n 189 hE dX1_isEnd_188 rfl 1 rfl ?_
                          refine x_gR 192 hE (xw_lk0 hE xkf_CrossingWords_Run_22) rfl dX1_isEnd_189 rfl (fun v36 => ?_)
                          refine x_aload_n 193 hE dX1_isEnd_192 rfl 3 rfl ?_
                          refine x_gI 196 hE (xw_lk0 hE xkf_CrossingWords_Run_85) rfl dX1_isEnd_193 rfl (fun v37 => ?_)
                          refine x_ldI 197 hE dX1_isEnd_196 rfl (fun v38 => ?_)
                          refine x_icmp_ne 202 200 hE dX1_isEnd_197 (by decide) rfl ?_ ?_
                          · refine x_iconst 201 hE dX1_isEnd_200 rfl xc_i_0 ?_
                            refine hx5 _ _ _ _ ?_
                            exact x_zretw hE (by decide) dX1_isEnd_201
                          · refine x_iinc 205 [(5, .int (v26 + 1)), (7, .int v31), (0, va_rf (some v1)), (1, va_rf v2), (2, va_rf v3), (3, .int v6), (4, .int v19), (6, va_rf v30)] hE dX1_isEnd_202 rfl 6 rfl xc_i_1 (Nat.le_of_ble_eq_true rfl) rfl ?_
                            refine x_goto 113 hE dX1_isEnd_205 (by decide) ?_
                            refine x_sub [(0, va_rf (some v1)), (1, va_rf v2), (2, va_rf v3), (3, .int v6), (4, .int v19), (5, .int (v26 + 1))] [2, 3, 4, 5, 6, 0] rfl ?_
                            exact hc5 (v26 + 1)
                    · refine x_if_eq 155 138 hE dX1_isEnd_135 (by decide) rfl ?_ ?_
                      · refine x_aload 157 hE dX1_isEnd_155 rfl 0 rfl ?_
                        refine x_aload_n 158 hE dX1_isEnd_157 rfl 1 rfl ?_
                        refine x_gR 161 hE (xw_lk0 hE xkf_CrossingWords_Run_92) rfl dX1_isEnd_158 rfl (fun v39 => ?_)
                        refine x_calli 164 (xw_goD hE (fun v41 hq => (List.forall_mem_cons.mpr ⟨⟨Nat.le_of_ble_eq_true rfl, xw_rU (owner := "CrossingWords$Saying") (x := ⟨"CrossingWords$Saying", "isNo", "(LCrossingWords$Rules;)Z"⟩) hE (ct_X6_isNo v41 v39) xD_CrossingWords_Saying_isNo__LCrossingWords_Rules__Z (Or.inl (Or.inl rfl)) q1066 q1068 q1069 q1067 q102 q1081 rfl ⟨Nat.le_of_ble_eq_true rfl, Nat.le_of_ble_eq_true rfl⟩ (congrArg va_rf hq) rfl (by decide) dX1_isEnd_161⟩, (List.forall_mem_cons.mpr ⟨⟨Nat.le_of_ble_eq_true rfl, xw_rU (owner := "CrossingWords$Saying") (x := ⟨"CrossingWords$Saying", "isNo", "(LCrossingWords$Rules;)Z"⟩) hE (ct_X6_isNo v41 v39) xD_CrossingWords_Saying_isNo__LCrossingWords_Rules__Z (Or.inl (Or.inl rfl)) q1066 q1068 q1078 q1067 q102 q1081 rfl ⟨Nat.le_of_ble_eq_true rfl, Nat.le_of_ble_eq_true rfl⟩ (congrArg va_rf hq) rfl (by decide) dX1_isEnd_161⟩, (List.forall_mem_cons.mpr ⟨⟨Nat.le_of_ble_eq_true rfl, xw_rU (owner := "CrossingWords$Saying") (x := ⟨"CrossingWords$Saying", "isNo", "(LCrossingWords$Rules;)Z"⟩) hE (ct_X6_isNo v41 v39) xD_CrossingWords_Saying_isNo__LCrossingWords_Rules__Z (Or.inl (Or.inl rfl)) q1066 q1068 q1080 q1067 q102 q1081 rfl ⟨Nat.le_of_ble_eq_true rfl, Nat.le_of_ble_eq_true rfl⟩ (congrArg va_rf hq) rfl (by decide) dX1_isEnd_161⟩, (List.forall_mem_cons.mpr ⟨⟨Nat.le_of_ble_eq_true rfl, xw_rU (owner := "CrossingWords$Saying") (x := ⟨"CrossingWords$Saying", "isNo", "(LCrossingWords$Rules;)Z"⟩) hE (ct_X11_isNo v41 v39) xD_CrossingWords_Saying_isNo__LCrossingWords_Rules__Z (Or.inl (Or.inr ⟨_, _, _, q1067, q1081⟩)) q1066 q1068 q1071 q1072 q107 q1073 rfl ⟨Nat.le_of_ble_eq_true rfl, Nat.le_of_ble_eq_true rfl⟩ (congrArg va_rf hq) rfl (by decide) dX1_isEnd_161⟩, (List.forall_mem_cons.mpr ⟨⟨Nat.le_of_ble_eq_true rfl, xw_rU (owner := "CrossingWords$Saying") (x := ⟨"CrossingWords$Saying", "isNo", "(LCrossingWords$Rules;)Z"⟩) hE (ct_X12_isNo v41 v39) xD_CrossingWords_Saying_isNo__LCrossingWords_Rules__Z (Or.inl (Or.inr ⟨_, _, _, q1067, q1081⟩)) q1066 q1068 q1075 q1076 q108 q1077 rfl ⟨Nat.le_of_ble_eq_true rfl, Nat.le_of_ble_eq_true rfl⟩ (congrArg va_rf hq) rfl (by decide) dX1_isEnd_161⟩, (List.forall_mem_cons.mpr ⟨⟨Nat.le_of_ble_eq_true rfl, xw_rU (owner := "CrossingWords$Saying") (x := ⟨"CrossingWords$Saying", "isNo", "(LCrossingWords$Rules;)Z"⟩) hE (ct_X6_isNo v41 v39) xD_CrossingWords_Saying_isNo__LCrossingWords_Rules__Z (Or.inl (Or.inl rfl)) q1066 q1068 q1070 q1067 q102 q1081 rfl ⟨Nat.le_of_ble_eq_true rfl, Nat.le_of_ble_eq_true rfl⟩ (congrArg va_rf hq) rfl (by decide) dX1_isEnd_161⟩, (List.forall_mem_cons.mpr ⟨⟨Nat.le_of_ble_eq_true rfl, xw_rU (owner := "CrossingWords$Saying") (x := ⟨"CrossingWords$Saying", "isNo", "(LCrossingWords$Rules;)Z"⟩) hE (ct_X6_isNo v41 v39) xD_CrossingWords_Saying_isNo__LCrossingWords_Rules__Z (Or.inl (Or.inl rfl)) q1066 q1068 q1074 q1067 q102 q1081 rfl ⟨Nat.le_of_ble_eq_true rfl, Nat.le_of_ble_eq_true rfl⟩ (congrArg va_rf hq) rfl (by decide) dX1_isEnd_161⟩, (List.forall_mem_cons.mpr ⟨⟨Nat.le_of_ble_eq_true rfl, xw_rU (owner := "CrossingWords$Saying") (x := ⟨"CrossingWords$Saying", "isNo", "(LCrossingWords$Rules;)Z"⟩) hE (ct_X6_isNo v41 v39) xD_CrossingWords_Saying_isNo__LCrossingWords_Rules__Z (Or.inl (Or.inl rfl)) q1066 q1068 q1079 q1067 q102 q1081 rfl ⟨Nat.le_of_ble_eq_true rfl, Nat.le_of_ble_eq_true rfl⟩ (congrArg va_rf hq) rfl (by decide) dX1_isEnd_161⟩, (fun _ h => absurd h List.not_mem_nil)⟩)⟩)⟩)⟩)⟩)⟩)⟩)⟩))) rfl (fun v40 => ?_)
                        refine x_sub [(0, va_rf (some v1)), (1, va_rf v2), (2, va_rf v3), (3, .int v6), (4, .int v19), (5, .int v26), (6, va_rf v30)] [1, 2, 3, 4, 5, 6, 0] rfl ?_
                        exact hJ6 v40
                      · refine x_aload 140 hE dX1_isEnd_138 rfl 0 rfl ?_
                        refine x_calli 143 (xw_goD hE (fun v43 hq => (List.forall_mem_cons.mpr ⟨⟨Nat.le_of_ble_eq_true rfl, xw_rU (owner := "CrossingWords$Saying") (x := ⟨"CrossingWords$Saying", "kind", "()I"⟩) hE (ct_X7_kind v43) xD_CrossingWords_Saying_kind___I (Or.inr xkd_CrossingWords_Sayingkind_) q1047 q535 q536 q537 q103 q538 rfl ⟨Nat.le_of_ble_eq_true rfl, Nat.le_of_ble_eq_true rfl⟩ (congrArg va_rf hq) rfl (by decide) dX1_isEnd_140⟩, (List.forall_mem_cons.mpr ⟨⟨Nat.le_of_ble_eq_true rfl, xw_rU (owner := "CrossingWords$Saying") (x := ⟨"CrossingWords$Saying", "kind", "()I"⟩) hE (ct_X8_kind v43) xD_CrossingWords_Saying_kind___I (Or.inr xkd_CrossingWords_Sayingkind_) q1047 q535 q551 q552 q104 q553 rfl ⟨Nat.le_of_ble_eq_true rfl, Nat.le_of_ble_eq_true rfl⟩ (congrArg va_rf hq) rfl (by decide) dX1_isEnd_140⟩, (List.forall_mem_cons.mpr ⟨⟨Nat.le_of_ble_eq_true rfl, xw_rU (owner := "CrossingWords$Saying") (x := ⟨"CrossingWords$Saying", "kind", "()I"⟩) hE (ct_X10_kind v43) xD_CrossingWords_Saying_kind___I (Or.inr xkd_CrossingWords_Sayingkind_) q1047 q535 q557 q558 q106 q559 rfl ⟨Nat.le_of_ble_eq_true rfl, Nat.le_of_ble_eq_true rfl⟩ (congrArg va_rf hq) rfl (by decide) dX1_isEnd_140⟩, (List.forall_mem_cons.mpr ⟨⟨Nat.le_of_ble_eq_true rfl, xw_rU (owner := "CrossingWords$Saying") (x := ⟨"CrossingWords$Saying", "kind", "()I"⟩) hE (ct_X11_kind v43) xD_CrossingWords_Saying_kind___I (Or.inr xkd_CrossingWords_Sayingkind_) q1047 q535 q542 q543 q107 q544 rfl ⟨Nat.le_of_ble_eq_true rfl, Nat.le_of_ble_eq_true rfl⟩ (congrArg va_rf hq) rfl (by decide) dX1_isEnd_140⟩, (List.forall_mem_cons.mpr ⟨⟨Nat.le_of_ble_eq_true rfl, xw_rU (owner := "CrossingWords$Saying") (x := ⟨"CrossingWords$Saying", "kind", "()I"⟩) hE (ct_X12_kind v43) xD_CrossingWords_Saying_kind___I (Or.inr xkd_CrossingWords_Sayingkind_) q1047 q535 q548 q549 q108 q550 rfl ⟨Nat.le_of_ble_eq_true rfl, Nat.le_of_ble_eq_true rfl⟩ (congrArg va_rf hq) rfl (by decide) dX1_isEnd_140⟩, (List.forall_mem_cons.mpr ⟨⟨Nat.le_of_ble_eq_true rfl, xw_rU (owner := "CrossingWords$Saying") (x := ⟨"CrossingWords$Saying", "kind", "()I"⟩) hE (ct_X13_kind v43) xD_CrossingWords_Saying_kind___I (Or.inr xkd_CrossingWords_Sayingkind_) q1047 q535 q539 q540 q109 q541 rfl ⟨Nat.le_of_ble_eq_true rfl, Nat.le_of_ble_eq_true rfl⟩ (congrArg va_rf hq) rfl (by decide) dX1_isEnd_140⟩, (List.forall_mem_cons.mpr ⟨⟨Nat.le_of_ble_eq_true rfl, xw_rU (owner := "CrossingWords$Saying") (x := ⟨"CrossingWords$Saying", "kind", "()I"⟩) hE (ct_X14_kind v43) xD_CrossingWords_Saying_kind___I (Or.inr xkd_CrossingWords_Sayingkind_) q1047 q535 q545 q546 q110 q547 rfl ⟨Nat.le_of_ble_eq_true rfl, Nat.le_of_ble_eq_true rfl⟩ (congrArg va_rf hq) rfl (by decide) dX1_isEnd_140⟩, (List.forall_mem_cons.mpr ⟨⟨Nat.le_of_ble_eq_true rfl, xw_rU (owner := "CrossingWords$Saying") (x := ⟨"CrossingWords$Saying", "kind", "()I"⟩) hE (ct_X15_kind v43) xD_CrossingWords_Saying_kind___I (Or.inr xkd_CrossingWords_Sayingkind_) q1047 q535 q554 q555 q111 q556 rfl ⟨Nat.le_of_ble_eq_true rfl, Nat.le_of_ble_eq_true rfl⟩ (congrArg va_rf hq) rfl (by decide) dX1_isEnd_140⟩, (fun _ h => absurd h List.not_mem_nil)⟩)⟩)⟩)⟩)⟩)⟩)⟩)⟩))) rfl (fun v42 => ?_)
                        refine x_iconst 144 hE dX1_isEnd_143 rfl xc_i_5 ?_
                        refine x_icmp_ne 151 147 hE dX1_isEnd_144 (by decide) rfl ?_ ?_
                        · refine x_iconst 148 hE dX1_isEnd_147 rfl xc_i_1 ?_
                          refine x_goto 164 hE dX1_isEnd_148 (by decide) ?_
                          refine x_sub [(0, va_rf (some v1)), (1, va_rf v2), (2, va_rf v3), (3, .int v6), (4, .int v19), (5, .int v26), (6, va_rf v30)] [1, 2, 3, 4, 5, 6, 0] rfl ?_
                          exact hJ6 1
                        · refine x_iconst 152 hE dX1_isEnd_151 rfl xc_i_0 ?_
                          refine x_goto 164 hE dX1_isEnd_152 (by decide) ?_
                          refine x_sub [(0, va_rf (some v1)), (1, va_rf v2), (2, va_rf v3), (3, .int v6), (4, .int v19), (5, .int v26), (6, va_rf v30)] [1, 2, 3, 4, 5, 6, 0] rfl ?_
                          exact hJ6 0
                · refine x_iconst 109 hE dX1_isEnd_108 rfl xc_i_0 ?_
                  exact x_zretw hE (by decide) dX1_isEnd_109
              · refine x_if_eq 83 79 hE dX1_isEnd_76 (by decide) rfl ?_ ?_
                · refine x_iconst 84 hE dX1_isEnd_83 rfl xc_i_5 ?_
                  refine x_sub [(0, va_rf (some v1)), (1, va_rf v2), (2, va_rf v3), (3, .int v6)] [0, 1, 2, 3] rfl ?_
                  exact hJ4 5
                · refine x_iconst 80 hE dX1_isEnd_79 rfl xc_i_4 ?_
                  refine x_goto 84 hE dX1_isEnd_80 (by decide) ?_
                  refine x_sub [(0, va_rf (some v1)), (1, va_rf v2), (2, va_rf v3), (3, .int v6)] [0, 1, 2, 3] rfl ?_
                  exact hJ4 4
            · refine x_if_ne 71 58 hE dX1_isEnd_55 (by decide) rfl ?_ ?_
              · refine x_aload_n 59 hE dX1_isEnd_58 rfl 1 rfl ?_
                refine x_aload_n 60 hE dX1_isEnd_59 rfl 0 rfl ?_
                refine x_gR 63 hE (xw_lk0 hE xkf_CrossingWords_Run_92) rfl dX1_isEnd_60 rfl (fun v44 => ?_)
                refine x_calli 66 (xw_goD hE (fun v46 hq => (List.forall_mem_cons.mpr ⟨⟨Nat.le_of_ble_eq_true rfl, xw_rU (owner := "CrossingWords$Saying") (x := ⟨"CrossingWords$Saying", "isNo", "(LCrossingWords$Rules;)Z"⟩) hE (ct_X6_isNo v46 v44) xD_CrossingWords_Saying_isNo__LCrossingWords_Rules__Z (Or.inl (Or.inl rfl)) q1066 q1068 q1069 q1067 q102 q1081 rfl ⟨Nat.le_of_ble_eq_true rfl, Nat.le_of_ble_eq_true rfl⟩ (congrArg va_rf hq) rfl (by decide) dX1_isEnd_63⟩, (List.forall_mem_cons.mpr ⟨⟨Nat.le_of_ble_eq_true rfl, xw_rU (owner := "CrossingWords$Saying") (x := ⟨"CrossingWords$Saying", "isNo", "(LCrossingWords$Rules;)Z"⟩) hE (ct_X6_isNo v46 v44) xD_CrossingWords_Saying_isNo__LCrossingWords_Rules__Z (Or.inl (Or.inl rfl)) q1066 q1068 q1078 q1067 q102 q1081 rfl ⟨Nat.le_of_ble_eq_true rfl, Nat.le_of_ble_eq_true rfl⟩ (congrArg va_rf hq) rfl (by decide) dX1_isEnd_63⟩, (List.forall_mem_cons.mpr ⟨⟨Nat.le_of_ble_eq_true rfl, xw_rU (owner := "CrossingWords$Saying") (x := ⟨"CrossingWords$Saying", "isNo", "(LCrossingWords$Rules;)Z"⟩) hE (ct_X6_isNo v46 v44) xD_CrossingWords_Saying_isNo__LCrossingWords_Rules__Z (Or.inl (Or.inl rfl)) q1066 q1068 q1080 q1067 q102 q1081 rfl ⟨Nat.le_of_ble_eq_true rfl, Nat.le_of_ble_eq_true rfl⟩ (congrArg va_rf hq) rfl (by decide) dX1_isEnd_63⟩, (List.forall_mem_cons.mpr ⟨⟨Nat.le_of_ble_eq_true rfl, xw_rU (owner := "CrossingWords$Saying") (x := ⟨"CrossingWords$Saying", "isNo", "(LCrossingWords$Rules;)Z"⟩) hE (ct_X11_isNo v46 v44) xD_CrossingWords_Saying_isNo__LCrossingWords_Rules__Z (Or.inl (Or.inr ⟨_, _, _, q1067, q1081⟩)) q1066 q1068 q1071 q1072 q107 q1073 rfl ⟨Nat.le_of_ble_eq_true rfl, Nat.le_of_ble_eq_true rfl⟩ (congrArg va_rf hq) rfl (by decide) dX1_isEnd_63⟩, (List.forall_mem_cons.mpr ⟨⟨Nat.le_of_ble_eq_true rfl, xw_rU (owner := "CrossingWords$Saying") (x := ⟨"CrossingWords$Saying", "isNo", "(LCrossingWords$Rules;)Z"⟩) hE (ct_X12_isNo v46 v44) xD_CrossingWords_Saying_isNo__LCrossingWords_Rules__Z (Or.inl (Or.inr ⟨_, _, _, q1067, q1081⟩)) q1066 q1068 q1075 q1076 q108 q1077 rfl ⟨Nat.le_of_ble_eq_true rfl, Nat.le_of_ble_eq_true rfl⟩ (congrArg va_rf hq) rfl (by decide) dX1_isEnd_63⟩, (List.forall_mem_cons.mpr ⟨⟨Nat.le_of_ble_eq_true rfl, xw_rU (owner := "CrossingWords$Saying") (x := ⟨"CrossingWords$Saying", "isNo", "(LCrossingWords$Rules;)Z"⟩) hE (ct_X6_isNo v46 v44) xD_CrossingWords_Saying_isNo__LCrossingWords_Rules__Z (Or.inl (Or.inl rfl)) q1066 q1068 q1070 q1067 q102 q1081 rfl ⟨Nat.le_of_ble_eq_true rfl, Nat.le_of_ble_eq_true rfl⟩ (congrArg va_rf hq) rfl (by decide) dX1_isEnd_63⟩, (List.forall_mem_cons.mpr ⟨⟨Nat.le_of_ble_eq_true rfl, xw_rU (owner := "CrossingWords$Saying") (x := ⟨"CrossingWords$Saying", "isNo", "(LCrossingWords$Rules;)Z"⟩) hE (ct_X6_isNo v46 v44) xD_CrossingWords_Saying_isNo__LCrossingWords_Rules__Z (Or.inl (Or.inl rfl)) q1066 q1068 q1074 q1067 q102 q1081 rfl ⟨Nat.le_of_ble_eq_true rfl, Nat.le_of_ble_eq_true rfl⟩ (congrArg va_rf hq) rfl (by decide) dX1_isEnd_63⟩, (List.forall_mem_cons.mpr ⟨⟨Nat.le_of_ble_eq_true rfl, xw_rU (owner := "CrossingWords$Saying") (x := ⟨"CrossingWords$Saying", "isNo", "(LCrossingWords$Rules;)Z"⟩) hE (ct_X6_isNo v46 v44) xD_CrossingWords_Saying_isNo__LCrossingWords_Rules__Z (Or.inl (Or.inl rfl)) q1066 q1068 q1079 q1067 q102 q1081 rfl ⟨Nat.le_of_ble_eq_true rfl, Nat.le_of_ble_eq_true rfl⟩ (congrArg va_rf hq) rfl (by decide) dX1_isEnd_63⟩, (fun _ h => absurd h List.not_mem_nil)⟩)⟩)⟩)⟩)⟩)⟩)⟩)⟩))) rfl (fun v45 => ?_)
                refine x_if_ne 71 69 hE dX1_isEnd_66 (by decide) rfl ?_ ?_
                · refine x_iconst 70 hE dX1_isEnd_69 rfl xc_i_0 ?_
                  exact x_zretw hE (by decide) dX1_isEnd_70
                · refine x_sub [(0, va_rf (some v1)), (1, va_rf v2), (2, va_rf v3), (3, .int v6)] [0, 1, 2, 3] rfl ?_
                  exact hJ3 ()
              · refine x_sub [(0, va_rf (some v1)), (1, va_rf v2), (2, va_rf v3), (3, .int v6)] [0, 1, 2, 3] rfl ?_
                exact hJ3 ()
          · refine x_iconst 70 hE dX1_isEnd_69 rfl xc_i_0 ?_
            exact x_zretw hE (by decide) dX1_isEnd_70
        · refine x_if_eq 50 46 hE dX1_isEnd_43 (by decide) rfl ?_ ?_
          · refine x_iconst 51 hE dX1_isEnd_50 rfl xc_i_2 ?_
            refine x_sub [(0, va_rf (some v1)), (1, va_rf v2), (2, va_rf v3), (3, .int v6)] [1, 2, 3, 0] rfl ?_
            exact hJ2 2
          · refine x_iconst 47 hE dX1_isEnd_46 rfl xc_i_1 ?_
            refine x_goto 51 hE dX1_isEnd_47 (by decide) ?_
            refine x_sub [(0, va_rf (some v1)), (1, va_rf v2), (2, va_rf v3), (3, .int v6)] [1, 2, 3, 0] rfl ?_
            exact hJ2 1
  · refine x_icmp_ne 12 8 hE dX1_isEnd_5 (by decide) rfl ?_ ?_
    · refine x_iconst 9 hE dX1_isEnd_8 rfl xc_i_1 ?_
      refine x_goto 13 hE dX1_isEnd_9 (by decide) ?_
      refine x_sub [(0, va_rf (some v1)), (1, va_rf v2), (2, va_rf v3)] [0, 1, 2] rfl ?_
      exact hJ1 1
    · refine x_iconst 13 hE dX1_isEnd_12 rfl xc_i_0 ?_
      refine x_sub [(0, va_rf (some v1)), (1, va_rf v2), (2, va_rf v3)] [0, 1, 2] rfl ?_
      exact hJ1 0

set_option maxHeartbeats 4000000 in
theorem ct_X1_does {l : Launch} {G : xw_G} {μ : xw_Mu} (v1 : Nat) (v2 : Option Nat) : xw_Ct l G (xw_hc G μ) xw_oi yX1_does cX1_does 5 (some (.int)) 5 [va_rf (some v1), va_rf v2] (pg_X1_does v1 v2) := by
  refine xw_metL [(0, va_rf (some v1)), (1, va_rf v2)] (by decide) (Nat.le_trans (Nat.le_of_eq ((xw_l1 rfl).trans (congrArg (1 + ·) ((xw_l1 (x_rfc _)).trans (congrArg (1 + ·) xw_l0))))) (by decide)) ((xw_a1 rfl).trans (congrArg (List.cons _) ((xw_a1 (x_rfc _)).trans (congrArg (List.cons _) xw_a0)))) (fun E hE hl hG hm => ?_)
  subst hl; subst hG
  have hE : xw_ok E "CrossingWords$Run" cX1_does 5 (some (.int)) 5 := hE
  unfold pg_X1_does
  refine x_aload_n 1 hE dX1_does_0 rfl 1 rfl ?_
  refine x_aload_n 2 hE dX1_does_1 rfl 0 rfl ?_
  refine x_gR 5 hE (xw_lk0 hE xkf_CrossingWords_Run_92) rfl dX1_does_2 rfl (fun v3 => ?_)
  refine x_calli 8 (xw_goD hE (fun v5 hq => (List.forall_mem_cons.mpr ⟨⟨Nat.le_of_ble_eq_true rfl, xw_rU (owner := "CrossingWords$Saying") (x := ⟨"CrossingWords$Saying", "isOffer", "(LCrossingWords$Rules;)Z"⟩) hE (ct_X6_isOffer v5 v3) xD_CrossingWords_Saying_isOffer__LCrossingWords_Rules__Z (Or.inl (Or.inl rfl)) q1008 q1010 q1011 q1009 q102 q1031 rfl ⟨Nat.le_of_ble_eq_true rfl, Nat.le_of_ble_eq_true rfl⟩ (congrArg va_rf hq) rfl (by decide) dX1_does_5⟩, (List.forall_mem_cons.mpr ⟨⟨Nat.le_of_ble_eq_true rfl, xw_rU (owner := "CrossingWords$Saying") (x := ⟨"CrossingWords$Saying", "isOffer", "(LCrossingWords$Rules;)Z"⟩) hE (ct_X8_isOffer v5 v3) xD_CrossingWords_Saying_isOffer__LCrossingWords_Rules__Z (Or.inl (Or.inr ⟨_, _, _, q1009, q1031⟩)) q1008 q1010 q1026 q1027 q104 q1028 rfl ⟨Nat.le_of_ble_eq_true rfl, Nat.le_of_ble_eq_true rfl⟩ (congrArg va_rf hq) rfl (by decide) dX1_does_5⟩, (List.forall_mem_cons.mpr ⟨⟨Nat.le_of_ble_eq_true rfl, xw_rU (owner := "CrossingWords$Saying") (x := ⟨"CrossingWords$Saying", "isOffer", "(LCrossingWords$Rules;)Z"⟩) hE (ct_X6_isOffer v5 v3) xD_CrossingWords_Saying_isOffer__LCrossingWords_Rules__Z (Or.inl (Or.inl rfl)) q1008 q1010 q1030 q1009 q102 q1031 rfl ⟨Nat.le_of_ble_eq_true rfl, Nat.le_of_ble_eq_true rfl⟩ (congrArg va_rf hq) rfl (by decide) dX1_does_5⟩, (List.forall_mem_cons.mpr ⟨⟨Nat.le_of_ble_eq_true rfl, xw_rU (owner := "CrossingWords$Saying") (x := ⟨"CrossingWords$Saying", "isOffer", "(LCrossingWords$Rules;)Z"⟩) hE (ct_X11_isOffer v5 v3) xD_CrossingWords_Saying_isOffer__LCrossingWords_Rules__Z (Or.inl (Or.inr ⟨_, _, _, q1009, q1031⟩)) q1008 q1010 q1013 q1014 q107 q1015 rfl ⟨Nat.le_of_ble_eq_true rfl, Nat.le_of_ble_eq_true rfl⟩ (congrArg va_rf hq) rfl (by decide) dX1_does_5⟩, (List.forall_mem_cons.mpr ⟨⟨Nat.le_of_ble_eq_true rfl, xw_rU (owner := "CrossingWords$Saying") (x := ⟨"CrossingWords$Saying", "isOffer", "(LCrossingWords$Rules;)Z"⟩) hE (ct_X6_isOffer v5 v3) xD_CrossingWords_Saying_isOffer__LCrossingWords_Rules__Z (Or.inl (Or.inl rfl)) q1008 q1010 q1025 q1009 q102 q1031 rfl ⟨Nat.le_of_ble_eq_true rfl, Nat.le_of_ble_eq_true rfl⟩ (congrArg va_rf hq) rfl (by decide) dX1_does_5⟩, (List.forall_mem_cons.mpr ⟨⟨Nat.le_of_ble_eq_true rfl, xw_rU (owner := "CrossingWords$Saying") (x := ⟨"CrossingWords$Saying", "isOffer", "(LCrossingWords$Rules;)Z"⟩) hE (ct_X6_isOffer v5 v3) xD_CrossingWords_Saying_isOffer__LCrossingWords_Rules__Z (Or.inl (Or.inl rfl)) q1008 q1010 q1012 q1009 q102 q1031 rfl ⟨Nat.le_of_ble_eq_true rfl, Nat.le_of_ble_eq_true rfl⟩ (congrArg va_rf hq) rfl (by decide) dX1_does_5⟩, (List.forall_mem_cons.mpr ⟨⟨Nat.le_of_ble_eq_true rfl, xw_rU (owner := "CrossingWords$Saying") (x := ⟨"CrossingWords$Saying", "isOffer", "(LCrossingWords$Rules;)Z"⟩) hE (ct_X6_isOffer v5 v3) xD_CrossingWords_Saying_isOffer__LCrossingWords_Rules__Z (Or.inl (Or.inl rfl)) q1008 q1010 q1024 q1009 q102 q1031 rfl ⟨Nat.le_of_ble_eq_true rfl, Nat.le_of_ble_eq_true rfl⟩ (congrArg va_rf hq) rfl (by decide) dX1_does_5⟩, (List.forall_mem_cons.mpr ⟨⟨Nat.le_of_ble_eq_true rfl, xw_rU (owner := "CrossingWords$Saying") (x := ⟨"CrossingWords$Saying", "isOffer", "(LCrossingWords$Rules;)Z"⟩) hE (ct_X6_isOffer v5 v3) xD_CrossingWords_Saying_isOffer__LCrossingWords_Rules__Z (Or.inl (Or.inl rfl)) q1008 q1010 q1029 q1009 q102 q1031 rfl ⟨Nat.le_of_ble_eq_true rfl, Nat.le_of_ble_eq_true rfl⟩ (congrArg va_rf hq) rfl (by decide) dX1_does_5⟩, (fun _ h => absurd h List.not_mem_nil)⟩)⟩)⟩)⟩)⟩)⟩)⟩)⟩))) rfl (fun v4 => ?_)
  refine x_sq 31 (fun (v6 : Int32) => [(0, va_rf (some v1)), (1, va_rf v2)]) (fun (v6 : Int32) => [.int v6]) (fun v6 => ?_) (fun J1 hJ1 => ?_)
  · refine x_istore_n 32 [(2, .int v6), (0, va_rf (some v1)), (1, va_rf v2)] hE dX1_does_31 rfl rfl (Nat.le_of_ble_eq_true rfl) (congrArg (List.cons _) (xw_f1 (by decide) rfl (xw_f1 (by decide) (x_rfc _) xw_f0))) ?_
    refine x_aload_n 33 hE dX1_does_32 rfl 2 rfl ?_
    refine x_callr 36 (xw_goD hE (fun v8 hq => (List.forall_mem_cons.mpr ⟨⟨Nat.le_of_ble_eq_true rfl, xw_rU (owner := "CrossingWords$Saying") (x := ⟨"CrossingWords$Saying", "said", "()LCrossingWords$Saying;"⟩) hE (ct_X6_said v8) xD_CrossingWords_Saying_said___LCrossingWords_Saying_ (Or.inl (Or.inl rfl)) q1108 q870 q871 q869 q102 q879 rfl ⟨Nat.le_of_ble_eq_true rfl, Nat.le_of_ble_eq_true rfl⟩ (congrArg va_rf hq) rfl (by decide) dX1_does_33⟩, (List.forall_mem_cons.mpr ⟨⟨Nat.le_of_ble_eq_true rfl, xw_rU (owner := "CrossingWords$Saying") (x := ⟨"CrossingWords$Saying", "said", "()LCrossingWords$Saying;"⟩) hE (ct_X6_said v8) xD_CrossingWords_Saying_said___LCrossingWords_Saying_ (Or.inl (Or.inl rfl)) q1108 q870 q876 q869 q102 q879 rfl ⟨Nat.le_of_ble_eq_true rfl, Nat.le_of_ble_eq_true rfl⟩ (congrArg va_rf hq) rfl (by decide) dX1_does_33⟩, (List.forall_mem_cons.mpr ⟨⟨Nat.le_of_ble_eq_true rfl, xw_rU (owner := "CrossingWords$Saying") (x := ⟨"CrossingWords$Saying", "said", "()LCrossingWords$Saying;"⟩) hE (ct_X9_said v8) xD_CrossingWords_Saying_said___LCrossingWords_Saying_ (Or.inl (Or.inr ⟨_, _, _, q869, q879⟩)) q1108 q870 q878 q574 q105 q575 rfl ⟨Nat.le_of_ble_eq_true rfl, Nat.le_of_ble_eq_true rfl⟩ (congrArg va_rf hq) rfl (by decide) dX1_does_33⟩, (List.forall_mem_cons.mpr ⟨⟨Nat.le_of_ble_eq_true rfl, xw_rU (owner := "CrossingWords$Saying") (x := ⟨"CrossingWords$Saying", "said", "()LCrossingWords$Saying;"⟩) hE (ct_X9_said v8) xD_CrossingWords_Saying_said___LCrossingWords_Saying_ (Or.inl (Or.inr ⟨_, _, _, q869, q879⟩)) q1108 q870 q873 q574 q105 q575 rfl ⟨Nat.le_of_ble_eq_true rfl, Nat.le_of_ble_eq_true rfl⟩ (congrArg va_rf hq) rfl (by decide) dX1_does_33⟩, (List.forall_mem_cons.mpr ⟨⟨Nat.le_of_ble_eq_true rfl, xw_rU (owner := "CrossingWords$Saying") (x := ⟨"CrossingWords$Saying", "said", "()LCrossingWords$Saying;"⟩) hE (ct_X9_said v8) xD_CrossingWords_Saying_said___LCrossingWords_Saying_ (Or.inl (Or.inr ⟨_, _, _, q869, q879⟩)) q1108 q870 q875 q574 q105 q575 rfl ⟨Nat.le_of_ble_eq_true rfl, Nat.le_of_ble_eq_true rfl⟩ (congrArg va_rf hq) rfl (by decide) dX1_does_33⟩, (List.forall_mem_cons.mpr ⟨⟨Nat.le_of_ble_eq_true rfl, xw_rU (owner := "CrossingWords$Saying") (x := ⟨"CrossingWords$Saying", "said", "()LCrossingWords$Saying;"⟩) hE (ct_X9_said v8) xD_CrossingWords_Saying_said___LCrossingWords_Saying_ (Or.inl (Or.inr ⟨_, _, _, q869, q879⟩)) q1108 q870 q872 q574 q105 q575 rfl ⟨Nat.le_of_ble_eq_true rfl, Nat.le_of_ble_eq_true rfl⟩ (congrArg va_rf hq) rfl (by decide) dX1_does_33⟩, (List.forall_mem_cons.mpr ⟨⟨Nat.le_of_ble_eq_true rfl, xw_rU (owner := "CrossingWords$Saying") (x := ⟨"CrossingWords$Saying", "said", "()LCrossingWords$Saying;"⟩) hE (ct_X9_said v8) xD_CrossingWords_Saying_said___LCrossingWords_Saying_ (Or.inl (Or.inr ⟨_, _, _, q869, q879⟩)) q1108 q870 q874 q574 q105 q575 rfl ⟨Nat.le_of_ble_eq_true rfl, Nat.le_of_ble_eq_true rfl⟩ (congrArg va_rf hq) rfl (by decide) dX1_does_33⟩, (List.forall_mem_cons.mpr ⟨⟨Nat.le_of_ble_eq_true rfl, xw_rU (owner := "CrossingWords$Saying") (x := ⟨"CrossingWords$Saying", "said", "()LCrossingWords$Saying;"⟩) hE (ct_X9_said v8) xD_CrossingWords_Saying_said___LCrossingWords_Saying_ (Or.inl (Or.inr ⟨_, _, _, q869, q879⟩)) q1108 q870 q877 q574 q105 q575 rfl ⟨Nat.le_of_ble_eq_true rfl, Nat.le_of_ble_eq_true rfl⟩ (congrArg va_rf hq) rfl (by decide) dX1_does_33⟩, (fun _ h => absurd h List.not_mem_nil)⟩)⟩)⟩)⟩)⟩)⟩)⟩)⟩))) rfl (fun v7 => ?_)
    refine x_astore_n 37 [(3, va_rf v7), (2, .int v6), (0, va_rf (some v1)), (1, va_rf v2)] hE dX1_does_36 rfl rfl (Nat.le_of_ble_eq_true rfl) rfl ?_
    refine x_aload_n 38 hE dX1_does_37 rfl 0 rfl ?_
    refine x_ifnonnull 43 41 hE dX1_does_38 (by decide) rfl ?_ ?_
    · refine x_iload_n 42 hE dX1_does_41 rfl 1 rfl ?_
      exact x_iret hE dX1_does_42
    · refine x_aload_n 44 hE dX1_does_43 rfl 2 rfl ?_
      refine x_aload_n 45 hE dX1_does_44 rfl 3 rfl ?_
      refine x_aload_n 46 hE dX1_does_45 rfl 0 rfl ?_
      refine x_calli 49 (xw_goV hE (c := 1) (by decide) (fun v10 hq => xw_rV hE (ct_X1_isEnd v10 v2 v7) xd_X1_isEnd rfl q1186 q1188 qs26 q96 q1189 rfl ⟨Nat.le_of_ble_eq_true rfl, Nat.le_of_ble_eq_true rfl⟩ (congrArg va_rf hq) rfl (by decide) dX1_does_46)) rfl (fun v9 => ?_)
      refine x_sq 56 (fun (v11 : Int32) => [(0, va_rf (some v1)), (1, va_rf v2), (2, .int v11), (3, va_rf v7)]) (fun (v11 : Int32) => []) (fun v11 => ?_) (fun J2 hJ2 => ?_)
      · refine x_aload_n 57 hE dX1_does_56 rfl 0 rfl ?_
        refine x_calli 60 (xw_goV hE (c := 1) (by decide) (fun v13 hq => xw_rV hE (ct_X1_isBargain v13) xd_X1_isBargain rfl q1190 q1042 q1043 q96 q1044 rfl ⟨Nat.le_of_ble_eq_true rfl, Nat.le_of_ble_eq_true rfl⟩ (congrArg va_rf hq) rfl (by decide) dX1_does_57)) rfl (fun v12 => ?_)
        refine x_sq 78 (fun (v14 : Int32) => [(0, va_rf (some v1)), (1, va_rf v2), (2, .int v14), (3, va_rf v7)]) (fun (v14 : Int32) => []) (fun v14 => ?_) (fun J3 hJ3 => ?_)
        · refine x_aload_n 79 hE dX1_does_78 rfl 3 rfl ?_
          refine x_aload_n 80 hE dX1_does_79 rfl 0 rfl ?_
          refine x_gR 83 hE (xw_lk0 hE xkf_CrossingWords_Run_92) rfl dX1_does_80 rfl (fun v15 => ?_)
          refine x_calli 86 (xw_goD hE (fun v17 hq => (List.forall_mem_cons.mpr ⟨⟨Nat.le_of_ble_eq_true rfl, xw_rU (owner := "CrossingWords$Saying") (x := ⟨"CrossingWords$Saying", "isYes", "(LCrossingWords$Rules;)Z"⟩) hE (ct_X6_isYes v17 v15) xD_CrossingWords_Saying_isYes__LCrossingWords_Rules__Z (Or.inl (Or.inl rfl)) q1082 q1084 q1085 q1083 q102 q1103 rfl ⟨Nat.le_of_ble_eq_true rfl, Nat.le_of_ble_eq_true rfl⟩ (congrArg va_rf hq) rfl (by decide) dX1_does_83⟩, (List.forall_mem_cons.mpr ⟨⟨Nat.le_of_ble_eq_true rfl, xw_rU (owner := "CrossingWords$Saying") (x := ⟨"CrossingWords$Saying", "isYes", "(LCrossingWords$Rules;)Z"⟩) hE (ct_X6_isYes v17 v15) xD_CrossingWords_Saying_isYes__LCrossingWords_Rules__Z (Or.inl (Or.inl rfl)) q1082 q1084 q1098 q1083 q102 q1103 rfl ⟨Nat.le_of_ble_eq_true rfl, Nat.le_of_ble_eq_true rfl⟩ (congrArg va_rf hq) rfl (by decide) dX1_does_83⟩, (List.forall_mem_cons.mpr ⟨⟨Nat.le_of_ble_eq_true rfl, xw_rU (owner := "CrossingWords$Saying") (x := ⟨"CrossingWords$Saying", "isYes", "(LCrossingWords$Rules;)Z"⟩) hE (ct_X10_isYes v17 v15) xD_CrossingWords_Saying_isYes__LCrossingWords_Rules__Z (Or.inl (Or.inr ⟨_, _, _, q1083, q1103⟩)) q1082 q1084 q1100 q1101 q106 q1102 rfl ⟨Nat.le_of_ble_eq_true rfl, Nat.le_of_ble_eq_true rfl⟩ (congrArg va_rf hq) rfl (by decide) dX1_does_83⟩, (List.forall_mem_cons.mpr ⟨⟨Nat.le_of_ble_eq_true rfl, xw_rU (owner := "CrossingWords$Saying") (x := ⟨"CrossingWords$Saying", "isYes", "(LCrossingWords$Rules;)Z"⟩) hE (ct_X11_isYes v17 v15) xD_CrossingWords_Saying_isYes__LCrossingWords_Rules__Z (Or.inl (Or.inr ⟨_, _, _, q1083, q1103⟩)) q1082 q1084 q1087 q1088 q107 q1089 rfl ⟨Nat.le_of_ble_eq_true rfl, Nat.le_of_ble_eq_true rfl⟩ (congrArg va_rf hq) rfl (by decide) dX1_does_83⟩, (List.forall_mem_cons.mpr ⟨⟨Nat.le_of_ble_eq_true rfl, xw_rU (owner := "CrossingWords$Saying") (x := ⟨"CrossingWords$Saying", "isYes", "(LCrossingWords$Rules;)Z"⟩) hE (ct_X6_isYes v17 v15) xD_CrossingWords_Saying_isYes__LCrossingWords_Rules__Z (Or.inl (Or.inl rfl)) q1082 q1084 q1097 q1083 q102 q1103 rfl ⟨Nat.le_of_ble_eq_true rfl, Nat.le_of_ble_eq_true rfl⟩ (congrArg va_rf hq) rfl (by decide) dX1_does_83⟩, (List.forall_mem_cons.mpr ⟨⟨Nat.le_of_ble_eq_true rfl, xw_rU (owner := "CrossingWords$Saying") (x := ⟨"CrossingWords$Saying", "isYes", "(LCrossingWords$Rules;)Z"⟩) hE (ct_X6_isYes v17 v15) xD_CrossingWords_Saying_isYes__LCrossingWords_Rules__Z (Or.inl (Or.inl rfl)) q1082 q1084 q1086 q1083 q102 q1103 rfl ⟨Nat.le_of_ble_eq_true rfl, Nat.le_of_ble_eq_true rfl⟩ (congrArg va_rf hq) rfl (by decide) dX1_does_83⟩, (List.forall_mem_cons.mpr ⟨⟨Nat.le_of_ble_eq_true rfl, xw_rU (owner := "CrossingWords$Saying") (x := ⟨"CrossingWords$Saying", "isYes", "(LCrossingWords$Rules;)Z"⟩) hE (ct_X14_isYes v17 v15) xD_CrossingWords_Saying_isYes__LCrossingWords_Rules__Z (Or.inl (Or.inr ⟨_, _, _, q1083, q1103⟩)) q1082 q1084 q1090 q1091 q110 q1092 rfl ⟨Nat.le_of_ble_eq_true rfl, Nat.le_of_ble_eq_true rfl⟩ (congrArg va_rf hq) rfl (by decide) dX1_does_83⟩, (List.forall_mem_cons.mpr ⟨⟨Nat.le_of_ble_eq_true rfl, xw_rU (owner := "CrossingWords$Saying") (x := ⟨"CrossingWords$Saying", "isYes", "(LCrossingWords$Rules;)Z"⟩) hE (ct_X6_isYes v17 v15) xD_CrossingWords_Saying_isYes__LCrossingWords_Rules__Z (Or.inl (Or.inl rfl)) q1082 q1084 q1099 q1083 q102 q1103 rfl ⟨Nat.le_of_ble_eq_true rfl, Nat.le_of_ble_eq_true rfl⟩ (congrArg va_rf hq) rfl (by decide) dX1_does_83⟩, (fun _ h => absurd h List.not_mem_nil)⟩)⟩)⟩)⟩)⟩)⟩)⟩)⟩))) rfl (fun v16 => ?_)
          refine x_sq 108 (fun (v18 : Int32) => [(0, va_rf (some v1)), (1, va_rf v2), (2, .int v14)]) (fun (v18 : Int32) => [.int v18]) (fun v18 => ?_) (fun J4 hJ4 => ?_)
          · refine x_istore 110 [(4, .int v18), (0, va_rf (some v1)), (1, va_rf v2), (2, .int v14)] hE dX1_does_108 rfl (Nat.le_of_ble_eq_true rfl) rfl ?_
            refine x_aload_n 111 hE dX1_does_110 rfl 2 rfl ?_
            refine x_calli 114 (xw_goD hE (fun v20 hq => (List.forall_mem_cons.mpr ⟨⟨Nat.le_of_ble_eq_true rfl, xw_rU (owner := "CrossingWords$Saying") (x := ⟨"CrossingWords$Saying", "kind", "()I"⟩) hE (ct_X7_kind v20) xD_CrossingWords_Saying_kind___I (Or.inr xkd_CrossingWords_Sayingkind_) q1047 q535 q536 q537 q103 q538 rfl ⟨Nat.le_of_ble_eq_true rfl, Nat.le_of_ble_eq_true rfl⟩ (congrArg va_rf hq) rfl (by decide) dX1_does_111⟩, (List.forall_mem_cons.mpr ⟨⟨Nat.le_of_ble_eq_true rfl, xw_rU (owner := "CrossingWords$Saying") (x := ⟨"CrossingWords$Saying", "kind", "()I"⟩) hE (ct_X8_kind v20) xD_CrossingWords_Saying_kind___I (Or.inr xkd_CrossingWords_Sayingkind_) q1047 q535 q551 q552 q104 q553 rfl ⟨Nat.le_of_ble_eq_true rfl, Nat.le_of_ble_eq_true rfl⟩ (congrArg va_rf hq) rfl (by decide) dX1_does_111⟩, (List.forall_mem_cons.mpr ⟨⟨Nat.le_of_ble_eq_true rfl, xw_rU (owner := "CrossingWords$Saying") (x := ⟨"CrossingWords$Saying", "kind", "()I"⟩) hE (ct_X10_kind v20) xD_CrossingWords_Saying_kind___I (Or.inr xkd_CrossingWords_Sayingkind_) q1047 q535 q557 q558 q106 q559 rfl ⟨Nat.le_of_ble_eq_true rfl, Nat.le_of_ble_eq_true rfl⟩ (congrArg va_rf hq) rfl (by decide) dX1_does_111⟩, (List.forall_mem_cons.mpr ⟨⟨Nat.le_of_ble_eq_true rfl, xw_rU (owner := "CrossingWords$Saying") (x := ⟨"CrossingWords$Saying", "kind", "()I"⟩) hE (ct_X11_kind v20) xD_CrossingWords_Saying_kind___I (Or.inr xkd_CrossingWords_Sayingkind_) q1047 q535 q542 q543 q107 q544 rfl ⟨Nat.le_of_ble_eq_true rfl, Nat.le_of_ble_eq_true rfl⟩ (congrArg va_rf hq) rfl (by decide) dX1_does_111⟩, (List.forall_mem_cons.mpr ⟨⟨Nat.le_of_ble_eq_true rfl, xw_rU (owner := "CrossingWords$Saying") (x := ⟨"CrossingWords$Saying", "kind", "()I"⟩) hE (ct_X12_kind v20) xD_CrossingWords_Saying_kind___I (Or.inr xkd_CrossingWords_Sayingkind_) q1047 q535 q548 q549 q108 q550 rfl ⟨Nat.le_of_ble_eq_true rfl, Nat.le_of_ble_eq_true rfl⟩ (congrArg va_rf hq) rfl (by decide) dX1_does_111⟩, (List.forall_mem_cons.mpr ⟨⟨Nat.le_of_ble_eq_true rfl, xw_rU (owner := "CrossingWords$Saying") (x := ⟨"CrossingWords$Saying", "kind", "()I"⟩) hE (ct_X13_kind v20) xD_CrossingWords_Saying_kind___I (Or.inr xkd_CrossingWords_Sayingkind_) q1047 q535 q539 q540 q109 q541 rfl ⟨Nat.le_of_ble_eq_true rfl, Nat.le_of_ble_eq_true rfl⟩ (congrArg va_rf hq) rfl (by decide) dX1_does_111⟩, (List.forall_mem_cons.mpr ⟨⟨Nat.le_of_ble_eq_true rfl, xw_rU (owner := "CrossingWords$Saying") (x := ⟨"CrossingWords$Saying", "kind", "()I"⟩) hE (ct_X14_kind v20) xD_CrossingWords_Saying_kind___I (Or.inr xkd_CrossingWords_Sayingkind_) q1047 q535 q545 q546 q110 q547 rfl ⟨Nat.le_of_ble_eq_true rfl, Nat.le_of_ble_eq_true rfl⟩ (congrArg va_rf hq) rfl (by decide) dX1_does_111⟩, (List.forall_mem_cons.mpr ⟨⟨Nat.le_of_ble_eq_true rfl, xw_rU (owner := "CrossingWords$Saying") (x := ⟨"CrossingWords$Saying", "kind", "()I"⟩) hE (ct_X15_kind v20) xD_CrossingWords_Saying_kind___I (Or.inr xkd_CrossingWords_Sayingkind_) q1047 q535 q554 q555 q111 q556 rfl ⟨Nat.le_of_ble_eq_true rfl, Nat.le_of_ble_eq_true rfl⟩ (congrArg va_rf hq) rfl (by decide) dX1_does_111⟩, (fun _ h => absurd h List.not_mem_nil)⟩)⟩)⟩)⟩)⟩)⟩)⟩)⟩))) rfl (fun v19 => ?_)
            refine x_iconst 115 hE dX1_does_114 rfl xc_i_5 ?_
            refine x_icmp_ne 149 118 hE dX1_does_115 (by decide) rfl ?_ ?_
            · refine x_iload 120 hE dX1_does_118 rfl 0 rfl ?_
              refine x_sipush 123 hE dX1_does_120 rfl xc_s_9999 ?_
              refine x_icmp_eq 149 126 hE dX1_does_123 (by decide) rfl ?_ ?_
              · refine x_iload_n 150 hE dX1_does_149 rfl 3 rfl ?_
                exact x_iret hE dX1_does_150
              · refine x_aload_n 127 hE dX1_does_126 rfl 1 rfl ?_
                refine x_aload_n 128 hE dX1_does_127 rfl 2 rfl ?_
                refine x_aload_n 129 hE dX1_does_128 rfl 1 rfl ?_
                refine x_gR 132 hE (xw_lk0 hE xkf_CrossingWords_Run_92) rfl dX1_does_129 rfl (fun v21 => ?_)
                refine x_iconst 133 hE dX1_does_132 rfl xc_i_4 ?_
                refine x_calli 136 (xw_goV hE (c := 17) (by decide) (fun v23 hq => xw_rV hE (ct_X20_at v23 4) xd_X20_at rfl q1045 q988 q989 q116 q990 rfl ⟨Nat.le_of_ble_eq_true rfl, Nat.le_of_ble_eq_true rfl⟩ (congrArg va_rf hq) rfl (Nat.le_trans (xw_sm1 (x_rfc _) (xw_sm1 rfl xw_sm0)) (by decide)) dX1_does_133)) rfl (fun v22 => ?_)
                refine x_calli 139 (xw_goV hE (c := 1) (by decide) (fun v25 hq => xw_rV hE (ct_X1_hour v25 v2 v22) xd_X1_hour rfl q1046 q954 q955 q96 q956 rfl ⟨Nat.le_of_ble_eq_true rfl, Nat.le_of_ble_eq_true rfl⟩ (congrArg va_rf hq) rfl (by decide) dX1_does_136)) rfl (fun v24 => ?_)
                refine x_iload 141 hE dX1_does_139 rfl 0 rfl ?_
                refine x_icmp_ge 149 144 hE dX1_does_141 (by decide) rfl ?_ ?_
                · refine x_iload_n 150 hE dX1_does_149 rfl 3 rfl ?_
                  exact x_iret hE dX1_does_150
                · refine x_iload_n 145 hE dX1_does_144 rfl 3 rfl ?_
                  refine x_bipush 147 hE dX1_does_145 rfl xc_b_8 ?_
                  refine x_ior 148 hE dX1_does_147 rfl ?_
                  refine x_lti (fun v26 => ?_)
                  refine x_istore_n 149 [(2, .int v26), (4, .int v18), (0, va_rf (some v1)), (1, va_rf v2)] hE dX1_does_148 rfl rfl (Nat.le_of_ble_eq_true rfl) (congrArg (List.cons _) (xw_f1 (by decide) rfl (xw_f1 (by decide) rfl (xw_f1 (by decide) (x_rfc _) (xw_f2 xw_f0))))) ?_
                  refine x_iload_n 150 hE dX1_does_149 rfl 0 rfl ?_
                  exact x_iret hE dX1_does_150
            · refine x_iload_n 150 hE dX1_does_149 rfl 3 rfl ?_
              exact x_iret hE dX1_does_150
          · refine x_if_eq 105 89 hE dX1_does_86 (by decide) rfl ?_ ?_
            · refine x_sipush 108 hE dX1_does_105 rfl xc_s_9999 ?_
              refine x_sub [(0, va_rf (some v1)), (1, va_rf v2), (2, .int v14)] [0, 1, 2] rfl ?_
              exact hJ4 9999
            · refine x_aload_n 90 hE dX1_does_89 rfl 0 rfl ?_
              refine x_aload_n 91 hE dX1_does_90 rfl 3 rfl ?_
              refine x_aload_n 92 hE dX1_does_91 rfl 0 rfl ?_
              refine x_gR 95 hE (xw_lk0 hE xkf_CrossingWords_Run_92) rfl dX1_does_92 rfl (fun v27 => ?_)
              refine x_aload_n 96 hE dX1_does_95 rfl 3 rfl ?_
              refine x_calli 99 (xw_goV hE (c := 17) (by decide) (fun v29 hq => xw_rV hE (ct_X20_yesWhen v29 v7) xd_X20_yesWhen rfl q1109 q1110 q1111 q116 q1112 rfl ⟨Nat.le_of_ble_eq_true rfl, Nat.le_of_ble_eq_true rfl⟩ (congrArg va_rf hq) rfl (Nat.le_trans (xw_sm1 (x_rfc _) (xw_sm1 rfl xw_sm0)) (by decide)) dX1_does_96)) rfl (fun v28 => ?_)
              refine x_calli 102 (xw_goV hE (c := 1) (by decide) (fun v31 hq => xw_rV hE (ct_X1_hour v31 v7 v28) xd_X1_hour rfl q1046 q954 q955 q96 q956 rfl ⟨Nat.le_of_ble_eq_true rfl, Nat.le_of_ble_eq_true rfl⟩ (congrArg va_rf hq) rfl (by decide) dX1_does_99)) rfl (fun v30 => ?_)
              refine x_goto 108 hE dX1_does_102 (by decide) ?_
              refine x_sub [(0, va_rf (some v1)), (1, va_rf v2), (2, .int v14)] [0, 1, 2] rfl ?_
              exact hJ4 v30
        · refine x_if_eq 78 63 hE dX1_does_60 (by decide) rfl ?_ ?_
          · refine x_sub [(0, va_rf (some v1)), (1, va_rf v2), (2, .int v11), (3, va_rf v7)] [0, 1, 2, 3] rfl ?_
            exact hJ3 v11
          · refine x_aload_n 64 hE dX1_does_63 rfl 0 rfl ?_
            refine x_gI 67 hE (xw_lk0 hE xkf_CrossingWords_Run_148) rfl dX1_does_64 rfl (fun v32 => ?_)
            refine x_aload_n 68 hE dX1_does_67 rfl 1 rfl ?_
            refine x_gI 71 hE (xw_lk0 hE xkf_CrossingWords_Run_85) rfl dX1_does_68 rfl (fun v33 => ?_)
            refine x_icmp_ne 78 74 hE dX1_does_71 (by decide) rfl ?_ ?_
            · refine x_iload_n 75 hE dX1_does_74 rfl 2 rfl ?_
              refine x_iconst 76 hE dX1_does_75 rfl xc_i_4 ?_
              refine x_ior 77 hE dX1_does_76 rfl ?_
              refine x_lti (fun v34 => ?_)
              refine x_istore_n 78 [(2, .int v34), (0, va_rf (some v1)), (1, va_rf v2), (3, va_rf v7)] hE dX1_does_77 rfl rfl (Nat.le_of_ble_eq_true rfl) (congrArg (List.cons _) (xw_f1 (by decide) rfl (xw_f1 (by decide) (x_rfc _) (xw_f2 (xw_f1 (by decide) (x_rfc _) xw_f0))))) ?_
              refine x_sub [(0, va_rf (some v1)), (1, va_rf v2), (2, .int v34), (3, va_rf v7)] [1, 2, 0, 3] rfl ?_
              exact hJ3 v34
            · refine x_sub [(0, va_rf (some v1)), (1, va_rf v2), (2, .int v11), (3, va_rf v7)] [0, 1, 2, 3] rfl ?_
              exact hJ3 v11
      · refine x_if_eq 56 52 hE dX1_does_49 (by decide) rfl ?_ ?_
        · refine x_sub [(0, va_rf (some v1)), (1, va_rf v2), (2, .int v6), (3, va_rf v7)] [2, 3, 1, 0] rfl ?_
          exact hJ2 v6
        · refine x_iload_n 53 hE dX1_does_52 rfl 1 rfl ?_
          refine x_iconst 54 hE dX1_does_53 rfl xc_i_2 ?_
          refine x_ior 55 hE dX1_does_54 rfl ?_
          refine x_lti (fun v35 => ?_)
          refine x_istore_n 56 [(2, .int v35), (3, va_rf v7), (0, va_rf (some v1)), (1, va_rf v2)] hE dX1_does_55 rfl rfl (Nat.le_of_ble_eq_true rfl) (congrArg (List.cons _) (xw_f1 (by decide) (x_rfc _) (xw_f2 (xw_f1 (by decide) rfl (xw_f1 (by decide) (x_rfc _) xw_f0))))) ?_
          refine x_sub [(0, va_rf (some v1)), (1, va_rf v2), (2, .int v35), (3, va_rf v7)] [2, 3, 0, 1] rfl ?_
          exact hJ2 v35
  · refine x_if_eq 30 11 hE dX1_does_8 (by decide) rfl ?_ ?_
    · refine x_iconst 31 hE dX1_does_30 rfl xc_i_0 ?_
      refine x_sub [(0, va_rf (some v1)), (1, va_rf v2)] [0, 1] rfl ?_
      exact hJ1 0
    · refine x_aload_n 12 hE dX1_does_11 rfl 0 rfl ?_
      refine x_gR 15 hE (xw_lk0 hE xkf_CrossingWords_Run_19) rfl dX1_does_12 rfl (fun v36 => ?_)
      refine x_aload_n 16 hE dX1_does_15 rfl 1 rfl ?_
      refine x_gI 19 hE (xw_lk0 hE xkf_CrossingWords_Run_85) rfl dX1_does_16 rfl (fun v37 => ?_)
      refine x_ldI 20 hE dX1_does_19 rfl (fun v38 => ?_)
      refine x_sipush 23 hE dX1_does_20 rfl xc_s_9999 ?_
      refine x_icmp_eq 30 26 hE dX1_does_23 (by decide) rfl ?_ ?_
      · refine x_iconst 31 hE dX1_does_30 rfl xc_i_0 ?_
        refine x_sub [(0, va_rf (some v1)), (1, va_rf v2)] [0, 1] rfl ?_
        exact hJ1 0
      · refine x_iconst 27 hE dX1_does_26 rfl xc_i_1 ?_
        refine x_goto 31 hE dX1_does_27 (by decide) ?_
        refine x_sub [(0, va_rf (some v1)), (1, va_rf v2)] [0, 1] rfl ?_
        exact hJ1 1

set_option maxHeartbeats 4000000 in
theorem ct_X0_does {l : Launch} {G : xw_G} {μ : xw_Mu} (v1 : Nat) (v2 : Int32) (v3 : Int32) (v4 : Int32) (v5 : Int32) : xw_Ct l G (xw_hc G μ) xw_oi yX0_does cX0_does 5 (some (.int)) 95 [va_rf (some v1), .int v2, .int v3, .int v4, .int v5] (pg_X0_does v1 v2 v3 v4 v5) := by
  refine xw_metL [(0, va_rf (some v1)), (1, .int v2), (2, .int v3), (3, .int v4), (4, .int v5)] (by decide) (Nat.le_trans (Nat.le_of_eq ((xw_l1 rfl).trans (congrArg (1 + ·) ((xw_l1 rfl).trans (congrArg (1 + ·) ((xw_l1 rfl).trans (congrArg (1 + ·) ((xw_l1 rfl).trans (congrArg (1 + ·) ((xw_l1 rfl).trans (congrArg (1 + ·) xw_l0))))))))))) (by decide)) ((xw_a1 rfl).trans (congrArg (List.cons _) ((xw_a1 rfl).trans (congrArg (List.cons _) ((xw_a1 rfl).trans (congrArg (List.cons _) ((xw_a1 rfl).trans (congrArg (List.cons _) ((xw_a1 rfl).trans (congrArg (List.cons _) xw_a0)))))))))) (fun E hE hl hG hm => ?_)
  subst hl; subst hG
  have hE : xw_ok E "CrossingWords" cX0_does 5 (some (.int)) 95 := hE
  unfold pg_X0_does
  refine x_aload_n 1 hE dX0_does_0 rfl 0 rfl ?_
  refine x_iload_n 2 hE dX0_does_1 rfl 1 rfl ?_
  refine x_iload_n 3 hE dX0_does_2 rfl 2 rfl ?_
  refine x_iload_n 4 hE dX0_does_3 rfl 3 rfl ?_
  refine x_calli 7 (xw_goV hE (c := 0) (by decide) (fun v7 hq => xw_rV hE (ct_X0_isRun v7 v2 v3 v4) xd_X0_isRun rfl q995 q997 qs16 q95 q998 rfl ⟨Nat.le_of_ble_eq_true rfl, Nat.le_of_ble_eq_true rfl⟩ (congrArg va_rf hq) rfl (by decide) dX0_does_4)) rfl (fun v6 => ?_)
  refine x_if_eq 64 10 hE dX0_does_7 (by decide) rfl ?_ ?_
  · refine x_bipush 66 hE dX0_does_64 rfl xc_b_m2 ?_
    exact x_iret hE dX0_does_66
  · refine x_iload 12 hE dX0_does_10 rfl 4 rfl ?_
    refine x_iconst 13 hE dX0_does_12 rfl xc_i_0 ?_
    refine x_aload_n 14 hE dX0_does_13 rfl 0 rfl ?_
    refine x_gR 17 hE (xw_lk0 hE xkf_CrossingWords_21) rfl dX0_does_14 rfl (fun v8 => ?_)
    refine x_iload_n 18 hE dX0_does_17 rfl 1 rfl ?_
    refine x_ldR 19 hE dX0_does_18 rfl (fun v9 => ?_)
    refine x_gI 22 hE (xw_lk0 hE xkf_CrossingWords_126) rfl dX0_does_19 rfl (fun v10 => ?_)
    refine x_iconst 23 hE dX0_does_22 rfl xc_i_1 ?_
    refine x_isub 24 hE dX0_does_23 rfl ?_
    refine x_calli 27 (xw_goS hE (ct_X0_isIn v5 0 (v10 - 1)) xd_X0_isIn q244 q245 q95 q246 rfl ⟨Nat.le_of_ble_eq_true rfl, Nat.le_of_ble_eq_true rfl⟩ rfl (by decide) dX0_does_24) rfl (fun v11 => ?_)
    refine x_if_eq 64 30 hE dX0_does_27 (by decide) rfl ?_ ?_
    · refine x_bipush 66 hE dX0_does_64 rfl xc_b_m2 ?_
      exact x_iret hE dX0_does_66
    · refine x_aload_n 31 hE dX0_does_30 rfl 0 rfl ?_
      refine x_aload_n 32 hE dX0_does_31 rfl 0 rfl ?_
      refine x_gR 35 hE (xw_lk0 hE xkf_CrossingWords_21) rfl dX0_does_32 rfl (fun v12 => ?_)
      refine x_iload_n 36 hE dX0_does_35 rfl 1 rfl ?_
      refine x_ldR 37 hE dX0_does_36 rfl (fun v13 => ?_)
      refine x_aload_n 38 hE dX0_does_37 rfl 0 rfl ?_
      refine x_iload_n 39 hE dX0_does_38 rfl 2 rfl ?_
      refine x_callr 42 (xw_goV hE (c := 0) (by decide) (fun v15 hq => xw_rV hE (ct_X0_rulesOf v15 v3) xd_X0_rulesOf rfl q965 q967 qs15 q95 q968 rfl ⟨Nat.le_of_ble_eq_true rfl, Nat.le_of_ble_eq_true rfl⟩ (congrArg va_rf hq) rfl (Nat.le_trans (xw_sm1 (x_rfc _) (xw_sm1 rfl xw_sm0)) (by decide)) dX0_does_39)) rfl (fun v14 => ?_)
      refine x_iload_n 43 hE dX0_does_42 rfl 3 rfl ?_
      refine x_callr 46 (xw_goV hE (c := 0) (by decide) (fun v17 hq => xw_rV hE (ct_X0_ran v17 v13 v14 v4) xd_X0_ran rfl q999 q1001 qs17 q95 q1002 rfl ⟨Nat.le_of_ble_eq_true rfl, Nat.le_of_ble_eq_true rfl⟩ (congrArg va_rf hq) rfl (by decide) dX0_does_43)) rfl (fun v16 => ?_)
      refine x_aload_n 47 hE dX0_does_46 rfl 0 rfl ?_
      refine x_gR 50 hE (xw_lk0 hE xkf_CrossingWords_21) rfl dX0_does_47 rfl (fun v18 => ?_)
      refine x_iload_n 51 hE dX0_does_50 rfl 1 rfl ?_
      refine x_ldR 52 hE dX0_does_51 rfl (fun v19 => ?_)
      refine x_gR 55 hE (xw_lk0 hE xkf_CrossingWords_143) rfl dX0_does_52 rfl (fun v20 => ?_)
      refine x_iload 57 hE dX0_does_55 rfl 4 rfl ?_
      refine x_ldR 58 hE dX0_does_57 rfl (fun v21 => ?_)
      refine x_calli 61 (xw_goV hE (c := 1) (by decide) (fun v23 hq => xw_rV hE (ct_X1_does v23 v21) xd_X1_does rfl q1182 q1183 q1184 q96 q1185 rfl ⟨Nat.le_of_ble_eq_true rfl, Nat.le_of_ble_eq_true rfl⟩ (congrArg va_rf hq) rfl (by decide) dX0_does_58)) rfl (fun v22 => ?_)
      refine x_goto 66 hE dX0_does_61 (by decide) ?_
      exact x_iret hE dX0_does_66

set_option maxHeartbeats 4000000 in
theorem ct_X0_isHand {l : Launch} {G : xw_G} {μ : xw_Mu} (v1 : Int32) : xw_Ct l G (xw_hc G μ) xw_oi yX0_isHand cX0_isHand 1 (some (.boolean)) 2 [.int v1] (pg_X0_isHand v1) := by
  refine xw_metL [(0, .int v1)] (by decide) (Nat.le_trans (Nat.le_of_eq ((xw_l1 rfl).trans (congrArg (1 + ·) xw_l0))) (by decide)) ((xw_a1 rfl).trans (congrArg (List.cons _) xw_a0)) (fun E hE hl hG hm => ?_)
  subst hl; subst hG
  have hE : xw_ok E "CrossingWords" cX0_isHand 1 (some (.boolean)) 2 := hE
  unfold pg_X0_isHand
  refine x_iload_n 1 hE dX0_isHand_0 rfl 0 rfl ?_
  refine x_iconst 2 hE dX0_isHand_1 rfl xc_i_0 ?_
  refine x_iconst 3 hE dX0_isHand_2 rfl xc_i_2 ?_
  refine x_calli 6 (xw_goS hE (ct_X0_isIn v1 0 2) xd_X0_isIn q244 q245 q95 q246 rfl ⟨Nat.le_of_ble_eq_true rfl, Nat.le_of_ble_eq_true rfl⟩ rfl (by decide) dX0_isHand_3) rfl (fun v2 => ?_)
  exact x_zretw hE rfl dX0_isHand_6

set_option maxHeartbeats 4000000 in
theorem ct_X1_can {l : Launch} {G : xw_G} {μ : xw_Mu} (v1 : Nat) (v2 : Int32) (v3 : Int32) : xw_Ct l G (xw_hc G μ) xw_oi yX1_can cX1_can 6 (some (.int)) 4 [va_rf (some v1), .int v2, .int v3] (pg_X1_can v1 v2 v3) := by
  refine xw_metL [(0, va_rf (some v1)), (1, .int v2), (2, .int v3)] (by decide) (Nat.le_trans (Nat.le_of_eq ((xw_l1 rfl).trans (congrArg (1 + ·) ((xw_l1 rfl).trans (congrArg (1 + ·) ((xw_l1 rfl).trans (congrArg (1 + ·) xw_l0))))))) (by decide)) ((xw_a1 rfl).trans (congrArg (List.cons _) ((xw_a1 rfl).trans (congrArg (List.cons _) ((xw_a1 rfl).trans (congrArg (List.cons _) xw_a0)))))) (fun E hE hl hG hm => ?_)
  subst hl; subst hG
  have hE : xw_ok E "CrossingWords$Run" cX1_can 6 (some (.int)) 4 := hE
  unfold pg_X1_can
  refine x_iconst 1 hE dX1_can_0 rfl xc_i_0 ?_
  refine x_istore_n 2 [(3, .int 0), (0, va_rf (some v1)), (1, .int v2), (2, .int v3)] hE dX1_can_1 rfl rfl (Nat.le_of_ble_eq_true rfl) rfl ?_
  refine x_iload_n 3 hE dX1_can_2 rfl 3 rfl ?_
  refine x_aload_n 4 hE dX1_can_3 rfl 1 rfl ?_
  refine x_gI 7 hE (xw_lk0 hE xkf_CrossingWords_Run_145) rfl dX1_can_4 rfl (fun v4 => ?_)
  refine x_icmp_lt 12 10 hE dX1_can_7 (by decide) rfl ?_ ?_
  · refine x_iconst 13 hE dX1_can_12 rfl xc_i_0 ?_
    refine x_istore 15 [(4, .int 0), (3, .int 0), (0, va_rf (some v1)), (1, .int v2), (2, .int v3)] hE dX1_can_13 rfl (Nat.le_of_ble_eq_true rfl) rfl ?_
    refine x_sub [(0, va_rf (some v1)), (1, .int v2), (2, .int v3), (3, .int 0), (4, .int 0)] [2, 3, 4, 1, 0] rfl ?_
    refine x_sq 137 (fun (v6 : Int32) => [(3, .int v6)]) (fun _ => []) (fun v6 => ?_) (fun J2 hJ2 => ?_)
    · refine x_iload_n 138 hE dX1_can_137 rfl 0 rfl ?_
      exact x_iret hE dX1_can_138
    · refine x_loop (fun (v5 : Int32 × Int32) => [(0, va_rf (some v1)), (1, .int v2), (2, .int v3), (3, .int v5.1), (4, .int v5.2)]) (fun JL1 hc1 hx1 v5 => ?_) _ _
      refine x_iload 17 hE dX1_can_15 rfl 4 rfl ?_
      refine x_aload_n 18 hE dX1_can_17 rfl 0 rfl ?_
      refine x_gR 21 hE (xw_lk0 hE xkf_CrossingWords_Run_31) rfl dX1_can_18 rfl (fun v7 => ?_)
      refine x_gI 24 hE (xw_lk0 hE xkf_CrossingWords_Run_51) rfl dX1_can_21 rfl (fun v8 => ?_)
      refine x_icmp_ge 137 27 hE dX1_can_24 (by decide) rfl ?_ ?_
      · refine x_sub [(3, .int v5.1)] [3] rfl ?_
        refine hx1 _ _ _ _ ?_
        exact hJ2 (v5.1)
      · refine x_aload_n 28 hE dX1_can_27 rfl 0 rfl ?_
        refine x_gR 31 hE (xw_lk0 hE xkf_CrossingWords_Run_31) rfl dX1_can_28 rfl (fun v9 => ?_)
        refine x_gR 34 hE (xw_lk0 hE xkf_CrossingWords_Run_54) rfl dX1_can_31 rfl (fun v10 => ?_)
        refine x_iload 36 hE dX1_can_34 rfl 4 rfl ?_
        refine x_ldR 37 hE dX1_can_36 rfl (fun v11 => ?_)
        refine x_astore 39 [(5, va_rf v11), (0, va_rf (some v1)), (1, .int v2), (2, .int v3), (3, .int v5.1), (4, .int v5.2)] hE dX1_can_37 rfl (Nat.le_of_ble_eq_true rfl) rfl ?_
        refine x_aload 41 hE dX1_can_39 rfl 0 rfl ?_
        refine x_aload_n 42 hE dX1_can_41 rfl 1 rfl ?_
        refine x_gR 45 hE (xw_lk0 hE xkf_CrossingWords_Run_92) rfl dX1_can_42 rfl (fun v12 => ?_)
        refine x_calli 48 (xw_goD hE (fun v14 hq => (List.forall_mem_cons.mpr ⟨⟨Nat.le_of_ble_eq_true rfl, xw_rU (owner := "CrossingWords$Saying") (x := ⟨"CrossingWords$Saying", "isOffer", "(LCrossingWords$Rules;)Z"⟩) hE (ct_X6_isOffer v14 v12) xD_CrossingWords_Saying_isOffer__LCrossingWords_Rules__Z (Or.inl (Or.inl rfl)) q1008 q1010 q1011 q1009 q102 q1031 rfl ⟨Nat.le_of_ble_eq_true rfl, Nat.le_of_ble_eq_true rfl⟩ (congrArg va_rf hq) rfl (by decide) dX1_can_45⟩, (List.forall_mem_cons.mpr ⟨⟨Nat.le_of_ble_eq_true rfl, xw_rU (owner := "CrossingWords$Saying") (x := ⟨"CrossingWords$Saying", "isOffer", "(LCrossingWords$Rules;)Z"⟩) hE (ct_X8_isOffer v14 v12) xD_CrossingWords_Saying_isOffer__LCrossingWords_Rules__Z (Or.inl (Or.inr ⟨_, _, _, q1009, q1031⟩)) q1008 q1010 q1026 q1027 q104 q1028 rfl ⟨Nat.le_of_ble_eq_true rfl, Nat.le_of_ble_eq_true rfl⟩ (congrArg va_rf hq) rfl (by decide) dX1_can_45⟩, (List.forall_mem_cons.mpr ⟨⟨Nat.le_of_ble_eq_true rfl, xw_rU (owner := "CrossingWords$Saying") (x := ⟨"CrossingWords$Saying", "isOffer", "(LCrossingWords$Rules;)Z"⟩) hE (ct_X6_isOffer v14 v12) xD_CrossingWords_Saying_isOffer__LCrossingWords_Rules__Z (Or.inl (Or.inl rfl)) q1008 q1010 q1030 q1009 q102 q1031 rfl ⟨Nat.le_of_ble_eq_true rfl, Nat.le_of_ble_eq_true rfl⟩ (congrArg va_rf hq) rfl (by decide) dX1_can_45⟩, (List.forall_mem_cons.mpr ⟨⟨Nat.le_of_ble_eq_true rfl, xw_rU (owner := "CrossingWords$Saying") (x := ⟨"CrossingWords$Saying", "isOffer", "(LCrossingWords$Rules;)Z"⟩) hE (ct_X11_isOffer v14 v12) xD_CrossingWords_Saying_isOffer__LCrossingWords_Rules__Z (Or.inl (Or.inr ⟨_, _, _, q1009, q1031⟩)) q1008 q1010 q1013 q1014 q107 q1015 rfl ⟨Nat.le_of_ble_eq_true rfl, Nat.le_of_ble_eq_true rfl⟩ (congrArg va_rf hq) rfl (by decide) dX1_can_45⟩, (List.forall_mem_cons.mpr ⟨⟨Nat.le_of_ble_eq_true rfl, xw_rU (owner := "CrossingWords$Saying") (x := ⟨"CrossingWords$Saying", "isOffer", "(LCrossingWords$Rules;)Z"⟩) hE (ct_X6_isOffer v14 v12) xD_CrossingWords_Saying_isOffer__LCrossingWords_Rules__Z (Or.inl (Or.inl rfl)) q1008 q1010 q1025 q1009 q102 q1031 rfl ⟨Nat.le_of_ble_eq_true rfl, Nat.le_of_ble_eq_true rfl⟩ (congrArg va_rf hq) rfl (by decide) dX1_can_45⟩, (List.forall_mem_cons.mpr ⟨⟨Nat.le_of_ble_eq_true rfl, xw_rU (owner := "CrossingWords$Saying") (x := ⟨"CrossingWords$Saying", "isOffer", "(LCrossingWords$Rules;)Z"⟩) hE (ct_X6_isOffer v14 v12) xD_CrossingWords_Saying_isOffer__LCrossingWords_Rules__Z (Or.inl (Or.inl rfl)) q1008 q1010 q1012 q1009 q102 q1031 rfl ⟨Nat.le_of_ble_eq_true rfl, Nat.le_of_ble_eq_true rfl⟩ (congrArg va_rf hq) rfl (by decide) dX1_can_45⟩, (List.forall_mem_cons.mpr ⟨⟨Nat.le_of_ble_eq_true rfl, xw_rU (owner := "CrossingWords$Saying") (x := ⟨"CrossingWords$Saying", "isOffer", "(LCrossingWords$Rules;)Z"⟩) hE (ct_X6_isOffer v14 v12) xD_CrossingWords_Saying_isOffer__LCrossingWords_Rules__Z (Or.inl (Or.inl rfl)) q1008 q1010 q1024 q1009 q102 q1031 rfl ⟨Nat.le_of_ble_eq_true rfl, Nat.le_of_ble_eq_true rfl⟩ (congrArg va_rf hq) rfl (by decide) dX1_can_45⟩, (List.forall_mem_cons.mpr ⟨⟨Nat.le_of_ble_eq_true rfl, xw_rU (owner := "CrossingWords$Saying") (x := ⟨"CrossingWords$Saying", "isOffer", "(LCrossingWords$Rules;)Z"⟩) hE (ct_X6_isOffer v14 v12) xD_CrossingWords_Saying_isOffer__LCrossingWords_Rules__Z (Or.inl (Or.inl rfl)) q1008 q1010 q1029 q1009 q102 q1031 rfl ⟨Nat.le_of_ble_eq_true rfl, Nat.le_of_ble_eq_true rfl⟩ (congrArg va_rf hq) rfl (by decide) dX1_can_45⟩, (fun _ h => absurd h List.not_mem_nil)⟩)⟩)⟩)⟩)⟩)⟩)⟩)⟩))) rfl (fun v13 => ?_)
        refine x_if_eq 131 51 hE dX1_can_48 (by decide) rfl ?_ ?_
        · refine x_iinc 134 [(4, .int (v5.2 + 1)), (5, va_rf v11), (0, va_rf (some v1)), (1, .int v2), (2, .int v3), (3, .int v5.1)] hE dX1_can_131 rfl 5 rfl xc_i_1 (Nat.le_of_ble_eq_true rfl) rfl ?_
          refine x_goto 15 hE dX1_can_134 (by decide) ?_
          refine x_sub [(0, va_rf (some v1)), (1, .int v2), (2, .int v3), (3, .int v5.1), (4, .int (v5.2 + 1))] [2, 3, 4, 5, 0] rfl ?_
          exact hc1 (v5.1, v5.2 + 1)
        · refine x_aload_n 52 hE dX1_can_51 rfl 1 rfl ?_
          refine x_aload 54 hE dX1_can_52 rfl 0 rfl ?_
          refine x_iload_n 55 hE dX1_can_54 rfl 3 rfl ?_
          refine x_calli 58 (xw_goV hE (c := 1) (by decide) (fun v16 hq => xw_rV hE (ct_X1_isOpen v16 v11 v3) xd_X1_isOpen rfl q1115 q1117 qs23 q96 q1118 rfl ⟨Nat.le_of_ble_eq_true rfl, Nat.le_of_ble_eq_true rfl⟩ (congrArg va_rf hq) rfl (by decide) dX1_can_55)) rfl (fun v15 => ?_)
          refine x_if_ne 64 61 hE dX1_can_58 (by decide) rfl ?_ ?_
          · refine x_goto 131 hE dX1_can_61 (by decide) ?_
            refine x_iinc 134 [(4, .int (v5.2 + 1)), (5, va_rf v11), (0, va_rf (some v1)), (1, .int v2), (2, .int v3), (3, .int v5.1)] hE dX1_can_131 rfl 5 rfl xc_i_1 (Nat.le_of_ble_eq_true rfl) rfl ?_
            refine x_goto 15 hE dX1_can_134 (by decide) ?_
            refine x_sub [(0, va_rf (some v1)), (1, .int v2), (2, .int v3), (3, .int v5.1), (4, .int (v5.2 + 1))] [2, 3, 4, 5, 0] rfl ?_
            exact hc1 (v5.1, v5.2 + 1)
          · refine x_aload 66 hE dX1_can_64 rfl 0 rfl ?_
            refine x_gI 69 hE (xw_lk0 hE xkf_CrossingWords_Run_195) rfl dX1_can_66 rfl (fun v17 => ?_)
            refine x_iload_n 70 hE dX1_can_69 rfl 2 rfl ?_
            refine x_sq 107 (fun (v18 : Int32) => [(0, va_rf (some v1)), (1, .int v2), (2, .int v3), (3, .int v18), (4, .int v5.2), (5, va_rf v11)]) (fun (v18 : Int32) => []) (fun v18 => ?_) (fun J3 hJ3 => ?_)
            · refine x_aload 109 hE dX1_can_107 rfl 5 rfl ?_
              refine x_calli 112 (xw_goD hE (fun v20 hq => (List.forall_mem_cons.mpr ⟨⟨Nat.le_of_ble_eq_true rfl, xw_rU (owner := "CrossingWords$Saying") (x := ⟨"CrossingWords$Saying", "to", "()I"⟩) hE (ct_X7_to v20) xD_CrossingWords_Saying_to___I (Or.inl (Or.inr ⟨_, _, _, q561, q583⟩)) q1202 q562 q563 q564 q103 q565 rfl ⟨Nat.le_of_ble_eq_true rfl, Nat.le_of_ble_eq_true rfl⟩ (congrArg va_rf hq) rfl (by decide) dX1_can_109⟩, (List.forall_mem_cons.mpr ⟨⟨Nat.le_of_ble_eq_true rfl, xw_rU (owner := "CrossingWords$Saying") (x := ⟨"CrossingWords$Saying", "to", "()I"⟩) hE (ct_X8_to v20) xD_CrossingWords_Saying_to___I (Or.inl (Or.inr ⟨_, _, _, q561, q583⟩)) q1202 q562 q578 q579 q104 q580 rfl ⟨Nat.le_of_ble_eq_true rfl, Nat.le_of_ble_eq_true rfl⟩ (congrArg va_rf hq) rfl (by decide) dX1_can_109⟩, (List.forall_mem_cons.mpr ⟨⟨Nat.le_of_ble_eq_true rfl, xw_rU (owner := "CrossingWords$Saying") (x := ⟨"CrossingWords$Saying", "to", "()I"⟩) hE (ct_X6_to v20) xD_CrossingWords_Saying_to___I (Or.inl (Or.inl rfl)) q1202 q562 q582 q561 q102 q583 rfl ⟨Nat.le_of_ble_eq_true rfl, Nat.le_of_ble_eq_true rfl⟩ (congrArg va_rf hq) rfl (by decide) dX1_can_109⟩, (List.forall_mem_cons.mpr ⟨⟨Nat.le_of_ble_eq_true rfl, xw_rU (owner := "CrossingWords$Saying") (x := ⟨"CrossingWords$Saying", "to", "()I"⟩) hE (ct_X11_to v20) xD_CrossingWords_Saying_to___I (Or.inl (Or.inr ⟨_, _, _, q561, q583⟩)) q1202 q562 q567 q568 q107 q569 rfl ⟨Nat.le_of_ble_eq_true rfl, Nat.le_of_ble_eq_true rfl⟩ (congrArg va_rf hq) rfl (by decide) dX1_can_109⟩, (List.forall_mem_cons.mpr ⟨⟨Nat.le_of_ble_eq_true rfl, xw_rU (owner := "CrossingWords$Saying") (x := ⟨"CrossingWords$Saying", "to", "()I"⟩) hE (ct_X6_to v20) xD_CrossingWords_Saying_to___I (Or.inl (Or.inl rfl)) q1202 q562 q577 q561 q102 q583 rfl ⟨Nat.le_of_ble_eq_true rfl, Nat.le_of_ble_eq_true rfl⟩ (congrArg va_rf hq) rfl (by decide) dX1_can_109⟩, (List.forall_mem_cons.mpr ⟨⟨Nat.le_of_ble_eq_true rfl, xw_rU (owner := "CrossingWords$Saying") (x := ⟨"CrossingWords$Saying", "to", "()I"⟩) hE (ct_X6_to v20) xD_CrossingWords_Saying_to___I (Or.inl (Or.inl rfl)) q1202 q562 q566 q561 q102 q583 rfl ⟨Nat.le_of_ble_eq_true rfl, Nat.le_of_ble_eq_true rfl⟩ (congrArg va_rf hq) rfl (by decide) dX1_can_109⟩, (List.forall_mem_cons.mpr ⟨⟨Nat.le_of_ble_eq_true rfl, xw_rU (owner := "CrossingWords$Saying") (x := ⟨"CrossingWords$Saying", "to", "()I"⟩) hE (ct_X6_to v20) xD_CrossingWords_Saying_to___I (Or.inl (Or.inl rfl)) q1202 q562 q576 q561 q102 q583 rfl ⟨Nat.le_of_ble_eq_true rfl, Nat.le_of_ble_eq_true rfl⟩ (congrArg va_rf hq) rfl (by decide) dX1_can_109⟩, (List.forall_mem_cons.mpr ⟨⟨Nat.le_of_ble_eq_true rfl, xw_rU (owner := "CrossingWords$Saying") (x := ⟨"CrossingWords$Saying", "to", "()I"⟩) hE (ct_X6_to v20) xD_CrossingWords_Saying_to___I (Or.inl (Or.inl rfl)) q1202 q562 q581 q561 q102 q583 rfl ⟨Nat.le_of_ble_eq_true rfl, Nat.le_of_ble_eq_true rfl⟩ (congrArg va_rf hq) rfl (by decide) dX1_can_109⟩, (fun _ h => absurd h List.not_mem_nil)⟩)⟩)⟩)⟩)⟩)⟩)⟩)⟩))) rfl (fun v19 => ?_)
              refine x_iload_n 113 hE dX1_can_112 rfl 1 rfl ?_
              refine x_icmp_ne 131 116 hE dX1_can_113 (by decide) rfl ?_ ?_
              · refine x_aload_n 117 hE dX1_can_116 rfl 0 rfl ?_
                refine x_aload 119 hE dX1_can_117 rfl 5 rfl ?_
                refine x_iconst 120 hE dX1_can_119 rfl xc_i_1 ?_
                refine x_calli 123 (xw_goV hE (c := 1) (by decide) (fun v22 hq => xw_rV hE (ct_X1_hour v22 v11 1) xd_X1_hour rfl q1046 q954 q955 q96 q956 rfl ⟨Nat.le_of_ble_eq_true rfl, Nat.le_of_ble_eq_true rfl⟩ (congrArg va_rf hq) rfl (by decide) dX1_can_120)) rfl (fun v21 => ?_)
                refine x_iload_n 124 hE dX1_can_123 rfl 2 rfl ?_
                refine x_icmp_gt 131 127 hE dX1_can_124 (by decide) rfl ?_ ?_
                · refine x_iinc 134 [(4, .int (v5.2 + 1)), (0, va_rf (some v1)), (1, .int v2), (2, .int v3), (3, .int v18), (5, va_rf v11)] hE dX1_can_131 rfl 4 rfl xc_i_1 (Nat.le_of_ble_eq_true rfl) rfl ?_
                  refine x_goto 15 hE dX1_can_134 (by decide) ?_
                  refine x_sub [(0, va_rf (some v1)), (1, .int v2), (2, .int v3), (3, .int v18), (4, .int (v5.2 + 1))] [1, 2, 3, 4, 0] rfl ?_
                  exact hc1 (v18, v5.2 + 1)
                · refine x_iload_n 128 hE dX1_can_127 rfl 3 rfl ?_
                  refine x_iconst 129 hE dX1_can_128 rfl xc_i_2 ?_
                  refine x_ior 130 hE dX1_can_129 rfl ?_
                  refine x_lti (fun v23 => ?_)
                  refine x_istore_n 131 [(3, .int v23), (0, va_rf (some v1)), (1, .int v2), (2, .int v3), (4, .int v5.2), (5, va_rf v11)] hE dX1_can_130 rfl rfl (Nat.le_of_ble_eq_true rfl) rfl ?_
                  refine x_iinc 134 [(4, .int (v5.2 + 1)), (3, .int v23), (0, va_rf (some v1)), (1, .int v2), (2, .int v3), (5, va_rf v11)] hE dX1_can_131 rfl 4 rfl xc_i_1 (Nat.le_of_ble_eq_true rfl) rfl ?_
                  refine x_goto 15 hE dX1_can_134 (by decide) ?_
                  refine x_sub [(0, va_rf (some v1)), (1, .int v2), (2, .int v3), (3, .int v23), (4, .int (v5.2 + 1))] [2, 3, 4, 1, 0] rfl ?_
                  exact hc1 (v23, v5.2 + 1)
              · refine x_iinc 134 [(4, .int (v5.2 + 1)), (0, va_rf (some v1)), (1, .int v2), (2, .int v3), (3, .int v18), (5, va_rf v11)] hE dX1_can_131 rfl 4 rfl xc_i_1 (Nat.le_of_ble_eq_true rfl) rfl ?_
                refine x_goto 15 hE dX1_can_134 (by decide) ?_
                refine x_sub [(0, va_rf (some v1)), (1, .int v2), (2, .int v3), (3, .int v18), (4, .int (v5.2 + 1))] [1, 2, 3, 4, 0] rfl ?_
                exact hc1 (v18, v5.2 + 1)
            · refine x_icmp_ne 107 73 hE dX1_can_70 (by decide) rfl ?_ ?_
              · refine x_aload 75 hE dX1_can_73 rfl 0 rfl ?_
                refine x_calli 78 (xw_goD hE (fun v25 hq => (List.forall_mem_cons.mpr ⟨⟨Nat.le_of_ble_eq_true rfl, xw_rU (owner := "CrossingWords$Saying") (x := ⟨"CrossingWords$Saying", "hold", "()I"⟩) hE (ct_X6_hold v25) xD_CrossingWords_Saying_hold___I (Or.inl (Or.inl rfl)) q1061 q882 q883 q881 q102 q893 rfl ⟨Nat.le_of_ble_eq_true rfl, Nat.le_of_ble_eq_true rfl⟩ (congrArg va_rf hq) rfl (by decide) dX1_can_75⟩, (List.forall_mem_cons.mpr ⟨⟨Nat.le_of_ble_eq_true rfl, xw_rU (owner := "CrossingWords$Saying") (x := ⟨"CrossingWords$Saying", "hold", "()I"⟩) hE (ct_X8_hold v25) xD_CrossingWords_Saying_hold___I (Or.inl (Or.inr ⟨_, _, _, q881, q893⟩)) q1061 q882 q888 q889 q104 q890 rfl ⟨Nat.le_of_ble_eq_true rfl, Nat.le_of_ble_eq_true rfl⟩ (congrArg va_rf hq) rfl (by decide) dX1_can_75⟩, (List.forall_mem_cons.mpr ⟨⟨Nat.le_of_ble_eq_true rfl, xw_rU (owner := "CrossingWords$Saying") (x := ⟨"CrossingWords$Saying", "hold", "()I"⟩) hE (ct_X6_hold v25) xD_CrossingWords_Saying_hold___I (Or.inl (Or.inl rfl)) q1061 q882 q892 q881 q102 q893 rfl ⟨Nat.le_of_ble_eq_true rfl, Nat.le_of_ble_eq_true rfl⟩ (congrArg va_rf hq) rfl (by decide) dX1_can_75⟩, (List.forall_mem_cons.mpr ⟨⟨Nat.le_of_ble_eq_true rfl, xw_rU (owner := "CrossingWords$Saying") (x := ⟨"CrossingWords$Saying", "hold", "()I"⟩) hE (ct_X6_hold v25) xD_CrossingWords_Saying_hold___I (Or.inl (Or.inl rfl)) q1061 q882 q885 q881 q102 q893 rfl ⟨Nat.le_of_ble_eq_true rfl, Nat.le_of_ble_eq_true rfl⟩ (congrArg va_rf hq) rfl (by decide) dX1_can_75⟩, (List.forall_mem_cons.mpr ⟨⟨Nat.le_of_ble_eq_true rfl, xw_rU (owner := "CrossingWords$Saying") (x := ⟨"CrossingWords$Saying", "hold", "()I"⟩) hE (ct_X6_hold v25) xD_CrossingWords_Saying_hold___I (Or.inl (Or.inl rfl)) q1061 q882 q887 q881 q102 q893 rfl ⟨Nat.le_of_ble_eq_true rfl, Nat.le_of_ble_eq_true rfl⟩ (congrArg va_rf hq) rfl (by decide) dX1_can_75⟩, (List.forall_mem_cons.mpr ⟨⟨Nat.le_of_ble_eq_true rfl, xw_rU (owner := "CrossingWords$Saying") (x := ⟨"CrossingWords$Saying", "hold", "()I"⟩) hE (ct_X6_hold v25) xD_CrossingWords_Saying_hold___I (Or.inl (Or.inl rfl)) q1061 q882 q884 q881 q102 q893 rfl ⟨Nat.le_of_ble_eq_true rfl, Nat.le_of_ble_eq_true rfl⟩ (congrArg va_rf hq) rfl (by decide) dX1_can_75⟩, (List.forall_mem_cons.mpr ⟨⟨Nat.le_of_ble_eq_true rfl, xw_rU (owner := "CrossingWords$Saying") (x := ⟨"CrossingWords$Saying", "hold", "()I"⟩) hE (ct_X6_hold v25) xD_CrossingWords_Saying_hold___I (Or.inl (Or.inl rfl)) q1061 q882 q886 q881 q102 q893 rfl ⟨Nat.le_of_ble_eq_true rfl, Nat.le_of_ble_eq_true rfl⟩ (congrArg va_rf hq) rfl (by decide) dX1_can_75⟩, (List.forall_mem_cons.mpr ⟨⟨Nat.le_of_ble_eq_true rfl, xw_rU (owner := "CrossingWords$Saying") (x := ⟨"CrossingWords$Saying", "hold", "()I"⟩) hE (ct_X6_hold v25) xD_CrossingWords_Saying_hold___I (Or.inl (Or.inl rfl)) q1061 q882 q891 q881 q102 q893 rfl ⟨Nat.le_of_ble_eq_true rfl, Nat.le_of_ble_eq_true rfl⟩ (congrArg va_rf hq) rfl (by decide) dX1_can_75⟩, (fun _ h => absurd h List.not_mem_nil)⟩)⟩)⟩)⟩)⟩)⟩)⟩)⟩))) rfl (fun v24 => ?_)
                refine x_iconst 79 hE dX1_can_78 rfl xc_i_m1 ?_
                refine x_icmp_eq 103 82 hE dX1_can_79 (by decide) rfl ?_ ?_
                · refine x_iload_n 104 hE dX1_can_103 rfl 4 rfl ?_
                  refine x_iconst 105 hE dX1_can_104 rfl xc_i_1 ?_
                  refine x_ior 106 hE dX1_can_105 rfl ?_
                  refine x_lti (fun v26 => ?_)
                  refine x_istore_n 107 [(3, .int v26), (5, va_rf v11), (0, va_rf (some v1)), (1, .int v2), (2, .int v3), (4, .int v5.2)] hE dX1_can_106 rfl rfl (Nat.le_of_ble_eq_true rfl) rfl ?_
                  refine x_sub [(0, va_rf (some v1)), (1, .int v2), (2, .int v3), (3, .int v26), (4, .int v5.2), (5, va_rf v11)] [2, 3, 4, 0, 5, 1] rfl ?_
                  exact hJ3 v26
                · refine x_aload_n 83 hE dX1_can_82 rfl 1 rfl ?_
                  refine x_gR 86 hE (xw_lk0 hE xkf_CrossingWords_Run_92) rfl dX1_can_83 rfl (fun v27 => ?_)
                  refine x_bipush 88 hE dX1_can_86 rfl xc_b_6 ?_
                  refine x_calli 91 (xw_goV hE (c := 17) (by decide) (fun v29 hq => xw_rV hE (ct_X20_at v29 6) xd_X20_at rfl q1045 q988 q989 q116 q990 rfl ⟨Nat.le_of_ble_eq_true rfl, Nat.le_of_ble_eq_true rfl⟩ (congrArg va_rf hq) rfl (by decide) dX1_can_88)) rfl (fun v28 => ?_)
                  refine x_if_eq 103 94 hE dX1_can_91 (by decide) rfl ?_ ?_
                  · refine x_iload_n 104 hE dX1_can_103 rfl 4 rfl ?_
                    refine x_iconst 105 hE dX1_can_104 rfl xc_i_1 ?_
                    refine x_ior 106 hE dX1_can_105 rfl ?_
                    refine x_lti (fun v30 => ?_)
                    refine x_istore_n 107 [(3, .int v30), (5, va_rf v11), (0, va_rf (some v1)), (1, .int v2), (2, .int v3), (4, .int v5.2)] hE dX1_can_106 rfl rfl (Nat.le_of_ble_eq_true rfl) rfl ?_
                    refine x_sub [(0, va_rf (some v1)), (1, .int v2), (2, .int v3), (3, .int v30), (4, .int v5.2), (5, va_rf v11)] [2, 3, 4, 0, 5, 1] rfl ?_
                    exact hJ3 v30
                  · refine x_iload_n 95 hE dX1_can_94 rfl 3 rfl ?_
                    refine x_aload 97 hE dX1_can_95 rfl 0 rfl ?_
                    refine x_calli 100 (xw_goD hE (fun v32 hq => (List.forall_mem_cons.mpr ⟨⟨Nat.le_of_ble_eq_true rfl, xw_rU (owner := "CrossingWords$Saying") (x := ⟨"CrossingWords$Saying", "hold", "()I"⟩) hE (ct_X6_hold v32) xD_CrossingWords_Saying_hold___I (Or.inl (Or.inl rfl)) q1061 q882 q883 q881 q102 q893 rfl ⟨Nat.le_of_ble_eq_true rfl, Nat.le_of_ble_eq_true rfl⟩ (congrArg va_rf hq) rfl (Nat.le_trans (xw_sm1 rfl xw_sm0) (by decide)) dX1_can_97⟩, (List.forall_mem_cons.mpr ⟨⟨Nat.le_of_ble_eq_true rfl, xw_rU (owner := "CrossingWords$Saying") (x := ⟨"CrossingWords$Saying", "hold", "()I"⟩) hE (ct_X8_hold v32) xD_CrossingWords_Saying_hold___I (Or.inl (Or.inr ⟨_, _, _, q881, q893⟩)) q1061 q882 q888 q889 q104 q890 rfl ⟨Nat.le_of_ble_eq_true rfl, Nat.le_of_ble_eq_true rfl⟩ (congrArg va_rf hq) rfl (Nat.le_trans (xw_sm1 rfl xw_sm0) (by decide)) dX1_can_97⟩, (List.forall_mem_cons.mpr ⟨⟨Nat.le_of_ble_eq_true rfl, xw_rU (owner := "CrossingWords$Saying") (x := ⟨"CrossingWords$Saying", "hold", "()I"⟩) hE (ct_X6_hold v32) xD_CrossingWords_Saying_hold___I (Or.inl (Or.inl rfl)) q1061 q882 q892 q881 q102 q893 rfl ⟨Nat.le_of_ble_eq_true rfl, Nat.le_of_ble_eq_true rfl⟩ (congrArg va_rf hq) rfl (Nat.le_trans (xw_sm1 rfl xw_sm0) (by decide)) dX1_can_97⟩, (List.forall_mem_cons.mpr ⟨⟨Nat.le_of_ble_eq_true rfl, xw_rU (owner := "CrossingWords$Saying") (x := ⟨"CrossingWords$Saying", "hold", "()I"⟩) hE (ct_X6_hold v32) xD_CrossingWords_Saying_hold___I (Or.inl (Or.inl rfl)) q1061 q882 q885 q881 q102 q893 rfl ⟨Nat.le_of_ble_eq_true rfl, Nat.le_of_ble_eq_true rfl⟩ (congrArg va_rf hq) rfl (Nat.le_trans (xw_sm1 rfl xw_sm0) (by decide)) dX1_can_97⟩, (List.forall_mem_cons.mpr ⟨⟨Nat.le_of_ble_eq_true rfl, xw_rU (owner := "CrossingWords$Saying") (x := ⟨"CrossingWords$Saying", "hold", "()I"⟩) hE (ct_X6_hold v32) xD_CrossingWords_Saying_hold___I (Or.inl (Or.inl rfl)) q1061 q882 q887 q881 q102 q893 rfl ⟨Nat.le_of_ble_eq_true rfl, Nat.le_of_ble_eq_true rfl⟩ (congrArg va_rf hq) rfl (Nat.le_trans (xw_sm1 rfl xw_sm0) (by decide)) dX1_can_97⟩, (List.forall_mem_cons.mpr ⟨⟨Nat.le_of_ble_eq_true rfl, xw_rU (owner := "CrossingWords$Saying") (x := ⟨"CrossingWords$Saying", "hold", "()I"⟩) hE (ct_X6_hold v32) xD_CrossingWords_Saying_hold___I (Or.inl (Or.inl rfl)) q1061 q882 q884 q881 q102 q893 rfl ⟨Nat.le_of_ble_eq_true rfl, Nat.le_of_ble_eq_true rfl⟩ (congrArg va_rf hq) rfl (Nat.le_trans (xw_sm1 rfl xw_sm0) (by decide)) dX1_can_97⟩, (List.forall_mem_cons.mpr ⟨⟨Nat.le_of_ble_eq_true rfl, xw_rU (owner := "CrossingWords$Saying") (x := ⟨"CrossingWords$Saying", "hold", "()I"⟩) hE (ct_X6_hold v32) xD_CrossingWords_Saying_hold___I (Or.inl (Or.inl rfl)) q1061 q882 q886 q881 q102 q893 rfl ⟨Nat.le_of_ble_eq_true rfl, Nat.le_of_ble_eq_true rfl⟩ (congrArg va_rf hq) rfl (Nat.le_trans (xw_sm1 rfl xw_sm0) (by decide)) dX1_can_97⟩, (List.forall_mem_cons.mpr ⟨⟨Nat.le_of_ble_eq_true rfl, xw_rU (owner := "CrossingWords$Saying") (x := ⟨"CrossingWords$Saying", "hold", "()I"⟩) hE (ct_X6_hold v32) xD_CrossingWords_Saying_hold___I (Or.inl (Or.inl rfl)) q1061 q882 q891 q881 q102 q893 rfl ⟨Nat.le_of_ble_eq_true rfl, Nat.le_of_ble_eq_true rfl⟩ (congrArg va_rf hq) rfl (Nat.le_trans (xw_sm1 rfl xw_sm0) (by decide)) dX1_can_97⟩, (fun _ h => absurd h List.not_mem_nil)⟩)⟩)⟩)⟩)⟩)⟩)⟩)⟩))) rfl (fun v31 => ?_)
                    refine x_icmp_le 107 103 hE dX1_can_100 (by decide) rfl ?_ ?_
                    · refine x_sub [(0, va_rf (some v1)), (1, .int v2), (2, .int v3), (3, .int v5.1), (4, .int v5.2), (5, va_rf v11)] [1, 2, 3, 4, 5, 0] rfl ?_
                      exact hJ3 (v5.1)
                    · refine x_iload_n 104 hE dX1_can_103 rfl 4 rfl ?_
                      refine x_iconst 105 hE dX1_can_104 rfl xc_i_1 ?_
                      refine x_ior 106 hE dX1_can_105 rfl ?_
                      refine x_lti (fun v33 => ?_)
                      refine x_istore_n 107 [(3, .int v33), (5, va_rf v11), (0, va_rf (some v1)), (1, .int v2), (2, .int v3), (4, .int v5.2)] hE dX1_can_106 rfl rfl (Nat.le_of_ble_eq_true rfl) rfl ?_
                      refine x_sub [(0, va_rf (some v1)), (1, .int v2), (2, .int v3), (3, .int v33), (4, .int v5.2), (5, va_rf v11)] [2, 3, 4, 0, 5, 1] rfl ?_
                      exact hJ3 v33
              · refine x_sub [(0, va_rf (some v1)), (1, .int v2), (2, .int v3), (3, .int v5.1), (4, .int v5.2), (5, va_rf v11)] [1, 2, 3, 4, 5, 0] rfl ?_
                exact hJ3 (v5.1)
  · refine x_iconst 11 hE dX1_can_10 rfl xc_i_0 ?_
    exact x_iret hE dX1_can_11

set_option maxHeartbeats 4000000 in
theorem ct_X0_can {l : Launch} {G : xw_G} {μ : xw_Mu} (v1 : Nat) (v2 : Int32) (v3 : Int32) (v4 : Int32) (v5 : Int32) (v6 : Int32) : xw_Ct l G (xw_hc G μ) xw_oi yX0_can cX0_can 6 (some (.int)) 95 [va_rf (some v1), .int v2, .int v3, .int v4, .int v5, .int v6] (pg_X0_can v1 v2 v3 v4 v5 v6) := by
  refine xw_metL [(0, va_rf (some v1)), (1, .int v2), (2, .int v3), (3, .int v4), (4, .int v5), (5, .int v6)] (by decide) (Nat.le_trans (Nat.le_of_eq ((xw_l1 rfl).trans (congrArg (1 + ·) ((xw_l1 rfl).trans (congrArg (1 + ·) ((xw_l1 rfl).trans (congrArg (1 + ·) ((xw_l1 rfl).trans (congrArg (1 + ·) ((xw_l1 rfl).trans (congrArg (1 + ·) ((xw_l1 rfl).trans (congrArg (1 + ·) xw_l0))))))))))))) (by decide)) ((xw_a1 rfl).trans (congrArg (List.cons _) ((xw_a1 rfl).trans (congrArg (List.cons _) ((xw_a1 rfl).trans (congrArg (List.cons _) ((xw_a1 rfl).trans (congrArg (List.cons _) ((xw_a1 rfl).trans (congrArg (List.cons _) ((xw_a1 rfl).trans (congrArg (List.cons _) xw_a0)))))))))))) (fun E hE hl hG hm => ?_)
  subst hl; subst hG
  have hE : xw_ok E "CrossingWords" cX0_can 6 (some (.int)) 95 := hE
  unfold pg_X0_can
  refine x_aload_n 1 hE dX0_can_0 rfl 0 rfl ?_
  refine x_iload_n 2 hE dX0_can_1 rfl 1 rfl ?_
  refine x_iload_n 3 hE dX0_can_2 rfl 2 rfl ?_
  refine x_iload_n 4 hE dX0_can_3 rfl 3 rfl ?_
  refine x_calli 7 (xw_goV hE (c := 0) (by decide) (fun v8 hq => xw_rV hE (ct_X0_isRun v8 v2 v3 v4) xd_X0_isRun rfl q995 q997 qs16 q95 q998 rfl ⟨Nat.le_of_ble_eq_true rfl, Nat.le_of_ble_eq_true rfl⟩ (congrArg va_rf hq) rfl (by decide) dX0_can_4)) rfl (fun v7 => ?_)
  refine x_if_eq 56 10 hE dX0_can_7 (by decide) rfl ?_ ?_
  · refine x_bipush 58 hE dX0_can_56 rfl xc_b_m2 ?_
    exact x_iret hE dX0_can_58
  · refine x_iload 12 hE dX0_can_10 rfl 4 rfl ?_
    refine x_calli 15 (xw_goS hE (ct_X0_isHand v5) xd_X0_isHand q1195 q1196 q95 q1197 rfl ⟨Nat.le_of_ble_eq_true rfl, Nat.le_of_ble_eq_true rfl⟩ rfl (by decide) dX0_can_12) rfl (fun v9 => ?_)
    refine x_if_eq 56 18 hE dX0_can_15 (by decide) rfl ?_ ?_
    · refine x_bipush 58 hE dX0_can_56 rfl xc_b_m2 ?_
      exact x_iret hE dX0_can_58
    · refine x_iload 20 hE dX0_can_18 rfl 5 rfl ?_
      refine x_iconst 21 hE dX0_can_20 rfl xc_i_0 ?_
      refine x_sipush 24 hE dX0_can_21 rfl xc_s_9998 ?_
      refine x_calli 27 (xw_goS hE (ct_X0_isIn v6 0 9998) xd_X0_isIn q244 q245 q95 q246 rfl ⟨Nat.le_of_ble_eq_true rfl, Nat.le_of_ble_eq_true rfl⟩ rfl (by decide) dX0_can_24) rfl (fun v10 => ?_)
      refine x_if_eq 56 30 hE dX0_can_27 (by decide) rfl ?_ ?_
      · refine x_bipush 58 hE dX0_can_56 rfl xc_b_m2 ?_
        exact x_iret hE dX0_can_58
      · refine x_aload_n 31 hE dX0_can_30 rfl 0 rfl ?_
        refine x_aload_n 32 hE dX0_can_31 rfl 0 rfl ?_
        refine x_gR 35 hE (xw_lk0 hE xkf_CrossingWords_21) rfl dX0_can_32 rfl (fun v11 => ?_)
        refine x_iload_n 36 hE dX0_can_35 rfl 1 rfl ?_
        refine x_ldR 37 hE dX0_can_36 rfl (fun v12 => ?_)
        refine x_aload_n 38 hE dX0_can_37 rfl 0 rfl ?_
        refine x_iload_n 39 hE dX0_can_38 rfl 2 rfl ?_
        refine x_callr 42 (xw_goV hE (c := 0) (by decide) (fun v14 hq => xw_rV hE (ct_X0_rulesOf v14 v3) xd_X0_rulesOf rfl q965 q967 qs15 q95 q968 rfl ⟨Nat.le_of_ble_eq_true rfl, Nat.le_of_ble_eq_true rfl⟩ (congrArg va_rf hq) rfl (Nat.le_trans (xw_sm1 (x_rfc _) (xw_sm1 rfl xw_sm0)) (by decide)) dX0_can_39)) rfl (fun v13 => ?_)
        refine x_iload_n 43 hE dX0_can_42 rfl 3 rfl ?_
        refine x_callr 46 (xw_goV hE (c := 0) (by decide) (fun v16 hq => xw_rV hE (ct_X0_ran v16 v12 v13 v4) xd_X0_ran rfl q999 q1001 qs17 q95 q1002 rfl ⟨Nat.le_of_ble_eq_true rfl, Nat.le_of_ble_eq_true rfl⟩ (congrArg va_rf hq) rfl (by decide) dX0_can_43)) rfl (fun v15 => ?_)
        refine x_iload 48 hE dX0_can_46 rfl 4 rfl ?_
        refine x_iload 50 hE dX0_can_48 rfl 5 rfl ?_
        refine x_calli 53 (xw_goV hE (c := 1) (by decide) (fun v18 hq => xw_rV hE (ct_X1_can v18 v5 v6) xd_X1_can rfl q1198 q1199 q1200 q96 q1201 rfl ⟨Nat.le_of_ble_eq_true rfl, Nat.le_of_ble_eq_true rfl⟩ (congrArg va_rf hq) rfl (by decide) dX0_can_50)) rfl (fun v17 => ?_)
        refine x_goto 58 hE dX0_can_53 (by decide) ?_
        exact x_iret hE dX0_can_58

set_option maxHeartbeats 4000000 in
theorem ct_X0_until {l : Launch} {G : xw_G} {μ : xw_Mu} (v1 : Nat) (v2 : Int32) (v3 : Int32) (v4 : Int32) (v5 : Int32) (v6 : Int32) : xw_Ct l G (xw_hc G μ) xw_oi yX0_until cX0_until 8 (some (.int)) 95 [va_rf (some v1), .int v2, .int v3, .int v4, .int v5, .int v6] (pg_X0_until v1 v2 v3 v4 v5 v6) := by
  refine xw_metL [(0, va_rf (some v1)), (1, .int v2), (2, .int v3), (3, .int v4), (4, .int v5), (5, .int v6)] (by decide) (Nat.le_trans (Nat.le_of_eq ((xw_l1 rfl).trans (congrArg (1 + ·) ((xw_l1 rfl).trans (congrArg (1 + ·) ((xw_l1 rfl).trans (congrArg (1 + ·) ((xw_l1 rfl).trans (congrArg (1 + ·) ((xw_l1 rfl).trans (congrArg (1 + ·) ((xw_l1 rfl).trans (congrArg (1 + ·) xw_l0))))))))))))) (by decide)) ((xw_a1 rfl).trans (congrArg (List.cons _) ((xw_a1 rfl).trans (congrArg (List.cons _) ((xw_a1 rfl).trans (congrArg (List.cons _) ((xw_a1 rfl).trans (congrArg (List.cons _) ((xw_a1 rfl).trans (congrArg (List.cons _) ((xw_a1 rfl).trans (congrArg (List.cons _) xw_a0)))))))))))) (fun E hE hl hG hm => ?_)
  subst hl; subst hG
  have hE : xw_ok E "CrossingWords" cX0_until 8 (some (.int)) 95 := hE
  unfold pg_X0_until
  refine x_aload_n 1 hE dX0_until_0 rfl 0 rfl ?_
  refine x_iload_n 2 hE dX0_until_1 rfl 1 rfl ?_
  refine x_iload_n 3 hE dX0_until_2 rfl 2 rfl ?_
  refine x_iload_n 4 hE dX0_until_3 rfl 3 rfl ?_
  refine x_calli 7 (xw_goV hE (c := 0) (by decide) (fun v8 hq => xw_rV hE (ct_X0_isRun v8 v2 v3 v4) xd_X0_isRun rfl q995 q997 qs16 q95 q998 rfl ⟨Nat.le_of_ble_eq_true rfl, Nat.le_of_ble_eq_true rfl⟩ (congrArg va_rf hq) rfl (by decide) dX0_until_4)) rfl (fun v7 => ?_)
  refine x_if_eq 28 10 hE dX0_until_7 (by decide) rfl ?_ ?_
  · refine x_bipush 30 hE dX0_until_28 rfl xc_b_m2 ?_
    exact x_iret hE dX0_until_30
  · refine x_iload 12 hE dX0_until_10 rfl 4 rfl ?_
    refine x_calli 15 (xw_goS hE (ct_X0_isHand v5) xd_X0_isHand q1195 q1196 q95 q1197 rfl ⟨Nat.le_of_ble_eq_true rfl, Nat.le_of_ble_eq_true rfl⟩ rfl (by decide) dX0_until_12) rfl (fun v9 => ?_)
    refine x_if_eq 28 18 hE dX0_until_15 (by decide) rfl ?_ ?_
    · refine x_bipush 30 hE dX0_until_28 rfl xc_b_m2 ?_
      exact x_iret hE dX0_until_30
    · refine x_iload 20 hE dX0_until_18 rfl 5 rfl ?_
      refine x_iconst 21 hE dX0_until_20 rfl xc_i_1 ?_
      refine x_iconst 22 hE dX0_until_21 rfl xc_i_2 ?_
      refine x_calli 25 (xw_goS hE (ct_X0_isIn v6 1 2) xd_X0_isIn q244 q245 q95 q246 rfl ⟨Nat.le_of_ble_eq_true rfl, Nat.le_of_ble_eq_true rfl⟩ rfl (by decide) dX0_until_22) rfl (fun v10 => ?_)
      refine x_if_ne 31 28 hE dX0_until_25 (by decide) rfl ?_ ?_
      · refine x_bipush 30 hE dX0_until_28 rfl xc_b_m2 ?_
        exact x_iret hE dX0_until_30
      · refine x_aload_n 32 hE dX0_until_31 rfl 0 rfl ?_
        refine x_aload_n 33 hE dX0_until_32 rfl 0 rfl ?_
        refine x_gR 36 hE (xw_lk0 hE xkf_CrossingWords_21) rfl dX0_until_33 rfl (fun v11 => ?_)
        refine x_iload_n 37 hE dX0_until_36 rfl 1 rfl ?_
        refine x_ldR 38 hE dX0_until_37 rfl (fun v12 => ?_)
        refine x_aload_n 39 hE dX0_until_38 rfl 0 rfl ?_
        refine x_iload_n 40 hE dX0_until_39 rfl 2 rfl ?_
        refine x_callr 43 (xw_goV hE (c := 0) (by decide) (fun v14 hq => xw_rV hE (ct_X0_rulesOf v14 v3) xd_X0_rulesOf rfl q965 q967 qs15 q95 q968 rfl ⟨Nat.le_of_ble_eq_true rfl, Nat.le_of_ble_eq_true rfl⟩ (congrArg va_rf hq) rfl (Nat.le_trans (xw_sm1 (x_rfc _) (xw_sm1 rfl xw_sm0)) (by decide)) dX0_until_40)) rfl (fun v13 => ?_)
        refine x_iload_n 44 hE dX0_until_43 rfl 3 rfl ?_
        refine x_callr 47 (xw_goV hE (c := 0) (by decide) (fun v16 hq => xw_rV hE (ct_X0_ran v16 v12 v13 v4) xd_X0_ran rfl q999 q1001 qs17 q95 q1002 rfl ⟨Nat.le_of_ble_eq_true rfl, Nat.le_of_ble_eq_true rfl⟩ (congrArg va_rf hq) rfl (by decide) dX0_until_44)) rfl (fun v15 => ?_)
        refine x_astore 49 [(6, va_rf v15), (0, va_rf (some v1)), (1, .int v2), (2, .int v3), (3, .int v4), (4, .int v5), (5, .int v6)] hE dX0_until_47 rfl (Nat.le_of_ble_eq_true rfl) rfl ?_
        refine x_sipush 52 hE dX0_until_49 rfl xc_s_9998 ?_
        refine x_istore 54 [(7, .int 9998), (6, va_rf v15), (0, va_rf (some v1)), (1, .int v2), (2, .int v3), (3, .int v4), (4, .int v5), (5, .int v6)] hE dX0_until_52 rfl (Nat.le_of_ble_eq_true rfl) (congrArg (List.cons _) (xw_f1 (by decide) (x_rfc _) (xw_f1 (by decide) rfl (xw_f1 (by decide) rfl (xw_f1 (by decide) rfl (xw_f1 (by decide) rfl (xw_f1 (by decide) rfl (xw_f1 (by decide) rfl xw_f0)))))))) ?_
        refine x_sub [(4, .int v5), (5, .int v6), (6, va_rf v15), (7, .int 9998)] [6, 7, 1, 0] rfl ?_
        refine x_sq 80 (fun (v18 : Int32) => [(7, .int v18)]) (fun _ => []) (fun v18 => ?_) (fun J2 hJ2 => ?_)
        · refine x_iload 82 hE dX0_until_80 rfl 0 rfl ?_
          exact x_iret hE dX0_until_82
        · refine x_loop (fun (v17 : Int32) => [(4, .int v5), (5, .int v6), (6, va_rf v15), (7, .int v17)]) (fun JL1 hc1 hx1 v17 => ?_) _ _
          refine x_iload 56 hE dX0_until_54 rfl 3 rfl ?_
          refine x_if_lt 80 59 hE dX0_until_56 (by decide) rfl ?_ ?_
          · refine x_sub [(7, .int v17)] [3] rfl ?_
            refine hx1 _ _ _ _ ?_
            exact hJ2 v17
          · refine x_aload 61 hE dX0_until_59 rfl 2 rfl ?_
            refine x_iload 63 hE dX0_until_61 rfl 0 rfl ?_
            refine x_iload 65 hE dX0_until_63 rfl 3 rfl ?_
            refine x_calli 68 (xw_goV hE (c := 1) (by decide) (fun v20 hq => xw_rV hE (ct_X1_can v20 v5 v17) xd_X1_can rfl q1198 q1199 q1200 q96 q1201 rfl ⟨Nat.le_of_ble_eq_true rfl, Nat.le_of_ble_eq_true rfl⟩ (congrArg va_rf hq) rfl (by decide) dX0_until_65)) rfl (fun v19 => ?_)
            refine x_iload 70 hE dX0_until_68 rfl 1 rfl ?_
            refine x_iand 71 hE dX0_until_70 rfl ?_
            refine x_if_ne 80 74 hE dX0_until_71 (by decide) rfl ?_ ?_
            · refine x_iinc 77 [(7, .int (v17 + (-1))), (4, .int v5), (5, .int v6), (6, va_rf v15)] hE dX0_until_74 rfl 3 rfl xc_i_m1 (Nat.le_of_ble_eq_true rfl) (congrArg (List.cons _) (xw_f1 (by decide) rfl (xw_f1 (by decide) rfl (xw_f1 (by decide) (x_rfc _) (xw_f2 xw_f0))))) ?_
              refine x_goto 54 hE dX0_until_77 (by decide) ?_
              refine x_sub [(4, .int v5), (5, .int v6), (6, va_rf v15), (7, .int (v17 + (-1)))] [1, 2, 3, 0] rfl ?_
              exact hc1 (v17 + (-1))
            · refine x_sub [(7, .int v17)] [3] rfl ?_
              refine hx1 _ _ _ _ ?_
              exact hJ2 v17

set_option maxHeartbeats 4000000 in
theorem ct_X0_with {l : Launch} {G : xw_G} {μ : xw_Mu} (v1 : Nat) (v2 : Int32) (v3 : Int32) (v4 : Int32) (v5 : Option Nat) : xw_Ct l G (xw_hc G μ) xw_oi yX0_with cX0_with 11 (some (.int)) 95 [va_rf (some v1), .int v2, .int v3, .int v4, va_rf v5] (pg_X0_with v1 v2 v3 v4 v5) := by
  refine xw_metL [(0, va_rf (some v1)), (1, .int v2), (2, .int v3), (3, .int v4), (4, va_rf v5)] (by decide) (Nat.le_trans (Nat.le_of_eq ((xw_l1 rfl).trans (congrArg (1 + ·) ((xw_l1 rfl).trans (congrArg (1 + ·) ((xw_l1 rfl).trans (congrArg (1 + ·) ((xw_l1 rfl).trans (congrArg (1 + ·) ((xw_l1 (x_rfc _)).trans (congrArg (1 + ·) xw_l0))))))))))) (by decide)) ((xw_a1 rfl).trans (congrArg (List.cons _) ((xw_a1 rfl).trans (congrArg (List.cons _) ((xw_a1 rfl).trans (congrArg (List.cons _) ((xw_a1 rfl).trans (congrArg (List.cons _) ((xw_a1 (x_rfc _)).trans (congrArg (List.cons _) xw_a0)))))))))) (fun E hE hl hG hm => ?_)
  subst hl; subst hG
  have hE : xw_ok E "CrossingWords" cX0_with 11 (some (.int)) 95 := hE
  unfold pg_X0_with
  refine x_aload_n 1 hE dX0_with_0 rfl 0 rfl ?_
  refine x_gR 4 hE (xw_lk0 hE xkf_CrossingWords_21) rfl dX0_with_1 rfl (fun v6 => ?_)
  refine x_iload_n 5 hE dX0_with_4 rfl 1 rfl ?_
  refine x_ldR 6 hE dX0_with_5 rfl (fun v7 => ?_)
  refine x_gR 9 hE (xw_lk0 hE xkf_CrossingWords_143) rfl dX0_with_6 rfl (fun v8 => ?_)
  refine x_iload_n 10 hE dX0_with_9 rfl 3 rfl ?_
  refine x_ldR 11 hE dX0_with_10 rfl (fun v9 => ?_)
  refine x_astore 13 [(5, va_rf v9), (0, va_rf (some v1)), (1, .int v2), (2, .int v3), (3, .int v4), (4, va_rf v5)] hE dX0_with_11 rfl (Nat.le_of_ble_eq_true rfl) (congrArg (List.cons _) (xw_f1 (by decide) rfl (xw_f1 (by decide) rfl (xw_f1 (by decide) rfl (xw_f1 (by decide) rfl (xw_f1 (by decide) (x_rfc _) xw_f0)))))) ?_
  refine x_aload 15 hE dX0_with_13 rfl 0 rfl ?_
  refine x_gR 18 hE (xw_lk0 hE xkf_CrossingWords_165) rfl dX0_with_15 rfl (fun v10 => ?_)
  refine x_astore 20 [(6, va_rf v10), (5, va_rf v9), (0, va_rf (some v1)), (1, .int v2), (2, .int v3), (3, .int v4), (4, va_rf v5)] hE dX0_with_18 rfl (Nat.le_of_ble_eq_true rfl) (congrArg (List.cons _) (xw_f1 (by decide) (x_rfc _) (xw_f1 (by decide) rfl (xw_f1 (by decide) rfl (xw_f1 (by decide) rfl (xw_f1 (by decide) rfl (xw_f1 (by decide) (x_rfc _) xw_f0))))))) ?_
  refine x_aload 22 hE dX0_with_20 rfl 1 rfl ?_
  refine x_aload 24 hE dX0_with_22 rfl 6 rfl ?_
  refine x_pR 27 hE (xw_pkN (xw_lk0 hE xkf_CrossingWords_165) rfl) ⟨rfl, rfl⟩ dX0_with_24 rfl ?_
  refine x_new (c := 4) 30 hE (by decide) q128 q272 q100 dX0_with_27 rfl (fun v11 => ?_)
  refine x_dup 31 hE dX0_with_30 rfl rfl ?_
  refine x_callv 34 (xw_goIN hE (b := v11) (ct_X5_init v11) xd_X5_init xkm_CrossingWords_259 q274 q100 q275 rfl rfl ⟨Nat.le_of_ble_eq_true rfl, Nat.le_of_ble_eq_true rfl⟩ rfl (Nat.le_trans (xw_sm1 rfl xw_sm0) (by decide)) dX0_with_31) rfl ?_
  refine x_astore 36 [(7, va_rf (some v11)), (6, va_rf v10), (5, va_rf v9), (0, va_rf (some v1)), (1, .int v2), (2, .int v3), (3, .int v4), (4, va_rf v5)] hE dX0_with_34 rfl (Nat.le_of_ble_eq_true rfl) (congrArg (List.cons _) (xw_f1 (by decide) (x_rfc _) (xw_f1 (by decide) (x_rfc _) (xw_f1 (by decide) rfl (xw_f1 (by decide) rfl (xw_f1 (by decide) rfl (xw_f1 (by decide) rfl (xw_f1 (by decide) (x_rfc _) xw_f0)))))))) ?_
  refine x_aload 38 hE dX0_with_36 rfl 0 rfl ?_
  refine x_aload_n 39 hE dX0_with_38 rfl 3 rfl ?_
  refine x_gR 42 hE (xw_lk0 hE xkf_CrossingWords_21) rfl dX0_with_39 rfl (fun v12 => ?_)
  refine x_iload_n 43 hE dX0_with_42 rfl 4 rfl ?_
  refine x_ldR 44 hE dX0_with_43 rfl (fun v13 => ?_)
  refine x_callv 47 (xw_goV hE (c := 4) (by decide) (fun v14 hq => xw_rV hE (ct_X5_is v14 v13) xd_X5_is rfl q1226 q313 q314 q100 q315 rfl ⟨Nat.le_of_ble_eq_true rfl, Nat.le_of_ble_eq_true rfl⟩ (congrArg va_rf hq) rfl (by decide) dX0_with_44)) rfl ?_
  refine x_aload 49 hE dX0_with_47 rfl 0 rfl ?_
  refine x_calli 52 (xw_goV hE (c := 4) (by decide) (fun v16 hq => xw_rV hE (ct_X5_isLooked v16) xd_X5_isLooked rfl q928 q929 q930 q100 q931 rfl ⟨Nat.le_of_ble_eq_true rfl, Nat.le_of_ble_eq_true rfl⟩ (congrArg va_rf hq) rfl (by decide) dX0_with_49)) rfl (fun v15 => ?_)
  refine x_sq 61 (fun (v17 : Int32) => [(0, va_rf (some v1)), (2, .int v3), (5, va_rf v9), (6, va_rf v10), (7, va_rf (some v11))]) (fun (v17 : Int32) => [.int v17]) (fun v17 => ?_) (fun J1 hJ1 => ?_)
  · refine x_istore 63 [(8, .int v17), (0, va_rf (some v1)), (2, .int v3), (5, va_rf v9), (6, va_rf v10), (7, va_rf (some v11))] hE dX0_with_61 rfl (Nat.le_of_ble_eq_true rfl) rfl ?_
    refine x_aload_n 64 hE dX0_with_63 rfl 1 rfl ?_
    refine x_iload_n 65 hE dX0_with_64 rfl 2 rfl ?_
    refine x_callr 68 (xw_goV hE (c := 0) (by decide) (fun v19 hq => xw_rV hE (ct_X0_rulesOf v19 v3) xd_X0_rulesOf rfl q965 q967 qs15 q95 q968 rfl ⟨Nat.le_of_ble_eq_true rfl, Nat.le_of_ble_eq_true rfl⟩ (congrArg va_rf hq) rfl (by decide) dX0_with_65)) rfl (fun v18 => ?_)
    refine x_astore 70 [(9, va_rf v18), (8, .int v17), (0, va_rf (some v1)), (2, .int v3), (5, va_rf v9), (6, va_rf v10), (7, va_rf (some v11))] hE dX0_with_68 rfl (Nat.le_of_ble_eq_true rfl) rfl ?_
    refine x_iconst 71 hE dX0_with_70 rfl xc_i_0 ?_
    refine x_istore 73 [(10, .int 0), (9, va_rf v18), (8, .int v17), (0, va_rf (some v1)), (2, .int v3), (5, va_rf v9), (6, va_rf v10), (7, va_rf (some v11))] hE dX0_with_71 rfl (Nat.le_of_ble_eq_true rfl) (congrArg (List.cons _) (xw_f1 (by decide) (x_rfc _) (xw_f1 (by decide) rfl (xw_f1 (by decide) rfl (xw_f1 (by decide) rfl (xw_f1 (by decide) (x_rfc _) (xw_f1 (by decide) (x_rfc _) (xw_f1 (by decide) rfl xw_f0)))))))) ?_
    refine x_sub [(0, va_rf (some v1)), (5, va_rf v9), (6, va_rf v10), (7, va_rf (some v11)), (8, .int v17), (9, va_rf v18), (10, .int 0)] [3, 5, 6, 7, 2, 1, 0] rfl ?_
    refine x_sq 113 (fun (v21 : Int32) => [(5, va_rf v9), (6, va_rf v10), (8, .int v21)]) (fun _ => []) (fun v21 => ?_) (fun J3 hJ3 => ?_)
    · refine x_aload 115 hE dX0_with_113 rfl 0 rfl ?_
      refine x_aload 117 hE dX0_with_115 rfl 1 rfl ?_
      refine x_pR 120 hE (xw_pkN (xw_lk0 hE xkf_CrossingWords_165) rfl) ⟨rfl, rfl⟩ dX0_with_117 rfl ?_
      refine x_iload 122 hE dX0_with_120 rfl 2 rfl ?_
      exact x_iret hE dX0_with_122
    · refine x_loop (fun (v20 : Int32 × Int32) => [(0, va_rf (some v1)), (5, va_rf v9), (6, va_rf v10), (7, va_rf (some v11)), (8, .int v20.1), (9, va_rf v18), (10, .int v20.2)]) (fun JL2 hc2 hx2 v20 => ?_) _ _
      refine x_iload 75 hE dX0_with_73 rfl 4 rfl ?_
      refine x_if_lt 113 78 hE dX0_with_75 (by decide) rfl ?_ ?_
      · refine x_sub [(5, va_rf v9), (6, va_rf v10), (8, .int v20.1)] [1, 2, 4] rfl ?_
        refine hx2 _ _ _ _ ?_
        exact hJ3 (v20.1)
      · refine x_iload 80 hE dX0_with_78 rfl 6 rfl ?_
        refine x_aload 82 hE dX0_with_80 rfl 3 rfl ?_
        refine x_calli 85 (xw_goV hE (c := 4) (by decide) (fun v23 hq => xw_rV hE (ct_X5_combos v23) xd_X5_combos rfl q933 q934 q935 q100 q936 rfl ⟨Nat.le_of_ble_eq_true rfl, Nat.le_of_ble_eq_true rfl⟩ (congrArg va_rf hq) rfl (Nat.le_trans (xw_sm1 rfl xw_sm0) (by decide)) dX0_with_82)) rfl (fun v22 => ?_)
        refine x_icmp_ge 113 88 hE dX0_with_85 (by decide) rfl ?_ ?_
        · refine x_sub [(5, va_rf v9), (6, va_rf v10), (8, .int v20.1)] [1, 2, 4] rfl ?_
          refine hx2 _ _ _ _ ?_
          exact hJ3 (v20.1)
        · refine x_aload_n 89 hE dX0_with_88 rfl 0 rfl ?_
          refine x_aload 91 hE dX0_with_89 rfl 3 rfl ?_
          refine x_aload 93 hE dX0_with_91 rfl 5 rfl ?_
          refine x_iload 95 hE dX0_with_93 rfl 6 rfl ?_
          refine x_callr 98 (xw_goV hE (c := 0) (by decide) (fun v25 hq => xw_rV hE (ct_X0_ran v25 (some v11) v18 v20.2) xd_X0_ran rfl q999 q1001 qs17 q95 q1002 rfl ⟨Nat.le_of_ble_eq_true rfl, Nat.le_of_ble_eq_true rfl⟩ (congrArg va_rf hq) rfl (by decide) dX0_with_95)) rfl (fun v24 => ?_)
          refine x_calli 101 (xw_goV hE (c := 1) (by decide) (fun v27 hq => xw_rV hE (ct_X1_isBargain v27) xd_X1_isBargain rfl q1041 q1042 q1043 q96 q1044 rfl ⟨Nat.le_of_ble_eq_true rfl, Nat.le_of_ble_eq_true rfl⟩ (congrArg va_rf hq) rfl (by decide) dX0_with_98)) rfl (fun v26 => ?_)
          refine x_if_eq 107 104 hE dX0_with_101 (by decide) rfl ?_ ?_
          · refine x_iinc 110 [(10, .int (v20.2 + 1)), (0, va_rf (some v1)), (5, va_rf v9), (6, va_rf v10), (7, va_rf (some v11)), (8, .int v20.1), (9, va_rf v18)] hE dX0_with_107 rfl 6 rfl xc_i_1 (Nat.le_of_ble_eq_true rfl) (congrArg (List.cons _) (xw_f1 (by decide) rfl (xw_f1 (by decide) (x_rfc _) (xw_f1 (by decide) (x_rfc _) (xw_f1 (by decide) rfl (xw_f1 (by decide) rfl (xw_f1 (by decide) (x_rfc _) (xw_f2 xw_f0)))))))) ?_
            refine x_goto 73 hE dX0_with_110 (by decide) ?_
            refine x_sub [(0, va_rf (some v1)), (5, va_rf v9), (6, va_rf v10), (7, va_rf (some v11)), (8, .int v20.1), (9, va_rf v18), (10, .int (v20.2 + 1))] [1, 2, 3, 4, 5, 6, 0] rfl ?_
            exact hc2 (v20.1, v20.2 + 1)
          · refine x_iinc 107 [(8, .int (v20.1 + 1)), (0, va_rf (some v1)), (5, va_rf v9), (6, va_rf v10), (7, va_rf (some v11)), (9, va_rf v18), (10, .int v20.2)] hE dX0_with_104 rfl 4 rfl xc_i_1 (Nat.le_of_ble_eq_true rfl) rfl ?_
            refine x_iinc 110 [(10, .int (v20.2 + 1)), (8, .int (v20.1 + 1)), (0, va_rf (some v1)), (5, va_rf v9), (6, va_rf v10), (7, va_rf (some v11)), (9, va_rf v18)] hE dX0_with_107 rfl 6 rfl xc_i_1 (Nat.le_of_ble_eq_true rfl) (congrArg (List.cons _) (xw_f1 (by decide) rfl (xw_f1 (by decide) rfl (xw_f1 (by decide) (x_rfc _) (xw_f1 (by decide) (x_rfc _) (xw_f1 (by decide) rfl (xw_f1 (by decide) (x_rfc _) (xw_f2 xw_f0)))))))) ?_
            refine x_goto 73 hE dX0_with_110 (by decide) ?_
            refine x_sub [(0, va_rf (some v1)), (5, va_rf v9), (6, va_rf v10), (7, va_rf (some v11)), (8, .int (v20.1 + 1)), (9, va_rf v18), (10, .int (v20.2 + 1))] [2, 3, 4, 5, 1, 6, 0] rfl ?_
            exact hc2 (v20.1 + 1, v20.2 + 1)
  · refine x_if_eq 59 55 hE dX0_with_52 (by decide) rfl ?_ ?_
    · refine x_bipush 61 hE dX0_with_59 rfl xc_b_m2 ?_
      refine x_sub [(0, va_rf (some v1)), (2, .int v3), (5, va_rf v9), (6, va_rf v10), (7, va_rf (some v11))] [3, 5, 2, 1, 0] rfl ?_
      exact hJ1 (-2)
    · refine x_iconst 56 hE dX0_with_55 rfl xc_i_0 ?_
      refine x_goto 61 hE dX0_with_56 (by decide) ?_
      refine x_sub [(0, va_rf (some v1)), (2, .int v3), (5, va_rf v9), (6, va_rf v10), (7, va_rf (some v11))] [3, 5, 2, 1, 0] rfl ?_
      exact hJ1 0

set_option maxHeartbeats 4000000 in
theorem ct_X0_isSaying {l : Launch} {G : xw_G} {μ : xw_Mu} (v1 : Nat) (v2 : Int32) (v3 : Int32) : xw_Ct l G (xw_hc G μ) xw_oi yX0_isSaying cX0_isSaying 3 (some (.boolean)) 3 [va_rf (some v1), .int v2, .int v3] (pg_X0_isSaying v1 v2 v3) := by
  refine xw_metL [(0, va_rf (some v1)), (1, .int v2), (2, .int v3)] (by decide) (Nat.le_trans (Nat.le_of_eq ((xw_l1 rfl).trans (congrArg (1 + ·) ((xw_l1 rfl).trans (congrArg (1 + ·) ((xw_l1 rfl).trans (congrArg (1 + ·) xw_l0))))))) (by decide)) ((xw_a1 rfl).trans (congrArg (List.cons _) ((xw_a1 rfl).trans (congrArg (List.cons _) ((xw_a1 rfl).trans (congrArg (List.cons _) xw_a0)))))) (fun E hE hl hG hm => ?_)
  subst hl; subst hG
  have hE : xw_ok E "CrossingWords" cX0_isSaying 3 (some (.boolean)) 3 := hE
  unfold pg_X0_isSaying
  refine x_aload_n 1 hE dX0_isSaying_0 rfl 0 rfl ?_
  refine x_iload_n 2 hE dX0_isSaying_1 rfl 1 rfl ?_
  refine x_calli 5 (xw_goV hE (c := 0) (by decide) (fun v5 hq => xw_rV hE (ct_X0_isCase v5 v2) xd_X0_isCase rfl q803 q805 qs12 q95 q806 rfl ⟨Nat.le_of_ble_eq_true rfl, Nat.le_of_ble_eq_true rfl⟩ (congrArg va_rf hq) rfl (by decide) dX0_isSaying_2)) rfl (fun v4 => ?_)
  refine x_if_eq 31 8 hE dX0_isSaying_5 (by decide) rfl ?_ ?_
  · refine x_iconst 32 hE dX0_isSaying_31 rfl xc_i_0 ?_
    exact x_zretw hE (by decide) dX0_isSaying_32
  · refine x_iload_n 9 hE dX0_isSaying_8 rfl 2 rfl ?_
    refine x_iconst 10 hE dX0_isSaying_9 rfl xc_i_0 ?_
    refine x_aload_n 11 hE dX0_isSaying_10 rfl 0 rfl ?_
    refine x_gR 14 hE (xw_lk0 hE xkf_CrossingWords_21) rfl dX0_isSaying_11 rfl (fun v6 => ?_)
    refine x_iload_n 15 hE dX0_isSaying_14 rfl 1 rfl ?_
    refine x_ldR 16 hE dX0_isSaying_15 rfl (fun v7 => ?_)
    refine x_gI 19 hE (xw_lk0 hE xkf_CrossingWords_126) rfl dX0_isSaying_16 rfl (fun v8 => ?_)
    refine x_iconst 20 hE dX0_isSaying_19 rfl xc_i_1 ?_
    refine x_isub 21 hE dX0_isSaying_20 rfl ?_
    refine x_calli 24 (xw_goS hE (ct_X0_isIn v3 0 (v8 - 1)) xd_X0_isIn q244 q245 q95 q246 rfl ⟨Nat.le_of_ble_eq_true rfl, Nat.le_of_ble_eq_true rfl⟩ rfl (by decide) dX0_isSaying_21) rfl (fun v9 => ?_)
    refine x_if_eq 31 27 hE dX0_isSaying_24 (by decide) rfl ?_ ?_
    · refine x_iconst 32 hE dX0_isSaying_31 rfl xc_i_0 ?_
      exact x_zretw hE (by decide) dX0_isSaying_32
    · refine x_iconst 28 hE dX0_isSaying_27 rfl xc_i_1 ?_
      refine x_goto 32 hE dX0_isSaying_28 (by decide) ?_
      exact x_zretw hE (by decide) dX0_isSaying_32

set_option maxHeartbeats 4000000 in
theorem ct_X17_lost {l : Launch} {G : xw_G} {μ : xw_Mu} (v1 : Nat) : xw_Ct l G (xw_hc G μ) xw_or yX17_lost cX17_lost 1 (some (.object "CrossingWords$Times")) 2 [va_rf (some v1)] (pg_X17_lost v1) := by
  refine xw_metL [(0, va_rf (some v1))] (by decide) (Nat.le_trans (Nat.le_of_eq ((xw_l1 rfl).trans (congrArg (1 + ·) xw_l0))) (by decide)) ((xw_a1 rfl).trans (congrArg (List.cons _) xw_a0)) (fun E hE hl hG hm => ?_)
  subst hl; subst hG
  have hE : xw_ok E "CrossingWords$Times" cX17_lost 1 (some (.object "CrossingWords$Times")) 2 := hE
  unfold pg_X17_lost
  refine x_new (c := 14) 3 hE (by decide) q1219 q702 q113 dX17_lost_0 rfl (fun v2 => ?_)
  refine x_dup 4 hE dX17_lost_3 rfl rfl ?_
  refine x_aload_n 5 hE dX17_lost_4 rfl 0 rfl ?_
  refine x_gI 8 hE (xw_lk0 hE xkf_CrossingWords_Times_9) rfl dX17_lost_5 rfl (fun v3 => ?_)
  refine x_aload_n 9 hE dX17_lost_8 rfl 0 rfl ?_
  refine x_gR 12 hE (xw_lk0 hE xkf_CrossingWords_Times_15) rfl dX17_lost_9 rfl (fun v4 => ?_)
  refine x_aload_n 13 hE dX17_lost_12 rfl 0 rfl ?_
  refine x_gR 16 hE (xw_lk0 hE xkf_CrossingWords_Times_19) rfl dX17_lost_13 rfl (fun v5 => ?_)
  refine x_aload_n 17 hE dX17_lost_16 rfl 0 rfl ?_
  refine x_gR 20 hE (xw_lk0 hE xkf_CrossingWords_Times_22) rfl dX17_lost_17 rfl (fun v6 => ?_)
  refine x_iconst 21 hE dX17_lost_20 rfl xc_i_0 ?_
  refine x_iconst 22 hE dX17_lost_21 rfl xc_i_1 ?_
  refine x_callv 25 (xw_goI hE (b := v2) (ct_X17_init v2 v3 v4 v5 v6 0 1) xd_X17_init q1220 q706 q113 q707 rfl rfl ⟨Nat.le_of_ble_eq_true rfl, Nat.le_of_ble_eq_true rfl⟩ rfl (Nat.le_trans (xw_sm1 rfl xw_sm0) (by decide)) dX17_lost_22) rfl ?_
  exact x_aret hE rfl dX17_lost_25

set_option maxHeartbeats 4000000 in
theorem ct_X0_lost {l : Launch} {G : xw_G} {μ : xw_Mu} (v1 : Nat) (v2 : Int32) (v3 : Int32) (v4 : Int32) : xw_Ct l G (xw_hc G μ) xw_oi yX0_lost cX0_lost 4 (some (.int)) 96 [va_rf (some v1), .int v2, .int v3, .int v4] (pg_X0_lost v1 v2 v3 v4) := by
  refine xw_metL [(0, va_rf (some v1)), (1, .int v2), (2, .int v3), (3, .int v4)] (by decide) (Nat.le_trans (Nat.le_of_eq ((xw_l1 rfl).trans (congrArg (1 + ·) ((xw_l1 rfl).trans (congrArg (1 + ·) ((xw_l1 rfl).trans (congrArg (1 + ·) ((xw_l1 rfl).trans (congrArg (1 + ·) xw_l0))))))))) (by decide)) ((xw_a1 rfl).trans (congrArg (List.cons _) ((xw_a1 rfl).trans (congrArg (List.cons _) ((xw_a1 rfl).trans (congrArg (List.cons _) ((xw_a1 rfl).trans (congrArg (List.cons _) xw_a0)))))))) (fun E hE hl hG hm => ?_)
  subst hl; subst hG
  have hE : xw_ok E "CrossingWords" cX0_lost 4 (some (.int)) 96 := hE
  unfold pg_X0_lost
  refine x_aload_n 1 hE dX0_lost_0 rfl 0 rfl ?_
  refine x_iload_n 2 hE dX0_lost_1 rfl 2 rfl ?_
  refine x_calli 5 (xw_goV hE (c := 0) (by decide) (fun v6 hq => xw_rV hE (ct_X0_isLaw v6 v3) xd_X0_isLaw rfl q961 q963 qs14 q95 q964 rfl ⟨Nat.le_of_ble_eq_true rfl, Nat.le_of_ble_eq_true rfl⟩ (congrArg va_rf hq) rfl (by decide) dX0_lost_2)) rfl (fun v5 => ?_)
  refine x_if_eq 65 8 hE dX0_lost_5 (by decide) rfl ?_ ?_
  · refine x_bipush 67 hE dX0_lost_65 rfl xc_b_m2 ?_
    exact x_iret hE dX0_lost_67
  · refine x_aload_n 9 hE dX0_lost_8 rfl 0 rfl ?_
    refine x_iload_n 10 hE dX0_lost_9 rfl 1 rfl ?_
    refine x_iload_n 11 hE dX0_lost_10 rfl 3 rfl ?_
    refine x_calli 14 (xw_goV hE (c := 0) (by decide) (fun v8 hq => xw_rV hE (ct_X0_isSaying v8 v2 v4) xd_X0_isSaying rfl q1211 q1213 qs27 q95 q1214 rfl ⟨Nat.le_of_ble_eq_true rfl, Nat.le_of_ble_eq_true rfl⟩ (congrArg va_rf hq) rfl (by decide) dX0_lost_11)) rfl (fun v7 => ?_)
    refine x_if_eq 65 17 hE dX0_lost_14 (by decide) rfl ?_ ?_
    · refine x_bipush 67 hE dX0_lost_65 rfl xc_b_m2 ?_
      exact x_iret hE dX0_lost_67
    · refine x_aload_n 18 hE dX0_lost_17 rfl 0 rfl ?_
      refine x_gR 21 hE (xw_lk0 hE xkf_CrossingWords_21) rfl dX0_lost_18 rfl (fun v9 => ?_)
      refine x_iload_n 22 hE dX0_lost_21 rfl 1 rfl ?_
      refine x_ldR 23 hE dX0_lost_22 rfl (fun v10 => ?_)
      refine x_gR 26 hE (xw_lk0 hE xkf_CrossingWords_143) rfl dX0_lost_23 rfl (fun v11 => ?_)
      refine x_iload_n 27 hE dX0_lost_26 rfl 3 rfl ?_
      refine x_ldR 28 hE dX0_lost_27 rfl (fun v12 => ?_)
      refine x_gR 31 hE (xw_lk0 hE xkf_CrossingWords_165) rfl dX0_lost_28 rfl (fun v13 => ?_)
      refine x_gI 34 hE (xw_lk0 hE xkf_CrossingWords_169) rfl dX0_lost_31 rfl (fun v14 => ?_)
      refine x_iconst 35 hE dX0_lost_34 rfl xc_i_1 ?_
      refine x_icmp_gt 65 38 hE dX0_lost_35 (by decide) rfl ?_ ?_
      · refine x_bipush 67 hE dX0_lost_65 rfl xc_b_m2 ?_
        exact x_iret hE dX0_lost_67
      · refine x_aload_n 39 hE dX0_lost_38 rfl 0 rfl ?_
        refine x_iload_n 40 hE dX0_lost_39 rfl 1 rfl ?_
        refine x_iload_n 41 hE dX0_lost_40 rfl 2 rfl ?_
        refine x_iload_n 42 hE dX0_lost_41 rfl 3 rfl ?_
        refine x_aload_n 43 hE dX0_lost_42 rfl 0 rfl ?_
        refine x_gR 46 hE (xw_lk0 hE xkf_CrossingWords_21) rfl dX0_lost_43 rfl (fun v15 => ?_)
        refine x_iload_n 47 hE dX0_lost_46 rfl 1 rfl ?_
        refine x_ldR 48 hE dX0_lost_47 rfl (fun v16 => ?_)
        refine x_gR 51 hE (xw_lk0 hE xkf_CrossingWords_143) rfl dX0_lost_48 rfl (fun v17 => ?_)
        refine x_iload_n 52 hE dX0_lost_51 rfl 3 rfl ?_
        refine x_ldR 53 hE dX0_lost_52 rfl (fun v18 => ?_)
        refine x_gR 56 hE (xw_lk0 hE xkf_CrossingWords_165) rfl dX0_lost_53 rfl (fun v19 => ?_)
        refine x_callr 59 (xw_goV hE (c := 14) (by decide) (fun v21 hq => xw_rV hE (ct_X17_lost v21) xd_X17_lost rfl q1215 q1216 q1217 q113 q1218 rfl ⟨Nat.le_of_ble_eq_true rfl, Nat.le_of_ble_eq_true rfl⟩ (congrArg va_rf hq) rfl (Nat.le_trans (xw_sm1 rfl (xw_sm1 rfl (xw_sm1 rfl (xw_sm1 rfl xw_sm0)))) (by decide)) dX0_lost_56)) rfl (fun v20 => ?_)
        refine x_calli 62 (xw_goV hE (c := 0) (by decide) (fun v23 hq => xw_rV hE (ct_X0_with v23 v2 v3 v4 v20) xd_X0_with rfl q1221 q1223 qs28 q95 q1224 rfl ⟨Nat.le_of_ble_eq_true rfl, Nat.le_of_ble_eq_true rfl⟩ (congrArg va_rf hq) rfl (by decide) dX0_lost_59)) rfl (fun v22 => ?_)
        refine x_goto 67 hE dX0_lost_62 (by decide) ?_
        exact x_iret hE dX0_lost_67

set_option maxHeartbeats 4000000 in
theorem ct_X17_wired {l : Launch} {G : xw_G} {μ : xw_Mu} (v1 : Nat) : xw_Ct l G (xw_hc G μ) xw_or yX17_wired cX17_wired 1 (some (.object "CrossingWords$Times")) 2 [va_rf (some v1)] (pg_X17_wired v1) := by
  refine xw_metL [(0, va_rf (some v1))] (by decide) (Nat.le_trans (Nat.le_of_eq ((xw_l1 rfl).trans (congrArg (1 + ·) xw_l0))) (by decide)) ((xw_a1 rfl).trans (congrArg (List.cons _) xw_a0)) (fun E hE hl hG hm => ?_)
  subst hl; subst hG
  have hE : xw_ok E "CrossingWords$Times" cX17_wired 1 (some (.object "CrossingWords$Times")) 2 := hE
  unfold pg_X17_wired
  refine x_new (c := 14) 3 hE (by decide) q1219 q702 q113 dX17_wired_0 rfl (fun v2 => ?_)
  refine x_dup 4 hE dX17_wired_3 rfl rfl ?_
  refine x_iconst 5 hE dX17_wired_4 rfl xc_i_1 ?_
  refine x_aload_n 6 hE dX17_wired_5 rfl 0 rfl ?_
  refine x_gR 9 hE (xw_lk0 hE xkf_CrossingWords_Times_15) rfl dX17_wired_6 rfl (fun v3 => ?_)
  refine x_gs (j := 12) (n := "AT_ONCE") (d := "LCrossingWords$Span;") 12 hE xsl_12 xkg_CrossingWords_Times_35 dX17_wired_9 rfl (fun v4 => ?_)
  refine x_gs (j := 12) (n := "AT_ONCE") (d := "LCrossingWords$Span;") 15 hE xsl_12 xkg_CrossingWords_Times_35 dX17_wired_12 rfl (fun v5 => ?_)
  refine x_iconst 16 hE dX17_wired_15 rfl xc_i_0 ?_
  refine x_iconst 17 hE dX17_wired_16 rfl xc_i_0 ?_
  refine x_callv 20 (xw_goI hE (b := v2) (ct_X17_init v2 1 v3 v4 v5 0 0) xd_X17_init q1220 q706 q113 q707 rfl rfl ⟨Nat.le_of_ble_eq_true rfl, Nat.le_of_ble_eq_true rfl⟩ rfl (Nat.le_trans (xw_sm1 rfl xw_sm0) (by decide)) dX17_wired_17) rfl ?_
  exact x_aret hE rfl dX17_wired_20

set_option maxHeartbeats 4000000 in
theorem ct_X0_wired {l : Launch} {G : xw_G} {μ : xw_Mu} (v1 : Nat) (v2 : Int32) (v3 : Int32) (v4 : Int32) : xw_Ct l G (xw_hc G μ) xw_oi yX0_wired cX0_wired 4 (some (.int)) 96 [va_rf (some v1), .int v2, .int v3, .int v4] (pg_X0_wired v1 v2 v3 v4) := by
  refine xw_metL [(0, va_rf (some v1)), (1, .int v2), (2, .int v3), (3, .int v4)] (by decide) (Nat.le_trans (Nat.le_of_eq ((xw_l1 rfl).trans (congrArg (1 + ·) ((xw_l1 rfl).trans (congrArg (1 + ·) ((xw_l1 rfl).trans (congrArg (1 + ·) ((xw_l1 rfl).trans (congrArg (1 + ·) xw_l0))))))))) (by decide)) ((xw_a1 rfl).trans (congrArg (List.cons _) ((xw_a1 rfl).trans (congrArg (List.cons _) ((xw_a1 rfl).trans (congrArg (List.cons _) ((xw_a1 rfl).trans (congrArg (List.cons _) xw_a0)))))))) (fun E hE hl hG hm => ?_)
  subst hl; subst hG
  have hE : xw_ok E "CrossingWords" cX0_wired 4 (some (.int)) 96 := hE
  unfold pg_X0_wired
  refine x_aload_n 1 hE dX0_wired_0 rfl 0 rfl ?_
  refine x_iload_n 2 hE dX0_wired_1 rfl 2 rfl ?_
  refine x_calli 5 (xw_goV hE (c := 0) (by decide) (fun v6 hq => xw_rV hE (ct_X0_isLaw v6 v3) xd_X0_isLaw rfl q961 q963 qs14 q95 q964 rfl ⟨Nat.le_of_ble_eq_true rfl, Nat.le_of_ble_eq_true rfl⟩ (congrArg va_rf hq) rfl (by decide) dX0_wired_2)) rfl (fun v5 => ?_)
  refine x_if_eq 44 8 hE dX0_wired_5 (by decide) rfl ?_ ?_
  · refine x_bipush 46 hE dX0_wired_44 rfl xc_b_m2 ?_
    exact x_iret hE dX0_wired_46
  · refine x_aload_n 9 hE dX0_wired_8 rfl 0 rfl ?_
    refine x_iload_n 10 hE dX0_wired_9 rfl 1 rfl ?_
    refine x_iload_n 11 hE dX0_wired_10 rfl 3 rfl ?_
    refine x_calli 14 (xw_goV hE (c := 0) (by decide) (fun v8 hq => xw_rV hE (ct_X0_isSaying v8 v2 v4) xd_X0_isSaying rfl q1211 q1213 qs27 q95 q1214 rfl ⟨Nat.le_of_ble_eq_true rfl, Nat.le_of_ble_eq_true rfl⟩ (congrArg va_rf hq) rfl (by decide) dX0_wired_11)) rfl (fun v7 => ?_)
    refine x_if_eq 44 17 hE dX0_wired_14 (by decide) rfl ?_ ?_
    · refine x_bipush 46 hE dX0_wired_44 rfl xc_b_m2 ?_
      exact x_iret hE dX0_wired_46
    · refine x_aload_n 18 hE dX0_wired_17 rfl 0 rfl ?_
      refine x_iload_n 19 hE dX0_wired_18 rfl 1 rfl ?_
      refine x_iload_n 20 hE dX0_wired_19 rfl 2 rfl ?_
      refine x_iload_n 21 hE dX0_wired_20 rfl 3 rfl ?_
      refine x_aload_n 22 hE dX0_wired_21 rfl 0 rfl ?_
      refine x_gR 25 hE (xw_lk0 hE xkf_CrossingWords_21) rfl dX0_wired_22 rfl (fun v9 => ?_)
      refine x_iload_n 26 hE dX0_wired_25 rfl 1 rfl ?_
      refine x_ldR 27 hE dX0_wired_26 rfl (fun v10 => ?_)
      refine x_gR 30 hE (xw_lk0 hE xkf_CrossingWords_143) rfl dX0_wired_27 rfl (fun v11 => ?_)
      refine x_iload_n 31 hE dX0_wired_30 rfl 3 rfl ?_
      refine x_ldR 32 hE dX0_wired_31 rfl (fun v12 => ?_)
      refine x_gR 35 hE (xw_lk0 hE xkf_CrossingWords_165) rfl dX0_wired_32 rfl (fun v13 => ?_)
      refine x_callr 38 (xw_goV hE (c := 14) (by decide) (fun v15 hq => xw_rV hE (ct_X17_wired v15) xd_X17_wired rfl q1231 q1232 q1233 q113 q1234 rfl ⟨Nat.le_of_ble_eq_true rfl, Nat.le_of_ble_eq_true rfl⟩ (congrArg va_rf hq) rfl (Nat.le_trans (xw_sm1 rfl (xw_sm1 rfl (xw_sm1 rfl (xw_sm1 rfl xw_sm0)))) (by decide)) dX0_wired_35)) rfl (fun v14 => ?_)
      refine x_calli 41 (xw_goV hE (c := 0) (by decide) (fun v17 hq => xw_rV hE (ct_X0_with v17 v2 v3 v4 v14) xd_X0_with rfl q1221 q1223 qs28 q95 q1224 rfl ⟨Nat.le_of_ble_eq_true rfl, Nat.le_of_ble_eq_true rfl⟩ (congrArg va_rf hq) rfl (by decide) dX0_wired_38)) rfl (fun v16 => ?_)
      refine x_goto 46 hE dX0_wired_41 (by decide) ?_
      exact x_iret hE dX0_wired_46

set_option maxHeartbeats 4000000 in
theorem ct_X21_init {l : Launch} {G : xw_G} {μ : xw_Mu} (v1 : Nat) (v2 : Option Nat) : xw_Ct l G (xw_hc G μ) xw_ov yX21_init cX21_init 2 none 1 [va_rf (some v1), va_rf v2] (pg_X21_init v1 v2) := by
  refine xw_metL [(0, va_rf (some v1)), (1, va_rf v2)] (by decide) (Nat.le_trans (Nat.le_of_eq ((xw_l1 rfl).trans (congrArg (1 + ·) ((xw_l1 (x_rfc _)).trans (congrArg (1 + ·) xw_l0))))) (by decide)) ((xw_a1 rfl).trans (congrArg (List.cons _) ((xw_a1 (x_rfc _)).trans (congrArg (List.cons _) xw_a0)))) (fun E hE hl hG hm => ?_)
  subst hl; subst hG
  have hE : xw_ok E "CrossingWords$Image" cX21_init 2 none 1 := hE
  have hm : (xe_M E).name = "<init>" := hm
  unfold pg_X21_init
  refine x_aload_n 1 hE dX21_init_0 rfl 0 rfl ?_
  refine x_objInit 4 hE q1244 q126 q127 (by decide) dX21_init_1 rfl rfl ?_
  refine x_aload_n 5 hE dX21_init_4 rfl 0 rfl ?_
  refine x_bipush 7 hE dX21_init_5 rfl xc_b_16 ?_
  refine x_nwR (t := 122) 10 hE xsA_122 rfl q1245 dX21_init_7 rfl (fun v3 => ?_)
  refine x_pR 13 hE (xw_pkF hE hm xkf_CrossingWords_Image_11 rfl rfl) ⟨rfl, rfl⟩ dX21_init_10 rfl ?_
  refine x_aload_n 14 hE dX21_init_13 rfl 0 rfl ?_
  refine x_bipush 16 hE dX21_init_14 rfl xc_b_8 ?_
  refine x_nwR (t := 123) 19 hE xsA_123 rfl q1246 dX21_init_16 rfl (fun v4 => ?_)
  refine x_pR 22 hE (xw_pkF hE hm xkf_CrossingWords_Image_19 rfl rfl) ⟨rfl, rfl⟩ dX21_init_19 rfl ?_
  refine x_aload_n 23 hE dX21_init_22 rfl 0 rfl ?_
  refine x_bipush 25 hE dX21_init_23 rfl xc_b_6 ?_
  refine x_nwR (t := 124) 28 hE xsA_124 rfl q1246 dX21_init_25 rfl (fun v5 => ?_)
  refine x_pR 31 hE (xw_pkF hE hm xkf_CrossingWords_Image_23 rfl rfl) ⟨rfl, rfl⟩ dX21_init_28 rfl ?_
  refine x_aload_n 32 hE dX21_init_31 rfl 0 rfl ?_
  refine x_aload_n 33 hE dX21_init_32 rfl 1 rfl ?_
  refine x_gI 36 hE (xw_lkN hE xkn_CrossingWords_Image_26) rfl dX21_init_33 rfl (fun v6 => ?_)
  refine x_pI 39 hE (xw_pkF hE hm xkf_CrossingWords_Image_30 rfl rfl) ⟨rfl, rfl⟩ dX21_init_36 rfl ?_
  refine x_aload_n 40 hE dX21_init_39 rfl 0 rfl ?_
  refine x_aload_n 41 hE dX21_init_40 rfl 1 rfl ?_
  refine x_gI 44 hE (xw_lkN hE xkn_CrossingWords_Image_31) rfl dX21_init_41 rfl (fun v7 => ?_)
  refine x_pI 47 hE (xw_pkF hE hm xkf_CrossingWords_Image_34 rfl rfl) ⟨rfl, rfl⟩ dX21_init_44 rfl ?_
  refine x_aload_n 48 hE dX21_init_47 rfl 0 rfl ?_
  refine x_aload_n 49 hE dX21_init_48 rfl 1 rfl ?_
  refine x_gI 52 hE (xw_lkN hE xkn_CrossingWords_Image_35) rfl dX21_init_49 rfl (fun v8 => ?_)
  refine x_pI 55 hE (xw_pkF hE hm xkf_CrossingWords_Image_38 rfl rfl) ⟨rfl, rfl⟩ dX21_init_52 rfl ?_
  refine x_aload_n 56 hE dX21_init_55 rfl 1 rfl ?_
  refine x_gR 59 hE (xw_lkN hE xkn_CrossingWords_Image_39) rfl dX21_init_56 rfl (fun v9 => ?_)
  refine x_iconst 60 hE dX21_init_59 rfl xc_i_0 ?_
  refine x_aload_n 61 hE dX21_init_60 rfl 0 rfl ?_
  refine x_gR 64 hE (xw_lk0 hE xkf_CrossingWords_Image_11) rfl dX21_init_61 rfl (fun v10 => ?_)
  refine x_iconst 65 hE dX21_init_64 rfl xc_i_0 ?_
  refine x_bipush 67 hE dX21_init_65 rfl xc_b_16 ?_
  refine x_cp 70 hE q1247 q1249 q1248 q119 (by decide) dX21_init_67 rfl rfl ?_
  refine x_aload_n 71 hE dX21_init_70 rfl 1 rfl ?_
  refine x_gR 74 hE (xw_lkN hE xkn_CrossingWords_Image_46) rfl dX21_init_71 rfl (fun v11 => ?_)
  refine x_iconst 75 hE dX21_init_74 rfl xc_i_0 ?_
  refine x_aload_n 76 hE dX21_init_75 rfl 0 rfl ?_
  refine x_gR 79 hE (xw_lk0 hE xkf_CrossingWords_Image_19) rfl dX21_init_76 rfl (fun v12 => ?_)
  refine x_iconst 80 hE dX21_init_79 rfl xc_i_0 ?_
  refine x_bipush 82 hE dX21_init_80 rfl xc_b_8 ?_
  refine x_cp 85 hE q1247 q1249 q1248 q119 (by decide) dX21_init_82 rfl rfl ?_
  refine x_aload_n 86 hE dX21_init_85 rfl 1 rfl ?_
  refine x_gR 89 hE (xw_lkN hE xkn_CrossingWords_Image_47) rfl dX21_init_86 rfl (fun v13 => ?_)
  refine x_iconst 90 hE dX21_init_89 rfl xc_i_0 ?_
  refine x_aload_n 91 hE dX21_init_90 rfl 0 rfl ?_
  refine x_gR 94 hE (xw_lk0 hE xkf_CrossingWords_Image_23) rfl dX21_init_91 rfl (fun v14 => ?_)
  refine x_iconst 95 hE dX21_init_94 rfl xc_i_0 ?_
  refine x_bipush 97 hE dX21_init_95 rfl xc_b_6 ?_
  refine x_cp 100 hE q1247 q1249 q1248 q119 (by decide) dX21_init_97 rfl rfl ?_
  exact x_vret hE dX21_init_100

set_option maxHeartbeats 4000000 in
theorem ct_X0_image {l : Launch} {G : xw_G} {μ : xw_Mu} (v1 : Nat) : xw_Ct l G (xw_hc G μ) xw_oi yX0_image cX0_image 1 (some (.int)) 2 [va_rf (some v1)] (pg_X0_image v1) := by
  refine xw_metL [(0, va_rf (some v1))] (by decide) (Nat.le_trans (Nat.le_of_eq ((xw_l1 rfl).trans (congrArg (1 + ·) xw_l0))) (by decide)) ((xw_a1 rfl).trans (congrArg (List.cons _) xw_a0)) (fun E hE hl hG hm => ?_)
  subst hl; subst hG
  have hE : xw_ok E "CrossingWords" cX0_image 1 (some (.int)) 2 := hE
  unfold pg_X0_image
  refine x_aload_n 1 hE dX0_image_0 rfl 0 rfl ?_
  refine x_gI 4 hE (xw_lk0 hE xkf_CrossingWords_278) rfl dX0_image_1 rfl (fun v2 => ?_)
  refine x_iconst 5 hE dX0_image_4 rfl xc_i_4 ?_
  refine x_icmp_ne 10 8 hE dX0_image_5 (by decide) rfl ?_ ?_
  · refine x_iconst 9 hE dX0_image_8 rfl xc_i_m1 ?_
    exact x_iret hE dX0_image_9
  · refine x_aload_n 11 hE dX0_image_10 rfl 0 rfl ?_
    refine x_gR 14 hE (xw_lk0 hE xkf_CrossingWords_50) rfl dX0_image_11 rfl (fun v3 => ?_)
    refine x_aload_n 15 hE dX0_image_14 rfl 0 rfl ?_
    refine x_gI 18 hE (xw_lk0 hE xkf_CrossingWords_278) rfl dX0_image_15 rfl (fun v4 => ?_)
    refine x_new (c := 18) 21 hE (by decide) q134 q1240 q118 dX0_image_18 rfl (fun v5 => ?_)
    refine x_dup 22 hE dX0_image_21 rfl rfl ?_
    refine x_aload_n 23 hE dX0_image_22 rfl 0 rfl ?_
    refine x_callv 26 (xw_goI hE (b := v5) (ct_X21_init v5 (some v1)) xd_X21_init q1241 q1242 q118 q1243 rfl rfl ⟨Nat.le_of_ble_eq_true rfl, Nat.le_of_ble_eq_true rfl⟩ rfl (Nat.le_trans (xw_sm1 rfl (xw_sm1 rfl (xw_sm1 (x_rfc _) xw_sm0))) (by decide)) dX0_image_23) rfl ?_
    refine x_stR 27 hE dX0_image_26 rfl ?_
    refine x_aload_n 28 hE dX0_image_27 rfl 0 rfl ?_
    refine x_dup 29 hE dX0_image_28 rfl rfl ?_
    refine x_gI 32 hE (xw_lk0 hE xkf_CrossingWords_278) rfl dX0_image_29 rfl (fun v6 => ?_)
    refine x_iconst 33 hE dX0_image_32 rfl xc_i_1 ?_
    refine x_iadd 34 hE dX0_image_33 rfl ?_
    refine x_pI 37 hE (xw_pkN (xw_lk0 hE xkf_CrossingWords_278) rfl) ⟨rfl, rfl⟩ dX0_image_34 rfl ?_
    refine x_aload_n 38 hE dX0_image_37 rfl 0 rfl ?_
    refine x_gI 41 hE (xw_lk0 hE xkf_CrossingWords_278) rfl dX0_image_38 rfl (fun v7 => ?_)
    refine x_iconst 42 hE dX0_image_41 rfl xc_i_1 ?_
    refine x_isub 43 hE dX0_image_42 rfl ?_
    exact x_iret hE dX0_image_43

set_option maxHeartbeats 4000000 in
theorem ct_X21_puts {l : Launch} {G : xw_G} {μ : xw_Mu} (v1 : Nat) (v2 : Option Nat) : xw_Ct l G (xw_hc G μ) xw_ov yX21_puts cX21_puts 2 none 1 [va_rf (some v1), va_rf v2] (pg_X21_puts v1 v2) := by
  refine xw_metL [(0, va_rf (some v1)), (1, va_rf v2)] (by decide) (Nat.le_trans (Nat.le_of_eq ((xw_l1 rfl).trans (congrArg (1 + ·) ((xw_l1 (x_rfc _)).trans (congrArg (1 + ·) xw_l0))))) (by decide)) ((xw_a1 rfl).trans (congrArg (List.cons _) ((xw_a1 (x_rfc _)).trans (congrArg (List.cons _) xw_a0)))) (fun E hE hl hG hm => ?_)
  subst hl; subst hG
  have hE : xw_ok E "CrossingWords$Image" cX21_puts 2 none 1 := hE
  unfold pg_X21_puts
  refine x_aload_n 1 hE dX21_puts_0 rfl 1 rfl ?_
  refine x_aload_n 2 hE dX21_puts_1 rfl 0 rfl ?_
  refine x_gI 5 hE (xw_lk0 hE xkf_CrossingWords_Image_30) rfl dX21_puts_2 rfl (fun v3 => ?_)
  refine x_pI 8 hE (xw_pkN (xw_lkN hE xkn_CrossingWords_Image_26) rfl) ⟨rfl, rfl⟩ dX21_puts_5 rfl ?_
  refine x_aload_n 9 hE dX21_puts_8 rfl 1 rfl ?_
  refine x_aload_n 10 hE dX21_puts_9 rfl 0 rfl ?_
  refine x_gI 13 hE (xw_lk0 hE xkf_CrossingWords_Image_34) rfl dX21_puts_10 rfl (fun v4 => ?_)
  refine x_pI 16 hE (xw_pkN (xw_lkN hE xkn_CrossingWords_Image_31) rfl) ⟨rfl, rfl⟩ dX21_puts_13 rfl ?_
  refine x_aload_n 17 hE dX21_puts_16 rfl 1 rfl ?_
  refine x_aload_n 18 hE dX21_puts_17 rfl 0 rfl ?_
  refine x_gI 21 hE (xw_lk0 hE xkf_CrossingWords_Image_38) rfl dX21_puts_18 rfl (fun v5 => ?_)
  refine x_pI 24 hE (xw_pkN (xw_lkN hE xkn_CrossingWords_Image_35) rfl) ⟨rfl, rfl⟩ dX21_puts_21 rfl ?_
  refine x_aload_n 25 hE dX21_puts_24 rfl 0 rfl ?_
  refine x_gR 28 hE (xw_lk0 hE xkf_CrossingWords_Image_11) rfl dX21_puts_25 rfl (fun v6 => ?_)
  refine x_iconst 29 hE dX21_puts_28 rfl xc_i_0 ?_
  refine x_aload_n 30 hE dX21_puts_29 rfl 1 rfl ?_
  refine x_gR 33 hE (xw_lkN hE xkn_CrossingWords_Image_39) rfl dX21_puts_30 rfl (fun v7 => ?_)
  refine x_iconst 34 hE dX21_puts_33 rfl xc_i_0 ?_
  refine x_bipush 36 hE dX21_puts_34 rfl xc_b_16 ?_
  refine x_cp 39 hE q1247 q1249 q1248 q119 (by decide) dX21_puts_36 rfl rfl ?_
  refine x_aload_n 40 hE dX21_puts_39 rfl 0 rfl ?_
  refine x_gR 43 hE (xw_lk0 hE xkf_CrossingWords_Image_19) rfl dX21_puts_40 rfl (fun v8 => ?_)
  refine x_iconst 44 hE dX21_puts_43 rfl xc_i_0 ?_
  refine x_aload_n 45 hE dX21_puts_44 rfl 1 rfl ?_
  refine x_gR 48 hE (xw_lkN hE xkn_CrossingWords_Image_46) rfl dX21_puts_45 rfl (fun v9 => ?_)
  refine x_iconst 49 hE dX21_puts_48 rfl xc_i_0 ?_
  refine x_bipush 51 hE dX21_puts_49 rfl xc_b_8 ?_
  refine x_cp 54 hE q1247 q1249 q1248 q119 (by decide) dX21_puts_51 rfl rfl ?_
  refine x_aload_n 55 hE dX21_puts_54 rfl 0 rfl ?_
  refine x_gR 58 hE (xw_lk0 hE xkf_CrossingWords_Image_23) rfl dX21_puts_55 rfl (fun v10 => ?_)
  refine x_iconst 59 hE dX21_puts_58 rfl xc_i_0 ?_
  refine x_aload_n 60 hE dX21_puts_59 rfl 1 rfl ?_
  refine x_gR 63 hE (xw_lkN hE xkn_CrossingWords_Image_47) rfl dX21_puts_60 rfl (fun v11 => ?_)
  refine x_iconst 64 hE dX21_puts_63 rfl xc_i_0 ?_
  refine x_bipush 66 hE dX21_puts_64 rfl xc_b_6 ?_
  refine x_cp 69 hE q1247 q1249 q1248 q119 (by decide) dX21_puts_66 rfl rfl ?_
  exact x_vret hE dX21_puts_69

set_option maxHeartbeats 4000000 in
theorem ct_X0_back {l : Launch} {G : xw_G} {μ : xw_Mu} (v1 : Nat) (v2 : Int32) : xw_Ct l G (xw_hc G μ) xw_oi yX0_back cX0_back 2 (some (.boolean)) 2 [va_rf (some v1), .int v2] (pg_X0_back v1 v2) := by
  refine xw_metL [(0, va_rf (some v1)), (1, .int v2)] (by decide) (Nat.le_trans (Nat.le_of_eq ((xw_l1 rfl).trans (congrArg (1 + ·) ((xw_l1 rfl).trans (congrArg (1 + ·) xw_l0))))) (by decide)) ((xw_a1 rfl).trans (congrArg (List.cons _) ((xw_a1 rfl).trans (congrArg (List.cons _) xw_a0)))) (fun E hE hl hG hm => ?_)
  subst hl; subst hG
  have hE : xw_ok E "CrossingWords" cX0_back 2 (some (.boolean)) 2 := hE
  unfold pg_X0_back
  refine x_iload_n 1 hE dX0_back_0 rfl 1 rfl ?_
  refine x_iconst 2 hE dX0_back_1 rfl xc_i_0 ?_
  refine x_aload_n 3 hE dX0_back_2 rfl 0 rfl ?_
  refine x_gI 6 hE (xw_lk0 hE xkf_CrossingWords_278) rfl dX0_back_3 rfl (fun v3 => ?_)
  refine x_iconst 7 hE dX0_back_6 rfl xc_i_1 ?_
  refine x_isub 8 hE dX0_back_7 rfl ?_
  refine x_calli 11 (xw_goS hE (ct_X0_isIn v2 0 (v3 - 1)) xd_X0_isIn q244 q245 q95 q246 rfl ⟨Nat.le_of_ble_eq_true rfl, Nat.le_of_ble_eq_true rfl⟩ rfl (by decide) dX0_back_8) rfl (fun v4 => ?_)
  refine x_if_ne 16 14 hE dX0_back_11 (by decide) rfl ?_ ?_
  · refine x_iconst 15 hE dX0_back_14 rfl xc_i_0 ?_
    exact x_zretw hE (by decide) dX0_back_15
  · refine x_aload_n 17 hE dX0_back_16 rfl 0 rfl ?_
    refine x_gR 20 hE (xw_lk0 hE xkf_CrossingWords_50) rfl dX0_back_17 rfl (fun v5 => ?_)
    refine x_iload_n 21 hE dX0_back_20 rfl 1 rfl ?_
    refine x_ldR 22 hE dX0_back_21 rfl (fun v6 => ?_)
    refine x_aload_n 23 hE dX0_back_22 rfl 0 rfl ?_
    refine x_callv 26 (xw_goV hE (c := 18) (by decide) (fun v7 hq => xw_rV hE (ct_X21_puts v7 (some v1)) xd_X21_puts rfl q1273 q1274 q1275 q118 q1276 rfl ⟨Nat.le_of_ble_eq_true rfl, Nat.le_of_ble_eq_true rfl⟩ (congrArg va_rf hq) rfl (by decide) dX0_back_23)) rfl ?_
    refine x_iconst 27 hE dX0_back_26 rfl xc_i_1 ?_
    exact x_zretw hE (by decide) dX0_back_27

set_option maxHeartbeats 4000000 in
theorem ct_X0_tells {l : Launch} {G : xw_G} {μ : xw_Mu} (v1 : Nat) (v2 : Option Nat) (v3 : Int32) : xw_Ct l G (xw_hc G μ) xw_oi yX0_tells cX0_tells 8 (some (.boolean)) 2 [va_rf (some v1), va_rf v2, .int v3] (pg_X0_tells v1 v2 v3) := by
  refine xw_metL [(0, va_rf (some v1)), (1, va_rf v2), (2, .int v3)] (by decide) (Nat.le_trans (Nat.le_of_eq ((xw_l1 rfl).trans (congrArg (1 + ·) ((xw_l1 (x_rfc _)).trans (congrArg (1 + ·) ((xw_l1 rfl).trans (congrArg (1 + ·) xw_l0))))))) (by decide)) ((xw_a1 rfl).trans (congrArg (List.cons _) ((xw_a1 (x_rfc _)).trans (congrArg (List.cons _) ((xw_a1 rfl).trans (congrArg (List.cons _) xw_a0)))))) (fun E hE hl hG hm => ?_)
  subst hl; subst hG
  have hE : xw_ok E "CrossingWords" cX0_tells 8 (some (.boolean)) 2 := hE
  unfold pg_X0_tells
  refine x_iconst 1 hE dX0_tells_0 rfl xc_i_0 ?_
  refine x_istore_n 2 [(3, .int 0), (0, va_rf (some v1)), (1, va_rf v2), (2, .int v3)] hE dX0_tells_1 rfl rfl (Nat.le_of_ble_eq_true rfl) rfl ?_
  refine x_sub [(0, va_rf (some v1)), (1, va_rf v2), (2, .int v3), (3, .int 0)] [1, 2, 3, 0] rfl ?_
  refine x_sq 22 (fun (v5 : Unit) => [(0, va_rf (some v1)), (1, va_rf v2), (2, .int v3)]) (fun _ => []) (fun v5 => ?_) (fun J2 hJ2 => ?_)
  · refine x_iconst 23 hE dX0_tells_22 rfl xc_i_0 ?_
    refine x_istore_n 24 [(3, .int 0), (0, va_rf (some v1)), (1, va_rf v2), (2, .int v3)] hE dX0_tells_23 rfl rfl (Nat.le_of_ble_eq_true rfl) rfl ?_
    refine x_sub [(0, va_rf (some v1)), (1, va_rf v2), (2, .int v3), (3, .int 0)] [1, 2, 3, 0] rfl ?_
    refine x_loop (fun (v6 : Int32) => [(0, va_rf (some v1)), (1, va_rf v2), (2, .int v3), (3, .int v6)]) (fun JL3 hc3 hx3 v6 => ?_) _ _
    refine x_iload_n 25 hE dX0_tells_24 rfl 3 rfl ?_
    refine x_aload_n 26 hE dX0_tells_25 rfl 1 rfl ?_
    refine x_calli 29 (xw_goV hE (c := 4) (by decide) (fun v8 hq => xw_rV hE (ct_X5_combos v8) xd_X5_combos rfl q933 q934 q935 q100 q936 rfl ⟨Nat.le_of_ble_eq_true rfl, Nat.le_of_ble_eq_true rfl⟩ (congrArg va_rf hq) rfl (Nat.le_trans (xw_sm1 rfl xw_sm0) (by decide)) dX0_tells_26)) rfl (fun v7 => ?_)
    refine x_icmp_ge 160 32 hE dX0_tells_29 (by decide) rfl ?_ ?_
    · refine x_iconst 161 hE dX0_tells_160 rfl xc_i_1 ?_
      refine hx3 _ _ _ _ ?_
      exact x_zretw hE (by decide) dX0_tells_161
    · refine x_iconst 33 hE dX0_tells_32 rfl xc_i_0 ?_
      refine x_istore 35 [(4, .int 0), (0, va_rf (some v1)), (1, va_rf v2), (2, .int v3), (3, .int v6)] hE dX0_tells_33 rfl (Nat.le_of_ble_eq_true rfl) rfl ?_
      refine x_iload_n 36 hE dX0_tells_35 rfl 4 rfl ?_
      refine x_istore 38 [(5, .int v6), (4, .int 0), (0, va_rf (some v1)), (1, va_rf v2), (2, .int v3), (3, .int v6)] hE dX0_tells_36 rfl (Nat.le_of_ble_eq_true rfl) rfl ?_
      refine x_iconst 39 hE dX0_tells_38 rfl xc_i_0 ?_
      refine x_istore 41 [(6, .int 0), (5, .int v6), (4, .int 0), (0, va_rf (some v1)), (1, va_rf v2), (2, .int v3), (3, .int v6)] hE dX0_tells_39 rfl (Nat.le_of_ble_eq_true rfl) rfl ?_
      refine x_sub [(0, va_rf (some v1)), (1, va_rf v2), (2, .int v3), (3, .int v6), (4, .int 0), (5, .int v6), (6, .int 0)] [3, 4, 5, 6, 2, 1, 0] rfl ?_
      refine x_sq 105 (fun (v10 : Int32) => [(0, va_rf (some v1)), (1, va_rf v2), (2, .int v3), (3, .int v6), (4, .int v10)]) (fun _ => []) (fun v10 => ?_) (fun J5 hJ5 => ?_)
      · refine x_aload_n 106 hE dX0_tells_105 rfl 0 rfl ?_
        refine x_gR 109 hE (xw_lk0 hE xkf_CrossingWords_54) rfl dX0_tells_106 rfl (fun v11 => ?_)
        refine x_iload_n 110 hE dX0_tells_109 rfl 3 rfl ?_
        refine x_ldB 111 hE dX0_tells_110 rfl (fun v12 => ?_)
        refine x_sq 119 (fun (v13 : Int32) => [(0, va_rf (some v1)), (1, va_rf v2), (2, .int v3), (3, .int v6), (4, .int v10)]) (fun (v13 : Int32) => [.int v13]) (fun v13 => ?_) (fun J6 hJ6 => ?_)
        · refine x_istore 121 [(6, .int v13), (0, va_rf (some v1)), (1, va_rf v2), (2, .int v3), (3, .int v6), (4, .int v10)] hE dX0_tells_119 rfl (Nat.le_of_ble_eq_true rfl) rfl ?_
          refine x_aload_n 122 hE dX0_tells_121 rfl 1 rfl ?_
          refine x_gR 125 hE (xw_lk0 hE xkf_CrossingWords_58) rfl dX0_tells_122 rfl (fun v14 => ?_)
          refine x_iload 127 hE dX0_tells_125 rfl 5 rfl ?_
          refine x_ldI 128 hE dX0_tells_127 rfl (fun v15 => ?_)
          refine x_jn 145 (fun (v16 : Unit) => [(0, va_rf (some v1)), (1, va_rf v2), (2, .int v3), (3, .int v6), (4, .int v10), (6, .int v13)]) (fun (v16 : Unit) => []) (fun v16 => ?_) (fun J7 hJ7 => ?_)
          · refine x_aload_n 146 hE dX0_tells_145 rfl 0 rfl ?_
            refine x_gR 149 hE (xw_lk0 hE xkf_CrossingWords_58) rfl dX0_tells_146 rfl (fun v17 => ?_)
            refine x_iload 151 hE dX0_tells_149 rfl 4 rfl ?_
            refine x_iload 153 hE dX0_tells_151 rfl 5 rfl ?_
            refine x_stI 154 hE dX0_tells_153 rfl ?_
            refine x_iinc 157 [(3, .int (v6 + 1)), (0, va_rf (some v1)), (1, va_rf v2), (2, .int v3), (4, .int v10), (6, .int v13)] hE dX0_tells_154 rfl 3 rfl xc_i_1 (Nat.le_of_ble_eq_true rfl) rfl ?_
            refine x_goto 24 hE dX0_tells_157 (by decide) ?_
            refine x_sub [(0, va_rf (some v1)), (1, va_rf v2), (2, .int v3), (3, .int (v6 + 1))] [1, 2, 3, 0] rfl ?_
            exact hc3 (v6 + 1)
          · refine x_if_eq 145 131 hE dX0_tells_128 (by decide) rfl ?_ ?_
            · refine x_sub [(0, va_rf (some v1)), (1, va_rf v2), (2, .int v3), (3, .int v6), (4, .int v10), (6, .int v13)] [1, 2, 3, 4, 5, 0] rfl ?_
              exact hJ7 ()
            · refine x_aload_n 132 hE dX0_tells_131 rfl 1 rfl ?_
              refine x_gR 135 hE (xw_lk0 hE xkf_CrossingWords_58) rfl dX0_tells_132 rfl (fun v18 => ?_)
              refine x_iload 137 hE dX0_tells_135 rfl 5 rfl ?_
              refine x_ldI 138 hE dX0_tells_137 rfl (fun v19 => ?_)
              refine x_iload 140 hE dX0_tells_138 rfl 0 rfl ?_
              refine x_icmp_eq 145 143 hE dX0_tells_140 (by decide) rfl ?_ ?_
              · refine x_sub [(0, va_rf (some v1)), (1, va_rf v2), (2, .int v3), (3, .int v6), (4, .int v10), (6, .int v13)] [1, 2, 3, 4, 5, 0] rfl ?_
                exact hJ7 ()
              · refine x_iconst 144 hE dX0_tells_143 rfl xc_i_0 ?_
                refine hx3 _ _ _ _ ?_
                exact x_zretw hE (by decide) dX0_tells_144
        · refine x_if_eq 118 114 hE dX0_tells_111 (by decide) rfl ?_ ?_
          · refine x_iconst 119 hE dX0_tells_118 rfl xc_i_1 ?_
            refine x_sub [(0, va_rf (some v1)), (1, va_rf v2), (2, .int v3), (3, .int v6), (4, .int v10)] [0, 1, 2, 3, 4] rfl ?_
            exact hJ6 1
          · refine x_iconst 115 hE dX0_tells_114 rfl xc_i_2 ?_
            refine x_goto 119 hE dX0_tells_115 (by decide) ?_
            refine x_sub [(0, va_rf (some v1)), (1, va_rf v2), (2, .int v3), (3, .int v6), (4, .int v10)] [0, 1, 2, 3, 4] rfl ?_
            exact hJ6 2
      · refine x_loop (fun (v9 : Int32 × Int32 × Int32) => [(0, va_rf (some v1)), (1, va_rf v2), (2, .int v3), (3, .int v6), (4, .int v9.1), (5, .int v9.2.1), (6, .int v9.2.2)]) (fun JL4 hc4 hx4 v9 => ?_) _ _
        refine x_iload 43 hE dX0_tells_41 rfl 6 rfl ?_
        refine x_aload_n 44 hE dX0_tells_43 rfl 1 rfl ?_
        refine x_gI 47 hE (xw_lk0 hE xkf_CrossingWords_182) rfl dX0_tells_44 rfl (fun v20 => ?_)
        refine x_icmp_ge 105 50 hE dX0_tells_47 (by decide) rfl ?_ ?_
        · refine x_sub [(0, va_rf (some v1)), (1, va_rf v2), (2, .int v3), (3, .int v6), (4, .int v9.1)] [0, 1, 2, 3, 4] rfl ?_
          refine hx4 _ _ _ _ ?_
          exact hJ5 (v9.1)
        · refine x_iload 52 hE dX0_tells_50 rfl 5 rfl ?_
          refine x_aload_n 53 hE dX0_tells_52 rfl 1 rfl ?_
          refine x_gR 56 hE (xw_lkN hE xkn_CrossingWords_285) rfl dX0_tells_53 rfl (fun v21 => ?_)
          refine x_iload 58 hE dX0_tells_56 rfl 6 rfl ?_
          refine x_ldI 59 hE dX0_tells_58 rfl (fun v22 => ?_)
          refine x_rem 60 hE dX0_tells_59 rfl (fun v23 => ?_)
          refine x_istore 62 [(7, .int v23), (0, va_rf (some v1)), (1, va_rf v2), (2, .int v3), (3, .int v6), (4, .int v9.1), (5, .int v9.2.1), (6, .int v9.2.2)] hE dX0_tells_60 rfl (Nat.le_of_ble_eq_true rfl) rfl ?_
          refine x_iload 64 hE dX0_tells_62 rfl 6 rfl ?_
          refine x_aload_n 65 hE dX0_tells_64 rfl 2 rfl ?_
          refine x_gR 68 hE (xw_lkN hE xkn_CrossingWords_285) rfl dX0_tells_65 rfl (fun v24 => ?_)
          refine x_iload 70 hE dX0_tells_68 rfl 7 rfl ?_
          refine x_ldI 71 hE dX0_tells_70 rfl (fun v25 => ?_)
          refine x_div 72 hE dX0_tells_71 rfl (fun v26 => ?_)
          refine x_istore 74 [(5, .int v26), (7, .int v23), (0, va_rf (some v1)), (1, va_rf v2), (2, .int v3), (3, .int v6), (4, .int v9.1), (6, .int v9.2.2)] hE dX0_tells_72 rfl (Nat.le_of_ble_eq_true rfl) rfl ?_
          refine x_iload_n 75 hE dX0_tells_74 rfl 4 rfl ?_
          refine x_iload 77 hE dX0_tells_75 rfl 7 rfl ?_
          refine x_ishr 78 hE dX0_tells_77 rfl ?_
          refine x_iconst 79 hE dX0_tells_78 rfl xc_i_1 ?_
          refine x_iand 80 hE dX0_tells_79 rfl ?_
          refine x_iconst 81 hE dX0_tells_80 rfl xc_i_1 ?_
          refine x_icmp_ne 99 84 hE dX0_tells_81 (by decide) rfl ?_ ?_
          · refine x_iload 86 hE dX0_tells_84 rfl 6 rfl ?_
            refine x_aload_n 87 hE dX0_tells_86 rfl 3 rfl ?_
            refine x_gR 90 hE (xw_lkN hE xkn_CrossingWords_285) rfl dX0_tells_87 rfl (fun v27 => ?_)
            refine x_iload 92 hE dX0_tells_90 rfl 7 rfl ?_
            refine x_ldI 93 hE dX0_tells_92 rfl (fun v28 => ?_)
            refine x_imul 94 hE dX0_tells_93 rfl ?_
            refine x_iload 96 hE dX0_tells_94 rfl 1 rfl ?_
            refine x_iadd 97 hE dX0_tells_96 rfl ?_
            refine x_lti (fun v29 => ?_)
            refine x_istore 99 [(4, .int v29), (5, .int v26), (7, .int v23), (0, va_rf (some v1)), (1, va_rf v2), (2, .int v3), (3, .int v6), (6, .int v9.2.2)] hE dX0_tells_97 rfl (Nat.le_of_ble_eq_true rfl) rfl ?_
            refine x_iinc 102 [(6, .int (v9.2.2 + 1)), (4, .int v29), (5, .int v26), (7, .int v23), (0, va_rf (some v1)), (1, va_rf v2), (2, .int v3), (3, .int v6)] hE dX0_tells_99 rfl 7 rfl xc_i_1 (Nat.le_of_ble_eq_true rfl) rfl ?_
            refine x_goto 41 hE dX0_tells_102 (by decide) ?_
            refine x_sub [(0, va_rf (some v1)), (1, va_rf v2), (2, .int v3), (3, .int v6), (4, .int v29), (5, .int v26), (6, .int (v9.2.2 + 1))] [4, 5, 6, 7, 1, 2, 0] rfl ?_
            exact hc4 (v29, v26, v9.2.2 + 1)
          · refine x_iinc 102 [(6, .int (v9.2.2 + 1)), (5, .int v26), (7, .int v23), (0, va_rf (some v1)), (1, va_rf v2), (2, .int v3), (3, .int v6), (4, .int v9.1)] hE dX0_tells_99 rfl 7 rfl xc_i_1 (Nat.le_of_ble_eq_true rfl) rfl ?_
            refine x_goto 41 hE dX0_tells_102 (by decide) ?_
            refine x_sub [(0, va_rf (some v1)), (1, va_rf v2), (2, .int v3), (3, .int v6), (4, .int v9.1), (5, .int v26), (6, .int (v9.2.2 + 1))] [3, 4, 5, 6, 7, 1, 0] rfl ?_
            exact hc4 (v9.1, v26, v9.2.2 + 1)
  · refine x_loop (fun (v4 : Int32) => [(0, va_rf (some v1)), (1, va_rf v2), (2, .int v3), (3, .int v4)]) (fun JL1 hc1 hx1 v4 => ?_) _ _
    refine x_iload_n 3 hE dX0_tells_2 rfl 3 rfl ?_
    refine x_sipush 6 hE dX0_tells_3 rfl xc_s_1024 ?_
    refine x_icmp_ge 22 9 hE dX0_tells_6 (by decide) rfl ?_ ?_
    · refine x_sub [(0, va_rf (some v1)), (1, va_rf v2), (2, .int v3)] [0, 1, 2] rfl ?_
      refine hx1 _ _ _ _ ?_
      exact hJ2 ()
    · refine x_aload_n 10 hE dX0_tells_9 rfl 0 rfl ?_
      refine x_gR 13 hE (xw_lk0 hE xkf_CrossingWords_58) rfl dX0_tells_10 rfl (fun v30 => ?_)
      refine x_iload_n 14 hE dX0_tells_13 rfl 3 rfl ?_
      refine x_iconst 15 hE dX0_tells_14 rfl xc_i_0 ?_
      refine x_stI 16 hE dX0_tells_15 rfl ?_
      refine x_iinc 19 [(3, .int (v4 + 1)), (0, va_rf (some v1)), (1, va_rf v2), (2, .int v3)] hE dX0_tells_16 rfl 3 rfl xc_i_1 (Nat.le_of_ble_eq_true rfl) rfl ?_
      refine x_goto 2 hE dX0_tells_19 (by decide) ?_
      refine x_sub [(0, va_rf (some v1)), (1, va_rf v2), (2, .int v3), (3, .int (v4 + 1))] [1, 2, 3, 0] rfl ?_
      exact hc1 (v4 + 1)

set_option maxHeartbeats 4000000 in
theorem ct_J1_bitCount {l : Launch} {G : xw_G} {μ : xw_Mu} (v1 : Int32) : xw_Ct l G (xw_hc G μ) xw_oi yJ1_bitCount cJ1_bitCount 1 (some (.int)) 1 [.int v1] (pg_J1_bitCount v1) := by
  refine xw_metL [(0, .int v1)] (by decide) (Nat.le_trans (Nat.le_of_eq ((xw_l1 rfl).trans (congrArg (1 + ·) xw_l0))) (by decide)) ((xw_a1 rfl).trans (congrArg (List.cons _) xw_a0)) (fun E hE hl hG hm => ?_)
  subst hl; subst hG
  have hE : xw_ok E "java/lang/Integer" cJ1_bitCount 1 (some (.int)) 1 := hE
  unfold pg_J1_bitCount
  refine x_iload_n 1 hE dJ1_bitCount_0 rfl 0 rfl ?_
  refine x_iload_n 2 hE dJ1_bitCount_1 rfl 0 rfl ?_
  refine x_iconst 3 hE dJ1_bitCount_2 rfl xc_i_1 ?_
  refine x_iushr 4 hE dJ1_bitCount_3 rfl ?_
  refine x_ldcw 7 hE q1284 dJ1_bitCount_4 rfl ?_
  refine x_iand 8 hE dJ1_bitCount_7 rfl ?_
  refine x_isub 9 hE dJ1_bitCount_8 rfl ?_
  refine x_lti (fun v2 => ?_)
  refine x_istore_n 10 [(0, .int v2)] hE dJ1_bitCount_9 rfl rfl (Nat.le_of_ble_eq_true rfl) rfl ?_
  refine x_iload_n 11 hE dJ1_bitCount_10 rfl 0 rfl ?_
  refine x_ldcw 14 hE q1285 dJ1_bitCount_11 rfl ?_
  refine x_iand 15 hE dJ1_bitCount_14 rfl ?_
  refine x_iload_n 16 hE dJ1_bitCount_15 rfl 0 rfl ?_
  refine x_iconst 17 hE dJ1_bitCount_16 rfl xc_i_2 ?_
  refine x_iushr 18 hE dJ1_bitCount_17 rfl ?_
  refine x_ldcw 21 hE q1285 dJ1_bitCount_18 rfl ?_
  refine x_iand 22 hE dJ1_bitCount_21 rfl ?_
  refine x_iadd 23 hE dJ1_bitCount_22 rfl ?_
  refine x_lti (fun v3 => ?_)
  refine x_istore_n 24 [(0, .int v3)] hE dJ1_bitCount_23 rfl rfl (Nat.le_of_ble_eq_true rfl) rfl ?_
  refine x_iload_n 25 hE dJ1_bitCount_24 rfl 0 rfl ?_
  refine x_iload_n 26 hE dJ1_bitCount_25 rfl 0 rfl ?_
  refine x_iconst 27 hE dJ1_bitCount_26 rfl xc_i_4 ?_
  refine x_iushr 28 hE dJ1_bitCount_27 rfl ?_
  refine x_iadd 29 hE dJ1_bitCount_28 rfl ?_
  refine x_ldcw 32 hE q1286 dJ1_bitCount_29 rfl ?_
  refine x_iand 33 hE dJ1_bitCount_32 rfl ?_
  refine x_lti (fun v4 => ?_)
  refine x_istore_n 34 [(0, .int v4)] hE dJ1_bitCount_33 rfl rfl (Nat.le_of_ble_eq_true rfl) rfl ?_
  refine x_iload_n 35 hE dJ1_bitCount_34 rfl 0 rfl ?_
  refine x_iload_n 36 hE dJ1_bitCount_35 rfl 0 rfl ?_
  refine x_bipush 38 hE dJ1_bitCount_36 rfl xc_b_8 ?_
  refine x_iushr 39 hE dJ1_bitCount_38 rfl ?_
  refine x_iadd 40 hE dJ1_bitCount_39 rfl ?_
  refine x_lti (fun v5 => ?_)
  refine x_istore_n 41 [(0, .int v5)] hE dJ1_bitCount_40 rfl rfl (Nat.le_of_ble_eq_true rfl) rfl ?_
  refine x_iload_n 42 hE dJ1_bitCount_41 rfl 0 rfl ?_
  refine x_iload_n 43 hE dJ1_bitCount_42 rfl 0 rfl ?_
  refine x_bipush 45 hE dJ1_bitCount_43 rfl xc_b_16 ?_
  refine x_iushr 46 hE dJ1_bitCount_45 rfl ?_
  refine x_iadd 47 hE dJ1_bitCount_46 rfl ?_
  refine x_lti (fun v6 => ?_)
  refine x_istore_n 48 [(0, .int v6)] hE dJ1_bitCount_47 rfl rfl (Nat.le_of_ble_eq_true rfl) rfl ?_
  refine x_iload_n 49 hE dJ1_bitCount_48 rfl 0 rfl ?_
  refine x_bipush 51 hE dJ1_bitCount_49 rfl xc_b_63 ?_
  refine x_iand 52 hE dJ1_bitCount_51 rfl ?_
  exact x_iret hE dJ1_bitCount_52

set_option maxHeartbeats 4000000 in
theorem ct_X0_hang {l : Launch} {G : xw_G} {μ : xw_Mu} (v1 : Nat) (v2 : Int32) (v3 : Int32) : xw_Ct l G (xw_hc G μ) xw_oi yX0_hang cX0_hang 7 (some (.int)) 95 [va_rf (some v1), .int v2, .int v3] (pg_X0_hang v1 v2 v3) := by
  refine xw_metL [(0, va_rf (some v1)), (1, .int v2), (2, .int v3)] (by decide) (Nat.le_trans (Nat.le_of_eq ((xw_l1 rfl).trans (congrArg (1 + ·) ((xw_l1 rfl).trans (congrArg (1 + ·) ((xw_l1 rfl).trans (congrArg (1 + ·) xw_l0))))))) (by decide)) ((xw_a1 rfl).trans (congrArg (List.cons _) ((xw_a1 rfl).trans (congrArg (List.cons _) ((xw_a1 rfl).trans (congrArg (List.cons _) xw_a0)))))) (fun E hE hl hG hm => ?_)
  subst hl; subst hG
  have hE : xw_ok E "CrossingWords" cX0_hang 7 (some (.int)) 95 := hE
  unfold pg_X0_hang
  refine x_aload_n 1 hE dX0_hang_0 rfl 0 rfl ?_
  refine x_iload_n 2 hE dX0_hang_1 rfl 1 rfl ?_
  refine x_iload_n 3 hE dX0_hang_2 rfl 2 rfl ?_
  refine x_iconst 4 hE dX0_hang_3 rfl xc_i_0 ?_
  refine x_calli 7 (xw_goV hE (c := 0) (by decide) (fun v5 hq => xw_rV hE (ct_X0_isRun v5 v2 v3 0) xd_X0_isRun rfl q995 q997 qs16 q95 q998 rfl ⟨Nat.le_of_ble_eq_true rfl, Nat.le_of_ble_eq_true rfl⟩ (congrArg va_rf hq) rfl (by decide) dX0_hang_4)) rfl (fun v4 => ?_)
  refine x_if_eq 24 10 hE dX0_hang_7 (by decide) rfl ?_ ?_
  · refine x_bipush 26 hE dX0_hang_24 rfl xc_b_m2 ?_
    exact x_iret hE dX0_hang_26
  · refine x_aload_n 11 hE dX0_hang_10 rfl 0 rfl ?_
    refine x_gR 14 hE (xw_lk0 hE xkf_CrossingWords_21) rfl dX0_hang_11 rfl (fun v6 => ?_)
    refine x_iload_n 15 hE dX0_hang_14 rfl 1 rfl ?_
    refine x_ldR 16 hE dX0_hang_15 rfl (fun v7 => ?_)
    refine x_gI 19 hE (xw_lk0 hE xkf_CrossingWords_182) rfl dX0_hang_16 rfl (fun v8 => ?_)
    refine x_bipush 21 hE dX0_hang_19 rfl xc_b_12 ?_
    refine x_icmp_le 27 24 hE dX0_hang_21 (by decide) rfl ?_ ?_
    · refine x_aload_n 28 hE dX0_hang_27 rfl 0 rfl ?_
      refine x_gR 31 hE (xw_lk0 hE xkf_CrossingWords_21) rfl dX0_hang_28 rfl (fun v9 => ?_)
      refine x_iload_n 32 hE dX0_hang_31 rfl 1 rfl ?_
      refine x_ldR 33 hE dX0_hang_32 rfl (fun v10 => ?_)
      refine x_astore_n 34 [(3, va_rf v10), (0, va_rf (some v1)), (1, .int v2), (2, .int v3)] hE dX0_hang_33 rfl rfl (Nat.le_of_ble_eq_true rfl) rfl ?_
      refine x_aload_n 35 hE dX0_hang_34 rfl 1 rfl ?_
      refine x_iload_n 36 hE dX0_hang_35 rfl 3 rfl ?_
      refine x_callr 39 (xw_goV hE (c := 0) (by decide) (fun v12 hq => xw_rV hE (ct_X0_rulesOf v12 v3) xd_X0_rulesOf rfl q965 q967 qs15 q95 q968 rfl ⟨Nat.le_of_ble_eq_true rfl, Nat.le_of_ble_eq_true rfl⟩ (congrArg va_rf hq) rfl (by decide) dX0_hang_36)) rfl (fun v11 => ?_)
      refine x_astore 41 [(4, va_rf v11), (3, va_rf v10), (0, va_rf (some v1)), (1, .int v2), (2, .int v3)] hE dX0_hang_39 rfl (Nat.le_of_ble_eq_true rfl) (congrArg (List.cons _) (xw_f1 (by decide) (x_rfc _) (xw_f1 (by decide) rfl (xw_f1 (by decide) rfl (xw_f1 (by decide) rfl xw_f0))))) ?_
      refine x_iconst 42 hE dX0_hang_41 rfl xc_i_0 ?_
      refine x_istore 44 [(5, .int 0), (4, va_rf v11), (3, va_rf v10), (0, va_rf (some v1)), (1, .int v2), (2, .int v3)] hE dX0_hang_42 rfl (Nat.le_of_ble_eq_true rfl) (congrArg (List.cons _) (xw_f1 (by decide) (x_rfc _) (xw_f1 (by decide) (x_rfc _) (xw_f1 (by decide) rfl (xw_f1 (by decide) rfl (xw_f1 (by decide) rfl xw_f0)))))) ?_
      refine x_sub [(0, va_rf (some v1)), (3, va_rf v10), (4, va_rf v11), (5, .int 0)] [3, 2, 1, 0] rfl ?_
      refine x_sq 78 (fun (v14 : Unit) => [(0, va_rf (some v1)), (3, va_rf v10)]) (fun _ => []) (fun v14 => ?_) (fun J2 hJ2 => ?_)
      · refine x_iconst 79 hE dX0_hang_78 rfl xc_i_1 ?_
        refine x_aload_n 80 hE dX0_hang_79 rfl 1 rfl ?_
        refine x_gI 83 hE (xw_lk0 hE xkf_CrossingWords_182) rfl dX0_hang_80 rfl (fun v15 => ?_)
        refine x_ishl 84 hE dX0_hang_83 rfl ?_
        refine x_iconst 85 hE dX0_hang_84 rfl xc_i_1 ?_
        refine x_isub 86 hE dX0_hang_85 rfl ?_
        refine x_lti (fun v16 => ?_)
        refine x_istore 88 [(5, .int v16), (0, va_rf (some v1)), (3, va_rf v10)] hE dX0_hang_86 rfl (Nat.le_of_ble_eq_true rfl) rfl ?_
        refine x_iconst 89 hE dX0_hang_88 rfl xc_i_0 ?_
        refine x_istore 91 [(6, .int 0), (5, .int v16), (0, va_rf (some v1)), (3, va_rf v10)] hE dX0_hang_89 rfl (Nat.le_of_ble_eq_true rfl) rfl ?_
        refine x_sub [(0, va_rf (some v1)), (3, va_rf v10), (5, .int v16), (6, .int 0)] [2, 3, 1, 0] rfl ?_
        refine x_sq 135 (fun (v18 : Int32) => [(5, .int v18)]) (fun _ => []) (fun v18 => ?_) (fun J4 hJ4 => ?_)
        · refine x_iload 137 hE dX0_hang_135 rfl 0 rfl ?_
          exact x_iret hE dX0_hang_137
        · refine x_loop (fun (v17 : Int32 × Int32) => [(0, va_rf (some v1)), (3, va_rf v10), (5, .int v17.1), (6, .int v17.2)]) (fun JL3 hc3 hx3 v17 => ?_) _ _
          refine x_iload 93 hE dX0_hang_91 rfl 3 rfl ?_
          refine x_iconst 94 hE dX0_hang_93 rfl xc_i_1 ?_
          refine x_aload_n 95 hE dX0_hang_94 rfl 1 rfl ?_
          refine x_gI 98 hE (xw_lk0 hE xkf_CrossingWords_182) rfl dX0_hang_95 rfl (fun v19 => ?_)
          refine x_ishl 99 hE dX0_hang_98 rfl ?_
          refine x_icmp_ge 135 102 hE dX0_hang_99 (by decide) rfl ?_ ?_
          · refine x_sub [(5, .int v17.1)] [2] rfl ?_
            refine hx3 _ _ _ _ ?_
            exact hJ4 (v17.1)
          · refine x_iload 104 hE dX0_hang_102 rfl 3 rfl ?_
            refine x_calli 107 (xw_goS hE (ct_J1_bitCount v17.2) xd_J1_bitCount q1281 q1282 q117 q1283 rfl ⟨Nat.le_of_ble_eq_true rfl, Nat.le_of_ble_eq_true rfl⟩ rfl (by decide) dX0_hang_104) rfl (fun v20 => ?_)
            refine x_iload 109 hE dX0_hang_107 rfl 2 rfl ?_
            refine x_calli 112 (xw_goS hE (ct_J1_bitCount v17.1) xd_J1_bitCount q1281 q1282 q117 q1283 rfl ⟨Nat.le_of_ble_eq_true rfl, Nat.le_of_ble_eq_true rfl⟩ rfl (Nat.le_trans (xw_sm1 rfl xw_sm0) (by decide)) dX0_hang_109) rfl (fun v21 => ?_)
            refine x_icmp_ge 129 115 hE dX0_hang_112 (by decide) rfl ?_ ?_
            · refine x_iinc 132 [(6, .int (v17.2 + 1)), (0, va_rf (some v1)), (3, va_rf v10), (5, .int v17.1)] hE dX0_hang_129 rfl 3 rfl xc_i_1 (Nat.le_of_ble_eq_true rfl) rfl ?_
              refine x_goto 91 hE dX0_hang_132 (by decide) ?_
              refine x_sub [(0, va_rf (some v1)), (3, va_rf v10), (5, .int v17.1), (6, .int (v17.2 + 1))] [1, 2, 3, 0] rfl ?_
              exact hc3 (v17.1, v17.2 + 1)
            · refine x_aload_n 116 hE dX0_hang_115 rfl 0 rfl ?_
              refine x_aload_n 117 hE dX0_hang_116 rfl 1 rfl ?_
              refine x_iload 119 hE dX0_hang_117 rfl 3 rfl ?_
              refine x_calli 122 (xw_goV hE (c := 0) (by decide) (fun v23 hq => xw_rV hE (ct_X0_tells v23 v10 v17.2) xd_X0_tells rfl q1287 q1289 qs29 q95 q1290 rfl ⟨Nat.le_of_ble_eq_true rfl, Nat.le_of_ble_eq_true rfl⟩ (congrArg va_rf hq) rfl (by decide) dX0_hang_119)) rfl (fun v22 => ?_)
              refine x_if_eq 129 125 hE dX0_hang_122 (by decide) rfl ?_ ?_
              · refine x_iinc 132 [(6, .int (v17.2 + 1)), (0, va_rf (some v1)), (3, va_rf v10), (5, .int v17.1)] hE dX0_hang_129 rfl 3 rfl xc_i_1 (Nat.le_of_ble_eq_true rfl) rfl ?_
                refine x_goto 91 hE dX0_hang_132 (by decide) ?_
                refine x_sub [(0, va_rf (some v1)), (3, va_rf v10), (5, .int v17.1), (6, .int (v17.2 + 1))] [1, 2, 3, 0] rfl ?_
                exact hc3 (v17.1, v17.2 + 1)
              · refine x_iload 127 hE dX0_hang_125 rfl 3 rfl ?_
                refine x_istore 129 [(5, .int v17.2), (0, va_rf (some v1)), (3, va_rf v10), (6, .int v17.2)] hE dX0_hang_127 rfl (Nat.le_of_ble_eq_true rfl) rfl ?_
                refine x_iinc 132 [(6, .int (v17.2 + 1)), (5, .int v17.2), (0, va_rf (some v1)), (3, va_rf v10)] hE dX0_hang_129 rfl 3 rfl xc_i_1 (Nat.le_of_ble_eq_true rfl) rfl ?_
                refine x_goto 91 hE dX0_hang_132 (by decide) ?_
                refine x_sub [(0, va_rf (some v1)), (3, va_rf v10), (5, .int v17.2), (6, .int (v17.2 + 1))] [2, 3, 1, 0] rfl ?_
                exact hc3 (v17.2, v17.2 + 1)
      · refine x_loop (fun (v13 : Int32) => [(0, va_rf (some v1)), (3, va_rf v10), (4, va_rf v11), (5, .int v13)]) (fun JL1 hc1 hx1 v13 => ?_) _ _
        refine x_iload 46 hE dX0_hang_44 rfl 3 rfl ?_
        refine x_aload_n 47 hE dX0_hang_46 rfl 1 rfl ?_
        refine x_calli 50 (xw_goV hE (c := 4) (by decide) (fun v25 hq => xw_rV hE (ct_X5_combos v25) xd_X5_combos rfl q933 q934 q935 q100 q936 rfl ⟨Nat.le_of_ble_eq_true rfl, Nat.le_of_ble_eq_true rfl⟩ (congrArg va_rf hq) rfl (Nat.le_trans (xw_sm1 rfl xw_sm0) (by decide)) dX0_hang_47)) rfl (fun v24 => ?_)
        refine x_icmp_ge 78 53 hE dX0_hang_50 (by decide) rfl ?_ ?_
        · refine x_sub [(0, va_rf (some v1)), (3, va_rf v10)] [0, 1] rfl ?_
          refine hx1 _ _ _ _ ?_
          exact hJ2 ()
        · refine x_aload_n 54 hE dX0_hang_53 rfl 0 rfl ?_
          refine x_gR 57 hE (xw_lk0 hE xkf_CrossingWords_54) rfl dX0_hang_54 rfl (fun v26 => ?_)
          refine x_iload 59 hE dX0_hang_57 rfl 3 rfl ?_
          refine x_aload_n 60 hE dX0_hang_59 rfl 0 rfl ?_
          refine x_aload_n 61 hE dX0_hang_60 rfl 1 rfl ?_
          refine x_aload 63 hE dX0_hang_61 rfl 2 rfl ?_
          refine x_iload 65 hE dX0_hang_63 rfl 3 rfl ?_
          refine x_callr 68 (xw_goV hE (c := 0) (by decide) (fun v28 hq => xw_rV hE (ct_X0_ran v28 v10 v11 v13) xd_X0_ran rfl q999 q1001 qs17 q95 q1002 rfl ⟨Nat.le_of_ble_eq_true rfl, Nat.le_of_ble_eq_true rfl⟩ (congrArg va_rf hq) rfl (Nat.le_trans (xw_sm1 rfl (xw_sm1 (x_rfc _) xw_sm0)) (by decide)) dX0_hang_65)) rfl (fun v27 => ?_)
          refine x_calli 71 (xw_goV hE (c := 1) (by decide) (fun v30 hq => xw_rV hE (ct_X1_isBargain v30) xd_X1_isBargain rfl q1041 q1042 q1043 q96 q1044 rfl ⟨Nat.le_of_ble_eq_true rfl, Nat.le_of_ble_eq_true rfl⟩ (congrArg va_rf hq) rfl (Nat.le_trans (xw_sm1 rfl (xw_sm1 (x_rfc _) xw_sm0)) (by decide)) dX0_hang_68)) rfl (fun v29 => ?_)
          refine x_stZ 72 hE dX0_hang_71 rfl ?_
          refine x_iinc 75 [(5, .int (v13 + 1)), (0, va_rf (some v1)), (3, va_rf v10), (4, va_rf v11)] hE dX0_hang_72 rfl 3 rfl xc_i_1 (Nat.le_of_ble_eq_true rfl) (congrArg (List.cons _) (xw_f1 (by decide) rfl (xw_f1 (by decide) (x_rfc _) (xw_f1 (by decide) (x_rfc _) (xw_f2 xw_f0))))) ?_
          refine x_goto 44 hE dX0_hang_75 (by decide) ?_
          refine x_sub [(0, va_rf (some v1)), (3, va_rf v10), (4, va_rf v11), (5, .int (v13 + 1))] [1, 2, 3, 0] rfl ?_
          exact hc1 (v13 + 1)
    · refine x_bipush 26 hE dX0_hang_24 rfl xc_b_m2 ?_
      exact x_iret hE dX0_hang_26

set_option maxHeartbeats 4000000 in
theorem ct_X1_passesOn {l : Launch} {G : xw_G} {μ : xw_Mu} (v1 : Nat) : xw_Ct l G (xw_hc G μ) xw_oi yX1_passesOn cX1_passesOn 4 (some (.int)) 3 [va_rf (some v1)] (pg_X1_passesOn v1) := by
  refine xw_metL [(0, va_rf (some v1))] (by decide) (Nat.le_trans (Nat.le_of_eq ((xw_l1 rfl).trans (congrArg (1 + ·) xw_l0))) (by decide)) ((xw_a1 rfl).trans (congrArg (List.cons _) xw_a0)) (fun E hE hl hG hm => ?_)
  subst hl; subst hG
  have hE : xw_ok E "CrossingWords$Run" cX1_passesOn 4 (some (.int)) 3 := hE
  unfold pg_X1_passesOn
  refine x_aload_n 1 hE dX1_passesOn_0 rfl 0 rfl ?_
  refine x_gR 4 hE (xw_lk0 hE xkf_CrossingWords_Run_92) rfl dX1_passesOn_1 rfl (fun v2 => ?_)
  refine x_bipush 6 hE dX1_passesOn_4 rfl xc_b_12 ?_
  refine x_calli 9 (xw_goV hE (c := 17) (by decide) (fun v4 hq => xw_rV hE (ct_X20_at v4 12) xd_X20_at rfl q1045 q988 q989 q116 q990 rfl ⟨Nat.le_of_ble_eq_true rfl, Nat.le_of_ble_eq_true rfl⟩ (congrArg va_rf hq) rfl (by decide) dX1_passesOn_6)) rfl (fun v3 => ?_)
  refine x_if_ne 17 12 hE dX1_passesOn_9 (by decide) rfl ?_ ?_
  · refine x_aload_n 13 hE dX1_passesOn_12 rfl 0 rfl ?_
    refine x_gI 16 hE (xw_lk0 hE xkf_CrossingWords_Run_145) rfl dX1_passesOn_13 rfl (fun v26 => ?_)
    exact x_iret hE dX1_passesOn_16
  · refine x_sipush 20 hE dX1_passesOn_17 rfl xc_s_9999 ?_
    refine x_istore_n 21 [(1, .int 9999), (0, va_rf (some v1))] hE dX1_passesOn_20 rfl rfl (Nat.le_of_ble_eq_true rfl) rfl ?_
    refine x_iconst 22 hE dX1_passesOn_21 rfl xc_i_0 ?_
    refine x_istore_n 23 [(2, .int 0), (1, .int 9999), (0, va_rf (some v1))] hE dX1_passesOn_22 rfl rfl (Nat.le_of_ble_eq_true rfl) rfl ?_
    refine x_sub [(0, va_rf (some v1)), (1, .int 9999), (2, .int 0)] [2, 1, 0] rfl ?_
    refine x_sq 98 (fun (v6 : Int32) => [(0, va_rf (some v1)), (1, .int v6)]) (fun _ => []) (fun v6 => ?_) (fun J2 hJ2 => ?_)
    · refine x_iload_n 99 hE dX1_passesOn_98 rfl 1 rfl ?_
      refine x_sipush 102 hE dX1_passesOn_99 rfl xc_s_9999 ?_
      refine x_icmp_ne 111 105 hE dX1_passesOn_102 (by decide) rfl ?_ ?_
      · refine x_sipush 108 hE dX1_passesOn_105 rfl xc_s_9999 ?_
        refine x_goto 119 hE dX1_passesOn_108 (by decide) ?_
        exact x_iret hE dX1_passesOn_119
      · refine x_aload_n 112 hE dX1_passesOn_111 rfl 0 rfl ?_
        refine x_gI 115 hE (xw_lk0 hE xkf_CrossingWords_Run_145) rfl dX1_passesOn_112 rfl (fun v7 => ?_)
        refine x_iload_n 116 hE dX1_passesOn_115 rfl 1 rfl ?_
        refine x_mmax 119 hE q1305 q419 q101 xm_mmax (by decide) (by decide) dX1_passesOn_116 rfl ?_
        refine x_lti (fun v8 => ?_)
        exact x_iret hE dX1_passesOn_119
    · refine x_loop (fun (v5 : Int32 × Int32) => [(0, va_rf (some v1)), (1, .int v5.1), (2, .int v5.2)]) (fun JL1 hc1 hx1 v5 => ?_) _ _
      refine x_iload_n 24 hE dX1_passesOn_23 rfl 2 rfl ?_
      refine x_aload_n 25 hE dX1_passesOn_24 rfl 0 rfl ?_
      refine x_gR 28 hE (xw_lk0 hE xkf_CrossingWords_Run_31) rfl dX1_passesOn_25 rfl (fun v9 => ?_)
      refine x_gI 31 hE (xw_lk0 hE xkf_CrossingWords_Run_51) rfl dX1_passesOn_28 rfl (fun v10 => ?_)
      refine x_icmp_ge 98 34 hE dX1_passesOn_31 (by decide) rfl ?_ ?_
      · refine x_sub [(0, va_rf (some v1)), (1, .int v5.1)] [0, 1] rfl ?_
        refine hx1 _ _ _ _ ?_
        exact hJ2 (v5.1)
      · refine x_aload_n 35 hE dX1_passesOn_34 rfl 0 rfl ?_
        refine x_gR 38 hE (xw_lk0 hE xkf_CrossingWords_Run_31) rfl dX1_passesOn_35 rfl (fun v11 => ?_)
        refine x_gR 41 hE (xw_lk0 hE xkf_CrossingWords_Run_54) rfl dX1_passesOn_38 rfl (fun v12 => ?_)
        refine x_iload_n 42 hE dX1_passesOn_41 rfl 2 rfl ?_
        refine x_ldR 43 hE dX1_passesOn_42 rfl (fun v13 => ?_)
        refine x_astore_n 44 [(3, va_rf v13), (0, va_rf (some v1)), (1, .int v5.1), (2, .int v5.2)] hE dX1_passesOn_43 rfl rfl (Nat.le_of_ble_eq_true rfl) rfl ?_
        refine x_aload_n 45 hE dX1_passesOn_44 rfl 0 rfl ?_
        refine x_calli 48 (xw_goD hE (fun v15 hq => (List.forall_mem_cons.mpr ⟨⟨Nat.le_of_ble_eq_true rfl, xw_rU (owner := "CrossingWords$Saying") (x := ⟨"CrossingWords$Saying", "kind", "()I"⟩) hE (ct_X7_kind v15) xD_CrossingWords_Saying_kind___I (Or.inr xkd_CrossingWords_Sayingkind_) q1047 q535 q536 q537 q103 q538 rfl ⟨Nat.le_of_ble_eq_true rfl, Nat.le_of_ble_eq_true rfl⟩ (congrArg va_rf hq) rfl (by decide) dX1_passesOn_45⟩, (List.forall_mem_cons.mpr ⟨⟨Nat.le_of_ble_eq_true rfl, xw_rU (owner := "CrossingWords$Saying") (x := ⟨"CrossingWords$Saying", "kind", "()I"⟩) hE (ct_X8_kind v15) xD_CrossingWords_Saying_kind___I (Or.inr xkd_CrossingWords_Sayingkind_) q1047 q535 q551 q552 q104 q553 rfl ⟨Nat.le_of_ble_eq_true rfl, Nat.le_of_ble_eq_true rfl⟩ (congrArg va_rf hq) rfl (by decide) dX1_passesOn_45⟩, (List.forall_mem_cons.mpr ⟨⟨Nat.le_of_ble_eq_true rfl, xw_rU (owner := "CrossingWords$Saying") (x := ⟨"CrossingWords$Saying", "kind", "()I"⟩) hE (ct_X10_kind v15) xD_CrossingWords_Saying_kind___I (Or.inr xkd_CrossingWords_Sayingkind_) q1047 q535 q557 q558 q106 q559 rfl ⟨Nat.le_of_ble_eq_true rfl, Nat.le_of_ble_eq_true rfl⟩ (congrArg va_rf hq) rfl (by decide) dX1_passesOn_45⟩, (List.forall_mem_cons.mpr ⟨⟨Nat.le_of_ble_eq_true rfl, xw_rU (owner := "CrossingWords$Saying") (x := ⟨"CrossingWords$Saying", "kind", "()I"⟩) hE (ct_X11_kind v15) xD_CrossingWords_Saying_kind___I (Or.inr xkd_CrossingWords_Sayingkind_) q1047 q535 q542 q543 q107 q544 rfl ⟨Nat.le_of_ble_eq_true rfl, Nat.le_of_ble_eq_true rfl⟩ (congrArg va_rf hq) rfl (by decide) dX1_passesOn_45⟩, (List.forall_mem_cons.mpr ⟨⟨Nat.le_of_ble_eq_true rfl, xw_rU (owner := "CrossingWords$Saying") (x := ⟨"CrossingWords$Saying", "kind", "()I"⟩) hE (ct_X12_kind v15) xD_CrossingWords_Saying_kind___I (Or.inr xkd_CrossingWords_Sayingkind_) q1047 q535 q548 q549 q108 q550 rfl ⟨Nat.le_of_ble_eq_true rfl, Nat.le_of_ble_eq_true rfl⟩ (congrArg va_rf hq) rfl (by decide) dX1_passesOn_45⟩, (List.forall_mem_cons.mpr ⟨⟨Nat.le_of_ble_eq_true rfl, xw_rU (owner := "CrossingWords$Saying") (x := ⟨"CrossingWords$Saying", "kind", "()I"⟩) hE (ct_X13_kind v15) xD_CrossingWords_Saying_kind___I (Or.inr xkd_CrossingWords_Sayingkind_) q1047 q535 q539 q540 q109 q541 rfl ⟨Nat.le_of_ble_eq_true rfl, Nat.le_of_ble_eq_true rfl⟩ (congrArg va_rf hq) rfl (by decide) dX1_passesOn_45⟩, (List.forall_mem_cons.mpr ⟨⟨Nat.le_of_ble_eq_true rfl, xw_rU (owner := "CrossingWords$Saying") (x := ⟨"CrossingWords$Saying", "kind", "()I"⟩) hE (ct_X14_kind v15) xD_CrossingWords_Saying_kind___I (Or.inr xkd_CrossingWords_Sayingkind_) q1047 q535 q545 q546 q110 q547 rfl ⟨Nat.le_of_ble_eq_true rfl, Nat.le_of_ble_eq_true rfl⟩ (congrArg va_rf hq) rfl (by decide) dX1_passesOn_45⟩, (List.forall_mem_cons.mpr ⟨⟨Nat.le_of_ble_eq_true rfl, xw_rU (owner := "CrossingWords$Saying") (x := ⟨"CrossingWords$Saying", "kind", "()I"⟩) hE (ct_X15_kind v15) xD_CrossingWords_Saying_kind___I (Or.inr xkd_CrossingWords_Sayingkind_) q1047 q535 q554 q555 q111 q556 rfl ⟨Nat.le_of_ble_eq_true rfl, Nat.le_of_ble_eq_true rfl⟩ (congrArg va_rf hq) rfl (by decide) dX1_passesOn_45⟩, (fun _ h => absurd h List.not_mem_nil)⟩)⟩)⟩)⟩)⟩)⟩)⟩)⟩))) rfl (fun v14 => ?_)
        refine x_bipush 50 hE dX1_passesOn_48 rfl xc_b_7 ?_
        refine x_icmp_ne 92 53 hE dX1_passesOn_50 (by decide) rfl ?_ ?_
        · refine x_aload_n 54 hE dX1_passesOn_53 rfl 0 rfl ?_
          refine x_aload_n 55 hE dX1_passesOn_54 rfl 1 rfl ?_
          refine x_gR 58 hE (xw_lk0 hE xkf_CrossingWords_Run_151) rfl dX1_passesOn_55 rfl (fun v16 => ?_)
          refine x_calli 61 (xw_goD hE (fun v18 hq => (List.forall_mem_cons.mpr ⟨⟨Nat.le_of_ble_eq_true rfl, xw_rU (owner := "CrossingWords$Saying") (x := ⟨"CrossingWords$Saying", "isSaid", "(LCrossingWords$Saying;)Z"⟩) hE (ct_X6_isSaid v18 v16) xD_CrossingWords_Saying_isSaid__LCrossingWords_Saying__Z (Or.inl (Or.inl rfl)) q1048 q1050 q1051 q1049 q102 q1059 rfl ⟨Nat.le_of_ble_eq_true rfl, Nat.le_of_ble_eq_true rfl⟩ (congrArg va_rf hq) rfl (by decide) dX1_passesOn_58⟩, (List.forall_mem_cons.mpr ⟨⟨Nat.le_of_ble_eq_true rfl, xw_rU (owner := "CrossingWords$Saying") (x := ⟨"CrossingWords$Saying", "isSaid", "(LCrossingWords$Saying;)Z"⟩) hE (ct_X6_isSaid v18 v16) xD_CrossingWords_Saying_isSaid__LCrossingWords_Saying__Z (Or.inl (Or.inl rfl)) q1048 q1050 q1056 q1049 q102 q1059 rfl ⟨Nat.le_of_ble_eq_true rfl, Nat.le_of_ble_eq_true rfl⟩ (congrArg va_rf hq) rfl (by decide) dX1_passesOn_58⟩, (List.forall_mem_cons.mpr ⟨⟨Nat.le_of_ble_eq_true rfl, xw_rU (owner := "CrossingWords$Saying") (x := ⟨"CrossingWords$Saying", "isSaid", "(LCrossingWords$Saying;)Z"⟩) hE (ct_X6_isSaid v18 v16) xD_CrossingWords_Saying_isSaid__LCrossingWords_Saying__Z (Or.inl (Or.inl rfl)) q1048 q1050 q1058 q1049 q102 q1059 rfl ⟨Nat.le_of_ble_eq_true rfl, Nat.le_of_ble_eq_true rfl⟩ (congrArg va_rf hq) rfl (by decide) dX1_passesOn_58⟩, (List.forall_mem_cons.mpr ⟨⟨Nat.le_of_ble_eq_true rfl, xw_rU (owner := "CrossingWords$Saying") (x := ⟨"CrossingWords$Saying", "isSaid", "(LCrossingWords$Saying;)Z"⟩) hE (ct_X6_isSaid v18 v16) xD_CrossingWords_Saying_isSaid__LCrossingWords_Saying__Z (Or.inl (Or.inl rfl)) q1048 q1050 q1053 q1049 q102 q1059 rfl ⟨Nat.le_of_ble_eq_true rfl, Nat.le_of_ble_eq_true rfl⟩ (congrArg va_rf hq) rfl (by decide) dX1_passesOn_58⟩, (List.forall_mem_cons.mpr ⟨⟨Nat.le_of_ble_eq_true rfl, xw_rU (owner := "CrossingWords$Saying") (x := ⟨"CrossingWords$Saying", "isSaid", "(LCrossingWords$Saying;)Z"⟩) hE (ct_X6_isSaid v18 v16) xD_CrossingWords_Saying_isSaid__LCrossingWords_Saying__Z (Or.inl (Or.inl rfl)) q1048 q1050 q1055 q1049 q102 q1059 rfl ⟨Nat.le_of_ble_eq_true rfl, Nat.le_of_ble_eq_true rfl⟩ (congrArg va_rf hq) rfl (by decide) dX1_passesOn_58⟩, (List.forall_mem_cons.mpr ⟨⟨Nat.le_of_ble_eq_true rfl, xw_rU (owner := "CrossingWords$Saying") (x := ⟨"CrossingWords$Saying", "isSaid", "(LCrossingWords$Saying;)Z"⟩) hE (ct_X6_isSaid v18 v16) xD_CrossingWords_Saying_isSaid__LCrossingWords_Saying__Z (Or.inl (Or.inl rfl)) q1048 q1050 q1052 q1049 q102 q1059 rfl ⟨Nat.le_of_ble_eq_true rfl, Nat.le_of_ble_eq_true rfl⟩ (congrArg va_rf hq) rfl (by decide) dX1_passesOn_58⟩, (List.forall_mem_cons.mpr ⟨⟨Nat.le_of_ble_eq_true rfl, xw_rU (owner := "CrossingWords$Saying") (x := ⟨"CrossingWords$Saying", "isSaid", "(LCrossingWords$Saying;)Z"⟩) hE (ct_X6_isSaid v18 v16) xD_CrossingWords_Saying_isSaid__LCrossingWords_Saying__Z (Or.inl (Or.inl rfl)) q1048 q1050 q1054 q1049 q102 q1059 rfl ⟨Nat.le_of_ble_eq_true rfl, Nat.le_of_ble_eq_true rfl⟩ (congrArg va_rf hq) rfl (by decide) dX1_passesOn_58⟩, (List.forall_mem_cons.mpr ⟨⟨Nat.le_of_ble_eq_true rfl, xw_rU (owner := "CrossingWords$Saying") (x := ⟨"CrossingWords$Saying", "isSaid", "(LCrossingWords$Saying;)Z"⟩) hE (ct_X6_isSaid v18 v16) xD_CrossingWords_Saying_isSaid__LCrossingWords_Saying__Z (Or.inl (Or.inl rfl)) q1048 q1050 q1057 q1049 q102 q1059 rfl ⟨Nat.le_of_ble_eq_true rfl, Nat.le_of_ble_eq_true rfl⟩ (congrArg va_rf hq) rfl (by decide) dX1_passesOn_58⟩, (fun _ h => absurd h List.not_mem_nil)⟩)⟩)⟩)⟩)⟩)⟩)⟩)⟩))) rfl (fun v17 => ?_)
          refine x_if_eq 92 64 hE dX1_passesOn_61 (by decide) rfl ?_ ?_
          · refine x_iinc 95 [(2, .int (v5.2 + 1)), (3, va_rf v13), (0, va_rf (some v1)), (1, .int v5.1)] hE dX1_passesOn_92 rfl 3 rfl xc_i_1 (Nat.le_of_ble_eq_true rfl) rfl ?_
            refine x_goto 23 hE dX1_passesOn_95 (by decide) ?_
            refine x_sub [(0, va_rf (some v1)), (1, .int v5.1), (2, .int (v5.2 + 1))] [2, 3, 0] rfl ?_
            exact hc1 (v5.1, v5.2 + 1)
          · refine x_iload_n 65 hE dX1_passesOn_64 rfl 2 rfl ?_
            refine x_aload_n 66 hE dX1_passesOn_65 rfl 1 rfl ?_
            refine x_aload_n 67 hE dX1_passesOn_66 rfl 0 rfl ?_
            refine x_aload_n 68 hE dX1_passesOn_67 rfl 1 rfl ?_
            refine x_gR 71 hE (xw_lk0 hE xkf_CrossingWords_Run_92) rfl dX1_passesOn_68 rfl (fun v19 => ?_)
            refine x_bipush 73 hE dX1_passesOn_71 rfl xc_b_12 ?_
            refine x_calli 76 (xw_goV hE (c := 17) (by decide) (fun v21 hq => xw_rV hE (ct_X20_at v21 12) xd_X20_at rfl q1045 q988 q989 q116 q990 rfl ⟨Nat.le_of_ble_eq_true rfl, Nat.le_of_ble_eq_true rfl⟩ (congrArg va_rf hq) rfl (Nat.le_trans (xw_sm1 (x_rfc _) (xw_sm1 rfl (xw_sm1 rfl xw_sm0))) (by decide)) dX1_passesOn_73)) rfl (fun v20 => ?_)
            refine x_iconst 77 hE dX1_passesOn_76 rfl xc_i_1 ?_
            refine x_sq 85 (fun (v22 : Int32) => [(0, va_rf (some v1)), (2, .int v5.2)]) (fun (v22 : Int32) => [.int v22, va_rf v13, va_rf (some v1), .int v5.1]) (fun v22 => ?_) (fun J3 hJ3 => ?_)
            · refine x_calli 88 (xw_goV hE (c := 1) (by decide) (fun v24 hq => xw_rV hE (ct_X1_hour v24 v13 v22) xd_X1_hour rfl q1046 q954 q955 q96 q956 rfl ⟨Nat.le_of_ble_eq_true rfl, Nat.le_of_ble_eq_true rfl⟩ (congrArg va_rf hq) rfl (Nat.le_trans (xw_sm1 rfl xw_sm0) (by decide)) dX1_passesOn_85)) rfl (fun v23 => ?_)
              refine x_mmin 91 hE q1304 q687 q101 xm_mmin (by decide) (by decide) dX1_passesOn_88 rfl ?_
              refine x_lti (fun v25 => ?_)
              refine x_istore_n 92 [(1, .int v25), (0, va_rf (some v1)), (2, .int v5.2)] hE dX1_passesOn_91 rfl rfl (Nat.le_of_ble_eq_true rfl) rfl ?_
              refine x_iinc 95 [(2, .int (v5.2 + 1)), (1, .int v25), (0, va_rf (some v1))] hE dX1_passesOn_92 rfl 2 rfl xc_i_1 (Nat.le_of_ble_eq_true rfl) rfl ?_
              refine x_goto 23 hE dX1_passesOn_95 (by decide) ?_
              refine x_sub [(0, va_rf (some v1)), (1, .int v25), (2, .int (v5.2 + 1))] [2, 1, 0] rfl ?_
              exact hc1 (v25, v5.2 + 1)
            · refine x_icmp_ne 84 80 hE dX1_passesOn_77 (by decide) rfl ?_ ?_
              · refine x_iconst 81 hE dX1_passesOn_80 rfl xc_i_0 ?_
                refine x_goto 85 hE dX1_passesOn_81 (by decide) ?_
                refine x_sub [(0, va_rf (some v1)), (2, .int v5.2)] [1, 3] rfl ?_
                exact hJ3 0
              · refine x_iconst 85 hE dX1_passesOn_84 rfl xc_i_1 ?_
                refine x_sub [(0, va_rf (some v1)), (2, .int v5.2)] [1, 3] rfl ?_
                exact hJ3 1
        · refine x_iinc 95 [(2, .int (v5.2 + 1)), (3, va_rf v13), (0, va_rf (some v1)), (1, .int v5.1)] hE dX1_passesOn_92 rfl 3 rfl xc_i_1 (Nat.le_of_ble_eq_true rfl) rfl ?_
          refine x_goto 23 hE dX1_passesOn_95 (by decide) ?_
          refine x_sub [(0, va_rf (some v1)), (1, .int v5.1), (2, .int (v5.2 + 1))] [2, 3, 0] rfl ?_
          exact hc1 (v5.1, v5.2 + 1)

set_option maxHeartbeats 4000000 in
theorem ct_X1_bears {l : Launch} {G : xw_G} {μ : xw_Mu} (v1 : Nat) (v2 : Int32) : xw_Ct l G (xw_hc G μ) xw_oi yX1_bears cX1_bears 2 (some (.int)) 4 [va_rf (some v1), .int v2] (pg_X1_bears v1 v2) := by
  refine xw_metL [(0, va_rf (some v1)), (1, .int v2)] (by decide) (Nat.le_trans (Nat.le_of_eq ((xw_l1 rfl).trans (congrArg (1 + ·) ((xw_l1 rfl).trans (congrArg (1 + ·) xw_l0))))) (by decide)) ((xw_a1 rfl).trans (congrArg (List.cons _) ((xw_a1 rfl).trans (congrArg (List.cons _) xw_a0)))) (fun E hE hl hG hm => ?_)
  subst hl; subst hG
  have hE : xw_ok E "CrossingWords$Run" cX1_bears 2 (some (.int)) 4 := hE
  unfold pg_X1_bears
  refine x_iload_n 1 hE dX1_bears_0 rfl 1 rfl ?_
  refine x_aload_n 2 hE dX1_bears_1 rfl 0 rfl ?_
  refine x_calli 5 (xw_goV hE (c := 1) (by decide) (fun v4 hq => xw_rV hE (ct_X1_passesOn v4) xd_X1_passesOn rfl q1300 q1302 qs30 q96 q1303 rfl ⟨Nat.le_of_ble_eq_true rfl, Nat.le_of_ble_eq_true rfl⟩ (congrArg va_rf hq) rfl (Nat.le_trans (xw_sm1 rfl xw_sm0) (by decide)) dX1_bears_2)) rfl (fun v3 => ?_)
  refine x_icmp_lt 18 8 hE dX1_bears_5 (by decide) rfl ?_ ?_
  · refine x_aload_n 19 hE dX1_bears_18 rfl 0 rfl ?_
    refine x_gR 22 hE (xw_lk0 hE xkf_CrossingWords_Run_151) rfl dX1_bears_19 rfl (fun v5 => ?_)
    refine x_gI 25 hE (xw_lk0 hE xkf_CrossingWords_Run_195) rfl dX1_bears_22 rfl (fun v6 => ?_)
    exact x_iret hE dX1_bears_25
  · refine x_aload_n 9 hE dX1_bears_8 rfl 0 rfl ?_
    refine x_gR 12 hE (xw_lk0 hE xkf_CrossingWords_Run_151) rfl dX1_bears_9 rfl (fun v7 => ?_)
    refine x_calli 15 (xw_goD hE (fun v9 hq => (List.forall_mem_cons.mpr ⟨⟨Nat.le_of_ble_eq_true rfl, xw_rU (owner := "CrossingWords$Saying") (x := ⟨"CrossingWords$Saying", "to", "()I"⟩) hE (ct_X7_to v9) xD_CrossingWords_Saying_to___I (Or.inl (Or.inr ⟨_, _, _, q561, q583⟩)) q1202 q562 q563 q564 q103 q565 rfl ⟨Nat.le_of_ble_eq_true rfl, Nat.le_of_ble_eq_true rfl⟩ (congrArg va_rf hq) rfl (by decide) dX1_bears_12⟩, (List.forall_mem_cons.mpr ⟨⟨Nat.le_of_ble_eq_true rfl, xw_rU (owner := "CrossingWords$Saying") (x := ⟨"CrossingWords$Saying", "to", "()I"⟩) hE (ct_X8_to v9) xD_CrossingWords_Saying_to___I (Or.inl (Or.inr ⟨_, _, _, q561, q583⟩)) q1202 q562 q578 q579 q104 q580 rfl ⟨Nat.le_of_ble_eq_true rfl, Nat.le_of_ble_eq_true rfl⟩ (congrArg va_rf hq) rfl (by decide) dX1_bears_12⟩, (List.forall_mem_cons.mpr ⟨⟨Nat.le_of_ble_eq_true rfl, xw_rU (owner := "CrossingWords$Saying") (x := ⟨"CrossingWords$Saying", "to", "()I"⟩) hE (ct_X6_to v9) xD_CrossingWords_Saying_to___I (Or.inl (Or.inl rfl)) q1202 q562 q582 q561 q102 q583 rfl ⟨Nat.le_of_ble_eq_true rfl, Nat.le_of_ble_eq_true rfl⟩ (congrArg va_rf hq) rfl (by decide) dX1_bears_12⟩, (List.forall_mem_cons.mpr ⟨⟨Nat.le_of_ble_eq_true rfl, xw_rU (owner := "CrossingWords$Saying") (x := ⟨"CrossingWords$Saying", "to", "()I"⟩) hE (ct_X11_to v9) xD_CrossingWords_Saying_to___I (Or.inl (Or.inr ⟨_, _, _, q561, q583⟩)) q1202 q562 q567 q568 q107 q569 rfl ⟨Nat.le_of_ble_eq_true rfl, Nat.le_of_ble_eq_true rfl⟩ (congrArg va_rf hq) rfl (by decide) dX1_bears_12⟩, (List.forall_mem_cons.mpr ⟨⟨Nat.le_of_ble_eq_true rfl, xw_rU (owner := "CrossingWords$Saying") (x := ⟨"CrossingWords$Saying", "to", "()I"⟩) hE (ct_X6_to v9) xD_CrossingWords_Saying_to___I (Or.inl (Or.inl rfl)) q1202 q562 q577 q561 q102 q583 rfl ⟨Nat.le_of_ble_eq_true rfl, Nat.le_of_ble_eq_true rfl⟩ (congrArg va_rf hq) rfl (by decide) dX1_bears_12⟩, (List.forall_mem_cons.mpr ⟨⟨Nat.le_of_ble_eq_true rfl, xw_rU (owner := "CrossingWords$Saying") (x := ⟨"CrossingWords$Saying", "to", "()I"⟩) hE (ct_X6_to v9) xD_CrossingWords_Saying_to___I (Or.inl (Or.inl rfl)) q1202 q562 q566 q561 q102 q583 rfl ⟨Nat.le_of_ble_eq_true rfl, Nat.le_of_ble_eq_true rfl⟩ (congrArg va_rf hq) rfl (by decide) dX1_bears_12⟩, (List.forall_mem_cons.mpr ⟨⟨Nat.le_of_ble_eq_true rfl, xw_rU (owner := "CrossingWords$Saying") (x := ⟨"CrossingWords$Saying", "to", "()I"⟩) hE (ct_X6_to v9) xD_CrossingWords_Saying_to___I (Or.inl (Or.inl rfl)) q1202 q562 q576 q561 q102 q583 rfl ⟨Nat.le_of_ble_eq_true rfl, Nat.le_of_ble_eq_true rfl⟩ (congrArg va_rf hq) rfl (by decide) dX1_bears_12⟩, (List.forall_mem_cons.mpr ⟨⟨Nat.le_of_ble_eq_true rfl, xw_rU (owner := "CrossingWords$Saying") (x := ⟨"CrossingWords$Saying", "to", "()I"⟩) hE (ct_X6_to v9) xD_CrossingWords_Saying_to___I (Or.inl (Or.inl rfl)) q1202 q562 q581 q561 q102 q583 rfl ⟨Nat.le_of_ble_eq_true rfl, Nat.le_of_ble_eq_true rfl⟩ (congrArg va_rf hq) rfl (by decide) dX1_bears_12⟩, (fun _ h => absurd h List.not_mem_nil)⟩)⟩)⟩)⟩)⟩)⟩)⟩)⟩))) rfl (fun v8 => ?_)
    refine x_goto 25 hE dX1_bears_15 (by decide) ?_
    exact x_iret hE dX1_bears_25

set_option maxHeartbeats 4000000 in
theorem ct_X0_bears {l : Launch} {G : xw_G} {μ : xw_Mu} (v1 : Nat) (v2 : Int32) (v3 : Int32) (v4 : Int32) (v5 : Int32) : xw_Ct l G (xw_hc G μ) xw_oi yX0_bears cX0_bears 6 (some (.int)) 95 [va_rf (some v1), .int v2, .int v3, .int v4, .int v5] (pg_X0_bears v1 v2 v3 v4 v5) := by
  refine xw_metL [(0, va_rf (some v1)), (1, .int v2), (2, .int v3), (3, .int v4), (4, .int v5)] (by decide) (Nat.le_trans (Nat.le_of_eq ((xw_l1 rfl).trans (congrArg (1 + ·) ((xw_l1 rfl).trans (congrArg (1 + ·) ((xw_l1 rfl).trans (congrArg (1 + ·) ((xw_l1 rfl).trans (congrArg (1 + ·) ((xw_l1 rfl).trans (congrArg (1 + ·) xw_l0))))))))))) (by decide)) ((xw_a1 rfl).trans (congrArg (List.cons _) ((xw_a1 rfl).trans (congrArg (List.cons _) ((xw_a1 rfl).trans (congrArg (List.cons _) ((xw_a1 rfl).trans (congrArg (List.cons _) ((xw_a1 rfl).trans (congrArg (List.cons _) xw_a0)))))))))) (fun E hE hl hG hm => ?_)
  subst hl; subst hG
  have hE : xw_ok E "CrossingWords" cX0_bears 6 (some (.int)) 95 := hE
  unfold pg_X0_bears
  refine x_aload_n 1 hE dX0_bears_0 rfl 0 rfl ?_
  refine x_iload_n 2 hE dX0_bears_1 rfl 1 rfl ?_
  refine x_iload_n 3 hE dX0_bears_2 rfl 2 rfl ?_
  refine x_iload_n 4 hE dX0_bears_3 rfl 3 rfl ?_
  refine x_calli 7 (xw_goV hE (c := 0) (by decide) (fun v7 hq => xw_rV hE (ct_X0_isRun v7 v2 v3 v4) xd_X0_isRun rfl q995 q997 qs16 q95 q998 rfl ⟨Nat.le_of_ble_eq_true rfl, Nat.le_of_ble_eq_true rfl⟩ (congrArg va_rf hq) rfl (by decide) dX0_bears_4)) rfl (fun v6 => ?_)
  refine x_if_eq 15 10 hE dX0_bears_7 (by decide) rfl ?_ ?_
  · refine x_bipush 17 hE dX0_bears_15 rfl xc_b_m2 ?_
    exact x_iret hE dX0_bears_17
  · refine x_iload 12 hE dX0_bears_10 rfl 4 rfl ?_
    refine x_if_ge 18 15 hE dX0_bears_12 (by decide) rfl ?_ ?_
    · refine x_aload_n 19 hE dX0_bears_18 rfl 0 rfl ?_
      refine x_aload_n 20 hE dX0_bears_19 rfl 0 rfl ?_
      refine x_gR 23 hE (xw_lk0 hE xkf_CrossingWords_21) rfl dX0_bears_20 rfl (fun v8 => ?_)
      refine x_iload_n 24 hE dX0_bears_23 rfl 1 rfl ?_
      refine x_ldR 25 hE dX0_bears_24 rfl (fun v9 => ?_)
      refine x_aload_n 26 hE dX0_bears_25 rfl 0 rfl ?_
      refine x_iload_n 27 hE dX0_bears_26 rfl 2 rfl ?_
      refine x_callr 30 (xw_goV hE (c := 0) (by decide) (fun v11 hq => xw_rV hE (ct_X0_rulesOf v11 v3) xd_X0_rulesOf rfl q965 q967 qs15 q95 q968 rfl ⟨Nat.le_of_ble_eq_true rfl, Nat.le_of_ble_eq_true rfl⟩ (congrArg va_rf hq) rfl (Nat.le_trans (xw_sm1 (x_rfc _) (xw_sm1 rfl xw_sm0)) (by decide)) dX0_bears_27)) rfl (fun v10 => ?_)
      refine x_iload_n 31 hE dX0_bears_30 rfl 3 rfl ?_
      refine x_callr 34 (xw_goV hE (c := 0) (by decide) (fun v13 hq => xw_rV hE (ct_X0_ran v13 v9 v10 v4) xd_X0_ran rfl q999 q1001 qs17 q95 q1002 rfl ⟨Nat.le_of_ble_eq_true rfl, Nat.le_of_ble_eq_true rfl⟩ (congrArg va_rf hq) rfl (by decide) dX0_bears_31)) rfl (fun v12 => ?_)
      refine x_astore 36 [(5, va_rf v12), (0, va_rf (some v1)), (1, .int v2), (2, .int v3), (3, .int v4), (4, .int v5)] hE dX0_bears_34 rfl (Nat.le_of_ble_eq_true rfl) rfl ?_
      refine x_aload 38 hE dX0_bears_36 rfl 0 rfl ?_
      refine x_calli 41 (xw_goV hE (c := 1) (by decide) (fun v15 hq => xw_rV hE (ct_X1_isBargain v15) xd_X1_isBargain rfl q1041 q1042 q1043 q96 q1044 rfl ⟨Nat.le_of_ble_eq_true rfl, Nat.le_of_ble_eq_true rfl⟩ (congrArg va_rf hq) rfl (by decide) dX0_bears_38)) rfl (fun v14 => ?_)
      refine x_if_eq 60 44 hE dX0_bears_41 (by decide) rfl ?_ ?_
      · refine x_iconst 61 hE dX0_bears_60 rfl xc_i_m1 ?_
        exact x_iret hE dX0_bears_61
      · refine x_aload 46 hE dX0_bears_44 rfl 0 rfl ?_
        refine x_iload 48 hE dX0_bears_46 rfl 5 rfl ?_
        refine x_sipush 51 hE dX0_bears_48 rfl xc_s_9998 ?_
        refine x_mmin 54 hE q1295 q687 q101 xm_mmin (by decide) (Nat.le_trans (xw_sm1 (x_rfc _) xw_sm0) (by decide)) dX0_bears_51 rfl ?_
        refine x_lti (fun v16 => ?_)
        refine x_calli 57 (xw_goV hE (c := 1) (by decide) (fun v18 hq => xw_rV hE (ct_X1_bears v18 v16) xd_X1_bears rfl q1296 q1297 q1298 q96 q1299 rfl ⟨Nat.le_of_ble_eq_true rfl, Nat.le_of_ble_eq_true rfl⟩ (congrArg va_rf hq) rfl (by decide) dX0_bears_54)) rfl (fun v17 => ?_)
        refine x_goto 61 hE dX0_bears_57 (by decide) ?_
        exact x_iret hE dX0_bears_61
    · refine x_bipush 17 hE dX0_bears_15 rfl xc_b_m2 ?_
      exact x_iret hE dX0_bears_17

set_option maxHeartbeats 4000000 in
theorem ct_X0_judge {l : Launch} {G : xw_G} {μ : xw_Mu} (v1 : Nat) (v2 : Int32) (v3 : Int32) (v4 : Int32) (v5 : Int32) (v6 : Int32) : xw_Ct l G (xw_hc G μ) xw_oi yX0_judge cX0_judge 7 (some (.int)) 95 [va_rf (some v1), .int v2, .int v3, .int v4, .int v5, .int v6] (pg_X0_judge v1 v2 v3 v4 v5 v6) := by
  refine xw_metL [(0, va_rf (some v1)), (1, .int v2), (2, .int v3), (3, .int v4), (4, .int v5), (5, .int v6)] (by decide) (Nat.le_trans (Nat.le_of_eq ((xw_l1 rfl).trans (congrArg (1 + ·) ((xw_l1 rfl).trans (congrArg (1 + ·) ((xw_l1 rfl).trans (congrArg (1 + ·) ((xw_l1 rfl).trans (congrArg (1 + ·) ((xw_l1 rfl).trans (congrArg (1 + ·) ((xw_l1 rfl).trans (congrArg (1 + ·) xw_l0))))))))))))) (by decide)) ((xw_a1 rfl).trans (congrArg (List.cons _) ((xw_a1 rfl).trans (congrArg (List.cons _) ((xw_a1 rfl).trans (congrArg (List.cons _) ((xw_a1 rfl).trans (congrArg (List.cons _) ((xw_a1 rfl).trans (congrArg (List.cons _) ((xw_a1 rfl).trans (congrArg (List.cons _) xw_a0)))))))))))) (fun E hE hl hG hm => ?_)
  subst hl; subst hG
  have hE : xw_ok E "CrossingWords" cX0_judge 7 (some (.int)) 95 := hE
  unfold pg_X0_judge
  refine x_aload_n 1 hE dX0_judge_0 rfl 0 rfl ?_
  refine x_iload_n 2 hE dX0_judge_1 rfl 1 rfl ?_
  refine x_iload_n 3 hE dX0_judge_2 rfl 2 rfl ?_
  refine x_iload_n 4 hE dX0_judge_3 rfl 3 rfl ?_
  refine x_calli 7 (xw_goV hE (c := 0) (by decide) (fun v8 hq => xw_rV hE (ct_X0_isRun v8 v2 v3 v4) xd_X0_isRun rfl q995 q997 qs16 q95 q998 rfl ⟨Nat.le_of_ble_eq_true rfl, Nat.le_of_ble_eq_true rfl⟩ (congrArg va_rf hq) rfl (by decide) dX0_judge_4)) rfl (fun v7 => ?_)
  refine x_if_ne 13 10 hE dX0_judge_7 (by decide) rfl ?_ ?_
  · refine x_bipush 12 hE dX0_judge_10 rfl xc_b_m2 ?_
    exact x_iret hE dX0_judge_12
  · refine x_aload_n 14 hE dX0_judge_13 rfl 0 rfl ?_
    refine x_aload_n 15 hE dX0_judge_14 rfl 0 rfl ?_
    refine x_gR 18 hE (xw_lk0 hE xkf_CrossingWords_21) rfl dX0_judge_15 rfl (fun v9 => ?_)
    refine x_iload_n 19 hE dX0_judge_18 rfl 1 rfl ?_
    refine x_ldR 20 hE dX0_judge_19 rfl (fun v10 => ?_)
    refine x_aload_n 21 hE dX0_judge_20 rfl 0 rfl ?_
    refine x_iload_n 22 hE dX0_judge_21 rfl 2 rfl ?_
    refine x_callr 25 (xw_goV hE (c := 0) (by decide) (fun v12 hq => xw_rV hE (ct_X0_rulesOf v12 v3) xd_X0_rulesOf rfl q965 q967 qs15 q95 q968 rfl ⟨Nat.le_of_ble_eq_true rfl, Nat.le_of_ble_eq_true rfl⟩ (congrArg va_rf hq) rfl (Nat.le_trans (xw_sm1 (x_rfc _) (xw_sm1 rfl xw_sm0)) (by decide)) dX0_judge_22)) rfl (fun v11 => ?_)
    refine x_iload_n 26 hE dX0_judge_25 rfl 3 rfl ?_
    refine x_callr 29 (xw_goV hE (c := 0) (by decide) (fun v14 hq => xw_rV hE (ct_X0_ran v14 v10 v11 v4) xd_X0_ran rfl q999 q1001 qs17 q95 q1002 rfl ⟨Nat.le_of_ble_eq_true rfl, Nat.le_of_ble_eq_true rfl⟩ (congrArg va_rf hq) rfl (by decide) dX0_judge_26)) rfl (fun v13 => ?_)
    refine x_astore 31 [(6, va_rf v13), (0, va_rf (some v1)), (1, .int v2), (2, .int v3), (3, .int v4), (4, .int v5), (5, .int v6)] hE dX0_judge_29 rfl (Nat.le_of_ble_eq_true rfl) rfl ?_
    refine x_aload 33 hE dX0_judge_31 rfl 0 rfl ?_
    refine x_calli 36 (xw_goV hE (c := 1) (by decide) (fun v16 hq => xw_rV hE (ct_X1_isBargain v16) xd_X1_isBargain rfl q1041 q1042 q1043 q96 q1044 rfl ⟨Nat.le_of_ble_eq_true rfl, Nat.le_of_ble_eq_true rfl⟩ (congrArg va_rf hq) rfl (by decide) dX0_judge_33)) rfl (fun v15 => ?_)
    refine x_iload 38 hE dX0_judge_36 rfl 5 rfl ?_
    refine x_bipush 40 hE dX0_judge_38 rfl xc_b_m2 ?_
    refine x_sq 48 (fun (v17 : Int32) => [(4, .int v5), (5, .int v6), (6, va_rf v13)]) (fun (v17 : Int32) => [.int v17, .int v15]) (fun v17 => ?_) (fun J1 hJ1 => ?_)
    · refine x_icmp_eq 53 51 hE dX0_judge_48 (by decide) rfl ?_ ?_
      · refine x_aload 55 hE dX0_judge_53 rfl 2 rfl ?_
        refine x_calli 58 (xw_goV hE (c := 1) (by decide) (fun v19 hq => xw_rV hE (ct_X1_isBargain v19) xd_X1_isBargain rfl q1041 q1042 q1043 q96 q1044 rfl ⟨Nat.le_of_ble_eq_true rfl, Nat.le_of_ble_eq_true rfl⟩ (congrArg va_rf hq) rfl (by decide) dX0_judge_55)) rfl (fun v18 => ?_)
        refine x_if_ne 63 61 hE dX0_judge_58 (by decide) rfl ?_ ?_
        · refine x_iconst 62 hE dX0_judge_61 rfl xc_i_m1 ?_
          exact x_iret hE dX0_judge_62
        · refine x_aload 65 hE dX0_judge_63 rfl 2 rfl ?_
          refine x_gI 68 hE (xw_lk0 hE xkf_CrossingWords_217) rfl dX0_judge_65 rfl (fun v20 => ?_)
          refine x_iload 70 hE dX0_judge_68 rfl 0 rfl ?_
          refine x_icmp_eq 77 73 hE dX0_judge_70 (by decide) rfl ?_ ?_
          · refine x_aload 79 hE dX0_judge_77 rfl 2 rfl ?_
            refine x_gI 82 hE (xw_lk0 hE xkf_CrossingWords_224) rfl dX0_judge_79 rfl (fun v21 => ?_)
            refine x_iload 84 hE dX0_judge_82 rfl 1 rfl ?_
            refine x_icmp_eq 91 87 hE dX0_judge_84 (by decide) rfl ?_ ?_
            · refine x_iconst 92 hE dX0_judge_91 rfl xc_i_m1 ?_
              exact x_iret hE dX0_judge_92
            · refine x_iconst 88 hE dX0_judge_87 rfl xc_i_2 ?_
              refine x_goto 92 hE dX0_judge_88 (by decide) ?_
              exact x_iret hE dX0_judge_92
          · refine x_iconst 74 hE dX0_judge_73 rfl xc_i_1 ?_
            refine x_goto 92 hE dX0_judge_74 (by decide) ?_
            exact x_iret hE dX0_judge_92
      · refine x_iconst 52 hE dX0_judge_51 rfl xc_i_0 ?_
        exact x_iret hE dX0_judge_52
    · refine x_icmp_eq 47 43 hE dX0_judge_40 (by decide) rfl ?_ ?_
      · refine x_iconst 48 hE dX0_judge_47 rfl xc_i_0 ?_
        refine x_sub [(4, .int v5), (5, .int v6), (6, va_rf v13)] [5, 6, 0] rfl ?_
        exact hJ1 0
      · refine x_iconst 44 hE dX0_judge_43 rfl xc_i_1 ?_
        refine x_goto 48 hE dX0_judge_44 (by decide) ?_
        refine x_sub [(4, .int v5), (5, .int v6), (6, va_rf v13)] [5, 6, 0] rfl ?_
        exact hJ1 1

set_option maxHeartbeats 4000000 in
theorem ct_X0_areApart {l : Launch} {G : xw_G} {μ : xw_Mu} (v1 : Nat) (v2 : Option Nat) (v3 : Option Nat) (v4 : Option Nat) (v5 : Int32) : xw_Ct l G (xw_hc G μ) xw_oi yX0_areApart cX0_areApart 9 (some (.boolean)) 94 [va_rf (some v1), va_rf v2, va_rf v3, va_rf v4, .int v5] (pg_X0_areApart v1 v2 v3 v4 v5) := by
  refine xw_metL [(0, va_rf (some v1)), (1, va_rf v2), (2, va_rf v3), (3, va_rf v4), (4, .int v5)] (by decide) (Nat.le_trans (Nat.le_of_eq ((xw_l1 rfl).trans (congrArg (1 + ·) ((xw_l1 (x_rfc _)).trans (congrArg (1 + ·) ((xw_l1 (x_rfc _)).trans (congrArg (1 + ·) ((xw_l1 (x_rfc _)).trans (congrArg (1 + ·) ((xw_l1 rfl).trans (congrArg (1 + ·) xw_l0))))))))))) (by decide)) ((xw_a1 rfl).trans (congrArg (List.cons _) ((xw_a1 (x_rfc _)).trans (congrArg (List.cons _) ((xw_a1 (x_rfc _)).trans (congrArg (List.cons _) ((xw_a1 (x_rfc _)).trans (congrArg (List.cons _) ((xw_a1 rfl).trans (congrArg (List.cons _) xw_a0)))))))))) (fun E hE hl hG hm => ?_)
  subst hl; subst hG
  have hE : xw_ok E "CrossingWords" cX0_areApart 9 (some (.boolean)) 94 := hE
  unfold pg_X0_areApart
  refine x_aload_n 1 hE dX0_areApart_0 rfl 0 rfl ?_
  refine x_gR 4 hE (xw_lk0 hE xkf_CrossingWords_40) rfl dX0_areApart_1 rfl (fun v6 => ?_)
  refine x_iconst 5 hE dX0_areApart_4 rfl xc_i_0 ?_
  refine x_ldR 6 hE dX0_areApart_5 rfl (fun v7 => ?_)
  refine x_astore 8 [(5, va_rf v7), (0, va_rf (some v1)), (1, va_rf v2), (2, va_rf v3), (3, va_rf v4), (4, .int v5)] hE dX0_areApart_6 rfl (Nat.le_of_ble_eq_true rfl) rfl ?_
  refine x_aload_n 9 hE dX0_areApart_8 rfl 1 rfl ?_
  refine x_gR 12 hE (xw_lk0 hE xkf_CrossingWords_40) rfl dX0_areApart_9 rfl (fun v8 => ?_)
  refine x_bipush 14 hE dX0_areApart_12 rfl xc_b_17 ?_
  refine x_ldR 15 hE dX0_areApart_14 rfl (fun v9 => ?_)
  refine x_astore 17 [(6, va_rf v9), (5, va_rf v7), (0, va_rf (some v1)), (1, va_rf v2), (2, va_rf v3), (3, va_rf v4), (4, .int v5)] hE dX0_areApart_15 rfl (Nat.le_of_ble_eq_true rfl) (congrArg (List.cons _) (xw_f1 (by decide) (x_rfc _) (xw_f1 (by decide) rfl (xw_f1 (by decide) (x_rfc _) (xw_f1 (by decide) (x_rfc _) (xw_f1 (by decide) (x_rfc _) (xw_f1 (by decide) rfl xw_f0))))))) ?_
  refine x_aload 19 hE dX0_areApart_17 rfl 1 rfl ?_
  refine x_aload_n 20 hE dX0_areApart_19 rfl 3 rfl ?_
  refine x_aload_n 21 hE dX0_areApart_20 rfl 4 rfl ?_
  refine x_iload 23 hE dX0_areApart_21 rfl 6 rfl ?_
  refine x_callv 26 (xw_goV hE (c := 1) (by decide) (fun v10 hq => xw_rV hE (ct_X1_runs (pg_X0_hasGiven 17) 91 (by decide) (ct_X0_hasGiven 17) v10 v2 v3 v5) xd_X1_runs rfl q1003 q1004 q1005 q96 q1006 rfl ⟨Nat.le_of_ble_eq_true rfl, Nat.le_of_ble_eq_true rfl⟩ (congrArg va_rf hq) rfl (by decide) dX0_areApart_23)) rfl ?_
  refine x_aload 28 hE dX0_areApart_26 rfl 0 rfl ?_
  refine x_aload_n 29 hE dX0_areApart_28 rfl 3 rfl ?_
  refine x_aload_n 30 hE dX0_areApart_29 rfl 5 rfl ?_
  refine x_iload 32 hE dX0_areApart_30 rfl 6 rfl ?_
  refine x_callv 35 (xw_goV hE (c := 1) (by decide) (fun v11 hq => xw_rV hE (ct_X1_runs (pg_X0_hasGiven 17) 91 (by decide) (ct_X0_hasGiven 17) v11 v2 v4 v5) xd_X1_runs rfl q1003 q1004 q1005 q96 q1006 rfl ⟨Nat.le_of_ble_eq_true rfl, Nat.le_of_ble_eq_true rfl⟩ (congrArg va_rf hq) rfl (by decide) dX0_areApart_32)) rfl ?_
  refine x_aload 37 hE dX0_areApart_35 rfl 1 rfl ?_
  refine x_calli 40 (xw_goV hE (c := 1) (by decide) (fun v13 hq => xw_rV hE (ct_X1_isBargain v13) xd_X1_isBargain rfl q1041 q1042 q1043 q96 q1044 rfl ⟨Nat.le_of_ble_eq_true rfl, Nat.le_of_ble_eq_true rfl⟩ (congrArg va_rf hq) rfl (by decide) dX0_areApart_37)) rfl (fun v12 => ?_)
  refine x_aload 42 hE dX0_areApart_40 rfl 0 rfl ?_
  refine x_calli 45 (xw_goV hE (c := 1) (by decide) (fun v15 hq => xw_rV hE (ct_X1_isBargain v15) xd_X1_isBargain rfl q1041 q1042 q1043 q96 q1044 rfl ⟨Nat.le_of_ble_eq_true rfl, Nat.le_of_ble_eq_true rfl⟩ (congrArg va_rf hq) rfl (Nat.le_trans (xw_sm1 rfl xw_sm0) (by decide)) dX0_areApart_42)) rfl (fun v14 => ?_)
  refine x_icmp_eq 50 48 hE dX0_areApart_45 (by decide) rfl ?_ ?_
  · refine x_aload 52 hE dX0_areApart_50 rfl 1 rfl ?_
    refine x_calli 55 (xw_goV hE (c := 1) (by decide) (fun v17 hq => xw_rV hE (ct_X1_isBargain v17) xd_X1_isBargain rfl q1041 q1042 q1043 q96 q1044 rfl ⟨Nat.le_of_ble_eq_true rfl, Nat.le_of_ble_eq_true rfl⟩ (congrArg va_rf hq) rfl (by decide) dX0_areApart_52)) rfl (fun v16 => ?_)
    refine x_if_ne 60 58 hE dX0_areApart_55 (by decide) rfl ?_ ?_
    · refine x_iconst 59 hE dX0_areApart_58 rfl xc_i_0 ?_
      exact x_zretw hE (by decide) dX0_areApart_59
    · refine x_aload 62 hE dX0_areApart_60 rfl 1 rfl ?_
      refine x_gI 65 hE (xw_lk0 hE xkf_CrossingWords_224) rfl dX0_areApart_62 rfl (fun v18 => ?_)
      refine x_aload 67 hE dX0_areApart_65 rfl 0 rfl ?_
      refine x_gI 70 hE (xw_lk0 hE xkf_CrossingWords_224) rfl dX0_areApart_67 rfl (fun v19 => ?_)
      refine x_sq 78 (fun (v20 : Int32) => [(5, va_rf v7), (6, va_rf v9)]) (fun (v20 : Int32) => [.int v20]) (fun v20 => ?_) (fun J1 hJ1 => ?_)
      · refine x_istore 80 [(7, .int v20), (5, va_rf v7), (6, va_rf v9)] hE dX0_areApart_78 rfl (Nat.le_of_ble_eq_true rfl) (congrArg (List.cons _) (xw_f1 (by decide) (x_rfc _) (xw_f1 (by decide) (x_rfc _) xw_f0))) ?_
        refine x_iconst 81 hE dX0_areApart_80 rfl xc_i_0 ?_
        refine x_istore 83 [(8, .int 0), (7, .int v20), (5, va_rf v7), (6, va_rf v9)] hE dX0_areApart_81 rfl (Nat.le_of_ble_eq_true rfl) rfl ?_
        refine x_sub [(5, va_rf v7), (6, va_rf v9), (7, .int v20), (8, .int 0)] [2, 3, 1, 0] rfl ?_
        refine x_sq 124 (fun (v22 : Int32) => [(7, .int v22)]) (fun _ => []) (fun v22 => ?_) (fun J3 hJ3 => ?_)
        · refine x_iload 126 hE dX0_areApart_124 rfl 0 rfl ?_
          exact x_zretw hE rfl dX0_areApart_126
        · refine x_loop (fun (v21 : Int32 × Int32) => [(5, va_rf v7), (6, va_rf v9), (7, .int v21.1), (8, .int v21.2)]) (fun JL2 hc2 hx2 v21 => ?_) _ _
          refine x_iload 85 hE dX0_areApart_83 rfl 3 rfl ?_
          refine x_iconst 86 hE dX0_areApart_85 rfl xc_i_5 ?_
          refine x_icmp_ge 124 89 hE dX0_areApart_86 (by decide) rfl ?_ ?_
          · refine x_sub [(7, .int v21.1)] [2] rfl ?_
            refine hx2 _ _ _ _ ?_
            exact hJ3 (v21.1)
          · refine x_iload 91 hE dX0_areApart_89 rfl 2 rfl ?_
            refine x_if_ne 111 94 hE dX0_areApart_91 (by decide) rfl ?_ ?_
            · refine x_aload 96 hE dX0_areApart_94 rfl 0 rfl ?_
              refine x_iload 98 hE dX0_areApart_96 rfl 3 rfl ?_
              refine x_calli 101 (xw_goV hE (c := 1) (by decide) (fun v24 hq => xw_rV hE (ct_X1_term v24 v21.2) xd_X1_term rfl q1143 q1144 q1145 q96 q1146 rfl ⟨Nat.le_of_ble_eq_true rfl, Nat.le_of_ble_eq_true rfl⟩ (congrArg va_rf hq) rfl (by decide) dX0_areApart_98)) rfl (fun v23 => ?_)
              refine x_aload 103 hE dX0_areApart_101 rfl 1 rfl ?_
              refine x_iload 105 hE dX0_areApart_103 rfl 3 rfl ?_
              refine x_calli 108 (xw_goV hE (c := 1) (by decide) (fun v26 hq => xw_rV hE (ct_X1_term v26 v21.2) xd_X1_term rfl q1143 q1144 q1145 q96 q1146 rfl ⟨Nat.le_of_ble_eq_true rfl, Nat.le_of_ble_eq_true rfl⟩ (congrArg va_rf hq) rfl (Nat.le_trans (xw_sm1 rfl xw_sm0) (by decide)) dX0_areApart_105)) rfl (fun v25 => ?_)
              refine x_icmp_eq 115 111 hE dX0_areApart_108 (by decide) rfl ?_ ?_
              · refine x_iconst 116 hE dX0_areApart_115 rfl xc_i_0 ?_
                refine x_istore 118 [(7, .int 0), (5, va_rf v7), (6, va_rf v9), (8, .int v21.2)] hE dX0_areApart_116 rfl (Nat.le_of_ble_eq_true rfl) (congrArg (List.cons _) (xw_f1 (by decide) (x_rfc _) (xw_f1 (by decide) (x_rfc _) (xw_f2 (xw_f1 (by decide) rfl xw_f0))))) ?_
                refine x_iinc 121 [(8, .int (v21.2 + 1)), (7, .int 0), (5, va_rf v7), (6, va_rf v9)] hE dX0_areApart_118 rfl 3 rfl xc_i_1 (Nat.le_of_ble_eq_true rfl) rfl ?_
                refine x_goto 83 hE dX0_areApart_121 (by decide) ?_
                refine x_sub [(5, va_rf v7), (6, va_rf v9), (7, .int 0), (8, .int (v21.2 + 1))] [2, 3, 1, 0] rfl ?_
                exact hc2 (0, v21.2 + 1)
              · refine x_iconst 112 hE dX0_areApart_111 rfl xc_i_1 ?_
                refine x_goto 116 hE dX0_areApart_112 (by decide) ?_
                refine x_istore 118 [(7, .int 1), (5, va_rf v7), (6, va_rf v9), (8, .int v21.2)] hE dX0_areApart_116 rfl (Nat.le_of_ble_eq_true rfl) (congrArg (List.cons _) (xw_f1 (by decide) (x_rfc _) (xw_f1 (by decide) (x_rfc _) (xw_f2 (xw_f1 (by decide) rfl xw_f0))))) ?_
                refine x_iinc 121 [(8, .int (v21.2 + 1)), (7, .int 1), (5, va_rf v7), (6, va_rf v9)] hE dX0_areApart_118 rfl 3 rfl xc_i_1 (Nat.le_of_ble_eq_true rfl) rfl ?_
                refine x_goto 83 hE dX0_areApart_121 (by decide) ?_
                refine x_sub [(5, va_rf v7), (6, va_rf v9), (7, .int 1), (8, .int (v21.2 + 1))] [2, 3, 1, 0] rfl ?_
                exact hc2 (1, v21.2 + 1)
            · refine x_iconst 112 hE dX0_areApart_111 rfl xc_i_1 ?_
              refine x_goto 116 hE dX0_areApart_112 (by decide) ?_
              refine x_istore 118 [(7, .int 1), (5, va_rf v7), (6, va_rf v9), (8, .int v21.2)] hE dX0_areApart_116 rfl (Nat.le_of_ble_eq_true rfl) (congrArg (List.cons _) (xw_f1 (by decide) (x_rfc _) (xw_f1 (by decide) (x_rfc _) (xw_f2 (xw_f1 (by decide) rfl xw_f0))))) ?_
              refine x_iinc 121 [(8, .int (v21.2 + 1)), (7, .int 1), (5, va_rf v7), (6, va_rf v9)] hE dX0_areApart_118 rfl 3 rfl xc_i_1 (Nat.le_of_ble_eq_true rfl) rfl ?_
              refine x_goto 83 hE dX0_areApart_121 (by decide) ?_
              refine x_sub [(5, va_rf v7), (6, va_rf v9), (7, .int 1), (8, .int (v21.2 + 1))] [2, 3, 1, 0] rfl ?_
              exact hc2 (1, v21.2 + 1)
      · refine x_icmp_eq 77 73 hE dX0_areApart_70 (by decide) rfl ?_ ?_
        · refine x_iconst 78 hE dX0_areApart_77 rfl xc_i_0 ?_
          refine x_sub [(5, va_rf v7), (6, va_rf v9)] [1, 0] rfl ?_
          exact hJ1 0
        · refine x_iconst 74 hE dX0_areApart_73 rfl xc_i_1 ?_
          refine x_goto 78 hE dX0_areApart_74 (by decide) ?_
          refine x_sub [(5, va_rf v7), (6, va_rf v9)] [1, 0] rfl ?_
          exact hJ1 1
  · refine x_iconst 49 hE dX0_areApart_48 rfl xc_i_1 ?_
    exact x_zretw hE (by decide) dX0_areApart_49

set_option maxHeartbeats 4000000 in
theorem ct_X0_apart {l : Launch} {G : xw_G} {μ : xw_Mu} (v1 : Nat) (v2 : Int32) (v3 : Int32) (v4 : Int32) (v5 : Int32) : xw_Ct l G (xw_hc G μ) xw_oi yX0_apart cX0_apart 10 (some (.int)) 95 [va_rf (some v1), .int v2, .int v3, .int v4, .int v5] (pg_X0_apart v1 v2 v3 v4 v5) := by
  refine xw_metL [(0, va_rf (some v1)), (1, .int v2), (2, .int v3), (3, .int v4), (4, .int v5)] (by decide) (Nat.le_trans (Nat.le_of_eq ((xw_l1 rfl).trans (congrArg (1 + ·) ((xw_l1 rfl).trans (congrArg (1 + ·) ((xw_l1 rfl).trans (congrArg (1 + ·) ((xw_l1 rfl).trans (congrArg (1 + ·) ((xw_l1 rfl).trans (congrArg (1 + ·) xw_l0))))))))))) (by decide)) ((xw_a1 rfl).trans (congrArg (List.cons _) ((xw_a1 rfl).trans (congrArg (List.cons _) ((xw_a1 rfl).trans (congrArg (List.cons _) ((xw_a1 rfl).trans (congrArg (List.cons _) ((xw_a1 rfl).trans (congrArg (List.cons _) xw_a0)))))))))) (fun E hE hl hG hm => ?_)
  subst hl; subst hG
  have hE : xw_ok E "CrossingWords" cX0_apart 10 (some (.int)) 95 := hE
  unfold pg_X0_apart
  refine x_aload_n 1 hE dX0_apart_0 rfl 0 rfl ?_
  refine x_iload_n 2 hE dX0_apart_1 rfl 1 rfl ?_
  refine x_iload_n 3 hE dX0_apart_2 rfl 2 rfl ?_
  refine x_iconst 4 hE dX0_apart_3 rfl xc_i_0 ?_
  refine x_calli 7 (xw_goV hE (c := 0) (by decide) (fun v7 hq => xw_rV hE (ct_X0_isRun v7 v2 v3 0) xd_X0_isRun rfl q995 q997 qs16 q95 q998 rfl ⟨Nat.le_of_ble_eq_true rfl, Nat.le_of_ble_eq_true rfl⟩ (congrArg va_rf hq) rfl (by decide) dX0_apart_4)) rfl (fun v6 => ?_)
  refine x_if_eq 28 10 hE dX0_apart_7 (by decide) rfl ?_ ?_
  · refine x_bipush 30 hE dX0_apart_28 rfl xc_b_m2 ?_
    exact x_iret hE dX0_apart_30
  · refine x_aload_n 11 hE dX0_apart_10 rfl 0 rfl ?_
    refine x_iload_n 12 hE dX0_apart_11 rfl 3 rfl ?_
    refine x_calli 15 (xw_goV hE (c := 0) (by decide) (fun v9 hq => xw_rV hE (ct_X0_isLaw v9 v4) xd_X0_isLaw rfl q961 q963 qs14 q95 q964 rfl ⟨Nat.le_of_ble_eq_true rfl, Nat.le_of_ble_eq_true rfl⟩ (congrArg va_rf hq) rfl (by decide) dX0_apart_12)) rfl (fun v8 => ?_)
    refine x_if_eq 28 18 hE dX0_apart_15 (by decide) rfl ?_ ?_
    · refine x_bipush 30 hE dX0_apart_28 rfl xc_b_m2 ?_
      exact x_iret hE dX0_apart_30
    · refine x_iload 20 hE dX0_apart_18 rfl 4 rfl ?_
      refine x_iconst 21 hE dX0_apart_20 rfl xc_i_0 ?_
      refine x_iconst 22 hE dX0_apart_21 rfl xc_i_1 ?_
      refine x_calli 25 (xw_goS hE (ct_X0_isIn v5 0 1) xd_X0_isIn q244 q245 q95 q246 rfl ⟨Nat.le_of_ble_eq_true rfl, Nat.le_of_ble_eq_true rfl⟩ rfl (by decide) dX0_apart_22) rfl (fun v10 => ?_)
      refine x_if_ne 31 28 hE dX0_apart_25 (by decide) rfl ?_ ?_
      · refine x_bipush 30 hE dX0_apart_28 rfl xc_b_m2 ?_
        exact x_iret hE dX0_apart_30
      · refine x_aload_n 32 hE dX0_apart_31 rfl 0 rfl ?_
        refine x_iload_n 33 hE dX0_apart_32 rfl 2 rfl ?_
        refine x_callr 36 (xw_goV hE (c := 0) (by decide) (fun v12 hq => xw_rV hE (ct_X0_rulesOf v12 v3) xd_X0_rulesOf rfl q965 q967 qs15 q95 q968 rfl ⟨Nat.le_of_ble_eq_true rfl, Nat.le_of_ble_eq_true rfl⟩ (congrArg va_rf hq) rfl (by decide) dX0_apart_33)) rfl (fun v11 => ?_)
        refine x_astore 38 [(5, va_rf v11), (0, va_rf (some v1)), (1, .int v2), (2, .int v3), (3, .int v4), (4, .int v5)] hE dX0_apart_36 rfl (Nat.le_of_ble_eq_true rfl) rfl ?_
        refine x_aload_n 39 hE dX0_apart_38 rfl 1 rfl ?_
        refine x_iload_n 40 hE dX0_apart_39 rfl 4 rfl ?_
        refine x_callr 43 (xw_goV hE (c := 0) (by decide) (fun v14 hq => xw_rV hE (ct_X0_rulesOf v14 v4) xd_X0_rulesOf rfl q965 q967 qs15 q95 q968 rfl ⟨Nat.le_of_ble_eq_true rfl, Nat.le_of_ble_eq_true rfl⟩ (congrArg va_rf hq) rfl (by decide) dX0_apart_40)) rfl (fun v13 => ?_)
        refine x_astore 45 [(6, va_rf v13), (5, va_rf v11), (0, va_rf (some v1)), (1, .int v2), (2, .int v3), (3, .int v4), (4, .int v5)] hE dX0_apart_43 rfl (Nat.le_of_ble_eq_true rfl) (congrArg (List.cons _) (xw_f1 (by decide) (x_rfc _) (xw_f1 (by decide) rfl (xw_f1 (by decide) rfl (xw_f1 (by decide) rfl (xw_f1 (by decide) rfl (xw_f1 (by decide) rfl xw_f0))))))) ?_
        refine x_iconst 46 hE dX0_apart_45 rfl xc_i_0 ?_
        refine x_istore 48 [(7, .int 0), (6, va_rf v13), (5, va_rf v11), (0, va_rf (some v1)), (1, .int v2), (2, .int v3), (3, .int v4), (4, .int v5)] hE dX0_apart_46 rfl (Nat.le_of_ble_eq_true rfl) (congrArg (List.cons _) (xw_f1 (by decide) (x_rfc _) (xw_f1 (by decide) (x_rfc _) (xw_f1 (by decide) rfl (xw_f1 (by decide) rfl (xw_f1 (by decide) rfl (xw_f1 (by decide) rfl (xw_f1 (by decide) rfl xw_f0)))))))) ?_
        refine x_iconst 49 hE dX0_apart_48 rfl xc_i_m1 ?_
        refine x_istore 51 [(8, .int (-1)), (7, .int 0), (6, va_rf v13), (5, va_rf v11), (0, va_rf (some v1)), (1, .int v2), (2, .int v3), (3, .int v4), (4, .int v5)] hE dX0_apart_49 rfl (Nat.le_of_ble_eq_true rfl) rfl ?_
        refine x_iconst 52 hE dX0_apart_51 rfl xc_i_0 ?_
        refine x_istore 54 [(9, .int 0), (8, .int (-1)), (7, .int 0), (6, va_rf v13), (5, va_rf v11), (0, va_rf (some v1)), (1, .int v2), (2, .int v3), (3, .int v4), (4, .int v5)] hE dX0_apart_52 rfl (Nat.le_of_ble_eq_true rfl) rfl ?_
        refine x_sub [(0, va_rf (some v1)), (1, .int v2), (4, .int v5), (5, va_rf v11), (6, va_rf v13), (7, .int 0), (8, .int (-1)), (9, .int 0)] [5, 6, 9, 4, 3, 2, 1, 0] rfl ?_
        refine x_sq 109 (fun (v16 : Int32 × Int32) => [(4, .int v5), (7, .int v16.1), (8, .int v16.2)]) (fun _ => []) (fun v16 => ?_) (fun J2 hJ2 => ?_)
        · refine x_iload 111 hE dX0_apart_109 rfl 0 rfl ?_
          refine x_if_ne 119 114 hE dX0_apart_111 (by decide) rfl ?_ ?_
          · refine x_iload 116 hE dX0_apart_114 rfl 1 rfl ?_
            refine x_goto 121 hE dX0_apart_116 (by decide) ?_
            exact x_iret hE dX0_apart_121
          · refine x_iload 121 hE dX0_apart_119 rfl 2 rfl ?_
            exact x_iret hE dX0_apart_121
        · refine x_loop (fun (v15 : Int32 × Int32 × Int32) => [(0, va_rf (some v1)), (1, .int v2), (4, .int v5), (5, va_rf v11), (6, va_rf v13), (7, .int v15.1), (8, .int v15.2.1), (9, .int v15.2.2)]) (fun JL1 hc1 hx1 v15 => ?_) _ _
          refine x_iload 56 hE dX0_apart_54 rfl 7 rfl ?_
          refine x_aload_n 57 hE dX0_apart_56 rfl 0 rfl ?_
          refine x_gR 60 hE (xw_lk0 hE xkf_CrossingWords_21) rfl dX0_apart_57 rfl (fun v17 => ?_)
          refine x_iload_n 61 hE dX0_apart_60 rfl 1 rfl ?_
          refine x_ldR 62 hE dX0_apart_61 rfl (fun v18 => ?_)
          refine x_calli 65 (xw_goV hE (c := 4) (by decide) (fun v20 hq => xw_rV hE (ct_X5_combos v20) xd_X5_combos rfl q933 q934 q935 q100 q936 rfl ⟨Nat.le_of_ble_eq_true rfl, Nat.le_of_ble_eq_true rfl⟩ (congrArg va_rf hq) rfl (Nat.le_trans (xw_sm1 rfl xw_sm0) (by decide)) dX0_apart_62)) rfl (fun v19 => ?_)
          refine x_icmp_ge 109 68 hE dX0_apart_65 (by decide) rfl ?_ ?_
          · refine x_sub [(4, .int v5), (7, .int v15.1), (8, .int v15.2.1)] [2, 5, 6] rfl ?_
            refine hx1 _ _ _ _ ?_
            exact hJ2 (v15.1, v15.2.1)
          · refine x_aload_n 69 hE dX0_apart_68 rfl 0 rfl ?_
            refine x_aload_n 70 hE dX0_apart_69 rfl 0 rfl ?_
            refine x_gR 73 hE (xw_lk0 hE xkf_CrossingWords_21) rfl dX0_apart_70 rfl (fun v21 => ?_)
            refine x_iload_n 74 hE dX0_apart_73 rfl 1 rfl ?_
            refine x_ldR 75 hE dX0_apart_74 rfl (fun v22 => ?_)
            refine x_aload 77 hE dX0_apart_75 rfl 3 rfl ?_
            refine x_aload 79 hE dX0_apart_77 rfl 4 rfl ?_
            refine x_iload 81 hE dX0_apart_79 rfl 7 rfl ?_
            refine x_calli 84 (xw_goV hE (c := 0) (by decide) (fun v24 hq => xw_rV hE (ct_X0_areApart v24 v22 v11 v13 v15.2.2) xd_X0_areApart rfl q1314 q1316 qs31 q95 q1317 rfl ⟨Nat.le_of_ble_eq_true rfl, Nat.le_of_ble_eq_true rfl⟩ (congrArg va_rf hq) rfl (by decide) dX0_apart_81)) rfl (fun v23 => ?_)
            refine x_if_ne 90 87 hE dX0_apart_84 (by decide) rfl ?_ ?_
            · refine x_goto 103 hE dX0_apart_87 (by decide) ?_
              refine x_iinc 106 [(9, .int (v15.2.2 + 1)), (0, va_rf (some v1)), (1, .int v2), (4, .int v5), (5, va_rf v11), (6, va_rf v13), (7, .int v15.1), (8, .int v15.2.1)] hE dX0_apart_103 rfl 7 rfl xc_i_1 (Nat.le_of_ble_eq_true rfl) rfl ?_
              refine x_goto 54 hE dX0_apart_106 (by decide) ?_
              refine x_sub [(0, va_rf (some v1)), (1, .int v2), (4, .int v5), (5, va_rf v11), (6, va_rf v13), (7, .int v15.1), (8, .int v15.2.1), (9, .int (v15.2.2 + 1))] [1, 2, 3, 4, 5, 6, 7, 0] rfl ?_
              exact hc1 (v15.1, v15.2.1, v15.2.2 + 1)
            · refine x_iload 92 hE dX0_apart_90 rfl 6 rfl ?_
              refine x_iconst 93 hE dX0_apart_92 rfl xc_i_m1 ?_
              refine x_icmp_ne 100 96 hE dX0_apart_93 (by decide) rfl ?_ ?_
              · refine x_iload 98 hE dX0_apart_96 rfl 7 rfl ?_
                refine x_istore 100 [(8, .int v15.2.2), (0, va_rf (some v1)), (1, .int v2), (4, .int v5), (5, va_rf v11), (6, va_rf v13), (7, .int v15.1), (9, .int v15.2.2)] hE dX0_apart_98 rfl (Nat.le_of_ble_eq_true rfl) rfl ?_
                refine x_iinc 103 [(7, .int (v15.1 + 1)), (8, .int v15.2.2), (0, va_rf (some v1)), (1, .int v2), (4, .int v5), (5, va_rf v11), (6, va_rf v13), (9, .int v15.2.2)] hE dX0_apart_100 rfl 6 rfl xc_i_1 (Nat.le_of_ble_eq_true rfl) (congrArg (List.cons _) (xw_f1 (by decide) rfl (xw_f1 (by decide) rfl (xw_f1 (by decide) rfl (xw_f1 (by decide) rfl (xw_f1 (by decide) (x_rfc _) (xw_f1 (by decide) (x_rfc _) (xw_f2 (xw_f1 (by decide) rfl xw_f0))))))))) ?_
                refine x_iinc 106 [(9, .int (v15.2.2 + 1)), (7, .int (v15.1 + 1)), (8, .int v15.2.2), (0, va_rf (some v1)), (1, .int v2), (4, .int v5), (5, va_rf v11), (6, va_rf v13)] hE dX0_apart_103 rfl 7 rfl xc_i_1 (Nat.le_of_ble_eq_true rfl) rfl ?_
                refine x_goto 54 hE dX0_apart_106 (by decide) ?_
                refine x_sub [(0, va_rf (some v1)), (1, .int v2), (4, .int v5), (5, va_rf v11), (6, va_rf v13), (7, .int (v15.1 + 1)), (8, .int v15.2.2), (9, .int (v15.2.2 + 1))] [3, 4, 5, 6, 7, 1, 2, 0] rfl ?_
                exact hc1 (v15.1 + 1, v15.2.2, v15.2.2 + 1)
              · refine x_iinc 103 [(7, .int (v15.1 + 1)), (0, va_rf (some v1)), (1, .int v2), (4, .int v5), (5, va_rf v11), (6, va_rf v13), (8, .int v15.2.1), (9, .int v15.2.2)] hE dX0_apart_100 rfl 5 rfl xc_i_1 (Nat.le_of_ble_eq_true rfl) (congrArg (List.cons _) (xw_f1 (by decide) rfl (xw_f1 (by decide) rfl (xw_f1 (by decide) rfl (xw_f1 (by decide) (x_rfc _) (xw_f1 (by decide) (x_rfc _) (xw_f2 (xw_f1 (by decide) rfl (xw_f1 (by decide) rfl xw_f0))))))))) ?_
                refine x_iinc 106 [(9, .int (v15.2.2 + 1)), (7, .int (v15.1 + 1)), (0, va_rf (some v1)), (1, .int v2), (4, .int v5), (5, va_rf v11), (6, va_rf v13), (8, .int v15.2.1)] hE dX0_apart_103 rfl 7 rfl xc_i_1 (Nat.le_of_ble_eq_true rfl) rfl ?_
                refine x_goto 54 hE dX0_apart_106 (by decide) ?_
                refine x_sub [(0, va_rf (some v1)), (1, .int v2), (4, .int v5), (5, va_rf v11), (6, va_rf v13), (7, .int (v15.1 + 1)), (8, .int v15.2.1), (9, .int (v15.2.2 + 1))] [2, 3, 4, 5, 6, 1, 7, 0] rfl ?_
                exact hc1 (v15.1 + 1, v15.2.1, v15.2.2 + 1)

set_option maxHeartbeats 4000000 in
theorem ct_X0_part {l : Launch} {G : xw_G} {μ : xw_Mu} (v1 : Nat) (v2 : Int32) (v3 : Int32) : xw_Ct l G (xw_hc G μ) xw_oi yX0_part cX0_part 10 (some (.int)) 95 [va_rf (some v1), .int v2, .int v3] (pg_X0_part v1 v2 v3) := by
  refine xw_metL [(0, va_rf (some v1)), (1, .int v2), (2, .int v3)] (by decide) (Nat.le_trans (Nat.le_of_eq ((xw_l1 rfl).trans (congrArg (1 + ·) ((xw_l1 rfl).trans (congrArg (1 + ·) ((xw_l1 rfl).trans (congrArg (1 + ·) xw_l0))))))) (by decide)) ((xw_a1 rfl).trans (congrArg (List.cons _) ((xw_a1 rfl).trans (congrArg (List.cons _) ((xw_a1 rfl).trans (congrArg (List.cons _) xw_a0)))))) (fun E hE hl hG hm => ?_)
  subst hl; subst hG
  have hE : xw_ok E "CrossingWords" cX0_part 10 (some (.int)) 95 := hE
  unfold pg_X0_part
  refine x_aload_n 1 hE dX0_part_0 rfl 0 rfl ?_
  refine x_iload_n 2 hE dX0_part_1 rfl 1 rfl ?_
  refine x_calli 5 (xw_goV hE (c := 0) (by decide) (fun v5 hq => xw_rV hE (ct_X0_isLaw v5 v2) xd_X0_isLaw rfl q961 q963 qs14 q95 q964 rfl ⟨Nat.le_of_ble_eq_true rfl, Nat.le_of_ble_eq_true rfl⟩ (congrArg va_rf hq) rfl (by decide) dX0_part_2)) rfl (fun v4 => ?_)
  refine x_if_eq 16 8 hE dX0_part_5 (by decide) rfl ?_ ?_
  · refine x_bipush 18 hE dX0_part_16 rfl xc_b_m2 ?_
    exact x_iret hE dX0_part_18
  · refine x_aload_n 9 hE dX0_part_8 rfl 0 rfl ?_
    refine x_iload_n 10 hE dX0_part_9 rfl 2 rfl ?_
    refine x_calli 13 (xw_goV hE (c := 0) (by decide) (fun v7 hq => xw_rV hE (ct_X0_isLaw v7 v3) xd_X0_isLaw rfl q961 q963 qs14 q95 q964 rfl ⟨Nat.le_of_ble_eq_true rfl, Nat.le_of_ble_eq_true rfl⟩ (congrArg va_rf hq) rfl (by decide) dX0_part_10)) rfl (fun v6 => ?_)
    refine x_if_ne 19 16 hE dX0_part_13 (by decide) rfl ?_ ?_
    · refine x_bipush 18 hE dX0_part_16 rfl xc_b_m2 ?_
      exact x_iret hE dX0_part_18
    · refine x_aload_n 20 hE dX0_part_19 rfl 0 rfl ?_
      refine x_iload_n 21 hE dX0_part_20 rfl 1 rfl ?_
      refine x_callr 24 (xw_goV hE (c := 0) (by decide) (fun v9 hq => xw_rV hE (ct_X0_rulesOf v9 v2) xd_X0_rulesOf rfl q965 q967 qs15 q95 q968 rfl ⟨Nat.le_of_ble_eq_true rfl, Nat.le_of_ble_eq_true rfl⟩ (congrArg va_rf hq) rfl (by decide) dX0_part_21)) rfl (fun v8 => ?_)
      refine x_astore_n 25 [(3, va_rf v8), (0, va_rf (some v1)), (1, .int v2), (2, .int v3)] hE dX0_part_24 rfl rfl (Nat.le_of_ble_eq_true rfl) rfl ?_
      refine x_aload_n 26 hE dX0_part_25 rfl 1 rfl ?_
      refine x_iload_n 27 hE dX0_part_26 rfl 3 rfl ?_
      refine x_callr 30 (xw_goV hE (c := 0) (by decide) (fun v11 hq => xw_rV hE (ct_X0_rulesOf v11 v3) xd_X0_rulesOf rfl q965 q967 qs15 q95 q968 rfl ⟨Nat.le_of_ble_eq_true rfl, Nat.le_of_ble_eq_true rfl⟩ (congrArg va_rf hq) rfl (by decide) dX0_part_27)) rfl (fun v10 => ?_)
      refine x_astore 32 [(4, va_rf v10), (3, va_rf v8), (0, va_rf (some v1)), (1, .int v2), (2, .int v3)] hE dX0_part_30 rfl (Nat.le_of_ble_eq_true rfl) (congrArg (List.cons _) (xw_f1 (by decide) (x_rfc _) (xw_f1 (by decide) rfl (xw_f1 (by decide) rfl (xw_f1 (by decide) rfl xw_f0))))) ?_
      refine x_iconst 33 hE dX0_part_32 rfl xc_i_m1 ?_
      refine x_istore 35 [(5, .int (-1)), (4, va_rf v10), (3, va_rf v8), (0, va_rf (some v1)), (1, .int v2), (2, .int v3)] hE dX0_part_33 rfl (Nat.le_of_ble_eq_true rfl) (congrArg (List.cons _) (xw_f1 (by decide) (x_rfc _) (xw_f1 (by decide) (x_rfc _) (xw_f1 (by decide) rfl (xw_f1 (by decide) rfl (xw_f1 (by decide) rfl xw_f0)))))) ?_
      refine x_iconst 36 hE dX0_part_35 rfl xc_i_0 ?_
      refine x_istore 38 [(6, .int 0), (5, .int (-1)), (4, va_rf v10), (3, va_rf v8), (0, va_rf (some v1)), (1, .int v2), (2, .int v3)] hE dX0_part_36 rfl (Nat.le_of_ble_eq_true rfl) rfl ?_
      refine x_sub [(0, va_rf (some v1)), (3, va_rf v8), (4, va_rf v10), (5, .int (-1)), (6, .int 0)] [4, 3, 2, 1, 0] rfl ?_
      refine x_sq 146 (fun (v13 : Int32) => [(5, .int v13)]) (fun _ => []) (fun v13 => ?_) (fun J2 hJ2 => ?_)
      · refine x_iload 148 hE dX0_part_146 rfl 0 rfl ?_
        exact x_iret hE dX0_part_148
      · refine x_loop (fun (v12 : Int32 × Int32) => [(0, va_rf (some v1)), (3, va_rf v8), (4, va_rf v10), (5, .int v12.1), (6, .int v12.2)]) (fun JL1 hc1 hx1 v12 => ?_) _ _
        refine x_iload 40 hE dX0_part_38 rfl 4 rfl ?_
        refine x_aload_n 41 hE dX0_part_40 rfl 0 rfl ?_
        refine x_gI 44 hE (xw_lk0 hE xkf_CrossingWords_106) rfl dX0_part_41 rfl (fun v14 => ?_)
        refine x_icmp_ge 146 47 hE dX0_part_44 (by decide) rfl ?_ ?_
        · refine x_sub [(5, .int v12.1)] [3] rfl ?_
          refine hx1 _ _ _ _ ?_
          exact hJ2 (v12.1)
        · refine x_aload_n 48 hE dX0_part_47 rfl 0 rfl ?_
          refine x_gR 51 hE (xw_lk0 hE xkf_CrossingWords_21) rfl dX0_part_48 rfl (fun v15 => ?_)
          refine x_iload 53 hE dX0_part_51 rfl 4 rfl ?_
          refine x_ldR 54 hE dX0_part_53 rfl (fun v16 => ?_)
          refine x_astore 56 [(7, va_rf v16), (0, va_rf (some v1)), (3, va_rf v8), (4, va_rf v10), (5, .int v12.1), (6, .int v12.2)] hE dX0_part_54 rfl (Nat.le_of_ble_eq_true rfl) rfl ?_
          refine x_aload 58 hE dX0_part_56 rfl 0 rfl ?_
          refine x_calli 61 (xw_goV hE (c := 4) (by decide) (fun v18 hq => xw_rV hE (ct_X5_isLooked v18) xd_X5_isLooked rfl q928 q929 q930 q100 q931 rfl ⟨Nat.le_of_ble_eq_true rfl, Nat.le_of_ble_eq_true rfl⟩ (congrArg va_rf hq) rfl (by decide) dX0_part_58)) rfl (fun v17 => ?_)
          refine x_if_eq 140 64 hE dX0_part_61 (by decide) rfl ?_ ?_
          · refine x_iinc 143 [(6, .int (v12.2 + 1)), (7, va_rf v16), (0, va_rf (some v1)), (3, va_rf v8), (4, va_rf v10), (5, .int v12.1)] hE dX0_part_140 rfl 5 rfl xc_i_1 (Nat.le_of_ble_eq_true rfl) rfl ?_
            refine x_goto 38 hE dX0_part_143 (by decide) ?_
            refine x_sub [(0, va_rf (some v1)), (3, va_rf v8), (4, va_rf v10), (5, .int v12.1), (6, .int (v12.2 + 1))] [2, 3, 4, 5, 0] rfl ?_
            exact hc1 (v12.1, v12.2 + 1)
          · refine x_iload 66 hE dX0_part_64 rfl 4 rfl ?_
            refine x_iconst 67 hE dX0_part_66 rfl xc_i_m1 ?_
            refine x_icmp_eq 91 70 hE dX0_part_67 (by decide) rfl ?_ ?_
            · refine x_iconst 92 hE dX0_part_91 rfl xc_i_0 ?_
              refine x_istore 94 [(8, .int 0), (7, va_rf v16), (0, va_rf (some v1)), (3, va_rf v8), (4, va_rf v10), (5, .int v12.1), (6, .int v12.2)] hE dX0_part_92 rfl (Nat.le_of_ble_eq_true rfl) (congrArg (List.cons _) (xw_f1 (by decide) (x_rfc _) (xw_f1 (by decide) rfl (xw_f1 (by decide) (x_rfc _) (xw_f1 (by decide) (x_rfc _) (xw_f1 (by decide) rfl (xw_f1 (by decide) rfl xw_f0))))))) ?_
              refine x_iconst 95 hE dX0_part_94 rfl xc_i_0 ?_
              refine x_istore 97 [(9, .int 0), (8, .int 0), (7, va_rf v16), (0, va_rf (some v1)), (3, va_rf v8), (4, va_rf v10), (5, .int v12.1), (6, .int v12.2)] hE dX0_part_95 rfl (Nat.le_of_ble_eq_true rfl) rfl ?_
              refine x_sub [(0, va_rf (some v1)), (3, va_rf v8), (4, va_rf v10), (5, .int v12.1), (6, .int v12.2), (7, va_rf v16), (8, .int 0), (9, .int 0)] [3, 4, 5, 6, 7, 2, 1, 0] rfl ?_
              refine x_sq 131 (fun (v20 : Int32) => [(0, va_rf (some v1)), (3, va_rf v8), (4, va_rf v10), (5, .int v12.1), (6, .int v12.2), (8, .int v20)]) (fun _ => []) (fun v20 => ?_) (fun J4 hJ4 => ?_)
              · refine x_iload 133 hE dX0_part_131 rfl 5 rfl ?_
                refine x_if_eq 140 136 hE dX0_part_133 (by decide) rfl ?_ ?_
                · refine x_iinc 143 [(6, .int (v12.2 + 1)), (0, va_rf (some v1)), (3, va_rf v8), (4, va_rf v10), (5, .int v12.1), (8, .int v20)] hE dX0_part_140 rfl 4 rfl xc_i_1 (Nat.le_of_ble_eq_true rfl) rfl ?_
                  refine x_goto 38 hE dX0_part_143 (by decide) ?_
                  refine x_sub [(0, va_rf (some v1)), (3, va_rf v8), (4, va_rf v10), (5, .int v12.1), (6, .int (v12.2 + 1))] [1, 2, 3, 4, 0] rfl ?_
                  exact hc1 (v12.1, v12.2 + 1)
                · refine x_iload 138 hE dX0_part_136 rfl 4 rfl ?_
                  refine x_istore 140 [(5, .int v12.2), (0, va_rf (some v1)), (3, va_rf v8), (4, va_rf v10), (6, .int v12.2), (8, .int v20)] hE dX0_part_138 rfl (Nat.le_of_ble_eq_true rfl) (congrArg (List.cons _) (xw_f1 (by decide) rfl (xw_f1 (by decide) (x_rfc _) (xw_f1 (by decide) (x_rfc _) (xw_f2 (xw_f1 (by decide) rfl (xw_f1 (by decide) rfl xw_f0))))))) ?_
                  refine x_iinc 143 [(6, .int (v12.2 + 1)), (5, .int v12.2), (0, va_rf (some v1)), (3, va_rf v8), (4, va_rf v10), (8, .int v20)] hE dX0_part_140 rfl 4 rfl xc_i_1 (Nat.le_of_ble_eq_true rfl) rfl ?_
                  refine x_goto 38 hE dX0_part_143 (by decide) ?_
                  refine x_sub [(0, va_rf (some v1)), (3, va_rf v8), (4, va_rf v10), (5, .int v12.2), (6, .int (v12.2 + 1))] [2, 3, 4, 1, 0] rfl ?_
                  exact hc1 (v12.2, v12.2 + 1)
              · refine x_loop (fun (v19 : Int32 × Int32) => [(0, va_rf (some v1)), (3, va_rf v8), (4, va_rf v10), (5, .int v12.1), (6, .int v12.2), (7, va_rf v16), (8, .int v19.1), (9, .int v19.2)]) (fun JL3 hc3 hx3 v19 => ?_) _ _
                refine x_iload 99 hE dX0_part_97 rfl 7 rfl ?_
                refine x_aload 101 hE dX0_part_99 rfl 5 rfl ?_
                refine x_calli 104 (xw_goV hE (c := 4) (by decide) (fun v22 hq => xw_rV hE (ct_X5_combos v22) xd_X5_combos rfl q933 q934 q935 q100 q936 rfl ⟨Nat.le_of_ble_eq_true rfl, Nat.le_of_ble_eq_true rfl⟩ (congrArg va_rf hq) rfl (Nat.le_trans (xw_sm1 rfl xw_sm0) (by decide)) dX0_part_101)) rfl (fun v21 => ?_)
                refine x_icmp_ge 131 107 hE dX0_part_104 (by decide) rfl ?_ ?_
                · refine x_sub [(0, va_rf (some v1)), (3, va_rf v8), (4, va_rf v10), (5, .int v12.1), (6, .int v12.2), (8, .int v19.1)] [0, 1, 2, 3, 4, 6] rfl ?_
                  refine hx3 _ _ _ _ ?_
                  exact hJ4 (v19.1)
                · refine x_iload 109 hE dX0_part_107 rfl 6 rfl ?_
                  refine x_if_ne 131 112 hE dX0_part_109 (by decide) rfl ?_ ?_
                  · refine x_aload_n 113 hE dX0_part_112 rfl 0 rfl ?_
                    refine x_aload 115 hE dX0_part_113 rfl 5 rfl ?_
                    refine x_aload_n 116 hE dX0_part_115 rfl 1 rfl ?_
                    refine x_aload 118 hE dX0_part_116 rfl 2 rfl ?_
                    refine x_iload 120 hE dX0_part_118 rfl 7 rfl ?_
                    refine x_calli 123 (xw_goV hE (c := 0) (by decide) (fun v24 hq => xw_rV hE (ct_X0_areApart v24 v16 v8 v10 v19.2) xd_X0_areApart rfl q1314 q1316 qs31 q95 q1317 rfl ⟨Nat.le_of_ble_eq_true rfl, Nat.le_of_ble_eq_true rfl⟩ (congrArg va_rf hq) rfl (by decide) dX0_part_120)) rfl (fun v23 => ?_)
                    refine x_istore 125 [(8, .int v23), (0, va_rf (some v1)), (3, va_rf v8), (4, va_rf v10), (5, .int v12.1), (6, .int v12.2), (7, va_rf v16), (9, .int v19.2)] hE dX0_part_123 rfl (Nat.le_of_ble_eq_true rfl) (congrArg (List.cons _) (xw_f1 (by decide) rfl (xw_f1 (by decide) (x_rfc _) (xw_f1 (by decide) (x_rfc _) (xw_f1 (by decide) rfl (xw_f1 (by decide) rfl (xw_f1 (by decide) (x_rfc _) (xw_f2 (xw_f1 (by decide) rfl xw_f0))))))))) ?_
                    refine x_iinc 128 [(9, .int (v19.2 + 1)), (8, .int v23), (0, va_rf (some v1)), (3, va_rf v8), (4, va_rf v10), (5, .int v12.1), (6, .int v12.2), (7, va_rf v16)] hE dX0_part_125 rfl 7 rfl xc_i_1 (Nat.le_of_ble_eq_true rfl) rfl ?_
                    refine x_goto 97 hE dX0_part_128 (by decide) ?_
                    refine x_sub [(0, va_rf (some v1)), (3, va_rf v8), (4, va_rf v10), (5, .int v12.1), (6, .int v12.2), (7, va_rf v16), (8, .int v23), (9, .int (v19.2 + 1))] [2, 3, 4, 5, 6, 7, 1, 0] rfl ?_
                    exact hc3 (v23, v19.2 + 1)
                  · refine x_sub [(0, va_rf (some v1)), (3, va_rf v8), (4, va_rf v10), (5, .int v12.1), (6, .int v12.2), (8, .int v19.1)] [0, 1, 2, 3, 4, 6] rfl ?_
                    refine hx3 _ _ _ _ ?_
                    exact hJ4 (v19.1)
            · refine x_aload 72 hE dX0_part_70 rfl 0 rfl ?_
              refine x_gI 75 hE (xw_lk0 hE xkf_CrossingWords_126) rfl dX0_part_72 rfl (fun v25 => ?_)
              refine x_aload_n 76 hE dX0_part_75 rfl 1 rfl ?_
              refine x_gR 79 hE (xw_lk0 hE xkf_CrossingWords_21) rfl dX0_part_76 rfl (fun v26 => ?_)
              refine x_iload 81 hE dX0_part_79 rfl 4 rfl ?_
              refine x_ldR 82 hE dX0_part_81 rfl (fun v27 => ?_)
              refine x_gI 85 hE (xw_lk0 hE xkf_CrossingWords_126) rfl dX0_part_82 rfl (fun v28 => ?_)
              refine x_icmp_lt 91 88 hE dX0_part_85 (by decide) rfl ?_ ?_
              · refine x_iconst 92 hE dX0_part_91 rfl xc_i_0 ?_
                refine x_istore 94 [(8, .int 0), (7, va_rf v16), (0, va_rf (some v1)), (3, va_rf v8), (4, va_rf v10), (5, .int v12.1), (6, .int v12.2)] hE dX0_part_92 rfl (Nat.le_of_ble_eq_true rfl) (congrArg (List.cons _) (xw_f1 (by decide) (x_rfc _) (xw_f1 (by decide) rfl (xw_f1 (by decide) (x_rfc _) (xw_f1 (by decide) (x_rfc _) (xw_f1 (by decide) rfl (xw_f1 (by decide) rfl xw_f0))))))) ?_
                refine x_iconst 95 hE dX0_part_94 rfl xc_i_0 ?_
                refine x_istore 97 [(9, .int 0), (8, .int 0), (7, va_rf v16), (0, va_rf (some v1)), (3, va_rf v8), (4, va_rf v10), (5, .int v12.1), (6, .int v12.2)] hE dX0_part_95 rfl (Nat.le_of_ble_eq_true rfl) rfl ?_
                refine x_sub [(0, va_rf (some v1)), (3, va_rf v8), (4, va_rf v10), (5, .int v12.1), (6, .int v12.2), (7, va_rf v16), (8, .int 0), (9, .int 0)] [3, 4, 5, 6, 7, 2, 1, 0] rfl ?_
                refine x_sq 131 (fun (v30 : Int32) => [(0, va_rf (some v1)), (3, va_rf v8), (4, va_rf v10), (5, .int v12.1), (6, .int v12.2), (8, .int v30)]) (fun _ => []) (fun v30 => ?_) (fun J6 hJ6 => ?_)
                · refine x_iload 133 hE dX0_part_131 rfl 5 rfl ?_
                  refine x_if_eq 140 136 hE dX0_part_133 (by decide) rfl ?_ ?_
                  · refine x_iinc 143 [(6, .int (v12.2 + 1)), (0, va_rf (some v1)), (3, va_rf v8), (4, va_rf v10), (5, .int v12.1), (8, .int v30)] hE dX0_part_140 rfl 4 rfl xc_i_1 (Nat.le_of_ble_eq_true rfl) rfl ?_
                    refine x_goto 38 hE dX0_part_143 (by decide) ?_
                    refine x_sub [(0, va_rf (some v1)), (3, va_rf v8), (4, va_rf v10), (5, .int v12.1), (6, .int (v12.2 + 1))] [1, 2, 3, 4, 0] rfl ?_
                    exact hc1 (v12.1, v12.2 + 1)
                  · refine x_iload 138 hE dX0_part_136 rfl 4 rfl ?_
                    refine x_istore 140 [(5, .int v12.2), (0, va_rf (some v1)), (3, va_rf v8), (4, va_rf v10), (6, .int v12.2), (8, .int v30)] hE dX0_part_138 rfl (Nat.le_of_ble_eq_true rfl) (congrArg (List.cons _) (xw_f1 (by decide) rfl (xw_f1 (by decide) (x_rfc _) (xw_f1 (by decide) (x_rfc _) (xw_f2 (xw_f1 (by decide) rfl (xw_f1 (by decide) rfl xw_f0))))))) ?_
                    refine x_iinc 143 [(6, .int (v12.2 + 1)), (5, .int v12.2), (0, va_rf (some v1)), (3, va_rf v8), (4, va_rf v10), (8, .int v30)] hE dX0_part_140 rfl 4 rfl xc_i_1 (Nat.le_of_ble_eq_true rfl) rfl ?_
                    refine x_goto 38 hE dX0_part_143 (by decide) ?_
                    refine x_sub [(0, va_rf (some v1)), (3, va_rf v8), (4, va_rf v10), (5, .int v12.2), (6, .int (v12.2 + 1))] [2, 3, 4, 1, 0] rfl ?_
                    exact hc1 (v12.2, v12.2 + 1)
                · refine x_loop (fun (v29 : Int32 × Int32) => [(0, va_rf (some v1)), (3, va_rf v8), (4, va_rf v10), (5, .int v12.1), (6, .int v12.2), (7, va_rf v16), (8, .int v29.1), (9, .int v29.2)]) (fun JL5 hc5 hx5 v29 => ?_) _ _
                  refine x_iload 99 hE dX0_part_97 rfl 7 rfl ?_
                  refine x_aload 101 hE dX0_part_99 rfl 5 rfl ?_
                  refine x_calli 104 (xw_goV hE (c := 4) (by decide) (fun v32 hq => xw_rV hE (ct_X5_combos v32) xd_X5_combos rfl q933 q934 q935 q100 q936 rfl ⟨Nat.le_of_ble_eq_true rfl, Nat.le_of_ble_eq_true rfl⟩ (congrArg va_rf hq) rfl (Nat.le_trans (xw_sm1 rfl xw_sm0) (by decide)) dX0_part_101)) rfl (fun v31 => ?_)
                  refine x_icmp_ge 131 107 hE dX0_part_104 (by decide) rfl ?_ ?_
                  · refine x_sub [(0, va_rf (some v1)), (3, va_rf v8), (4, va_rf v10), (5, .int v12.1), (6, .int v12.2), (8, .int v29.1)] [0, 1, 2, 3, 4, 6] rfl ?_
                    refine hx5 _ _ _ _ ?_
                    exact hJ6 (v29.1)
                  · refine x_iload 109 hE dX0_part_107 rfl 6 rfl ?_
                    refine x_if_ne 131 112 hE dX0_part_109 (by decide) rfl ?_ ?_
                    · refine x_aload_n 113 hE dX0_part_112 rfl 0 rfl ?_
                      refine x_aload 115 hE dX0_part_113 rfl 5 rfl ?_
                      refine x_aload_n 116 hE dX0_part_115 rfl 1 rfl ?_
                      refine x_aload 118 hE dX0_part_116 rfl 2 rfl ?_
                      refine x_iload 120 hE dX0_part_118 rfl 7 rfl ?_
                      refine x_calli 123 (xw_goV hE (c := 0) (by decide) (fun v34 hq => xw_rV hE (ct_X0_areApart v34 v16 v8 v10 v29.2) xd_X0_areApart rfl q1314 q1316 qs31 q95 q1317 rfl ⟨Nat.le_of_ble_eq_true rfl, Nat.le_of_ble_eq_true rfl⟩ (congrArg va_rf hq) rfl (by decide) dX0_part_120)) rfl (fun v33 => ?_)
                      refine x_istore 125 [(8, .int v33), (0, va_rf (some v1)), (3, va_rf v8), (4, va_rf v10), (5, .int v12.1), (6, .int v12.2), (7, va_rf v16), (9, .int v29.2)] hE dX0_part_123 rfl (Nat.le_of_ble_eq_true rfl) (congrArg (List.cons _) (xw_f1 (by decide) rfl (xw_f1 (by decide) (x_rfc _) (xw_f1 (by decide) (x_rfc _) (xw_f1 (by decide) rfl (xw_f1 (by decide) rfl (xw_f1 (by decide) (x_rfc _) (xw_f2 (xw_f1 (by decide) rfl xw_f0))))))))) ?_
                      refine x_iinc 128 [(9, .int (v29.2 + 1)), (8, .int v33), (0, va_rf (some v1)), (3, va_rf v8), (4, va_rf v10), (5, .int v12.1), (6, .int v12.2), (7, va_rf v16)] hE dX0_part_125 rfl 7 rfl xc_i_1 (Nat.le_of_ble_eq_true rfl) rfl ?_
                      refine x_goto 97 hE dX0_part_128 (by decide) ?_
                      refine x_sub [(0, va_rf (some v1)), (3, va_rf v8), (4, va_rf v10), (5, .int v12.1), (6, .int v12.2), (7, va_rf v16), (8, .int v33), (9, .int (v29.2 + 1))] [2, 3, 4, 5, 6, 7, 1, 0] rfl ?_
                      exact hc5 (v33, v29.2 + 1)
                    · refine x_sub [(0, va_rf (some v1)), (3, va_rf v8), (4, va_rf v10), (5, .int v12.1), (6, .int v12.2), (8, .int v29.1)] [0, 1, 2, 3, 4, 6] rfl ?_
                      refine hx5 _ _ _ _ ?_
                      exact hJ6 (v29.1)
              · refine x_goto 140 hE dX0_part_88 (by decide) ?_
                refine x_iinc 143 [(6, .int (v12.2 + 1)), (7, va_rf v16), (0, va_rf (some v1)), (3, va_rf v8), (4, va_rf v10), (5, .int v12.1)] hE dX0_part_140 rfl 5 rfl xc_i_1 (Nat.le_of_ble_eq_true rfl) rfl ?_
                refine x_goto 38 hE dX0_part_143 (by decide) ?_
                refine x_sub [(0, va_rf (some v1)), (3, va_rf v8), (4, va_rf v10), (5, .int v12.1), (6, .int (v12.2 + 1))] [2, 3, 4, 5, 0] rfl ?_
                exact hc1 (v12.1, v12.2 + 1)

set_option maxHeartbeats 4000000 in
theorem ct_X0_isSure {l : Launch} {G : xw_G} {μ : xw_Mu} (v1 : Nat) (v2 : Option Nat) (v3 : Int32) : xw_Ct l G (xw_hc G μ) xw_oi yX0_isSure cX0_isSure 6 (some (.boolean)) 95 [va_rf (some v1), va_rf v2, .int v3] (pg_X0_isSure v1 v2 v3) := by
  refine xw_metL [(0, va_rf (some v1)), (1, va_rf v2), (2, .int v3)] (by decide) (Nat.le_trans (Nat.le_of_eq ((xw_l1 rfl).trans (congrArg (1 + ·) ((xw_l1 (x_rfc _)).trans (congrArg (1 + ·) ((xw_l1 rfl).trans (congrArg (1 + ·) xw_l0))))))) (by decide)) ((xw_a1 rfl).trans (congrArg (List.cons _) ((xw_a1 (x_rfc _)).trans (congrArg (List.cons _) ((xw_a1 rfl).trans (congrArg (List.cons _) xw_a0)))))) (fun E hE hl hG hm => ?_)
  subst hl; subst hG
  have hE : xw_ok E "CrossingWords" cX0_isSure 6 (some (.boolean)) 95 := hE
  unfold pg_X0_isSure
  refine x_iconst 1 hE dX0_isSure_0 rfl xc_i_0 ?_
  refine x_istore_n 2 [(3, .int 0), (0, va_rf (some v1)), (1, va_rf v2), (2, .int v3)] hE dX0_isSure_1 rfl rfl (Nat.le_of_ble_eq_true rfl) rfl ?_
  refine x_sub [(0, va_rf (some v1)), (1, va_rf v2), (2, .int v3), (3, .int 0)] [1, 2, 3, 0] rfl ?_
  refine x_loop (fun (v4 : Int32) => [(0, va_rf (some v1)), (1, va_rf v2), (2, .int v3), (3, .int v4)]) (fun JL1 hc1 hx1 v4 => ?_) _ _
  refine x_iload_n 3 hE dX0_isSure_2 rfl 3 rfl ?_
  refine x_aload_n 4 hE dX0_isSure_3 rfl 0 rfl ?_
  refine x_gI 7 hE (xw_lk0 hE xkf_CrossingWords_129) rfl dX0_isSure_4 rfl (fun v5 => ?_)
  refine x_icmp_ge 98 10 hE dX0_isSure_7 (by decide) rfl ?_ ?_
  · refine x_iconst 99 hE dX0_isSure_98 rfl xc_i_1 ?_
    refine hx1 _ _ _ _ ?_
    exact x_zretw hE (by decide) dX0_isSure_99
  · refine x_aload_n 11 hE dX0_isSure_10 rfl 0 rfl ?_
    refine x_iload_n 12 hE dX0_isSure_11 rfl 3 rfl ?_
    refine x_callr 15 (xw_goV hE (c := 0) (by decide) (fun v7 hq => xw_rV hE (ct_X0_rulesOf v7 v4) xd_X0_rulesOf rfl q965 q967 qs15 q95 q968 rfl ⟨Nat.le_of_ble_eq_true rfl, Nat.le_of_ble_eq_true rfl⟩ (congrArg va_rf hq) rfl (by decide) dX0_isSure_12)) rfl (fun v6 => ?_)
    refine x_astore 17 [(4, va_rf v6), (0, va_rf (some v1)), (1, va_rf v2), (2, .int v3), (3, .int v4)] hE dX0_isSure_15 rfl (Nat.le_of_ble_eq_true rfl) rfl ?_
    refine x_iconst 18 hE dX0_isSure_17 rfl xc_i_0 ?_
    refine x_istore 20 [(5, .int 0), (4, va_rf v6), (0, va_rf (some v1)), (1, va_rf v2), (2, .int v3), (3, .int v4)] hE dX0_isSure_18 rfl (Nat.le_of_ble_eq_true rfl) (congrArg (List.cons _) (xw_f1 (by decide) (x_rfc _) (xw_f1 (by decide) rfl (xw_f1 (by decide) (x_rfc _) (xw_f1 (by decide) rfl (xw_f1 (by decide) rfl xw_f0)))))) ?_
    refine x_sub [(0, va_rf (some v1)), (1, va_rf v2), (2, .int v3), (3, .int v4), (4, va_rf v6), (5, .int 0)] [2, 3, 4, 5, 1, 0] rfl ?_
    refine x_sq 57 (fun (v9 : Unit) => [(0, va_rf (some v1)), (1, va_rf v2), (2, .int v3), (3, .int v4), (4, va_rf v6)]) (fun _ => []) (fun v9 => ?_) (fun J3 hJ3 => ?_)
    · refine x_iconst 58 hE dX0_isSure_57 rfl xc_i_0 ?_
      refine x_istore 60 [(5, .int 0), (0, va_rf (some v1)), (1, va_rf v2), (2, .int v3), (3, .int v4), (4, va_rf v6)] hE dX0_isSure_58 rfl (Nat.le_of_ble_eq_true rfl) (congrArg (List.cons _) (xw_f1 (by decide) rfl (xw_f1 (by decide) (x_rfc _) (xw_f1 (by decide) rfl (xw_f1 (by decide) rfl (xw_f1 (by decide) (x_rfc _) xw_f0)))))) ?_
      refine x_sub [(0, va_rf (some v1)), (1, va_rf v2), (2, .int v3), (3, .int v4), (4, va_rf v6), (5, .int 0)] [1, 2, 3, 4, 5, 0] rfl ?_
      refine x_loop (fun (v10 : Int32) => [(0, va_rf (some v1)), (1, va_rf v2), (2, .int v3), (3, .int v4), (4, va_rf v6), (5, .int v10)]) (fun JL4 hc4 hx4 v10 => ?_) _ _
      refine x_iload 62 hE dX0_isSure_60 rfl 5 rfl ?_
      refine x_aload_n 63 hE dX0_isSure_62 rfl 1 rfl ?_
      refine x_calli 66 (xw_goV hE (c := 4) (by decide) (fun v12 hq => xw_rV hE (ct_X5_combos v12) xd_X5_combos rfl q933 q934 q935 q100 q936 rfl ⟨Nat.le_of_ble_eq_true rfl, Nat.le_of_ble_eq_true rfl⟩ (congrArg va_rf hq) rfl (Nat.le_trans (xw_sm1 rfl xw_sm0) (by decide)) dX0_isSure_63)) rfl (fun v11 => ?_)
      refine x_icmp_ge 92 69 hE dX0_isSure_66 (by decide) rfl ?_ ?_
      · refine x_iinc 95 [(3, .int (v4 + 1)), (0, va_rf (some v1)), (1, va_rf v2), (2, .int v3), (4, va_rf v6), (5, .int v10)] hE dX0_isSure_92 rfl 3 rfl xc_i_1 (Nat.le_of_ble_eq_true rfl) rfl ?_
        refine x_goto 2 hE dX0_isSure_95 (by decide) ?_
        refine x_sub [(0, va_rf (some v1)), (1, va_rf v2), (2, .int v3), (3, .int (v4 + 1))] [1, 2, 3, 0] rfl ?_
        refine hx4 _ _ _ _ ?_
        exact hc1 (v4 + 1)
      · refine x_aload_n 70 hE dX0_isSure_69 rfl 0 rfl ?_
        refine x_aload_n 71 hE dX0_isSure_70 rfl 1 rfl ?_
        refine x_aload 73 hE dX0_isSure_71 rfl 4 rfl ?_
        refine x_iload 75 hE dX0_isSure_73 rfl 5 rfl ?_
        refine x_callr 78 (xw_goV hE (c := 0) (by decide) (fun v14 hq => xw_rV hE (ct_X0_ran v14 v2 v6 v10) xd_X0_ran rfl q999 q1001 qs17 q95 q1002 rfl ⟨Nat.le_of_ble_eq_true rfl, Nat.le_of_ble_eq_true rfl⟩ (congrArg va_rf hq) rfl (by decide) dX0_isSure_75)) rfl (fun v13 => ?_)
        refine x_calli 81 (xw_goV hE (c := 1) (by decide) (fun v16 hq => xw_rV hE (ct_X1_isBargain v16) xd_X1_isBargain rfl q1041 q1042 q1043 q96 q1044 rfl ⟨Nat.le_of_ble_eq_true rfl, Nat.le_of_ble_eq_true rfl⟩ (congrArg va_rf hq) rfl (by decide) dX0_isSure_78)) rfl (fun v15 => ?_)
        refine x_if_ne 86 84 hE dX0_isSure_81 (by decide) rfl ?_ ?_
        · refine x_iconst 85 hE dX0_isSure_84 rfl xc_i_0 ?_
          refine hx4 _ _ _ _ ?_
          refine hx1 _ _ _ _ ?_
          exact x_zretw hE (by decide) dX0_isSure_85
        · refine x_iinc 89 [(5, .int (v10 + 1)), (0, va_rf (some v1)), (1, va_rf v2), (2, .int v3), (3, .int v4), (4, va_rf v6)] hE dX0_isSure_86 rfl 5 rfl xc_i_1 (Nat.le_of_ble_eq_true rfl) (congrArg (List.cons _) (xw_f1 (by decide) rfl (xw_f1 (by decide) (x_rfc _) (xw_f1 (by decide) rfl (xw_f1 (by decide) rfl (xw_f1 (by decide) (x_rfc _) (xw_f2 xw_f0))))))) ?_
          refine x_goto 60 hE dX0_isSure_89 (by decide) ?_
          refine x_sub [(0, va_rf (some v1)), (1, va_rf v2), (2, .int v3), (3, .int v4), (4, va_rf v6), (5, .int (v10 + 1))] [1, 2, 3, 4, 5, 0] rfl ?_
          exact hc4 (v10 + 1)
    · refine x_loop (fun (v8 : Int32) => [(0, va_rf (some v1)), (1, va_rf v2), (2, .int v3), (3, .int v4), (4, va_rf v6), (5, .int v8)]) (fun JL2 hc2 hx2 v8 => ?_) _ _
      refine x_iload 22 hE dX0_isSure_20 rfl 5 rfl ?_
      refine x_aload_n 23 hE dX0_isSure_22 rfl 0 rfl ?_
      refine x_gI 26 hE (xw_lk0 hE xkf_CrossingWords_140) rfl dX0_isSure_23 rfl (fun v17 => ?_)
      refine x_icmp_ge 57 29 hE dX0_isSure_26 (by decide) rfl ?_ ?_
      · refine x_sub [(0, va_rf (some v1)), (1, va_rf v2), (2, .int v3), (3, .int v4), (4, va_rf v6)] [0, 1, 2, 3, 4] rfl ?_
        refine hx2 _ _ _ _ ?_
        exact hJ3 ()
      · refine x_iload_n 30 hE dX0_isSure_29 rfl 2 rfl ?_
        refine x_iload 32 hE dX0_isSure_30 rfl 5 rfl ?_
        refine x_ishr 33 hE dX0_isSure_32 rfl ?_
        refine x_iconst 34 hE dX0_isSure_33 rfl xc_i_1 ?_
        refine x_iand 35 hE dX0_isSure_34 rfl ?_
        refine x_iconst 36 hE dX0_isSure_35 rfl xc_i_1 ?_
        refine x_icmp_ne 51 39 hE dX0_isSure_36 (by decide) rfl ?_ ?_
        · refine x_aload 41 hE dX0_isSure_39 rfl 4 rfl ?_
          refine x_aload_n 42 hE dX0_isSure_41 rfl 0 rfl ?_
          refine x_gR 45 hE (xw_lk0 hE xkf_CrossingWords_31) rfl dX0_isSure_42 rfl (fun v18 => ?_)
          refine x_iload 47 hE dX0_isSure_45 rfl 5 rfl ?_
          refine x_ldR 48 hE dX0_isSure_47 rfl (fun v19 => ?_)
          refine x_callv 51 (xw_goV hE (c := 17) (by decide) (fun v20 hq => xw_rV hE (ct_X20_takes v20 v19) xd_X20_takes rfl q983 q984 q985 q116 q986 rfl ⟨Nat.le_of_ble_eq_true rfl, Nat.le_of_ble_eq_true rfl⟩ (congrArg va_rf hq) rfl (by decide) dX0_isSure_48)) rfl ?_
          refine x_iinc 54 [(5, .int (v8 + 1)), (0, va_rf (some v1)), (1, va_rf v2), (2, .int v3), (3, .int v4), (4, va_rf v6)] hE dX0_isSure_51 rfl 5 rfl xc_i_1 (Nat.le_of_ble_eq_true rfl) (congrArg (List.cons _) (xw_f1 (by decide) rfl (xw_f1 (by decide) (x_rfc _) (xw_f1 (by decide) rfl (xw_f1 (by decide) rfl (xw_f1 (by decide) (x_rfc _) (xw_f2 xw_f0))))))) ?_
          refine x_goto 20 hE dX0_isSure_54 (by decide) ?_
          refine x_sub [(0, va_rf (some v1)), (1, va_rf v2), (2, .int v3), (3, .int v4), (4, va_rf v6), (5, .int (v8 + 1))] [1, 2, 3, 4, 5, 0] rfl ?_
          exact hc2 (v8 + 1)
        · refine x_iinc 54 [(5, .int (v8 + 1)), (0, va_rf (some v1)), (1, va_rf v2), (2, .int v3), (3, .int v4), (4, va_rf v6)] hE dX0_isSure_51 rfl 5 rfl xc_i_1 (Nat.le_of_ble_eq_true rfl) (congrArg (List.cons _) (xw_f1 (by decide) rfl (xw_f1 (by decide) (x_rfc _) (xw_f1 (by decide) rfl (xw_f1 (by decide) rfl (xw_f1 (by decide) (x_rfc _) (xw_f2 xw_f0))))))) ?_
          refine x_goto 20 hE dX0_isSure_54 (by decide) ?_
          refine x_sub [(0, va_rf (some v1)), (1, va_rf v2), (2, .int v3), (3, .int v4), (4, va_rf v6), (5, .int (v8 + 1))] [1, 2, 3, 4, 5, 0] rfl ?_
          exact hc2 (v8 + 1)

set_option maxHeartbeats 4000000 in
theorem ct_X0_write {l : Launch} {G : xw_G} {μ : xw_Mu} (v1 : Nat) (v2 : Int32) : xw_Ct l G (xw_hc G μ) xw_oi yX0_write cX0_write 4 (some (.int)) 96 [va_rf (some v1), .int v2] (pg_X0_write v1 v2) := by
  refine xw_metL [(0, va_rf (some v1)), (1, .int v2)] (by decide) (Nat.le_trans (Nat.le_of_eq ((xw_l1 rfl).trans (congrArg (1 + ·) ((xw_l1 rfl).trans (congrArg (1 + ·) xw_l0))))) (by decide)) ((xw_a1 rfl).trans (congrArg (List.cons _) ((xw_a1 rfl).trans (congrArg (List.cons _) xw_a0)))) (fun E hE hl hG hm => ?_)
  subst hl; subst hG
  have hE : xw_ok E "CrossingWords" cX0_write 4 (some (.int)) 96 := hE
  unfold pg_X0_write
  refine x_aload_n 1 hE dX0_write_0 rfl 0 rfl ?_
  refine x_iload_n 2 hE dX0_write_1 rfl 1 rfl ?_
  refine x_iconst 3 hE dX0_write_2 rfl xc_i_0 ?_
  refine x_calli 6 (xw_goV hE (c := 0) (by decide) (fun v4 hq => xw_rV hE (ct_X0_isCombo v4 v2 0) xd_X0_isCombo rfl q941 q943 qs13 q95 q944 rfl ⟨Nat.le_of_ble_eq_true rfl, Nat.le_of_ble_eq_true rfl⟩ (congrArg va_rf hq) rfl (by decide) dX0_write_3)) rfl (fun v3 => ?_)
  refine x_if_eq 16 9 hE dX0_write_6 (by decide) rfl ?_ ?_
  · refine x_bipush 18 hE dX0_write_16 rfl xc_b_m2 ?_
    exact x_iret hE dX0_write_18
  · refine x_aload_n 10 hE dX0_write_9 rfl 0 rfl ?_
    refine x_gI 13 hE (xw_lk0 hE xkf_CrossingWords_129) rfl dX0_write_10 rfl (fun v5 => ?_)
    refine x_if_ne 19 16 hE dX0_write_13 (by decide) rfl ?_ ?_
    · refine x_bipush 18 hE dX0_write_16 rfl xc_b_m2 ?_
      exact x_iret hE dX0_write_18
    · refine x_iconst 20 hE dX0_write_19 rfl xc_i_m1 ?_
      refine x_istore_n 21 [(2, .int (-1)), (0, va_rf (some v1)), (1, .int v2)] hE dX0_write_20 rfl rfl (Nat.le_of_ble_eq_true rfl) rfl ?_
      refine x_iconst 22 hE dX0_write_21 rfl xc_i_0 ?_
      refine x_istore_n 23 [(3, .int 0), (2, .int (-1)), (0, va_rf (some v1)), (1, .int v2)] hE dX0_write_22 rfl rfl (Nat.le_of_ble_eq_true rfl) rfl ?_
      refine x_sub [(0, va_rf (some v1)), (1, .int v2), (2, .int (-1)), (3, .int 0)] [2, 3, 1, 0] rfl ?_
      refine x_sq 71 (fun (v7 : Int32) => [(2, .int v7)]) (fun _ => []) (fun v7 => ?_) (fun J2 hJ2 => ?_)
      · refine x_iload_n 72 hE dX0_write_71 rfl 0 rfl ?_
        exact x_iret hE dX0_write_72
      · refine x_loop (fun (v6 : Int32 × Int32) => [(0, va_rf (some v1)), (1, .int v2), (2, .int v6.1), (3, .int v6.2)]) (fun JL1 hc1 hx1 v6 => ?_) _ _
        refine x_iload_n 24 hE dX0_write_23 rfl 3 rfl ?_
        refine x_iconst 25 hE dX0_write_24 rfl xc_i_1 ?_
        refine x_aload_n 26 hE dX0_write_25 rfl 0 rfl ?_
        refine x_gI 29 hE (xw_lk0 hE xkf_CrossingWords_140) rfl dX0_write_26 rfl (fun v8 => ?_)
        refine x_ishl 30 hE dX0_write_29 rfl ?_
        refine x_icmp_ge 71 33 hE dX0_write_30 (by decide) rfl ?_ ?_
        · refine x_sub [(2, .int v6.1)] [2] rfl ?_
          refine hx1 _ _ _ _ ?_
          exact hJ2 (v6.1)
        · refine x_iload_n 34 hE dX0_write_33 rfl 2 rfl ?_
          refine x_iconst 35 hE dX0_write_34 rfl xc_i_m1 ?_
          refine x_icmp_eq 49 38 hE dX0_write_35 (by decide) rfl ?_ ?_
          · refine x_aload_n 50 hE dX0_write_49 rfl 0 rfl ?_
            refine x_aload_n 51 hE dX0_write_50 rfl 0 rfl ?_
            refine x_gR 54 hE (xw_lk0 hE xkf_CrossingWords_21) rfl dX0_write_51 rfl (fun v9 => ?_)
            refine x_iload_n 55 hE dX0_write_54 rfl 1 rfl ?_
            refine x_ldR 56 hE dX0_write_55 rfl (fun v10 => ?_)
            refine x_iload_n 57 hE dX0_write_56 rfl 3 rfl ?_
            refine x_calli 60 (xw_goV hE (c := 0) (by decide) (fun v12 hq => xw_rV hE (ct_X0_isSure v12 v10 v6.2) xd_X0_isSure rfl q1326 q1328 qs32 q95 q1329 rfl ⟨Nat.le_of_ble_eq_true rfl, Nat.le_of_ble_eq_true rfl⟩ (congrArg va_rf hq) rfl (by decide) dX0_write_57)) rfl (fun v11 => ?_)
            refine x_if_eq 65 63 hE dX0_write_60 (by decide) rfl ?_ ?_
            · refine x_iinc 68 [(3, .int (v6.2 + 1)), (0, va_rf (some v1)), (1, .int v2), (2, .int v6.1)] hE dX0_write_65 rfl 3 rfl xc_i_1 (Nat.le_of_ble_eq_true rfl) rfl ?_
              refine x_goto 23 hE dX0_write_68 (by decide) ?_
              refine x_sub [(0, va_rf (some v1)), (1, .int v2), (2, .int v6.1), (3, .int (v6.2 + 1))] [1, 2, 3, 0] rfl ?_
              exact hc1 (v6.1, v6.2 + 1)
            · refine x_iload_n 64 hE dX0_write_63 rfl 3 rfl ?_
              refine x_istore_n 65 [(2, .int v6.2), (0, va_rf (some v1)), (1, .int v2), (3, .int v6.2)] hE dX0_write_64 rfl rfl (Nat.le_of_ble_eq_true rfl) rfl ?_
              refine x_iinc 68 [(3, .int (v6.2 + 1)), (2, .int v6.2), (0, va_rf (some v1)), (1, .int v2)] hE dX0_write_65 rfl 3 rfl xc_i_1 (Nat.le_of_ble_eq_true rfl) rfl ?_
              refine x_goto 23 hE dX0_write_68 (by decide) ?_
              refine x_sub [(0, va_rf (some v1)), (1, .int v2), (2, .int v6.2), (3, .int (v6.2 + 1))] [2, 3, 1, 0] rfl ?_
              exact hc1 (v6.2, v6.2 + 1)
          · refine x_iload_n 39 hE dX0_write_38 rfl 3 rfl ?_
            refine x_calli 42 (xw_goS hE (ct_J1_bitCount v6.2) xd_J1_bitCount q1281 q1282 q117 q1283 rfl ⟨Nat.le_of_ble_eq_true rfl, Nat.le_of_ble_eq_true rfl⟩ rfl (by decide) dX0_write_39) rfl (fun v13 => ?_)
            refine x_iload_n 43 hE dX0_write_42 rfl 2 rfl ?_
            refine x_calli 46 (xw_goS hE (ct_J1_bitCount v6.1) xd_J1_bitCount q1281 q1282 q117 q1283 rfl ⟨Nat.le_of_ble_eq_true rfl, Nat.le_of_ble_eq_true rfl⟩ rfl (Nat.le_trans (xw_sm1 rfl xw_sm0) (by decide)) dX0_write_43) rfl (fun v14 => ?_)
            refine x_icmp_ge 65 49 hE dX0_write_46 (by decide) rfl ?_ ?_
            · refine x_iinc 68 [(3, .int (v6.2 + 1)), (0, va_rf (some v1)), (1, .int v2), (2, .int v6.1)] hE dX0_write_65 rfl 3 rfl xc_i_1 (Nat.le_of_ble_eq_true rfl) rfl ?_
              refine x_goto 23 hE dX0_write_68 (by decide) ?_
              refine x_sub [(0, va_rf (some v1)), (1, .int v2), (2, .int v6.1), (3, .int (v6.2 + 1))] [1, 2, 3, 0] rfl ?_
              exact hc1 (v6.1, v6.2 + 1)
            · refine x_aload_n 50 hE dX0_write_49 rfl 0 rfl ?_
              refine x_aload_n 51 hE dX0_write_50 rfl 0 rfl ?_
              refine x_gR 54 hE (xw_lk0 hE xkf_CrossingWords_21) rfl dX0_write_51 rfl (fun v15 => ?_)
              refine x_iload_n 55 hE dX0_write_54 rfl 1 rfl ?_
              refine x_ldR 56 hE dX0_write_55 rfl (fun v16 => ?_)
              refine x_iload_n 57 hE dX0_write_56 rfl 3 rfl ?_
              refine x_calli 60 (xw_goV hE (c := 0) (by decide) (fun v18 hq => xw_rV hE (ct_X0_isSure v18 v16 v6.2) xd_X0_isSure rfl q1326 q1328 qs32 q95 q1329 rfl ⟨Nat.le_of_ble_eq_true rfl, Nat.le_of_ble_eq_true rfl⟩ (congrArg va_rf hq) rfl (by decide) dX0_write_57)) rfl (fun v17 => ?_)
              refine x_if_eq 65 63 hE dX0_write_60 (by decide) rfl ?_ ?_
              · refine x_iinc 68 [(3, .int (v6.2 + 1)), (0, va_rf (some v1)), (1, .int v2), (2, .int v6.1)] hE dX0_write_65 rfl 3 rfl xc_i_1 (Nat.le_of_ble_eq_true rfl) rfl ?_
                refine x_goto 23 hE dX0_write_68 (by decide) ?_
                refine x_sub [(0, va_rf (some v1)), (1, .int v2), (2, .int v6.1), (3, .int (v6.2 + 1))] [1, 2, 3, 0] rfl ?_
                exact hc1 (v6.1, v6.2 + 1)
              · refine x_iload_n 64 hE dX0_write_63 rfl 3 rfl ?_
                refine x_istore_n 65 [(2, .int v6.2), (0, va_rf (some v1)), (1, .int v2), (3, .int v6.2)] hE dX0_write_64 rfl rfl (Nat.le_of_ble_eq_true rfl) rfl ?_
                refine x_iinc 68 [(3, .int (v6.2 + 1)), (2, .int v6.2), (0, va_rf (some v1)), (1, .int v2)] hE dX0_write_65 rfl 3 rfl xc_i_1 (Nat.le_of_ble_eq_true rfl) rfl ?_
                refine x_goto 23 hE dX0_write_68 (by decide) ?_
                refine x_sub [(0, va_rf (some v1)), (1, .int v2), (2, .int v6.2), (3, .int (v6.2 + 1))] [2, 3, 1, 0] rfl ?_
                exact hc1 (v6.2, v6.2 + 1)

set_option maxHeartbeats 4000000 in
theorem ct_X0_count {l : Launch} {G : xw_G} {μ : xw_Mu} (v1 : Nat) (v2 : Int32) : xw_Ct l G (xw_hc G μ) xw_oi yX0_count cX0_count 4 (some (.int)) 1 [va_rf (some v1), .int v2] (pg_X0_count v1 v2) := by
  refine xw_metL [(0, va_rf (some v1)), (1, .int v2)] (by decide) (Nat.le_trans (Nat.le_of_eq ((xw_l1 rfl).trans (congrArg (1 + ·) ((xw_l1 rfl).trans (congrArg (1 + ·) xw_l0))))) (by decide)) ((xw_a1 rfl).trans (congrArg (List.cons _) ((xw_a1 rfl).trans (congrArg (List.cons _) xw_a0)))) (fun E hE hl hG hm => ?_)
  subst hl; subst hG
  have hE : xw_ok E "CrossingWords" cX0_count 4 (some (.int)) 1 := hE
  unfold pg_X0_count
  refine x_iconst 1 hE dX0_count_0 rfl xc_i_0 ?_
  refine x_istore_n 2 [(2, .int 0), (0, va_rf (some v1)), (1, .int v2)] hE dX0_count_1 rfl rfl (Nat.le_of_ble_eq_true rfl) rfl ?_
  refine x_iload_n 3 hE dX0_count_2 rfl 2 rfl ?_
  refine x_sw (fun hs1 => ?_) (fun hs1 => ?_)
  · refine x_swIn 40 hE dX0_count_3 hs1 ⟨by decide, by decide, rfl⟩ (by decide) ?_
    refine x_aload_n 41 hE dX0_count_40 rfl 1 rfl ?_
    refine x_gI 44 hE (xw_lk0 hE xkf_CrossingWords_106) rfl dX0_count_41 rfl (fun v3 => ?_)
    exact x_iret hE dX0_count_44
  · refine x_sw (fun hs2 => ?_) (fun hs2 => ?_)
    · refine x_swIn 45 hE dX0_count_3 hs2 ⟨by decide, by decide, rfl⟩ (by decide) ?_
      refine x_aload_n 46 hE dX0_count_45 rfl 1 rfl ?_
      refine x_gI 49 hE (xw_lk0 hE xkf_CrossingWords_129) rfl dX0_count_46 rfl (fun v4 => ?_)
      exact x_iret hE dX0_count_49
    · refine x_sw (fun hs3 => ?_) (fun hs3 => ?_)
      · refine x_swIn 50 hE dX0_count_3 hs3 ⟨by decide, by decide, rfl⟩ (by decide) ?_
        refine x_aload_n 51 hE dX0_count_50 rfl 1 rfl ?_
        refine x_gI 54 hE (xw_lk0 hE xkf_CrossingWords_140) rfl dX0_count_51 rfl (fun v5 => ?_)
        exact x_iret hE dX0_count_54
      · refine x_sw (fun hs4 => ?_) (fun hs4 => ?_)
        · refine x_swIn 55 hE dX0_count_3 hs4 ⟨by decide, by decide, rfl⟩ (by decide) ?_
          refine x_aload_n 56 hE dX0_count_55 rfl 1 rfl ?_
          refine x_gI 59 hE (xw_lk0 hE xkf_CrossingWords_91) rfl dX0_count_56 rfl (fun v6 => ?_)
          exact x_iret hE dX0_count_59
        · refine x_sw (fun hs7 => ?_) (fun hs7 => ?_)
          · refine x_swIn 60 hE dX0_count_3 hs7 ⟨by decide, by decide, rfl⟩ (by decide) ?_
            refine x_iconst 61 hE dX0_count_60 rfl xc_i_0 ?_
            refine x_istore_n 62 [(3, .int 0), (2, .int 0), (0, va_rf (some v1)), (1, .int v2)] hE dX0_count_61 rfl rfl (Nat.le_of_ble_eq_true rfl) rfl ?_
            refine x_sub [(0, va_rf (some v1)), (2, .int 0), (3, .int 0)] [2, 1, 0] rfl ?_
            refine x_sq 88 (fun (v8 : Int32) => [(2, .int v8)]) (fun _ => []) (fun v8 => ?_) (fun J6 hJ6 => ?_)
            · refine x_iload_n 89 hE dX0_count_88 rfl 0 rfl ?_
              exact x_iret hE dX0_count_89
            · refine x_loop (fun (v7 : Int32 × Int32) => [(0, va_rf (some v1)), (2, .int v7.1), (3, .int v7.2)]) (fun JL5 hc5 hx5 v7 => ?_) _ _
              refine x_iload_n 63 hE dX0_count_62 rfl 2 rfl ?_
              refine x_aload_n 64 hE dX0_count_63 rfl 0 rfl ?_
              refine x_gI 67 hE (xw_lk0 hE xkf_CrossingWords_106) rfl dX0_count_64 rfl (fun v9 => ?_)
              refine x_icmp_ge 88 70 hE dX0_count_67 (by decide) rfl ?_ ?_
              · refine x_sub [(2, .int v7.1)] [1] rfl ?_
                refine hx5 _ _ _ _ ?_
                exact hJ6 (v7.1)
              · refine x_iload_n 71 hE dX0_count_70 rfl 1 rfl ?_
                refine x_aload_n 72 hE dX0_count_71 rfl 0 rfl ?_
                refine x_gR 75 hE (xw_lk0 hE xkf_CrossingWords_21) rfl dX0_count_72 rfl (fun v10 => ?_)
                refine x_iload_n 76 hE dX0_count_75 rfl 2 rfl ?_
                refine x_ldR 77 hE dX0_count_76 rfl (fun v11 => ?_)
                refine x_gI 80 hE (xw_lk0 hE xkf_CrossingWords_126) rfl dX0_count_77 rfl (fun v12 => ?_)
                refine x_iadd 81 hE dX0_count_80 rfl ?_
                refine x_lti (fun v13 => ?_)
                refine x_istore_n 82 [(2, .int v13), (0, va_rf (some v1)), (3, .int v7.2)] hE dX0_count_81 rfl rfl (Nat.le_of_ble_eq_true rfl) rfl ?_
                refine x_iinc 85 [(3, .int (v7.2 + 1)), (2, .int v13), (0, va_rf (some v1))] hE dX0_count_82 rfl 2 rfl xc_i_1 (Nat.le_of_ble_eq_true rfl) rfl ?_
                refine x_goto 62 hE dX0_count_85 (by decide) ?_
                refine x_sub [(0, va_rf (some v1)), (2, .int v13), (3, .int (v7.2 + 1))] [2, 1, 0] rfl ?_
                exact hc5 (v13, v7.2 + 1)
          · refine x_sw (fun hs8 => ?_) (fun hs8 => ?_)
            · refine x_swIn 90 hE dX0_count_3 hs8 ⟨by decide, by decide, rfl⟩ (by decide) ?_
              refine x_aload_n 91 hE dX0_count_90 rfl 1 rfl ?_
              refine x_gI 94 hE (xw_lk0 hE xkf_CrossingWords_278) rfl dX0_count_91 rfl (fun v14 => ?_)
              exact x_iret hE dX0_count_94
            · refine x_swOut 95 hE dX0_count_3 (xw_out0_5 hs1 hs2 hs3 hs4 hs7 hs8) (by decide) ?_
              refine x_iconst 96 hE dX0_count_95 rfl xc_i_m1 ?_
              exact x_iret hE dX0_count_96

set_option maxHeartbeats 4000000 in
theorem ct_X2_init {l : Launch} {G : xw_G} {μ : xw_Mu} (v1 : Nat) : xw_Ct l G (xw_hc G μ) xw_ov yX2_init cX2_init 1 none 1 [va_rf (some v1)] (pg_X2_init v1) := by
  refine xw_metL [(0, va_rf (some v1))] (by decide) (Nat.le_trans (Nat.le_of_eq ((xw_l1 rfl).trans (congrArg (1 + ·) xw_l0))) (by decide)) ((xw_a1 rfl).trans (congrArg (List.cons _) xw_a0)) (fun E hE hl hG hm => ?_)
  subst hl; subst hG
  have hE : xw_ok E "CrossingWordsModel" cX2_init 1 none 1 := hE
  have hm : (xe_M E).name = "<init>" := hm
  unfold pg_X2_init
  refine x_aload_n 1 hE dX2_init_0 rfl 0 rfl ?_
  refine x_objInit 4 hE q1339 q126 q127 (by decide) dX2_init_1 rfl rfl ?_
  refine x_aload_n 5 hE dX2_init_4 rfl 0 rfl ?_
  refine x_iconst 6 hE dX2_init_5 rfl xc_i_5 ?_
  refine x_nwa (t := 73) 8 hE xsA_73 rfl xsB_73 dX2_init_6 rfl (fun v2 => ?_)
  refine x_pR 11 hE (xw_pkF hE hm xkf_CrossingWordsModel_7 rfl rfl) ⟨rfl, rfl⟩ dX2_init_8 rfl ?_
  refine x_aload_n 12 hE dX2_init_11 rfl 0 rfl ?_
  refine x_iconst 13 hE dX2_init_12 rfl xc_i_5 ?_
  refine x_nwa (t := 74) 15 hE xsA_74 rfl xsB_74 dX2_init_13 rfl (fun v3 => ?_)
  refine x_pR 18 hE (xw_pkF hE hm xkf_CrossingWordsModel_13 rfl rfl) ⟨rfl, rfl⟩ dX2_init_15 rfl ?_
  refine x_aload_n 19 hE dX2_init_18 rfl 0 rfl ?_
  refine x_iconst 20 hE dX2_init_19 rfl xc_i_5 ?_
  refine x_nwa (t := 75) 22 hE xsA_75 rfl xsB_75 dX2_init_20 rfl (fun v4 => ?_)
  refine x_pR 25 hE (xw_pkF hE hm xkf_CrossingWordsModel_16 rfl rfl) ⟨rfl, rfl⟩ dX2_init_22 rfl ?_
  refine x_aload_n 26 hE dX2_init_25 rfl 0 rfl ?_
  refine x_bipush 28 hE dX2_init_26 rfl xc_b_80 ?_
  refine x_nwa (t := 76) 30 hE xsA_76 rfl xsB_76 dX2_init_28 rfl (fun v5 => ?_)
  refine x_pR 33 hE (xw_pkF hE hm xkf_CrossingWordsModel_19 rfl rfl) ⟨rfl, rfl⟩ dX2_init_30 rfl ?_
  refine x_aload_n 34 hE dX2_init_33 rfl 0 rfl ?_
  refine x_sipush 37 hE dX2_init_34 rfl xc_s_960 ?_
  refine x_nwa (t := 77) 39 hE xsA_77 rfl xsB_77 dX2_init_37 rfl (fun v6 => ?_)
  refine x_pR 42 hE (xw_pkF hE hm xkf_CrossingWordsModel_22 rfl rfl) ⟨rfl, rfl⟩ dX2_init_39 rfl ?_
  refine x_aload_n 43 hE dX2_init_42 rfl 0 rfl ?_
  refine x_sipush 46 hE dX2_init_43 rfl xc_s_960 ?_
  refine x_nwa (t := 78) 48 hE xsA_78 rfl xsB_78 dX2_init_46 rfl (fun v7 => ?_)
  refine x_pR 51 hE (xw_pkF hE hm xkf_CrossingWordsModel_25 rfl rfl) ⟨rfl, rfl⟩ dX2_init_48 rfl ?_
  refine x_aload_n 52 hE dX2_init_51 rfl 0 rfl ?_
  refine x_sipush 55 hE dX2_init_52 rfl xc_s_960 ?_
  refine x_nwa (t := 79) 57 hE xsA_79 rfl xsB_79 dX2_init_55 rfl (fun v8 => ?_)
  refine x_pR 60 hE (xw_pkF hE hm xkf_CrossingWordsModel_28 rfl rfl) ⟨rfl, rfl⟩ dX2_init_57 rfl ?_
  refine x_aload_n 61 hE dX2_init_60 rfl 0 rfl ?_
  refine x_sipush 64 hE dX2_init_61 rfl xc_s_960 ?_
  refine x_nwa (t := 80) 66 hE xsA_80 rfl xsB_80 dX2_init_64 rfl (fun v9 => ?_)
  refine x_pR 69 hE (xw_pkF hE hm xkf_CrossingWordsModel_31 rfl rfl) ⟨rfl, rfl⟩ dX2_init_66 rfl ?_
  refine x_aload_n 70 hE dX2_init_69 rfl 0 rfl ?_
  refine x_sipush 73 hE dX2_init_70 rfl xc_s_960 ?_
  refine x_nwa (t := 81) 75 hE xsA_81 rfl xsB_81 dX2_init_73 rfl (fun v10 => ?_)
  refine x_pR 78 hE (xw_pkF hE hm xkf_CrossingWordsModel_34 rfl rfl) ⟨rfl, rfl⟩ dX2_init_75 rfl ?_
  refine x_aload_n 79 hE dX2_init_78 rfl 0 rfl ?_
  refine x_sipush 82 hE dX2_init_79 rfl xc_s_960 ?_
  refine x_nwa (t := 82) 84 hE xsA_82 rfl xsB_82 dX2_init_82 rfl (fun v11 => ?_)
  refine x_pR 87 hE (xw_pkF hE hm xkf_CrossingWordsModel_37 rfl rfl) ⟨rfl, rfl⟩ dX2_init_84 rfl ?_
  refine x_aload_n 88 hE dX2_init_87 rfl 0 rfl ?_
  refine x_sipush 91 hE dX2_init_88 rfl xc_s_960 ?_
  refine x_nwa (t := 83) 93 hE xsA_83 rfl xsB_83 dX2_init_91 rfl (fun v12 => ?_)
  refine x_pR 96 hE (xw_pkF hE hm xkf_CrossingWordsModel_40 rfl rfl) ⟨rfl, rfl⟩ dX2_init_93 rfl ?_
  refine x_aload_n 97 hE dX2_init_96 rfl 0 rfl ?_
  refine x_sipush 100 hE dX2_init_97 rfl xc_s_960 ?_
  refine x_nwa (t := 84) 102 hE xsA_84 rfl xsB_84 dX2_init_100 rfl (fun v13 => ?_)
  refine x_pR 105 hE (xw_pkF hE hm xkf_CrossingWordsModel_43 rfl rfl) ⟨rfl, rfl⟩ dX2_init_102 rfl ?_
  refine x_aload_n 106 hE dX2_init_105 rfl 0 rfl ?_
  refine x_sipush 109 hE dX2_init_106 rfl xc_s_4800 ?_
  refine x_nwa (t := 85) 111 hE xsA_85 rfl xsB_85 dX2_init_109 rfl (fun v14 => ?_)
  refine x_pR 114 hE (xw_pkF hE hm xkf_CrossingWordsModel_46 rfl rfl) ⟨rfl, rfl⟩ dX2_init_111 rfl ?_
  refine x_aload_n 115 hE dX2_init_114 rfl 0 rfl ?_
  refine x_sipush 118 hE dX2_init_115 rfl xc_s_2880 ?_
  refine x_nwa (t := 86) 120 hE xsA_86 rfl xsB_86 dX2_init_118 rfl (fun v15 => ?_)
  refine x_pR 123 hE (xw_pkF hE hm xkf_CrossingWordsModel_49 rfl rfl) ⟨rfl, rfl⟩ dX2_init_120 rfl ?_
  refine x_aload_n 124 hE dX2_init_123 rfl 0 rfl ?_
  refine x_sipush 127 hE dX2_init_124 rfl xc_s_2880 ?_
  refine x_nwa (t := 87) 129 hE xsA_87 rfl xsB_87 dX2_init_127 rfl (fun v16 => ?_)
  refine x_pR 132 hE (xw_pkF hE hm xkf_CrossingWordsModel_52 rfl rfl) ⟨rfl, rfl⟩ dX2_init_129 rfl ?_
  refine x_aload_n 133 hE dX2_init_132 rfl 0 rfl ?_
  refine x_sipush 136 hE dX2_init_133 rfl xc_s_980 ?_
  refine x_nwa (t := 88) 138 hE xsA_88 rfl xsB_88 dX2_init_136 rfl (fun v17 => ?_)
  refine x_pR 141 hE (xw_pkF hE hm xkf_CrossingWordsModel_55 rfl rfl) ⟨rfl, rfl⟩ dX2_init_138 rfl ?_
  refine x_aload_n 142 hE dX2_init_141 rfl 0 rfl ?_
  refine x_sipush 145 hE dX2_init_142 rfl xc_s_900 ?_
  refine x_nwa (t := 89) 147 hE xsA_89 rfl xsB_89 dX2_init_145 rfl (fun v18 => ?_)
  refine x_pR 150 hE (xw_pkF hE hm xkf_CrossingWordsModel_58 rfl rfl) ⟨rfl, rfl⟩ dX2_init_147 rfl ?_
  refine x_aload_n 151 hE dX2_init_150 rfl 0 rfl ?_
  refine x_iconst 152 hE dX2_init_151 rfl xc_i_m1 ?_
  refine x_pI 155 hE (xw_pkN (xw_lk0 hE xkf_CrossingWordsModel_62) rfl) ⟨rfl, rfl⟩ dX2_init_152 rfl ?_
  refine x_aload_n 156 hE dX2_init_155 rfl 0 rfl ?_
  refine x_bipush 158 hE dX2_init_156 rfl xc_b_13 ?_
  refine x_nwa (t := 90) 160 hE xsA_90 rfl xsB_90 dX2_init_158 rfl (fun v19 => ?_)
  refine x_pR 163 hE (xw_pkF hE hm xkf_CrossingWordsModel_66 rfl rfl) ⟨rfl, rfl⟩ dX2_init_160 rfl ?_
  refine x_aload_n 164 hE dX2_init_163 rfl 0 rfl ?_
  refine x_bipush 166 hE dX2_init_164 rfl xc_b_12 ?_
  refine x_nwa (t := 91) 168 hE xsA_91 rfl xsB_91 dX2_init_166 rfl (fun v20 => ?_)
  refine x_pR 171 hE (xw_pkF hE hm xkf_CrossingWordsModel_69 rfl rfl) ⟨rfl, rfl⟩ dX2_init_168 rfl ?_
  refine x_aload_n 172 hE dX2_init_171 rfl 0 rfl ?_
  refine x_bipush 174 hE dX2_init_172 rfl xc_b_12 ?_
  refine x_nwa (t := 92) 176 hE xsA_92 rfl xsB_92 dX2_init_174 rfl (fun v21 => ?_)
  refine x_pR 179 hE (xw_pkF hE hm xkf_CrossingWordsModel_72 rfl rfl) ⟨rfl, rfl⟩ dX2_init_176 rfl ?_
  refine x_aload_n 180 hE dX2_init_179 rfl 0 rfl ?_
  refine x_bipush 182 hE dX2_init_180 rfl xc_b_12 ?_
  refine x_nwa (t := 93) 184 hE xsA_93 rfl xsB_93 dX2_init_182 rfl (fun v22 => ?_)
  refine x_pR 187 hE (xw_pkF hE hm xkf_CrossingWordsModel_75 rfl rfl) ⟨rfl, rfl⟩ dX2_init_184 rfl ?_
  refine x_aload_n 188 hE dX2_init_187 rfl 0 rfl ?_
  refine x_bipush 190 hE dX2_init_188 rfl xc_b_12 ?_
  refine x_nwa (t := 94) 192 hE xsA_94 rfl xsB_94 dX2_init_190 rfl (fun v23 => ?_)
  refine x_pR 195 hE (xw_pkF hE hm xkf_CrossingWordsModel_78 rfl rfl) ⟨rfl, rfl⟩ dX2_init_192 rfl ?_
  refine x_aload_n 196 hE dX2_init_195 rfl 0 rfl ?_
  refine x_bipush 198 hE dX2_init_196 rfl xc_b_12 ?_
  refine x_nwa (t := 95) 200 hE xsA_95 rfl xsB_95 dX2_init_198 rfl (fun v24 => ?_)
  refine x_pR 203 hE (xw_pkF hE hm xkf_CrossingWordsModel_81 rfl rfl) ⟨rfl, rfl⟩ dX2_init_200 rfl ?_
  refine x_aload_n 204 hE dX2_init_203 rfl 0 rfl ?_
  refine x_bipush 206 hE dX2_init_204 rfl xc_b_12 ?_
  refine x_nwa (t := 96) 208 hE xsA_96 rfl xsB_96 dX2_init_206 rfl (fun v25 => ?_)
  refine x_pR 211 hE (xw_pkF hE hm xkf_CrossingWordsModel_84 rfl rfl) ⟨rfl, rfl⟩ dX2_init_208 rfl ?_
  refine x_aload_n 212 hE dX2_init_211 rfl 0 rfl ?_
  refine x_bipush 214 hE dX2_init_212 rfl xc_b_12 ?_
  refine x_nwa (t := 97) 216 hE xsA_97 rfl xsB_97 dX2_init_214 rfl (fun v26 => ?_)
  refine x_pR 219 hE (xw_pkF hE hm xkf_CrossingWordsModel_87 rfl rfl) ⟨rfl, rfl⟩ dX2_init_216 rfl ?_
  refine x_aload_n 220 hE dX2_init_219 rfl 0 rfl ?_
  refine x_bipush 222 hE dX2_init_220 rfl xc_b_12 ?_
  refine x_nwa (t := 98) 224 hE xsA_98 rfl xsB_98 dX2_init_222 rfl (fun v27 => ?_)
  refine x_pR 227 hE (xw_pkF hE hm xkf_CrossingWordsModel_90 rfl rfl) ⟨rfl, rfl⟩ dX2_init_224 rfl ?_
  refine x_aload_n 228 hE dX2_init_227 rfl 0 rfl ?_
  refine x_bipush 230 hE dX2_init_228 rfl xc_b_60 ?_
  refine x_nwa (t := 99) 232 hE xsA_99 rfl xsB_99 dX2_init_230 rfl (fun v28 => ?_)
  refine x_pR 235 hE (xw_pkF hE hm xkf_CrossingWordsModel_94 rfl rfl) ⟨rfl, rfl⟩ dX2_init_232 rfl ?_
  refine x_aload_n 236 hE dX2_init_235 rfl 0 rfl ?_
  refine x_bipush 238 hE dX2_init_236 rfl xc_b_36 ?_
  refine x_nwa (t := 100) 240 hE xsA_100 rfl xsB_100 dX2_init_238 rfl (fun v29 => ?_)
  refine x_pR 243 hE (xw_pkF hE hm xkf_CrossingWordsModel_97 rfl rfl) ⟨rfl, rfl⟩ dX2_init_240 rfl ?_
  refine x_aload_n 244 hE dX2_init_243 rfl 0 rfl ?_
  refine x_bipush 246 hE dX2_init_244 rfl xc_b_36 ?_
  refine x_nwa (t := 101) 248 hE xsA_101 rfl xsB_101 dX2_init_246 rfl (fun v30 => ?_)
  refine x_pR 251 hE (xw_pkF hE hm xkf_CrossingWordsModel_100 rfl rfl) ⟨rfl, rfl⟩ dX2_init_248 rfl ?_
  refine x_aload_n 252 hE dX2_init_251 rfl 0 rfl ?_
  refine x_bipush 254 hE dX2_init_252 rfl xc_b_48 ?_
  refine x_nwa (t := 102) 256 hE xsA_102 rfl xsB_102 dX2_init_254 rfl (fun v31 => ?_)
  refine x_pR 259 hE (xw_pkF hE hm xkf_CrossingWordsModel_103 rfl rfl) ⟨rfl, rfl⟩ dX2_init_256 rfl ?_
  refine x_aload_n 260 hE dX2_init_259 rfl 0 rfl ?_
  refine x_bipush 262 hE dX2_init_260 rfl xc_b_48 ?_
  refine x_nwa (t := 103) 264 hE xsA_103 rfl xsB_103 dX2_init_262 rfl (fun v32 => ?_)
  refine x_pR 267 hE (xw_pkF hE hm xkf_CrossingWordsModel_106 rfl rfl) ⟨rfl, rfl⟩ dX2_init_264 rfl ?_
  refine x_aload_n 268 hE dX2_init_267 rfl 0 rfl ?_
  refine x_bipush 270 hE dX2_init_268 rfl xc_b_12 ?_
  refine x_nwa (t := 104) 272 hE xsA_104 rfl xsB_104 dX2_init_270 rfl (fun v33 => ?_)
  refine x_pR 275 hE (xw_pkF hE hm xkf_CrossingWordsModel_109 rfl rfl) ⟨rfl, rfl⟩ dX2_init_272 rfl ?_
  refine x_aload_n 276 hE dX2_init_275 rfl 0 rfl ?_
  refine x_bipush 278 hE dX2_init_276 rfl xc_b_12 ?_
  refine x_nwa (t := 105) 280 hE xsA_105 rfl xsB_105 dX2_init_278 rfl (fun v34 => ?_)
  refine x_pR 283 hE (xw_pkF hE hm xkf_CrossingWordsModel_112 rfl rfl) ⟨rfl, rfl⟩ dX2_init_280 rfl ?_
  refine x_aload_n 284 hE dX2_init_283 rfl 0 rfl ?_
  refine x_bipush 286 hE dX2_init_284 rfl xc_b_12 ?_
  refine x_nwa (t := 106) 288 hE xsA_106 rfl xsB_106 dX2_init_286 rfl (fun v35 => ?_)
  refine x_pR 291 hE (xw_pkF hE hm xkf_CrossingWordsModel_115 rfl rfl) ⟨rfl, rfl⟩ dX2_init_288 rfl ?_
  refine x_aload_n 292 hE dX2_init_291 rfl 0 rfl ?_
  refine x_bipush 294 hE dX2_init_292 rfl xc_b_48 ?_
  refine x_nwa (t := 107) 296 hE xsA_107 rfl xsB_107 dX2_init_294 rfl (fun v36 => ?_)
  refine x_pR 299 hE (xw_pkF hE hm xkf_CrossingWordsModel_118 rfl rfl) ⟨rfl, rfl⟩ dX2_init_296 rfl ?_
  refine x_aload_n 300 hE dX2_init_299 rfl 0 rfl ?_
  refine x_bipush 302 hE dX2_init_300 rfl xc_b_12 ?_
  refine x_nwa (t := 108) 304 hE xsA_108 rfl xsB_108 dX2_init_302 rfl (fun v37 => ?_)
  refine x_pR 307 hE (xw_pkF hE hm xkf_CrossingWordsModel_121 rfl rfl) ⟨rfl, rfl⟩ dX2_init_304 rfl ?_
  refine x_aload_n 308 hE dX2_init_307 rfl 0 rfl ?_
  refine x_bipush 310 hE dX2_init_308 rfl xc_b_12 ?_
  refine x_nwa (t := 109) 312 hE xsA_109 rfl xsB_109 dX2_init_310 rfl (fun v38 => ?_)
  refine x_pR 315 hE (xw_pkF hE hm xkf_CrossingWordsModel_124 rfl rfl) ⟨rfl, rfl⟩ dX2_init_312 rfl ?_
  refine x_aload_n 316 hE dX2_init_315 rfl 0 rfl ?_
  refine x_bipush 318 hE dX2_init_316 rfl xc_b_12 ?_
  refine x_nwa (t := 110) 320 hE xsA_110 rfl xsB_110 dX2_init_318 rfl (fun v39 => ?_)
  refine x_pR 323 hE (xw_pkF hE hm xkf_CrossingWordsModel_127 rfl rfl) ⟨rfl, rfl⟩ dX2_init_320 rfl ?_
  refine x_aload_n 324 hE dX2_init_323 rfl 0 rfl ?_
  refine x_bipush 326 hE dX2_init_324 rfl xc_b_16 ?_
  refine x_nwa (t := 111) 328 hE xsA_111 rfl xsB_111 dX2_init_326 rfl (fun v40 => ?_)
  refine x_pR 331 hE (xw_pkF hE hm xkf_CrossingWordsModel_130 rfl rfl) ⟨rfl, rfl⟩ dX2_init_328 rfl ?_
  refine x_aload_n 332 hE dX2_init_331 rfl 0 rfl ?_
  refine x_bipush 334 hE dX2_init_332 rfl xc_b_16 ?_
  refine x_nwa (t := 112) 336 hE xsA_112 rfl xsB_112 dX2_init_334 rfl (fun v41 => ?_)
  refine x_pR 339 hE (xw_pkF hE hm xkf_CrossingWordsModel_133 rfl rfl) ⟨rfl, rfl⟩ dX2_init_336 rfl ?_
  refine x_aload_n 340 hE dX2_init_339 rfl 0 rfl ?_
  refine x_sipush 343 hE dX2_init_340 rfl xc_s_1024 ?_
  refine x_nwa (t := 113) 345 hE xsA_113 rfl xsB_113 dX2_init_343 rfl (fun v42 => ?_)
  refine x_pR 348 hE (xw_pkF hE hm xkf_CrossingWordsModel_136 rfl rfl) ⟨rfl, rfl⟩ dX2_init_345 rfl ?_
  refine x_aload_n 349 hE dX2_init_348 rfl 0 rfl ?_
  refine x_sipush 352 hE dX2_init_349 rfl xc_s_1024 ?_
  refine x_nwa (t := 114) 354 hE xsA_114 rfl xsB_114 dX2_init_352 rfl (fun v43 => ?_)
  refine x_pR 357 hE (xw_pkF hE hm xkf_CrossingWordsModel_139 rfl rfl) ⟨rfl, rfl⟩ dX2_init_354 rfl ?_
  refine x_aload_n 358 hE dX2_init_357 rfl 0 rfl ?_
  refine x_sipush 361 hE dX2_init_358 rfl xc_s_1024 ?_
  refine x_nwa (t := 115) 363 hE xsA_115 rfl xsB_115 dX2_init_361 rfl (fun v44 => ?_)
  refine x_pR 366 hE (xw_pkF hE hm xkf_CrossingWordsModel_142 rfl rfl) ⟨rfl, rfl⟩ dX2_init_363 rfl ?_
  refine x_aload_n 367 hE dX2_init_366 rfl 0 rfl ?_
  refine x_sipush 370 hE dX2_init_367 rfl xc_s_5120 ?_
  refine x_nwa (t := 116) 372 hE xsA_116 rfl xsB_116 dX2_init_370 rfl (fun v45 => ?_)
  refine x_pR 375 hE (xw_pkF hE hm xkf_CrossingWordsModel_145 rfl rfl) ⟨rfl, rfl⟩ dX2_init_372 rfl ?_
  exact x_vret hE dX2_init_375
