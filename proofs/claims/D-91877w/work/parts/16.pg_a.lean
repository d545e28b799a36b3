set_option maxRecDepth 100000
/-! the programs: printed by wip/D-91877w/gen/gen2.py out of the bytecode -/
def xw_FU : Nat := 20000
theorem xc_b_10 : (Int8.ofInt 10).toInt32 = 10 := by decide
theorem xc_b_11 : (Int8.ofInt 11).toInt32 = 11 := by decide
theorem xc_b_112 : (Int8.ofInt 112).toInt32 = 112 := by decide
theorem xc_b_12 : (Int8.ofInt 12).toInt32 = 12 := by decide
theorem xc_b_122 : (Int8.ofInt 122).toInt32 = 122 := by decide
theorem xc_b_13 : (Int8.ofInt 13).toInt32 = 13 := by decide
theorem xc_b_14 : (Int8.ofInt 14).toInt32 = 14 := by decide
theorem xc_b_15 : (Int8.ofInt 15).toInt32 = 15 := by decide
theorem xc_b_16 : (Int8.ofInt 16).toInt32 = 16 := by decide
theorem xc_b_17 : (Int8.ofInt 17).toInt32 = 17 := by decide
theorem xc_b_18 : (Int8.ofInt 18).toInt32 = 18 := by decide
theorem xc_b_20 : (Int8.ofInt 20).toInt32 = 20 := by decide
theorem xc_b_24 : (Int8.ofInt 24).toInt32 = 24 := by decide
theorem xc_b_32 : (Int8.ofInt 32).toInt32 = 32 := by decide
theorem xc_b_36 : (Int8.ofInt 36).toInt32 = 36 := by decide
theorem xc_b_48 : (Int8.ofInt 48).toInt32 = 48 := by decide
theorem xc_b_57 : (Int8.ofInt 57).toInt32 = 57 := by decide
theorem xc_b_59 : (Int8.ofInt 59).toInt32 = 59 := by decide
theorem xc_b_6 : (Int8.ofInt 6).toInt32 = 6 := by decide
theorem xc_b_60 : (Int8.ofInt 60).toInt32 = 60 := by decide
theorem xc_b_63 : (Int8.ofInt 63).toInt32 = 63 := by decide
theorem xc_b_7 : (Int8.ofInt 7).toInt32 = 7 := by decide
theorem xc_b_8 : (Int8.ofInt 8).toInt32 = 8 := by decide
theorem xc_b_80 : (Int8.ofInt 80).toInt32 = 80 := by decide
theorem xc_b_9 : (Int8.ofInt 9).toInt32 = 9 := by decide
theorem xc_b_96 : (Int8.ofInt 96).toInt32 = 96 := by decide
theorem xc_b_97 : (Int8.ofInt 97).toInt32 = 97 := by decide
theorem xc_b_m2 : (Int8.ofInt (-2)).toInt32 = (-2) := by decide
theorem xc_b_m3 : (Int8.ofInt (-3)).toInt32 = (-3) := by decide
theorem xc_i_0 : Int32.ofInt 0 = 0 := by decide
theorem xc_i_1 : Int32.ofInt 1 = 1 := by decide
theorem xc_i_2 : Int32.ofInt 2 = 2 := by decide
theorem xc_i_3 : Int32.ofInt 3 = 3 := by decide
theorem xc_i_4 : Int32.ofInt 4 = 4 := by decide
theorem xc_i_5 : Int32.ofInt 5 = 5 := by decide
theorem xc_i_m1 : Int32.ofInt (-1) = (-1) := by decide
theorem xc_l_0 : Int64.ofNat (0 : Fin 2).val = 0 := by decide
theorem xc_l_1 : Int64.ofNat (1 : Fin 2).val = 1 := by decide
theorem xc_s_1024 : (Int16.ofInt 1024).toInt32 = 1024 := by decide
theorem xc_s_1025 : (Int16.ofInt 1025).toInt32 = 1025 := by decide
theorem xc_s_192 : (Int16.ofInt 192).toInt32 = 192 := by decide
theorem xc_s_196 : (Int16.ofInt 196).toInt32 = 196 := by decide
theorem xc_s_1999 : (Int16.ofInt 1999).toInt32 = 1999 := by decide
theorem xc_s_255 : (Int16.ofInt 255).toInt32 = 255 := by decide
theorem xc_s_2880 : (Int16.ofInt 2880).toInt32 = 2880 := by decide
theorem xc_s_4800 : (Int16.ofInt 4800).toInt32 = 4800 := by decide
theorem xc_s_5120 : (Int16.ofInt 5120).toInt32 = 5120 := by decide
theorem xc_s_576 : (Int16.ofInt 576).toInt32 = 576 := by decide
theorem xc_s_900 : (Int16.ofInt 900).toInt32 = 900 := by decide
theorem xc_s_960 : (Int16.ofInt 960).toInt32 = 960 := by decide
theorem xc_s_980 : (Int16.ofInt 980).toInt32 = 980 := by decide
theorem xc_s_999 : (Int16.ofInt 999).toInt32 = 999 := by decide
theorem xc_s_9998 : (Int16.ofInt 9998).toInt32 = 9998 := by decide
theorem xc_s_9999 : (Int16.ofInt 9999).toInt32 = 9999 := by decide
theorem xkd_CrossingWords_ReaderhasRoom_ : Cond.declares ⟨"CrossingWords$Reader", "hasRoom", "()Z"⟩ ∈ xw_nl := List.mem_of_getElem? (i := 27) rfl
theorem xkd_CrossingWords_ReaderisWhole_ : Cond.declares ⟨"CrossingWords$Reader", "isWhole", "()Z"⟩ ∈ xw_nl := List.mem_of_getElem? (i := 37) rfl
theorem xkd_CrossingWords_Readerstatement_ : Cond.declares ⟨"CrossingWords$Reader", "statement", "()V"⟩ ∈ xw_nl := List.mem_of_getElem? (i := 28) rfl
theorem xkd_CrossingWords_Sayingkind_ : Cond.declares ⟨"CrossingWords$Saying", "kind", "()I"⟩ ∈ xw_nl := List.mem_of_getElem? (i := 54) rfl
theorem xkf_CrossingWords_Answer_7 : Cond.fieldLink "CrossingWords$Answer" 7 (xw_fd 114).1 (xw_fd 114).2.1 (xw_fd 114).2.2.1 ∈ lw_all := q603
theorem xkf_CrossingWords_Ask_9 : Cond.fieldLink "CrossingWords$Ask" 9 (xw_fd 109).1 (xw_fd 109).2.1 (xw_fd 109).2.2.1 ∈ lw_all := q445
theorem xkf_CrossingWords_But_19 : Cond.fieldLink "CrossingWords$But" 19 (xw_fd 107).1 (xw_fd 107).2.1 (xw_fd 107).2.2.1 ∈ lw_all := q451
theorem xkf_CrossingWords_But_9 : Cond.fieldLink "CrossingWords$But" 9 (xw_fd 115).1 (xw_fd 115).2.1 (xw_fd 115).2.2.1 ∈ lw_all := q602
theorem xkf_CrossingWords_Case_11 : Cond.fieldLink "CrossingWords$Case" 11 (xw_fd 99).1 (xw_fd 99).2.1 (xw_fd 99).2.2.1 ∈ lw_all := q279
theorem xkf_CrossingWords_Case_17 : Cond.fieldLink "CrossingWords$Case" 17 (xw_fd 100).1 (xw_fd 100).2.1 (xw_fd 100).2.2.1 ∈ lw_all := q283
theorem xkf_CrossingWords_Case_21 : Cond.fieldLink "CrossingWords$Case" 21 (xw_fd 101).1 (xw_fd 101).2.1 (xw_fd 101).2.2.1 ∈ lw_all := q285
theorem xkf_CrossingWords_Case_24 : Cond.fieldLink "CrossingWords$Case" 24 (xw_fd 102).1 (xw_fd 102).2.1 (xw_fd 102).2.2.1 ∈ lw_all := q287
theorem xkf_CrossingWords_Case_27 : Cond.fieldLink "CrossingWords$Case" 27 (xw_fd 105).1 (xw_fd 105).2.1 (xw_fd 105).2.2.1 ∈ lw_all := q296
theorem xkf_CrossingWords_Case_31 : Cond.fieldLink "CrossingWords$Case" 31 (xw_fd 103).1 (xw_fd 103).2.1 (xw_fd 103).2.2.1 ∈ lw_all := q290
theorem xkf_CrossingWords_Case_35 : Cond.fieldLink "CrossingWords$Case" 35 (xw_fd 104).1 (xw_fd 104).2.1 (xw_fd 104).2.2.1 ∈ lw_all := q293
theorem xkf_CrossingWords_Case_42 : Cond.fieldLink "CrossingWords$Case" 42 (xw_fd 106).1 (xw_fd 106).2.1 (xw_fd 106).2.2.1 ∈ lw_all := q448
theorem xkf_CrossingWords_Case_45 : Cond.fieldLink "CrossingWords$Case" 45 (xw_fd 108).1 (xw_fd 108).2.1 (xw_fd 108).2.2.1 ∈ lw_all := q456
theorem xkf_CrossingWords_Case_49 : Cond.fieldLink "CrossingWords$Case" 49 (xw_fd 119).1 (xw_fd 119).2.1 (xw_fd 119).2.2.1 ∈ lw_all := q714
theorem xkf_CrossingWords_Case_64 : Cond.fieldLink "CrossingWords$Case" 64 (xw_fd 120).1 (xw_fd 120).2.1 (xw_fd 120).2.2.1 ∈ lw_all := q717
theorem xkf_CrossingWords_Case_67 : Cond.fieldLink "CrossingWords$Case" 67 (xw_fd 121).1 (xw_fd 121).2.1 (xw_fd 121).2.2.1 ∈ lw_all := q720
theorem xkf_CrossingWords_Case_70 : Cond.fieldLink "CrossingWords$Case" 70 (xw_fd 122).1 (xw_fd 122).2.1 (xw_fd 122).2.2.1 ∈ lw_all := q722
theorem xkf_CrossingWords_CaseReader_105 : Cond.fieldLink "CrossingWords$CaseReader" 105 (xw_fd 112).1 (xw_fd 112).2.1 (xw_fd 112).2.2.1 ∈ lw_all := q495
theorem xkf_CrossingWords_CaseReader_111 : Cond.fieldLink "CrossingWords$CaseReader" 111 (xw_fd 113).1 (xw_fd 113).2.1 (xw_fd 113).2.2.1 ∈ lw_all := q497
theorem xkf_CrossingWords_CaseReader_114 : Cond.fieldLink "CrossingWords$CaseReader" 114 "CrossingWords$CaseReader" (xw_fd 93).2.1 (xw_fd 93).2.2.1 ∈ lw_all := q341
theorem xkf_CrossingWords_CaseReader_117 : Cond.fieldLink "CrossingWords$CaseReader" 117 "CrossingWords$CaseReader" (xw_fd 94).2.1 (xw_fd 94).2.2.1 ∈ lw_all := q344
theorem xkf_CrossingWords_CaseReader_136 : Cond.fieldLink "CrossingWords$CaseReader" 136 (xw_fd 107).1 (xw_fd 107).2.1 (xw_fd 107).2.2.1 ∈ lw_all := q452
theorem xkf_CrossingWords_CaseReader_14 : Cond.fieldLink "CrossingWords$CaseReader" 14 (xw_fd 96).1 (xw_fd 96).2.1 (xw_fd 96).2.2.1 ∈ lw_all := q332
theorem xkf_CrossingWords_CaseReader_146 : Cond.fieldLink "CrossingWords$CaseReader" 146 (xw_fd 99).1 (xw_fd 99).2.1 (xw_fd 99).2.2.1 ∈ lw_all := q281
theorem xkf_CrossingWords_CaseReader_20 : Cond.fieldLink "CrossingWords$CaseReader" 20 (xw_fd 97).1 (xw_fd 97).2.1 (xw_fd 97).2.2.1 ∈ lw_all := q334
theorem xkf_CrossingWords_CaseReader_28 : Cond.fieldLink "CrossingWords$CaseReader" 28 (xw_fd 103).1 (xw_fd 103).2.1 (xw_fd 103).2.2.1 ∈ lw_all := q289
theorem xkf_CrossingWords_CaseReader_31 : Cond.fieldLink "CrossingWords$CaseReader" 31 (xw_fd 98).1 (xw_fd 98).2.1 (xw_fd 98).2.2.1 ∈ lw_all := q335
theorem xkf_CrossingWords_CaseReader_62 : Cond.fieldLink "CrossingWords$CaseReader" 62 "CrossingWords$CaseReader" (xw_fd 95).2.1 (xw_fd 95).2.2.1 ∈ lw_all := q346
theorem xkf_CrossingWords_CaseReader_66 : Cond.fieldLink "CrossingWords$CaseReader" 66 (xw_fd 108).1 (xw_fd 108).2.1 (xw_fd 108).2.2.1 ∈ lw_all := q457
theorem xkf_CrossingWords_Image_11 : Cond.fieldLink "CrossingWords$Image" 11 (xw_fd 132).1 (xw_fd 132).2.1 (xw_fd 132).2.2.1 ∈ lw_all := q1250
theorem xkf_CrossingWords_Image_19 : Cond.fieldLink "CrossingWords$Image" 19 (xw_fd 136).1 (xw_fd 136).2.1 (xw_fd 136).2.2.1 ∈ lw_all := q1254
theorem xkf_CrossingWords_Image_23 : Cond.fieldLink "CrossingWords$Image" 23 (xw_fd 137).1 (xw_fd 137).2.1 (xw_fd 137).2.2.1 ∈ lw_all := q1255
theorem xkf_CrossingWords_Image_30 : Cond.fieldLink "CrossingWords$Image" 30 (xw_fd 133).1 (xw_fd 133).2.1 (xw_fd 133).2.2.1 ∈ lw_all := q1251
theorem xkf_CrossingWords_Image_34 : Cond.fieldLink "CrossingWords$Image" 34 (xw_fd 134).1 (xw_fd 134).2.1 (xw_fd 134).2.2.1 ∈ lw_all := q1252
theorem xkf_CrossingWords_Image_38 : Cond.fieldLink "CrossingWords$Image" 38 (xw_fd 135).1 (xw_fd 135).2.1 (xw_fd 135).2.2.1 ∈ lw_all := q1253
theorem xkf_CrossingWords_LawReader_14 : Cond.fieldLink "CrossingWords$LawReader" 14 (xw_fd 124).1 (xw_fd 124).2.1 (xw_fd 124).2.2.1 ∈ lw_all := q839
theorem xkf_CrossingWords_LawReader_20 : Cond.fieldLink "CrossingWords$LawReader" 20 (xw_fd 125).1 (xw_fd 125).2.1 (xw_fd 125).2.2.1 ∈ lw_all := q841
theorem xkf_CrossingWords_LawReader_24 : Cond.fieldLink "CrossingWords$LawReader" 24 (xw_fd 129).1 (xw_fd 129).2.1 (xw_fd 129).2.2.1 ∈ lw_all := q828
theorem xkf_CrossingWords_Offer_15 : Cond.fieldLink "CrossingWords$Offer" 15 (xw_fd 113).1 (xw_fd 113).2.1 (xw_fd 113).2.2.1 ∈ lw_all := q496
theorem xkf_CrossingWords_Offer_18 : Cond.fieldLink "CrossingWords$Offer" 18 (xw_fd 110).1 (xw_fd 110).2.1 (xw_fd 110).2.2.1 ∈ lw_all := q492
theorem xkf_CrossingWords_Offer_21 : Cond.fieldLink "CrossingWords$Offer" 21 (xw_fd 111).1 (xw_fd 111).2.1 (xw_fd 111).2.2.1 ∈ lw_all := q493
theorem xkf_CrossingWords_Offer_9 : Cond.fieldLink "CrossingWords$Offer" 9 (xw_fd 112).1 (xw_fd 112).2.1 (xw_fd 112).2.2.1 ∈ lw_all := q494
theorem xkf_CrossingWords_Reader_15 : Cond.fieldLink "CrossingWords$Reader" 15 (xw_fd 90).1 (xw_fd 90).2.1 (xw_fd 90).2.2.1 ∈ lw_all := q337
theorem xkf_CrossingWords_Reader_22 : Cond.fieldLink "CrossingWords$Reader" 22 (xw_fd 91).1 (xw_fd 91).2.1 (xw_fd 91).2.2.1 ∈ lw_all := q338
theorem xkf_CrossingWords_Reader_25 : Cond.fieldLink "CrossingWords$Reader" 25 (xw_fd 92).1 (xw_fd 92).2.1 (xw_fd 92).2.2.1 ∈ lw_all := q339
theorem xkf_CrossingWords_Reader_28 : Cond.fieldLink "CrossingWords$Reader" 28 (xw_fd 94).1 (xw_fd 94).2.1 (xw_fd 94).2.2.1 ∈ lw_all := q343
theorem xkf_CrossingWords_Reader_32 : Cond.fieldLink "CrossingWords$Reader" 32 (xw_fd 93).1 (xw_fd 93).2.1 (xw_fd 93).2.2.1 ∈ lw_all := q340
theorem xkf_CrossingWords_Reader_48 : Cond.fieldLink "CrossingWords$Reader" 48 (xw_fd 95).1 (xw_fd 95).2.1 (xw_fd 95).2.2.1 ∈ lw_all := q348
theorem xkf_CrossingWords_Reader_9 : Cond.fieldLink "CrossingWords$Reader" 9 (xw_fd 89).1 (xw_fd 89).2.1 (xw_fd 89).2.2.1 ∈ lw_all := q336
theorem xkf_CrossingWords_Rules_15 : Cond.fieldLink "CrossingWords$Rules" 15 (xw_fd 131).1 (xw_fd 131).2.1 (xw_fd 131).2.2.1 ∈ lw_all := q976
theorem xkf_CrossingWords_Rules_18 : Cond.fieldLink "CrossingWords$Rules" 18 (xw_fd 128).1 (xw_fd 128).2.1 (xw_fd 128).2.2.1 ∈ lw_all := q826
theorem xkf_CrossingWords_Rules_24 : Cond.fieldLink "CrossingWords$Rules" 24 (xw_fd 126).1 (xw_fd 126).2.1 (xw_fd 126).2.2.1 ∈ lw_all := q823
theorem xkf_CrossingWords_Rules_27 : Cond.fieldLink "CrossingWords$Rules" 27 (xw_fd 127).1 (xw_fd 127).2.1 (xw_fd 127).2.2.1 ∈ lw_all := q825
theorem xkf_CrossingWords_Rules_36 : Cond.fieldLink "CrossingWords$Rules" 36 (xw_fd 108).1 (xw_fd 108).2.1 (xw_fd 108).2.2.1 ∈ lw_all := q458
theorem xkf_CrossingWords_Rules_40 : Cond.fieldLink "CrossingWords$Rules" 40 (xw_fd 118).1 (xw_fd 118).2.1 (xw_fd 118).2.2.1 ∈ lw_all := q710
theorem xkf_CrossingWords_Rules_9 : Cond.fieldLink "CrossingWords$Rules" 9 (xw_fd 130).1 (xw_fd 130).2.1 (xw_fd 130).2.2.1 ∈ lw_all := q975
theorem xkf_CrossingWords_Run_145 : Cond.fieldLink "CrossingWords$Run" 145 (xw_fd 23).1 (xw_fd 23).2.1 (xw_fd 23).2.2.1 ∈ lw_all := q153
theorem xkf_CrossingWords_Run_148 : Cond.fieldLink "CrossingWords$Run" 148 (xw_fd 22).1 (xw_fd 22).2.1 (xw_fd 22).2.2.1 ∈ lw_all := q151
theorem xkf_CrossingWords_Run_15 : Cond.fieldLink "CrossingWords$Run" 15 (xw_fd 15).1 (xw_fd 15).2.1 (xw_fd 15).2.2.1 ∈ lw_all := q141
theorem xkf_CrossingWords_Run_151 : Cond.fieldLink "CrossingWords$Run" 151 (xw_fd 24).1 (xw_fd 24).2.1 (xw_fd 24).2.2.1 ∈ lw_all := q155
theorem xkf_CrossingWords_Run_19 : Cond.fieldLink "CrossingWords$Run" 19 (xw_fd 16).1 (xw_fd 16).2.1 (xw_fd 16).2.2.1 ∈ lw_all := q142
theorem xkf_CrossingWords_Run_195 : Cond.fieldLink "CrossingWords$Run" 195 (xw_fd 107).1 (xw_fd 107).2.1 (xw_fd 107).2.2.1 ∈ lw_all := q453
theorem xkf_CrossingWords_Run_22 : Cond.fieldLink "CrossingWords$Run" 22 (xw_fd 17).1 (xw_fd 17).2.1 (xw_fd 17).2.2.1 ∈ lw_all := q144
theorem xkf_CrossingWords_Run_25 : Cond.fieldLink "CrossingWords$Run" 25 (xw_fd 18).1 (xw_fd 18).2.1 (xw_fd 18).2.2.1 ∈ lw_all := q146
theorem xkf_CrossingWords_Run_28 : Cond.fieldLink "CrossingWords$Run" 28 (xw_fd 19).1 (xw_fd 19).2.1 (xw_fd 19).2.2.1 ∈ lw_all := q148
theorem xkf_CrossingWords_Run_3 : Cond.fieldLink "CrossingWords$Run" 3 (xw_fd 25).1 (xw_fd 25).2.1 (xw_fd 25).2.2.1 ∈ lw_all := q157
theorem xkf_CrossingWords_Run_31 : Cond.fieldLink "CrossingWords$Run" 31 (xw_fd 20).1 (xw_fd 20).2.1 (xw_fd 20).2.2.1 ∈ lw_all := q149
theorem xkf_CrossingWords_Run_35 : Cond.fieldLink "CrossingWords$Run" 35 (xw_fd 104).1 (xw_fd 104).2.1 (xw_fd 104).2.2.1 ∈ lw_all := q294
theorem xkf_CrossingWords_Run_51 : Cond.fieldLink "CrossingWords$Run" 51 (xw_fd 103).1 (xw_fd 103).2.1 (xw_fd 103).2.2.1 ∈ lw_all := q291
theorem xkf_CrossingWords_Run_54 : Cond.fieldLink "CrossingWords$Run" 54 (xw_fd 99).1 (xw_fd 99).2.1 (xw_fd 99).2.2.1 ∈ lw_all := q280
theorem xkf_CrossingWords_Run_58 : Cond.fieldLink "CrossingWords$Run" 58 (xw_fd 108).1 (xw_fd 108).2.1 (xw_fd 108).2.2.1 ∈ lw_all := q455
theorem xkf_CrossingWords_Run_64 : Cond.fieldLink "CrossingWords$Run" 64 (xw_fd 123).1 (xw_fd 123).2.1 (xw_fd 123).2.2.1 ∈ lw_all := q724
theorem xkf_CrossingWords_Run_70 : Cond.fieldLink "CrossingWords$Run" 70 (xw_fd 119).1 (xw_fd 119).2.1 (xw_fd 119).2.2.1 ∈ lw_all := q713
theorem xkf_CrossingWords_Run_74 : Cond.fieldLink "CrossingWords$Run" 74 (xw_fd 116).1 (xw_fd 116).2.1 (xw_fd 116).2.2.1 ∈ lw_all := q694
theorem xkf_CrossingWords_Run_79 : Cond.fieldLink "CrossingWords$Run" 79 (xw_fd 120).1 (xw_fd 120).2.1 (xw_fd 120).2.2.1 ∈ lw_all := q716
theorem xkf_CrossingWords_Run_82 : Cond.fieldLink "CrossingWords$Run" 82 (xw_fd 121).1 (xw_fd 121).2.1 (xw_fd 121).2.2.1 ∈ lw_all := q719
theorem xkf_CrossingWords_Run_85 : Cond.fieldLink "CrossingWords$Run" 85 (xw_fd 106).1 (xw_fd 106).2.1 (xw_fd 106).2.2.1 ∈ lw_all := q447
theorem xkf_CrossingWords_Run_92 : Cond.fieldLink "CrossingWords$Run" 92 (xw_fd 21).1 (xw_fd 21).2.1 (xw_fd 21).2.2.1 ∈ lw_all := q150
theorem xkf_CrossingWords_Saying_15 : Cond.fieldLink "CrossingWords$Saying" 15 (xw_fd 107).1 (xw_fd 107).2.1 (xw_fd 107).2.2.1 ∈ lw_all := q450
theorem xkf_CrossingWords_Saying_9 : Cond.fieldLink "CrossingWords$Saying" 9 (xw_fd 106).1 (xw_fd 106).2.1 (xw_fd 106).2.2.1 ∈ lw_all := q446
theorem xkf_CrossingWords_Span_13 : Cond.fieldLink "CrossingWords$Span" 13 (xw_fd 117).1 (xw_fd 117).2.1 (xw_fd 117).2.2.1 ∈ lw_all := q695
theorem xkf_CrossingWords_Span_7 : Cond.fieldLink "CrossingWords$Span" 7 (xw_fd 116).1 (xw_fd 116).2.1 (xw_fd 116).2.2.1 ∈ lw_all := q693
theorem xkf_CrossingWords_Text_15 : Cond.fieldLink "CrossingWords$Text" 15 (xw_fd 127).1 (xw_fd 127).2.1 (xw_fd 127).2.2.1 ∈ lw_all := q824
theorem xkf_CrossingWords_Text_18 : Cond.fieldLink "CrossingWords$Text" 18 (xw_fd 128).1 (xw_fd 128).2.1 (xw_fd 128).2.2.1 ∈ lw_all := q827
theorem xkf_CrossingWords_Text_9 : Cond.fieldLink "CrossingWords$Text" 9 (xw_fd 126).1 (xw_fd 126).2.1 (xw_fd 126).2.2.1 ∈ lw_all := q822
theorem xkf_CrossingWords_Times_15 : Cond.fieldLink "CrossingWords$Times" 15 (xw_fd 119).1 (xw_fd 119).2.1 (xw_fd 119).2.2.1 ∈ lw_all := q712
theorem xkf_CrossingWords_Times_19 : Cond.fieldLink "CrossingWords$Times" 19 (xw_fd 120).1 (xw_fd 120).2.1 (xw_fd 120).2.2.1 ∈ lw_all := q715
theorem xkf_CrossingWords_Times_22 : Cond.fieldLink "CrossingWords$Times" 22 (xw_fd 121).1 (xw_fd 121).2.1 (xw_fd 121).2.2.1 ∈ lw_all := q718
theorem xkf_CrossingWords_Times_25 : Cond.fieldLink "CrossingWords$Times" 25 (xw_fd 122).1 (xw_fd 122).2.1 (xw_fd 122).2.2.1 ∈ lw_all := q721
theorem xkf_CrossingWords_Times_29 : Cond.fieldLink "CrossingWords$Times" 29 (xw_fd 123).1 (xw_fd 123).2.1 (xw_fd 123).2.2.1 ∈ lw_all := q723
theorem xkf_CrossingWords_Times_9 : Cond.fieldLink "CrossingWords$Times" 9 (xw_fd 118).1 (xw_fd 118).2.1 (xw_fd 118).2.2.1 ∈ lw_all := q709
theorem xkf_CrossingWords_106 : Cond.fieldLink "CrossingWords" 106 (xw_fd 6).1 (xw_fd 6).2.1 (xw_fd 6).2.2.1 ∈ lw_all := q194
theorem xkf_CrossingWords_118 : Cond.fieldLink "CrossingWords" 118 (xw_fd 96).1 (xw_fd 96).2.1 (xw_fd 96).2.2.1 ∈ lw_all := q333
theorem xkf_CrossingWords_126 : Cond.fieldLink "CrossingWords" 126 (xw_fd 103).1 (xw_fd 103).2.1 (xw_fd 103).2.2.1 ∈ lw_all := q292
theorem xkf_CrossingWords_129 : Cond.fieldLink "CrossingWords" 129 (xw_fd 7).1 (xw_fd 7).2.1 (xw_fd 7).2.2.1 ∈ lw_all := q196
theorem xkf_CrossingWords_137 : Cond.fieldLink "CrossingWords" 137 (xw_fd 124).1 (xw_fd 124).2.1 (xw_fd 124).2.2.1 ∈ lw_all := q840
theorem xkf_CrossingWords_140 : Cond.fieldLink "CrossingWords" 140 (xw_fd 8).1 (xw_fd 8).2.1 (xw_fd 8).2.2.1 ∈ lw_all := q198
theorem xkf_CrossingWords_143 : Cond.fieldLink "CrossingWords" 143 (xw_fd 99).1 (xw_fd 99).2.1 (xw_fd 99).2.2.1 ∈ lw_all := q282
theorem xkf_CrossingWords_152 : Cond.fieldLink "CrossingWords" 152 (xw_fd 107).1 (xw_fd 107).2.1 (xw_fd 107).2.2.1 ∈ lw_all := q454
theorem xkf_CrossingWords_162 : Cond.fieldLink "CrossingWords" 162 (xw_fd 106).1 (xw_fd 106).2.1 (xw_fd 106).2.2.1 ∈ lw_all := q449
theorem xkf_CrossingWords_165 : Cond.fieldLink "CrossingWords" 165 (xw_fd 108).1 (xw_fd 108).2.1 (xw_fd 108).2.2.1 ∈ lw_all := q459
theorem xkf_CrossingWords_169 : Cond.fieldLink "CrossingWords" 169 (xw_fd 118).1 (xw_fd 118).2.1 (xw_fd 118).2.2.1 ∈ lw_all := q711
theorem xkf_CrossingWords_182 : Cond.fieldLink "CrossingWords" 182 (xw_fd 104).1 (xw_fd 104).2.1 (xw_fd 104).2.2.1 ∈ lw_all := q295
theorem xkf_CrossingWords_200 : Cond.fieldLink "CrossingWords" 200 (xw_fd 129).1 (xw_fd 129).2.1 (xw_fd 129).2.2.1 ∈ lw_all := q829
theorem xkf_CrossingWords_21 : Cond.fieldLink "CrossingWords" 21 (xw_fd 0).1 (xw_fd 0).2.1 (xw_fd 0).2.2.1 ∈ lw_all := q185
theorem xkf_CrossingWords_217 : Cond.fieldLink "CrossingWords" 217 (xw_fd 22).1 (xw_fd 22).2.1 (xw_fd 22).2.2.1 ∈ lw_all := q152
theorem xkf_CrossingWords_220 : Cond.fieldLink "CrossingWords" 220 (xw_fd 24).1 (xw_fd 24).2.1 (xw_fd 24).2.2.1 ∈ lw_all := q156
theorem xkf_CrossingWords_224 : Cond.fieldLink "CrossingWords" 224 (xw_fd 23).1 (xw_fd 23).2.1 (xw_fd 23).2.2.1 ∈ lw_all := q154
theorem xkf_CrossingWords_27 : Cond.fieldLink "CrossingWords" 27 (xw_fd 1).1 (xw_fd 1).2.1 (xw_fd 1).2.2.1 ∈ lw_all := q187
theorem xkf_CrossingWords_278 : Cond.fieldLink "CrossingWords" 278 (xw_fd 12).1 (xw_fd 12).2.1 (xw_fd 12).2.2.1 ∈ lw_all := q202
theorem xkf_CrossingWords_31 : Cond.fieldLink "CrossingWords" 31 (xw_fd 2).1 (xw_fd 2).2.1 (xw_fd 2).2.2.1 ∈ lw_all := q189
theorem xkf_CrossingWords_34 : Cond.fieldLink "CrossingWords" 34 (xw_fd 3).1 (xw_fd 3).2.1 (xw_fd 3).2.2.1 ∈ lw_all := q190
theorem xkf_CrossingWords_40 : Cond.fieldLink "CrossingWords" 40 (xw_fd 4).1 (xw_fd 4).2.1 (xw_fd 4).2.2.1 ∈ lw_all := q191
theorem xkf_CrossingWords_44 : Cond.fieldLink "CrossingWords" 44 (xw_fd 9).1 (xw_fd 9).2.1 (xw_fd 9).2.2.1 ∈ lw_all := q199
theorem xkf_CrossingWords_50 : Cond.fieldLink "CrossingWords" 50 (xw_fd 11).1 (xw_fd 11).2.1 (xw_fd 11).2.2.1 ∈ lw_all := q201
theorem xkf_CrossingWords_54 : Cond.fieldLink "CrossingWords" 54 (xw_fd 13).1 (xw_fd 13).2.1 (xw_fd 13).2.2.1 ∈ lw_all := q203
theorem xkf_CrossingWords_58 : Cond.fieldLink "CrossingWords" 58 (xw_fd 14).1 (xw_fd 14).2.1 (xw_fd 14).2.2.1 ∈ lw_all := q204
theorem xkf_CrossingWords_70 : Cond.fieldLink "CrossingWords" 70 (xw_fd 10).1 (xw_fd 10).2.1 (xw_fd 10).2.2.1 ∈ lw_all := q200
theorem xkf_CrossingWords_91 : Cond.fieldLink "CrossingWords" 91 (xw_fd 5).1 (xw_fd 5).2.1 (xw_fd 5).2.2.1 ∈ lw_all := q192
theorem xkf_CrossingWordsModel_100 : Cond.fieldLink "CrossingWordsModel" 100 (xw_fd 66).1 (xw_fd 66).2.1 (xw_fd 66).2.2.1 ∈ lw_all := q1380
theorem xkf_CrossingWordsModel_103 : Cond.fieldLink "CrossingWordsModel" 103 (xw_fd 67).1 (xw_fd 67).2.1 (xw_fd 67).2.2.1 ∈ lw_all := q1381
theorem xkf_CrossingWordsModel_106 : Cond.fieldLink "CrossingWordsModel" 106 (xw_fd 68).1 (xw_fd 68).2.1 (xw_fd 68).2.2.1 ∈ lw_all := q1382
theorem xkf_CrossingWordsModel_109 : Cond.fieldLink "CrossingWordsModel" 109 (xw_fd 69).1 (xw_fd 69).2.1 (xw_fd 69).2.2.1 ∈ lw_all := q1383
theorem xkf_CrossingWordsModel_112 : Cond.fieldLink "CrossingWordsModel" 112 (xw_fd 70).1 (xw_fd 70).2.1 (xw_fd 70).2.2.1 ∈ lw_all := q1384
theorem xkf_CrossingWordsModel_115 : Cond.fieldLink "CrossingWordsModel" 115 (xw_fd 71).1 (xw_fd 71).2.1 (xw_fd 71).2.2.1 ∈ lw_all := q1385
theorem xkf_CrossingWordsModel_118 : Cond.fieldLink "CrossingWordsModel" 118 (xw_fd 72).1 (xw_fd 72).2.1 (xw_fd 72).2.2.1 ∈ lw_all := q1386
theorem xkf_CrossingWordsModel_121 : Cond.fieldLink "CrossingWordsModel" 121 (xw_fd 73).1 (xw_fd 73).2.1 (xw_fd 73).2.2.1 ∈ lw_all := q1387
theorem xkf_CrossingWordsModel_124 : Cond.fieldLink "CrossingWordsModel" 124 (xw_fd 74).1 (xw_fd 74).2.1 (xw_fd 74).2.2.1 ∈ lw_all := q1388
theorem xkf_CrossingWordsModel_127 : Cond.fieldLink "CrossingWordsModel" 127 (xw_fd 75).1 (xw_fd 75).2.1 (xw_fd 75).2.2.1 ∈ lw_all := q1389
theorem xkf_CrossingWordsModel_13 : Cond.fieldLink "CrossingWordsModel" 13 (xw_fd 27).1 (xw_fd 27).2.1 (xw_fd 27).2.2.1 ∈ lw_all := q1341
theorem xkf_CrossingWordsModel_130 : Cond.fieldLink "CrossingWordsModel" 130 (xw_fd 80).1 (xw_fd 80).2.1 (xw_fd 80).2.2.1 ∈ lw_all := q1394
theorem xkf_CrossingWordsModel_133 : Cond.fieldLink "CrossingWordsModel" 133 (xw_fd 81).1 (xw_fd 81).2.1 (xw_fd 81).2.2.1 ∈ lw_all := q1395
theorem xkf_CrossingWordsModel_136 : Cond.fieldLink "CrossingWordsModel" 136 (xw_fd 82).1 (xw_fd 82).2.1 (xw_fd 82).2.2.1 ∈ lw_all := q1396
theorem xkf_CrossingWordsModel_139 : Cond.fieldLink "CrossingWordsModel" 139 (xw_fd 83).1 (xw_fd 83).2.1 (xw_fd 83).2.2.1 ∈ lw_all := q1397
theorem xkf_CrossingWordsModel_142 : Cond.fieldLink "CrossingWordsModel" 142 (xw_fd 84).1 (xw_fd 84).2.1 (xw_fd 84).2.2.1 ∈ lw_all := q1398
theorem xkf_CrossingWordsModel_145 : Cond.fieldLink "CrossingWordsModel" 145 (xw_fd 85).1 (xw_fd 85).2.1 (xw_fd 85).2.2.1 ∈ lw_all := q1399
theorem xkf_CrossingWordsModel_148 : Cond.fieldLink "CrossingWordsModel" 148 (xw_fd 43).1 (xw_fd 43).2.1 (xw_fd 43).2.2.1 ∈ lw_all := q1357
theorem xkf_CrossingWordsModel_151 : Cond.fieldLink "CrossingWordsModel" 151 (xw_fd 46).1 (xw_fd 46).2.1 (xw_fd 46).2.2.1 ∈ lw_all := q1360
theorem xkf_CrossingWordsModel_154 : Cond.fieldLink "CrossingWordsModel" 154 (xw_fd 45).1 (xw_fd 45).2.1 (xw_fd 45).2.2.1 ∈ lw_all := q1359
theorem xkf_CrossingWordsModel_16 : Cond.fieldLink "CrossingWordsModel" 16 (xw_fd 28).1 (xw_fd 28).2.1 (xw_fd 28).2.2.1 ∈ lw_all := q1342
theorem xkf_CrossingWordsModel_161 : Cond.fieldLink "CrossingWordsModel" 161 (xw_fd 47).1 (xw_fd 47).2.1 (xw_fd 47).2.2.1 ∈ lw_all := q1361
theorem xkf_CrossingWordsModel_166 : Cond.fieldLink "CrossingWordsModel" 166 (xw_fd 50).1 (xw_fd 50).2.1 (xw_fd 50).2.2.1 ∈ lw_all := q1364
theorem xkf_CrossingWordsModel_170 : Cond.fieldLink "CrossingWordsModel" 170 (xw_fd 49).1 (xw_fd 49).2.1 (xw_fd 49).2.2.1 ∈ lw_all := q1363
theorem xkf_CrossingWordsModel_173 : Cond.fieldLink "CrossingWordsModel" 173 (xw_fd 48).1 (xw_fd 48).2.1 (xw_fd 48).2.2.1 ∈ lw_all := q1362
theorem xkf_CrossingWordsModel_183 : Cond.fieldLink "CrossingWordsModel" 183 (xw_fd 51).1 (xw_fd 51).2.1 (xw_fd 51).2.2.1 ∈ lw_all := q1365
theorem xkf_CrossingWordsModel_19 : Cond.fieldLink "CrossingWordsModel" 19 (xw_fd 29).1 (xw_fd 29).2.1 (xw_fd 29).2.2.1 ∈ lw_all := q1343
theorem xkf_CrossingWordsModel_22 : Cond.fieldLink "CrossingWordsModel" 22 (xw_fd 30).1 (xw_fd 30).2.1 (xw_fd 30).2.2.1 ∈ lw_all := q1344
theorem xkf_CrossingWordsModel_25 : Cond.fieldLink "CrossingWordsModel" 25 (xw_fd 31).1 (xw_fd 31).2.1 (xw_fd 31).2.2.1 ∈ lw_all := q1345
theorem xkf_CrossingWordsModel_28 : Cond.fieldLink "CrossingWordsModel" 28 (xw_fd 32).1 (xw_fd 32).2.1 (xw_fd 32).2.2.1 ∈ lw_all := q1346
theorem xkf_CrossingWordsModel_31 : Cond.fieldLink "CrossingWordsModel" 31 (xw_fd 33).1 (xw_fd 33).2.1 (xw_fd 33).2.2.1 ∈ lw_all := q1347
theorem xkf_CrossingWordsModel_34 : Cond.fieldLink "CrossingWordsModel" 34 (xw_fd 34).1 (xw_fd 34).2.1 (xw_fd 34).2.2.1 ∈ lw_all := q1348
theorem xkf_CrossingWordsModel_351 : Cond.fieldLink "CrossingWordsModel" 351 (xw_fd 53).1 (xw_fd 53).2.1 (xw_fd 53).2.2.1 ∈ lw_all := q1367
theorem xkf_CrossingWordsModel_354 : Cond.fieldLink "CrossingWordsModel" 354 (xw_fd 54).1 (xw_fd 54).2.1 (xw_fd 54).2.2.1 ∈ lw_all := q1368
theorem xkf_CrossingWordsModel_357 : Cond.fieldLink "CrossingWordsModel" 357 (xw_fd 55).1 (xw_fd 55).2.1 (xw_fd 55).2.2.1 ∈ lw_all := q1369
theorem xkf_CrossingWordsModel_37 : Cond.fieldLink "CrossingWordsModel" 37 (xw_fd 35).1 (xw_fd 35).2.1 (xw_fd 35).2.2.1 ∈ lw_all := q1349
theorem xkf_CrossingWordsModel_381 : Cond.fieldLink "CrossingWordsModel" 381 (xw_fd 76).1 (xw_fd 76).2.1 (xw_fd 76).2.2.1 ∈ lw_all := q1390
theorem xkf_CrossingWordsModel_384 : Cond.fieldLink "CrossingWordsModel" 384 (xw_fd 79).1 (xw_fd 79).2.1 (xw_fd 79).2.2.1 ∈ lw_all := q1393
theorem xkf_CrossingWordsModel_387 : Cond.fieldLink "CrossingWordsModel" 387 (xw_fd 77).1 (xw_fd 77).2.1 (xw_fd 77).2.2.1 ∈ lw_all := q1391
theorem xkf_CrossingWordsModel_390 : Cond.fieldLink "CrossingWordsModel" 390 (xw_fd 78).1 (xw_fd 78).2.1 (xw_fd 78).2.2.1 ∈ lw_all := q1392
theorem xkf_CrossingWordsModel_40 : Cond.fieldLink "CrossingWordsModel" 40 (xw_fd 36).1 (xw_fd 36).2.1 (xw_fd 36).2.2.1 ∈ lw_all := q1350
theorem xkf_CrossingWordsModel_43 : Cond.fieldLink "CrossingWordsModel" 43 (xw_fd 37).1 (xw_fd 37).2.1 (xw_fd 37).2.2.1 ∈ lw_all := q1351
theorem xkf_CrossingWordsModel_46 : Cond.fieldLink "CrossingWordsModel" 46 (xw_fd 38).1 (xw_fd 38).2.1 (xw_fd 38).2.2.1 ∈ lw_all := q1352
theorem xkf_CrossingWordsModel_461 : Cond.fieldLink "CrossingWordsModel" 461 (xw_fd 86).1 (xw_fd 86).2.1 (xw_fd 86).2.2.1 ∈ lw_all := q1400
theorem xkf_CrossingWordsModel_464 : Cond.fieldLink "CrossingWordsModel" 464 (xw_fd 87).1 (xw_fd 87).2.1 (xw_fd 87).2.2.1 ∈ lw_all := q1401
theorem xkf_CrossingWordsModel_482 : Cond.fieldLink "CrossingWordsModel" 482 (xw_fd 88).1 (xw_fd 88).2.1 (xw_fd 88).2.2.1 ∈ lw_all := q1402
theorem xkf_CrossingWordsModel_49 : Cond.fieldLink "CrossingWordsModel" 49 (xw_fd 39).1 (xw_fd 39).2.1 (xw_fd 39).2.2.1 ∈ lw_all := q1353
theorem xkf_CrossingWordsModel_52 : Cond.fieldLink "CrossingWordsModel" 52 (xw_fd 40).1 (xw_fd 40).2.1 (xw_fd 40).2.2.1 ∈ lw_all := q1354
theorem xkf_CrossingWordsModel_55 : Cond.fieldLink "CrossingWordsModel" 55 (xw_fd 41).1 (xw_fd 41).2.1 (xw_fd 41).2.2.1 ∈ lw_all := q1355
theorem xkf_CrossingWordsModel_58 : Cond.fieldLink "CrossingWordsModel" 58 (xw_fd 42).1 (xw_fd 42).2.1 (xw_fd 42).2.2.1 ∈ lw_all := q1356
theorem xkf_CrossingWordsModel_62 : Cond.fieldLink "CrossingWordsModel" 62 (xw_fd 44).1 (xw_fd 44).2.1 (xw_fd 44).2.2.1 ∈ lw_all := q1358
theorem xkf_CrossingWordsModel_66 : Cond.fieldLink "CrossingWordsModel" 66 (xw_fd 52).1 (xw_fd 52).2.1 (xw_fd 52).2.2.1 ∈ lw_all := q1366
theorem xkf_CrossingWordsModel_69 : Cond.fieldLink "CrossingWordsModel" 69 (xw_fd 56).1 (xw_fd 56).2.1 (xw_fd 56).2.2.1 ∈ lw_all := q1370
theorem xkf_CrossingWordsModel_7 : Cond.fieldLink "CrossingWordsModel" 7 (xw_fd 26).1 (xw_fd 26).2.1 (xw_fd 26).2.2.1 ∈ lw_all := q1340
theorem xkf_CrossingWordsModel_72 : Cond.fieldLink "CrossingWordsModel" 72 (xw_fd 57).1 (xw_fd 57).2.1 (xw_fd 57).2.2.1 ∈ lw_all := q1371
theorem xkf_CrossingWordsModel_75 : Cond.fieldLink "CrossingWordsModel" 75 (xw_fd 58).1 (xw_fd 58).2.1 (xw_fd 58).2.2.1 ∈ lw_all := q1372
theorem xkf_CrossingWordsModel_78 : Cond.fieldLink "CrossingWordsModel" 78 (xw_fd 59).1 (xw_fd 59).2.1 (xw_fd 59).2.2.1 ∈ lw_all := q1373
theorem xkf_CrossingWordsModel_81 : Cond.fieldLink "CrossingWordsModel" 81 (xw_fd 60).1 (xw_fd 60).2.1 (xw_fd 60).2.2.1 ∈ lw_all := q1374
theorem xkf_CrossingWordsModel_84 : Cond.fieldLink "CrossingWordsModel" 84 (xw_fd 61).1 (xw_fd 61).2.1 (xw_fd 61).2.2.1 ∈ lw_all := q1375
theorem xkf_CrossingWordsModel_87 : Cond.fieldLink "CrossingWordsModel" 87 (xw_fd 62).1 (xw_fd 62).2.1 (xw_fd 62).2.2.1 ∈ lw_all := q1376
theorem xkf_CrossingWordsModel_90 : Cond.fieldLink "CrossingWordsModel" 90 (xw_fd 63).1 (xw_fd 63).2.1 (xw_fd 63).2.2.1 ∈ lw_all := q1377
theorem xkf_CrossingWordsModel_94 : Cond.fieldLink "CrossingWordsModel" 94 (xw_fd 64).1 (xw_fd 64).2.1 (xw_fd 64).2.2.1 ∈ lw_all := q1378
theorem xkf_CrossingWordsModel_97 : Cond.fieldLink "CrossingWordsModel" 97 (xw_fd 65).1 (xw_fd 65).2.1 (xw_fd 65).2.2.1 ∈ lw_all := q1379
theorem xkg_CrossingWords_CaseReader_108 : Cond.fieldLinkNest "CrossingWords$CaseReader" 108 "CrossingWords" "GIVEN" "J" "CrossingWords" ∈ xw_nl := List.mem_of_getElem? (i := 44) rfl
theorem xkg_CrossingWords_CaseReader_127 : Cond.fieldLinkNest "CrossingWords$CaseReader" 127 "CrossingWords" "TERM_NAMES" "[J" "CrossingWords" ∈ xw_nl := List.mem_of_getElem? (i := 42) rfl
theorem xkg_CrossingWords_CaseReader_157 : Cond.fieldLinkNest "CrossingWords$CaseReader" 157 "CrossingWords" "BUT_WORD" "J" "CrossingWords" ∈ xw_nl := List.mem_of_getElem? (i := 46) rfl
theorem xkg_CrossingWords_CaseReader_188 : Cond.fieldLinkNest "CrossingWords$CaseReader" 188 "CrossingWords" "TO" "J" "CrossingWords" ∈ xw_nl := List.mem_of_getElem? (i := 49) rfl
theorem xkg_CrossingWords_CaseReader_199 : Cond.fieldLinkNest "CrossingWords$CaseReader" 199 "CrossingWords" "WAYS" "[J" "CrossingWords" ∈ xw_nl := List.mem_of_getElem? (i := 47) rfl
theorem xkg_CrossingWords_CaseReader_202 : Cond.fieldLinkNest "CrossingWords$CaseReader" 202 "CrossingWords" "AT" "J" "CrossingWords" ∈ xw_nl := List.mem_of_getElem? (i := 48) rfl
theorem xkg_CrossingWords_CaseReader_211 : Cond.fieldLinkNest "CrossingWords$CaseReader" 211 "CrossingWords" "AT_ONCE" "LCrossingWords$Span;" "CrossingWords" ∈ xw_nl := List.mem_of_getElem? (i := 50) rfl
theorem xkg_CrossingWords_CaseReader_218 : Cond.fieldLinkNest "CrossingWords$CaseReader" 218 "CrossingWords" "AFTER" "J" "CrossingWords" ∈ xw_nl := List.mem_of_getElem? (i := 51) rfl
theorem xkg_CrossingWords_CaseReader_221 : Cond.fieldLinkNest "CrossingWords$CaseReader" 221 "CrossingWords" "READ_WORD" "J" "CrossingWords" ∈ xw_nl := List.mem_of_getElem? (i := 52) rfl
theorem xkg_CrossingWords_CaseReader_224 : Cond.fieldLinkNest "CrossingWords$CaseReader" 224 "CrossingWords" "LOST" "J" "CrossingWords" ∈ xw_nl := List.mem_of_getElem? (i := 53) rfl
theorem xkg_CrossingWords_CaseReader_34 : Cond.fieldLinkNest "CrossingWords$CaseReader" 34 "CrossingWords" "KINDS" "[J" "CrossingWords" ∈ xw_nl := List.mem_of_getElem? (i := 39) rfl
theorem xkg_CrossingWords_CaseReader_42 : Cond.fieldLinkNest "CrossingWords$CaseReader" 42 "CrossingWords" "HAND_NAMES" "[J" "CrossingWords" ∈ xw_nl := List.mem_of_getElem? (i := 40) rfl
theorem xkg_CrossingWords_CaseReader_93 : Cond.fieldLinkNest "CrossingWords$CaseReader" 93 "CrossingWords" "HOLD" "J" "CrossingWords" ∈ xw_nl := List.mem_of_getElem? (i := 43) rfl
theorem xkg_CrossingWords_LawReader_27 : Cond.fieldLinkNest "CrossingWords$LawReader" 27 "CrossingWords" "RULE_NAMES" "[J" "CrossingWords" ∈ xw_nl := List.mem_of_getElem? (i := 12) rfl
theorem xkg_CrossingWords_LawReader_38 : Cond.fieldLinkNest "CrossingWords$LawReader" 38 "CrossingWords" "WHENS" "[J" "CrossingWords" ∈ xw_nl := List.mem_of_getElem? (i := 14) rfl
theorem xkg_CrossingWords_LawReader_45 : Cond.fieldLinkNest "CrossingWords$LawReader" 45 "CrossingWords" "HOLDS" "[J" "CrossingWords" ∈ xw_nl := List.mem_of_getElem? (i := 15) rfl
theorem xkg_CrossingWords_LawReader_52 : Cond.fieldLinkNest "CrossingWords$LawReader" 52 "CrossingWords" "BUTS" "[J" "CrossingWords" ∈ xw_nl := List.mem_of_getElem? (i := 16) rfl
theorem xkg_CrossingWords_LawReader_55 : Cond.fieldLinkNest "CrossingWords$LawReader" 55 "CrossingWords" "FORMS" "[J" "CrossingWords" ∈ xw_nl := List.mem_of_getElem? (i := 17) rfl
theorem xkg_CrossingWords_LawReader_58 : Cond.fieldLinkNest "CrossingWords$LawReader" 58 "CrossingWords" "DEEDS" "[J" "CrossingWords" ∈ xw_nl := List.mem_of_getElem? (i := 18) rfl
theorem xkg_CrossingWords_LawReader_61 : Cond.fieldLinkNest "CrossingWords$LawReader" 61 "CrossingWords" "RISKS" "[J" "CrossingWords" ∈ xw_nl := List.mem_of_getElem? (i := 19) rfl
theorem xkg_CrossingWords_LawReader_70 : Cond.fieldLinkNest "CrossingWords$LawReader" 70 "CrossingWords" "YES_WAYS" "[J" "CrossingWords" ∈ xw_nl := List.mem_of_getElem? (i := 13) rfl
theorem xkg_CrossingWords_Times_35 : Cond.fieldLinkNest "CrossingWords$Times" 35 "CrossingWords" "AT_ONCE" "LCrossingWords$Span;" "CrossingWords" ∈ xw_nl := List.mem_of_getElem? (i := 11) rfl
theorem xkm_CrossingWords_CaseReader_11 : Cond.methodLinkNest "CrossingWords$CaseReader" 11 ⟨"CrossingWords$Case", "<init>", "()V"⟩ "CrossingWords" ∈ xw_nl := List.mem_of_getElem? (i := 38) rfl
theorem xkm_CrossingWords_CaseReader_120 : Cond.methodLinkNest "CrossingWords$CaseReader" 120 ⟨"CrossingWords", "find", "([JJ)I"⟩ "CrossingWords" ∈ xw_nl := List.mem_of_getElem? (i := 41) rfl
theorem xkm_CrossingWords_CaseReader_142 : Cond.methodLinkNest "CrossingWords$CaseReader" 142 ⟨"CrossingWords", "isIn", "(III)Z"⟩ "CrossingWords" ∈ xw_nl := List.mem_of_getElem? (i := 45) rfl
theorem xkm_CrossingWords_LawReader_11 : Cond.methodLinkNest "CrossingWords$LawReader" 11 ⟨"CrossingWords$Text", "<init>", "()V"⟩ "CrossingWords" ∈ xw_nl := List.mem_of_getElem? (i := 20) rfl
theorem xkm_CrossingWords_Reader_55 : Cond.methodLinkNest "CrossingWords$Reader" 55 ⟨"CrossingWords", "isIn", "(III)Z"⟩ "CrossingWords" ∈ xw_nl := List.mem_of_getElem? (i := 34) rfl
theorem xkm_CrossingWords_Reader_59 : Cond.methodLinkNest "CrossingWords$Reader" 59 ⟨"CrossingWords", "find", "([JJ)I"⟩ "CrossingWords" ∈ xw_nl := List.mem_of_getElem? (i := 30) rfl
theorem xkm_CrossingWords_Run_96 : Cond.methodLinkNest "CrossingWords$Run" 96 ⟨"CrossingWords", "hasGiven", "(ILCrossingWords$Rules;)Z"⟩ "CrossingWords" ∈ xw_nl := List.mem_of_getElem? (i := 10) rfl
theorem xkm_CrossingWords_259 : Cond.methodLinkNest "CrossingWords" 259 ⟨"CrossingWords$Case", "<init>", "()V"⟩ "CrossingWords" ∈ xw_nl := List.mem_of_getElem? (i := 7) rfl
theorem xkm_CrossingWords_62 : Cond.methodLinkNest "CrossingWords" 62 ⟨"CrossingWords$Run", "<init>", "(LCrossingWords;)V"⟩ "CrossingWords" ∈ xw_nl := List.mem_of_getElem? (i := 0) rfl
theorem xkm_CrossingWords_86 : Cond.methodLinkNest "CrossingWords" 86 ⟨"CrossingWords$Rules", "<init>", "()V"⟩ "CrossingWords" ∈ xw_nl := List.mem_of_getElem? (i := 5) rfl
theorem xkn_CrossingWords_Image_26 : Cond.fieldLinkNest "CrossingWords$Image" 26 (xw_fd 6).1 (xw_fd 6).2.1 (xw_fd 6).2.2.1 "CrossingWords" ∈ xw_nl := List.mem_of_getElem? (i := 24) rfl
theorem xkn_CrossingWords_Image_31 : Cond.fieldLinkNest "CrossingWords$Image" 31 (xw_fd 7).1 (xw_fd 7).2.1 (xw_fd 7).2.2.1 "CrossingWords" ∈ xw_nl := List.mem_of_getElem? (i := 25) rfl
theorem xkn_CrossingWords_Image_35 : Cond.fieldLinkNest "CrossingWords$Image" 35 (xw_fd 8).1 (xw_fd 8).2.1 (xw_fd 8).2.2.1 "CrossingWords" ∈ xw_nl := List.mem_of_getElem? (i := 26) rfl
theorem xkn_CrossingWords_Image_39 : Cond.fieldLinkNest "CrossingWords$Image" 39 (xw_fd 0).1 (xw_fd 0).2.1 (xw_fd 0).2.2.1 "CrossingWords" ∈ xw_nl := List.mem_of_getElem? (i := 21) rfl
theorem xkn_CrossingWords_Image_46 : Cond.fieldLinkNest "CrossingWords$Image" 46 (xw_fd 1).1 (xw_fd 1).2.1 (xw_fd 1).2.2.1 "CrossingWords" ∈ xw_nl := List.mem_of_getElem? (i := 22) rfl
theorem xkn_CrossingWords_Image_47 : Cond.fieldLinkNest "CrossingWords$Image" 47 (xw_fd 2).1 (xw_fd 2).2.1 (xw_fd 2).2.2.1 "CrossingWords" ∈ xw_nl := List.mem_of_getElem? (i := 23) rfl
theorem xkn_CrossingWords_Run_41 : Cond.fieldLinkNest "CrossingWords$Run" 41 (xw_fd 100).1 (xw_fd 100).2.1 (xw_fd 100).2.2.1 "CrossingWords" ∈ xw_nl := List.mem_of_getElem? (i := 8) rfl
theorem xkn_CrossingWords_Run_44 : Cond.fieldLinkNest "CrossingWords$Run" 44 (xw_fd 101).1 (xw_fd 101).2.1 (xw_fd 101).2.2.1 "CrossingWords" ∈ xw_nl := List.mem_of_getElem? (i := 9) rfl
theorem xkn_CrossingWords_234 : Cond.fieldLinkNest "CrossingWords" 234 (xw_fd 16).1 (xw_fd 16).2.1 (xw_fd 16).2.2.1 "CrossingWords" ∈ xw_nl := List.mem_of_getElem? (i := 1) rfl
theorem xkn_CrossingWords_237 : Cond.fieldLinkNest "CrossingWords" 237 (xw_fd 17).1 (xw_fd 17).2.1 (xw_fd 17).2.2.1 "CrossingWords" ∈ xw_nl := List.mem_of_getElem? (i := 2) rfl
theorem xkn_CrossingWords_240 : Cond.fieldLinkNest "CrossingWords" 240 (xw_fd 18).1 (xw_fd 18).2.1 (xw_fd 18).2.2.1 "CrossingWords" ∈ xw_nl := List.mem_of_getElem? (i := 3) rfl
theorem xkn_CrossingWords_285 : Cond.fieldLinkNest "CrossingWords" 285 (xw_fd 102).1 (xw_fd 102).2.1 (xw_fd 102).2.2.1 "CrossingWords" ∈ xw_nl := List.mem_of_getElem? (i := 4) rfl
theorem xkn_CrossingWords_65 : Cond.fieldLinkNest "CrossingWords" 65 (xw_fd 131).1 (xw_fd 131).2.1 (xw_fd 131).2.2.1 "CrossingWords" ∈ xw_nl := List.mem_of_getElem? (i := 6) rfl
theorem xks_CrossingWords_CaseReader_114 : Cond.sameField "CrossingWords$CaseReader" (xw_fd 93).1 (xw_fd 93).2.1 (xw_fd 93).2.2.1 ∈ lw_all := q342
theorem xks_CrossingWords_CaseReader_117 : Cond.sameField "CrossingWords$CaseReader" (xw_fd 94).1 (xw_fd 94).2.1 (xw_fd 94).2.2.1 ∈ lw_all := q345
theorem xks_CrossingWords_CaseReader_62 : Cond.sameField "CrossingWords$CaseReader" (xw_fd 95).1 (xw_fd 95).2.1 (xw_fd 95).2.2.1 ∈ lw_all := q347
theorem xm_mmax : Cond.code Lib.Math.max.name Lib.Math.max.code 2 (some .int) ∈ lw_all := q420
theorem xm_mmin : Cond.code Lib.Math.min.name Lib.Math.min.code 2 (some .int) ∈ lw_all := q688
theorem xm_mminL : Cond.code Lib.MathLoose.min_long.x Lib.MathLoose.min_long.code 4 (some .long) ∈ lw_all := q331
theorem ymf_0 : xw_fid 2 0 = 26 := rfl
theorem ymf_1 : xw_fid 2 1 = 27 := rfl
theorem ymf_2 : xw_fid 2 2 = 28 := rfl
theorem ymf_3 : xw_fid 2 3 = 29 := rfl
theorem ymf_4 : xw_fid 2 4 = 30 := rfl
theorem ymf_5 : xw_fid 2 5 = 31 := rfl
theorem ymf_6 : xw_fid 2 6 = 32 := rfl
theorem ymf_7 : xw_fid 2 7 = 33 := rfl
theorem ymf_8 : xw_fid 2 8 = 34 := rfl
theorem ymf_9 : xw_fid 2 9 = 35 := rfl
theorem ymf_10 : xw_fid 2 10 = 36 := rfl
theorem ymf_11 : xw_fid 2 11 = 37 := rfl
theorem ymf_12 : xw_fid 2 12 = 38 := rfl
theorem ymf_13 : xw_fid 2 13 = 39 := rfl
theorem ymf_14 : xw_fid 2 14 = 40 := rfl
theorem ymf_15 : xw_fid 2 15 = 41 := rfl
theorem ymf_16 : xw_fid 2 16 = 42 := rfl
theorem ymf_17 : xw_fid 2 17 = 43 := rfl
theorem ymf_18 : xw_fid 2 18 = 44 := rfl
theorem ymf_19 : xw_fid 2 19 = 45 := rfl
theorem ymf_20 : xw_fid 2 20 = 46 := rfl
theorem ymf_21 : xw_fid 2 21 = 47 := rfl
theorem ymf_22 : xw_fid 2 22 = 48 := rfl
theorem ymf_23 : xw_fid 2 23 = 49 := rfl
theorem ymf_24 : xw_fid 2 24 = 50 := rfl
theorem ymf_25 : xw_fid 2 25 = 51 := rfl
theorem ymf_26 : xw_fid 2 26 = 52 := rfl
theorem ymf_27 : xw_fid 2 27 = 53 := rfl
theorem ymf_28 : xw_fid 2 28 = 54 := rfl
theorem ymf_29 : xw_fid 2 29 = 55 := rfl
theorem ymf_30 : xw_fid 2 30 = 56 := rfl
theorem ymf_31 : xw_fid 2 31 = 57 := rfl
theorem ymf_32 : xw_fid 2 32 = 58 := rfl
theorem ymf_33 : xw_fid 2 33 = 59 := rfl
theorem ymf_34 : xw_fid 2 34 = 60 := rfl
theorem ymf_35 : xw_fid 2 35 = 61 := rfl
theorem ymf_36 : xw_fid 2 36 = 62 := rfl
theorem ymf_37 : xw_fid 2 37 = 63 := rfl
theorem ymf_38 : xw_fid 2 38 = 64 := rfl
theorem ymf_39 : xw_fid 2 39 = 65 := rfl
theorem ymf_40 : xw_fid 2 40 = 66 := rfl
theorem ymf_41 : xw_fid 2 41 = 67 := rfl
theorem ymf_42 : xw_fid 2 42 = 68 := rfl
theorem ymf_43 : xw_fid 2 43 = 69 := rfl
theorem ymf_44 : xw_fid 2 44 = 70 := rfl
theorem ymf_45 : xw_fid 2 45 = 71 := rfl
theorem ymf_46 : xw_fid 2 46 = 72 := rfl
theorem ymf_47 : xw_fid 2 47 = 73 := rfl
theorem ymf_48 : xw_fid 2 48 = 74 := rfl
theorem ymf_49 : xw_fid 2 49 = 75 := rfl
theorem ymf_50 : xw_fid 2 50 = 76 := rfl
theorem ymf_51 : xw_fid 2 51 = 77 := rfl
theorem ymf_52 : xw_fid 2 52 = 78 := rfl
theorem ymf_53 : xw_fid 2 53 = 79 := rfl
theorem ymf_54 : xw_fid 2 54 = 80 := rfl
theorem ymf_55 : xw_fid 2 55 = 81 := rfl
theorem ymf_56 : xw_fid 2 56 = 82 := rfl
theorem ymf_57 : xw_fid 2 57 = 83 := rfl
theorem ymf_58 : xw_fid 2 58 = 84 := rfl
theorem ymf_59 : xw_fid 2 59 = 85 := rfl
theorem ymf_60 : xw_fid 2 60 = 86 := rfl
theorem ymf_61 : xw_fid 2 61 = 87 := rfl
theorem ymf_62 : xw_fid 2 62 = 88 := rfl
theorem xsA_64 : 64 ≤ 64 ∧ 4 ≤ xw_ay 64 ∧ xw_ay 64 < 9 := by decide
theorem xsA_65 : 64 ≤ 65 ∧ 4 ≤ xw_ay 65 ∧ xw_ay 65 < 9 := by decide
theorem xsA_66 : 64 ≤ 66 ∧ 4 ≤ xw_ay 66 ∧ xw_ay 66 < 9 := by decide
theorem xsA_67 : 64 ≤ 67 ∧ xw_ay 67 < 3 := by decide
theorem xsB_67 : Cond.arrayClass (xw_aT (xw_ay 67)) ∈ lw_all := q181
theorem xsA_68 : 64 ≤ 68 ∧ 4 ≤ xw_ay 68 ∧ xw_ay 68 < 9 := by decide
theorem xsA_69 : 64 ≤ 69 ∧ 4 ≤ xw_ay 69 ∧ xw_ay 69 < 9 := by decide
theorem xsA_70 : 64 ≤ 70 ∧ xw_ay 70 < 3 := by decide
theorem xsB_70 : Cond.arrayClass (xw_aT (xw_ay 70)) ∈ lw_all := q182
theorem xsA_71 : 64 ≤ 71 ∧ xw_ay 71 < 3 := by decide
theorem xsB_71 : Cond.arrayClass (xw_aT (xw_ay 71)) ∈ lw_all := q183
theorem xsA_72 : 64 ≤ 72 ∧ xw_ay 72 < 3 := by decide
theorem xsB_72 : Cond.arrayClass (xw_aT (xw_ay 72)) ∈ lw_all := q183
theorem xsA_73 : 64 ≤ 73 ∧ xw_ay 73 < 3 := by decide
theorem xsB_73 : Cond.arrayClass (xw_aT (xw_ay 73)) ∈ lw_all := q183
theorem xsA_74 : 64 ≤ 74 ∧ xw_ay 74 < 3 := by decide
theorem xsB_74 : Cond.arrayClass (xw_aT (xw_ay 74)) ∈ lw_all := q183
theorem xsA_75 : 64 ≤ 75 ∧ xw_ay 75 < 3 := by decide
theorem xsB_75 : Cond.arrayClass (xw_aT (xw_ay 75)) ∈ lw_all := q183
theorem xsA_76 : 64 ≤ 76 ∧ xw_ay 76 < 3 := by decide
theorem xsB_76 : Cond.arrayClass (xw_aT (xw_ay 76)) ∈ lw_all := q183
theorem xsA_77 : 64 ≤ 77 ∧ xw_ay 77 < 3 := by decide
theorem xsB_77 : Cond.arrayClass (xw_aT (xw_ay 77)) ∈ lw_all := q183
theorem xsA_78 : 64 ≤ 78 ∧ xw_ay 78 < 3 := by decide
theorem xsB_78 : Cond.arrayClass (xw_aT (xw_ay 78)) ∈ lw_all := q183
theorem xsA_79 : 64 ≤ 79 ∧ xw_ay 79 < 3 := by decide
theorem xsB_79 : Cond.arrayClass (xw_aT (xw_ay 79)) ∈ lw_all := q183
theorem xsA_80 : 64 ≤ 80 ∧ xw_ay 80 < 3 := by decide
theorem xsB_80 : Cond.arrayClass (xw_aT (xw_ay 80)) ∈ lw_all := q183
theorem xsA_81 : 64 ≤ 81 ∧ xw_ay 81 < 3 := by decide
theorem xsB_81 : Cond.arrayClass (xw_aT (xw_ay 81)) ∈ lw_all := q183
theorem xsA_82 : 64 ≤ 82 ∧ xw_ay 82 < 3 := by decide
theorem xsB_82 : Cond.arrayClass (xw_aT (xw_ay 82)) ∈ lw_all := q183
theorem xsA_83 : 64 ≤ 83 ∧ xw_ay 83 < 3 := by decide
theorem xsB_83 : Cond.arrayClass (xw_aT (xw_ay 83)) ∈ lw_all := q183
theorem xsA_84 : 64 ≤ 84 ∧ xw_ay 84 < 3 := by decide
theorem xsB_84 : Cond.arrayClass (xw_aT (xw_ay 84)) ∈ lw_all := q183
theorem xsA_85 : 64 ≤ 85 ∧ xw_ay 85 < 3 := by decide
theorem xsB_85 : Cond.arrayClass (xw_aT (xw_ay 85)) ∈ lw_all := q183
theorem xsA_86 : 64 ≤ 86 ∧ xw_ay 86 < 3 := by decide
theorem xsB_86 : Cond.arrayClass (xw_aT (xw_ay 86)) ∈ lw_all := q183
theorem xsA_87 : 64 ≤ 87 ∧ xw_ay 87 < 3 := by decide
theorem xsB_87 : Cond.arrayClass (xw_aT (xw_ay 87)) ∈ lw_all := q183
theorem xsA_88 : 64 ≤ 88 ∧ xw_ay 88 < 3 := by decide
theorem xsB_88 : Cond.arrayClass (xw_aT (xw_ay 88)) ∈ lw_all := q183
theorem xsA_89 : 64 ≤ 89 ∧ xw_ay 89 < 3 := by decide
theorem xsB_89 : Cond.arrayClass (xw_aT (xw_ay 89)) ∈ lw_all := q181
theorem xsA_90 : 64 ≤ 90 ∧ xw_ay 90 < 3 := by decide
theorem xsB_90 : Cond.arrayClass (xw_aT (xw_ay 90)) ∈ lw_all := q183
theorem xsA_91 : 64 ≤ 91 ∧ xw_ay 91 < 3 := by decide
theorem xsB_91 : Cond.arrayClass (xw_aT (xw_ay 91)) ∈ lw_all := q183
theorem xsA_92 : 64 ≤ 92 ∧ xw_ay 92 < 3 := by decide
theorem xsB_92 : Cond.arrayClass (xw_aT (xw_ay 92)) ∈ lw_all := q183
theorem xsA_93 : 64 ≤ 93 ∧ xw_ay 93 < 3 := by decide
theorem xsB_93 : Cond.arrayClass (xw_aT (xw_ay 93)) ∈ lw_all := q183
theorem xsA_94 : 64 ≤ 94 ∧ xw_ay 94 < 3 := by decide
theorem xsB_94 : Cond.arrayClass (xw_aT (xw_ay 94)) ∈ lw_all := q183
theorem xsA_95 : 64 ≤ 95 ∧ xw_ay 95 < 3 := by decide
theorem xsB_95 : Cond.arrayClass (xw_aT (xw_ay 95)) ∈ lw_all := q183
theorem xsA_96 : 64 ≤ 96 ∧ xw_ay 96 < 3 := by decide
theorem xsB_96 : Cond.arrayClass (xw_aT (xw_ay 96)) ∈ lw_all := q183
theorem xsA_97 : 64 ≤ 97 ∧ xw_ay 97 < 3 := by decide
theorem xsB_97 : Cond.arrayClass (xw_aT (xw_ay 97)) ∈ lw_all := q183
theorem xsA_98 : 64 ≤ 98 ∧ xw_ay 98 < 3 := by decide
theorem xsB_98 : Cond.arrayClass (xw_aT (xw_ay 98)) ∈ lw_all := q182
theorem xsA_99 : 64 ≤ 99 ∧ xw_ay 99 < 3 := by decide
theorem xsB_99 : Cond.arrayClass (xw_aT (xw_ay 99)) ∈ lw_all := q183
theorem xsA_100 : 64 ≤ 100 ∧ xw_ay 100 < 3 := by decide
theorem xsB_100 : Cond.arrayClass (xw_aT (xw_ay 100)) ∈ lw_all := q183
theorem xsA_101 : 64 ≤ 101 ∧ xw_ay 101 < 3 := by decide
theorem xsB_101 : Cond.arrayClass (xw_aT (xw_ay 101)) ∈ lw_all := q183
theorem xsA_102 : 64 ≤ 102 ∧ xw_ay 102 < 3 := by decide
theorem xsB_102 : Cond.arrayClass (xw_aT (xw_ay 102)) ∈ lw_all := q183
theorem xsA_103 : 64 ≤ 103 ∧ xw_ay 103 < 3 := by decide
theorem xsB_103 : Cond.arrayClass (xw_aT (xw_ay 103)) ∈ lw_all := q183
theorem xsA_104 : 64 ≤ 104 ∧ xw_ay 104 < 3 := by decide
theorem xsB_104 : Cond.arrayClass (xw_aT (xw_ay 104)) ∈ lw_all := q183
theorem xsA_105 : 64 ≤ 105 ∧ xw_ay 105 < 3 := by decide
theorem xsB_105 : Cond.arrayClass (xw_aT (xw_ay 105)) ∈ lw_all := q183
theorem xsA_106 : 64 ≤ 106 ∧ xw_ay 106 < 3 := by decide
theorem xsB_106 : Cond.arrayClass (xw_aT (xw_ay 106)) ∈ lw_all := q183
theorem xsA_107 : 64 ≤ 107 ∧ xw_ay 107 < 3 := by decide
theorem xsB_107 : Cond.arrayClass (xw_aT (xw_ay 107)) ∈ lw_all := q183
theorem xsA_108 : 64 ≤ 108 ∧ xw_ay 108 < 3 := by decide
theorem xsB_108 : Cond.arrayClass (xw_aT (xw_ay 108)) ∈ lw_all := q183
theorem xsA_109 : 64 ≤ 109 ∧ xw_ay 109 < 3 := by decide
theorem xsB_109 : Cond.arrayClass (xw_aT (xw_ay 109)) ∈ lw_all := q183
theorem xsA_110 : 64 ≤ 110 ∧ xw_ay 110 < 3 := by decide
theorem xsB_110 : Cond.arrayClass (xw_aT (xw_ay 110)) ∈ lw_all := q183
theorem xsA_111 : 64 ≤ 111 ∧ xw_ay 111 < 3 := by decide
theorem xsB_111 : Cond.arrayClass (xw_aT (xw_ay 111)) ∈ lw_all := q182
theorem xsA_112 : 64 ≤ 112 ∧ xw_ay 112 < 3 := by decide
theorem xsB_112 : Cond.arrayClass (xw_aT (xw_ay 112)) ∈ lw_all := q182
theorem xsA_113 : 64 ≤ 113 ∧ xw_ay 113 < 3 := by decide
theorem xsB_113 : Cond.arrayClass (xw_aT (xw_ay 113)) ∈ lw_all := q182
theorem xsA_114 : 64 ≤ 114 ∧ xw_ay 114 < 3 := by decide
theorem xsB_114 : Cond.arrayClass (xw_aT (xw_ay 114)) ∈ lw_all := q183
theorem xsA_115 : 64 ≤ 115 ∧ xw_ay 115 < 3 := by decide
theorem xsB_115 : Cond.arrayClass (xw_aT (xw_ay 115)) ∈ lw_all := q183
theorem xsA_116 : 64 ≤ 116 ∧ xw_ay 116 < 3 := by decide
theorem xsB_116 : Cond.arrayClass (xw_aT (xw_ay 116)) ∈ lw_all := q183
theorem xsA_117 : 64 ≤ 117 ∧ 4 ≤ xw_ay 117 ∧ xw_ay 117 < 9 := by decide
theorem xsA_118 : 64 ≤ 118 ∧ xw_ay 118 < 3 := by decide
theorem xsB_118 : Cond.arrayClass (xw_aT (xw_ay 118)) ∈ lw_all := q183
theorem xsA_119 : 64 ≤ 119 ∧ xw_ay 119 < 3 := by decide
theorem xsB_119 : Cond.arrayClass (xw_aT (xw_ay 119)) ∈ lw_all := q183
theorem xsA_120 : 64 ≤ 120 ∧ xw_ay 120 < 3 := by decide
theorem xsB_120 : Cond.arrayClass (xw_aT (xw_ay 120)) ∈ lw_all := q183
theorem xsA_121 : 64 ≤ 121 ∧ xw_ay 121 < 3 := by decide
theorem xsB_121 : Cond.arrayClass (xw_aT (xw_ay 121)) ∈ lw_all := q183
theorem xsA_122 : 64 ≤ 122 ∧ 4 ≤ xw_ay 122 ∧ xw_ay 122 < 9 := by decide
theorem xsA_123 : 64 ≤ 123 ∧ 4 ≤ xw_ay 123 ∧ xw_ay 123 < 9 := by decide
theorem xsA_124 : 64 ≤ 124 ∧ 4 ≤ xw_ay 124 ∧ xw_ay 124 < 9 := by decide
theorem xsA_125 : 64 ≤ 125 ∧ xw_ay 125 < 3 := by decide
theorem xsB_125 : Cond.arrayClass (xw_aT (xw_ay 125)) ∈ lw_all := q183
theorem xsA_126 : 64 ≤ 126 ∧ xw_ay 126 < 3 := by decide
theorem xsB_126 : Cond.arrayClass (xw_aT (xw_ay 126)) ∈ lw_all := q183
theorem xsA_127 : 64 ≤ 127 ∧ xw_ay 127 < 3 := by decide
theorem xsB_127 : Cond.arrayClass (xw_aT (xw_ay 127)) ∈ lw_all := q183
theorem xsA_128 : 64 ≤ 128 ∧ xw_ay 128 < 3 := by decide
theorem xsB_128 : Cond.arrayClass (xw_aT (xw_ay 128)) ∈ lw_all := q183
theorem xsA_129 : 64 ≤ 129 ∧ xw_ay 129 < 3 := by decide
theorem xsB_129 : Cond.arrayClass (xw_aT (xw_ay 129)) ∈ lw_all := q183
theorem xsA_130 : 64 ≤ 130 ∧ xw_ay 130 < 3 := by decide
theorem xsB_130 : Cond.arrayClass (xw_aT (xw_ay 130)) ∈ lw_all := q183
theorem xsA_131 : 64 ≤ 131 ∧ xw_ay 131 < 3 := by decide
theorem xsB_131 : Cond.arrayClass (xw_aT (xw_ay 131)) ∈ lw_all := q183
theorem xsA_132 : 64 ≤ 132 ∧ xw_ay 132 < 3 := by decide
theorem xsB_132 : Cond.arrayClass (xw_aT (xw_ay 132)) ∈ lw_all := q183
theorem xsA_133 : 64 ≤ 133 ∧ xw_ay 133 < 3 := by decide
theorem xsB_133 : Cond.arrayClass (xw_aT (xw_ay 133)) ∈ lw_all := q183
theorem xsl_0 : ("KINDS", "[J", 0) ∈ xw_sl := List.mem_of_getElem? (i := 0) rfl
theorem xsl_1 : ("HAND_NAMES", "[J", 1) ∈ xw_sl := List.mem_of_getElem? (i := 1) rfl
theorem xsl_2 : ("TERM_NAMES", "[J", 2) ∈ xw_sl := List.mem_of_getElem? (i := 2) rfl
theorem xsl_3 : ("WAYS", "[J", 3) ∈ xw_sl := List.mem_of_getElem? (i := 3) rfl
theorem xsl_4 : ("WHENS", "[J", 4) ∈ xw_sl := List.mem_of_getElem? (i := 4) rfl
theorem xsl_5 : ("RULE_NAMES", "[J", 5) ∈ xw_sl := List.mem_of_getElem? (i := 5) rfl
theorem xsl_6 : ("YES_WAYS", "[J", 6) ∈ xw_sl := List.mem_of_getElem? (i := 6) rfl
theorem xsl_7 : ("HOLDS", "[J", 7) ∈ xw_sl := List.mem_of_getElem? (i := 7) rfl
theorem xsl_8 : ("BUTS", "[J", 8) ∈ xw_sl := List.mem_of_getElem? (i := 8) rfl
theorem xsl_9 : ("FORMS", "[J", 9) ∈ xw_sl := List.mem_of_getElem? (i := 9) rfl
theorem xsl_10 : ("DEEDS", "[J", 10) ∈ xw_sl := List.mem_of_getElem? (i := 10) rfl
theorem xsl_11 : ("RISKS", "[J", 11) ∈ xw_sl := List.mem_of_getElem? (i := 11) rfl
theorem xsl_12 : ("AT_ONCE", "LCrossingWords$Span;", 12) ∈ xw_sl := List.mem_of_getElem? (i := 12) rfl
theorem xll_HOLD : ("HOLD", (1752132708 : Int64)) ∈ xw_ll := List.mem_of_getElem? (i := 0) rfl
theorem xll_GIVEN : ("GIVEN", (444150998382 : Int64)) ∈ xw_ll := List.mem_of_getElem? (i := 1) rfl
theorem xll_BUT_WORD : ("BUT_WORD", (6452596 : Int64)) ∈ xw_ll := List.mem_of_getElem? (i := 2) rfl
theorem xll_AT : ("AT", (24948 : Int64)) ∈ xw_ll := List.mem_of_getElem? (i := 3) rfl
theorem xll_AFTER : ("AFTER", (418330731890 : Int64)) ∈ xw_ll := List.mem_of_getElem? (i := 4) rfl
theorem xll_READ_WORD : ("READ_WORD", (1919246692 : Int64)) ∈ xw_ll := List.mem_of_getElem? (i := 5) rfl
theorem xll_LOST : ("LOST", (1819243380 : Int64)) ∈ xw_ll := List.mem_of_getElem? (i := 6) rfl
theorem xll_TO : ("TO", (29807 : Int64)) ∈ xw_ll := List.mem_of_getElem? (i := 7) rfl
theorem xd_X0_areApart : xw_dsc yX0_areApart 4 := ⟨by decide, by decide, by decide +kernel⟩
theorem xd_X0_find : xw_dsc yX0_find 2 := ⟨by decide, by decide, by decide +kernel⟩
theorem xd_X0_hasGiven : xw_dsc yX0_hasGiven 2 := ⟨by decide, by decide, by decide +kernel⟩
theorem xd_X0_isCase : xw_dsc yX0_isCase 1 := ⟨by decide, by decide, by decide +kernel⟩
theorem xd_X0_isCombo : xw_dsc yX0_isCombo 2 := ⟨by decide, by decide, by decide +kernel⟩
theorem xd_X0_isHand : xw_dsc yX0_isHand 1 := ⟨by decide, by decide, by decide +kernel⟩
theorem xd_X0_isIn : xw_dsc yX0_isIn 3 := ⟨by decide, by decide, by decide +kernel⟩
theorem xd_X0_isLaw : xw_dsc yX0_isLaw 1 := ⟨by decide, by decide, by decide +kernel⟩
theorem xd_X0_isRun : xw_dsc yX0_isRun 3 := ⟨by decide, by decide, by decide +kernel⟩
theorem xd_X0_isSaying : xw_dsc yX0_isSaying 2 := ⟨by decide, by decide, by decide +kernel⟩
theorem xd_X0_isSure : xw_dsc yX0_isSure 2 := ⟨by decide, by decide, by decide +kernel⟩
theorem xd_X0_isTaken : xw_dsc yX0_isTaken 1 := ⟨by decide, by decide, by decide +kernel⟩
theorem xd_X0_ran : xw_dsc yX0_ran 3 := ⟨by decide, by decide, by decide +kernel⟩
theorem xd_X0_rulesOf : xw_dsc yX0_rulesOf 1 := ⟨by decide, by decide, by decide +kernel⟩
theorem xd_X0_tells : xw_dsc yX0_tells 2 := ⟨by decide, by decide, by decide +kernel⟩
theorem xd_X0_with : xw_dsc yX0_with 4 := ⟨by decide, by decide, by decide +kernel⟩
theorem xd_X9_init : xw_dsc yX9_init 3 := ⟨by decide, by decide, by decide +kernel⟩
theorem xd_X9_said : xw_dsc yX9_said 0 := ⟨by decide, by decide, by decide +kernel⟩
theorem xd_X7_init : xw_dsc yX7_init 3 := ⟨by decide, by decide, by decide +kernel⟩
theorem xd_X7_kind : xw_dsc yX7_kind 0 := ⟨by decide, by decide, by decide +kernel⟩
theorem xd_X7_to : xw_dsc yX7_to 0 := ⟨by decide, by decide, by decide +kernel⟩
theorem xd_X13_init : xw_dsc yX13_init 3 := ⟨by decide, by decide, by decide +kernel⟩
theorem xd_X13_kind : xw_dsc yX13_kind 0 := ⟨by decide, by decide, by decide +kernel⟩
theorem xd_X11_init : xw_dsc yX11_init 4 := ⟨by decide, by decide, by decide +kernel⟩
theorem xd_X11_isNo : xw_dsc yX11_isNo 1 := ⟨by decide, by decide, by decide +kernel⟩
theorem xd_X11_isOffer : xw_dsc yX11_isOffer 1 := ⟨by decide, by decide, by decide +kernel⟩
theorem xd_X11_isSmall : xw_dsc yX11_isSmall 1 := ⟨by decide, by decide, by decide +kernel⟩
theorem xd_X11_isYes : xw_dsc yX11_isYes 1 := ⟨by decide, by decide, by decide +kernel⟩
theorem xd_X11_kind : xw_dsc yX11_kind 0 := ⟨by decide, by decide, by decide +kernel⟩
theorem xd_X11_own : xw_dsc yX11_own 1 := ⟨by decide, by decide, by decide +kernel⟩
theorem xd_X11_term : xw_dsc yX11_term 1 := ⟨by decide, by decide, by decide +kernel⟩
theorem xd_X11_to : xw_dsc yX11_to 0 := ⟨by decide, by decide, by decide +kernel⟩
theorem xd_X5_init : xw_dsc yX5_init 0 := ⟨by decide, by decide, by decide +kernel⟩
theorem xd_X5_adds : xw_dsc yX5_adds 1 := ⟨by decide, by decide, by decide +kernel⟩
theorem xd_X5_asks : xw_dsc yX5_asks 3 := ⟨by decide, by decide, by decide +kernel⟩
theorem xd_X5_combos : xw_dsc yX5_combos 0 := ⟨by decide, by decide, by decide +kernel⟩
theorem xd_X5_digit : xw_dsc yX5_digit 2 := ⟨by decide, by decide, by decide +kernel⟩
theorem xd_X5_is : xw_dsc yX5_is 1 := ⟨by decide, by decide, by decide +kernel⟩
theorem xd_X5_isLooked : xw_dsc yX5_isLooked 0 := ⟨by decide, by decide, by decide +kernel⟩
theorem xd_X4_init : xw_dsc yX4_init 4 := ⟨by decide, by decide, by decide +kernel⟩
theorem xd_X4_answers : xw_dsc yX4_answers 2 := ⟨by decide, by decide, by decide +kernel⟩
theorem xd_X4_but : xw_dsc yX4_but 3 := ⟨by decide, by decide, by decide +kernel⟩
theorem xd_X4_hasRoom : xw_dsc yX4_hasRoom 0 := ⟨by decide, by decide, by decide +kernel⟩
theorem xd_X4_isWhole : xw_dsc yX4_isWhole 0 := ⟨by decide, by decide, by decide +kernel⟩
theorem xd_X4_kindOfHand : xw_dsc yX4_kindOfHand 1 := ⟨by decide, by decide, by decide +kernel⟩
theorem xd_X4_maySay : xw_dsc yX4_maySay 3 := ⟨by decide, by decide, by decide +kernel⟩
theorem xd_X4_opens : xw_dsc yX4_opens 2 := ⟨by decide, by decide, by decide +kernel⟩
theorem xd_X4_said : xw_dsc yX4_said 2 := ⟨by decide, by decide, by decide +kernel⟩
theorem xd_X4_span : xw_dsc yX4_span 1 := ⟨by decide, by decide, by decide +kernel⟩
theorem xd_X4_statement : xw_dsc yX4_statement 0 := ⟨by decide, by decide, by decide +kernel⟩
theorem xd_X4_terms : xw_dsc yX4_terms 0 := ⟨by decide, by decide, by decide +kernel⟩
theorem xd_X4_times : xw_dsc yX4_times 0 := ⟨by decide, by decide, by decide +kernel⟩
theorem xd_X14_init : xw_dsc yX14_init 3 := ⟨by decide, by decide, by decide +kernel⟩
theorem xd_X14_isYes : xw_dsc yX14_isYes 1 := ⟨by decide, by decide, by decide +kernel⟩
theorem xd_X14_kind : xw_dsc yX14_kind 0 := ⟨by decide, by decide, by decide +kernel⟩
theorem xd_X21_init : xw_dsc yX21_init 1 := ⟨by decide, by decide, by decide +kernel⟩
theorem xd_X21_puts : xw_dsc yX21_puts 1 := ⟨by decide, by decide, by decide +kernel⟩
theorem xd_X18_init : xw_dsc yX18_init 3 := ⟨by decide, by decide, by decide +kernel⟩
theorem xd_X18_hasRoom : xw_dsc yX18_hasRoom 0 := ⟨by decide, by decide, by decide +kernel⟩
theorem xd_X18_isWhole : xw_dsc yX18_isWhole 0 := ⟨by decide, by decide, by decide +kernel⟩
theorem xd_X18_statement : xw_dsc yX18_statement 0 := ⟨by decide, by decide, by decide +kernel⟩
theorem xd_X18_yes : xw_dsc yX18_yes 0 := ⟨by decide, by decide, by decide +kernel⟩
theorem xd_X12_init : xw_dsc yX12_init 3 := ⟨by decide, by decide, by decide +kernel⟩
theorem xd_X12_answers : xw_dsc yX12_answers 0 := ⟨by decide, by decide, by decide +kernel⟩
theorem xd_X12_isNo : xw_dsc yX12_isNo 1 := ⟨by decide, by decide, by decide +kernel⟩
theorem xd_X12_kind : xw_dsc yX12_kind 0 := ⟨by decide, by decide, by decide +kernel⟩
theorem xd_X8_init : xw_dsc yX8_init 4 := ⟨by decide, by decide, by decide +kernel⟩
theorem xd_X8_given : xw_dsc yX8_given 0 := ⟨by decide, by decide, by decide +kernel⟩
theorem xd_X8_hold : xw_dsc yX8_hold 0 := ⟨by decide, by decide, by decide +kernel⟩
theorem xd_X8_isOffer : xw_dsc yX8_isOffer 1 := ⟨by decide, by decide, by decide +kernel⟩
theorem xd_X8_kind : xw_dsc yX8_kind 0 := ⟨by decide, by decide, by decide +kernel⟩
theorem xd_X8_own : xw_dsc yX8_own 1 := ⟨by decide, by decide, by decide +kernel⟩
theorem xd_X8_to : xw_dsc yX8_to 0 := ⟨by decide, by decide, by decide +kernel⟩
theorem xd_X3_init : xw_dsc yX3_init 2 := ⟨by decide, by decide, by decide +kernel⟩
theorem xd_X3_isDigit : xw_dsc yX3_isDigit 1 := ⟨by decide, by decide, by decide +kernel⟩
theorem xd_X3_isLetter : xw_dsc yX3_isLetter 1 := ⟨by decide, by decide, by decide +kernel⟩
theorem xd_X3_look : xw_dsc yX3_look 0 := ⟨by decide, by decide, by decide +kernel⟩
theorem xd_X3_maybe : xw_dsc yX3_maybe 1 := ⟨by decide, by decide, by decide +kernel⟩
theorem xd_X3_name : xw_dsc yX3_name 1 := ⟨by decide, by decide, by decide +kernel⟩
theorem xd_X3_needs : xw_dsc yX3_needs 2 := ⟨by decide, by decide, by decide +kernel⟩
theorem xd_X3_number : xw_dsc yX3_number 2 := ⟨by decide, by decide, by decide +kernel⟩
theorem xd_X3_pass : xw_dsc yX3_pass 0 := ⟨by decide, by decide, by decide +kernel⟩
theorem xd_X3_place : xw_dsc yX3_place 0 := ⟨by decide, by decide, by decide +kernel⟩
theorem xd_X3_reads : xw_dsc yX3_reads 0 := ⟨by decide, by decide, by decide +kernel⟩
theorem xd_X3_takes : xw_dsc yX3_takes 1 := ⟨by decide, by decide, by decide +kernel⟩
theorem xd_X20_init : xw_dsc yX20_init 0 := ⟨by decide, by decide, by decide +kernel⟩
theorem xd_X20_at : xw_dsc yX20_at 1 := ⟨by decide, by decide, by decide +kernel⟩
theorem xd_X20_isDeedYes : xw_dsc yX20_isDeedYes 0 := ⟨by decide, by decide, by decide +kernel⟩
theorem xd_X20_isSmall : xw_dsc yX20_isSmall 0 := ⟨by decide, by decide, by decide +kernel⟩
theorem xd_X20_takes : xw_dsc yX20_takes 1 := ⟨by decide, by decide, by decide +kernel⟩
theorem xd_X20_yesWhen : xw_dsc yX20_yesWhen 1 := ⟨by decide, by decide, by decide +kernel⟩
theorem xd_X1_init : xw_dsc yX1_init 1 := ⟨by decide, by decide, by decide +kernel⟩
theorem xd_X1_bears : xw_dsc yX1_bears 1 := ⟨by decide, by decide, by decide +kernel⟩
theorem xd_X1_can : xw_dsc yX1_can 2 := ⟨by decide, by decide, by decide +kernel⟩
theorem xd_X1_does : xw_dsc yX1_does 1 := ⟨by decide, by decide, by decide +kernel⟩
theorem xd_X1_ends : xw_dsc yX1_ends 3 := ⟨by decide, by decide, by decide +kernel⟩
theorem xd_X1_hour : xw_dsc yX1_hour 2 := ⟨by decide, by decide, by decide +kernel⟩
theorem xd_X1_isBargain : xw_dsc yX1_isBargain 0 := ⟨by decide, by decide, by decide +kernel⟩
theorem xd_X1_isEnd : xw_dsc yX1_isEnd 2 := ⟨by decide, by decide, by decide +kernel⟩
theorem xd_X1_isOpen : xw_dsc yX1_isOpen 2 := ⟨by decide, by decide, by decide +kernel⟩
theorem xd_X1_lays : xw_dsc yX1_lays 2 := ⟨by decide, by decide, by decide +kernel⟩
theorem xd_X1_makes : xw_dsc yX1_makes 1 := ⟨by decide, by decide, by decide +kernel⟩
theorem xd_X1_opens : xw_dsc yX1_opens 1 := ⟨by decide, by decide, by decide +kernel⟩
theorem xd_X1_passesOn : xw_dsc yX1_passesOn 0 := ⟨by decide, by decide, by decide +kernel⟩
theorem xd_X1_runs : xw_dsc yX1_runs 3 := ⟨by decide, by decide, by decide +kernel⟩
theorem xd_X1_silence : xw_dsc yX1_silence 1 := ⟨by decide, by decide, by decide +kernel⟩
theorem xd_X1_takes : xw_dsc yX1_takes 3 := ⟨by decide, by decide, by decide +kernel⟩
theorem xd_X1_term : xw_dsc yX1_term 1 := ⟨by decide, by decide, by decide +kernel⟩
theorem xd_X6_init : xw_dsc yX6_init 2 := ⟨by decide, by decide, by decide +kernel⟩
theorem xd_X6_answers : xw_dsc yX6_answers 0 := ⟨by decide, by decide, by decide +kernel⟩
theorem xd_X6_given : xw_dsc yX6_given 0 := ⟨by decide, by decide, by decide +kernel⟩
theorem xd_X6_hold : xw_dsc yX6_hold 0 := ⟨by decide, by decide, by decide +kernel⟩
theorem xd_X6_isNo : xw_dsc yX6_isNo 1 := ⟨by decide, by decide, by decide +kernel⟩
theorem xd_X6_isOffer : xw_dsc yX6_isOffer 1 := ⟨by decide, by decide, by decide +kernel⟩
theorem xd_X6_isSaid : xw_dsc yX6_isSaid 1 := ⟨by decide, by decide, by decide +kernel⟩
theorem xd_X6_isYes : xw_dsc yX6_isYes 1 := ⟨by decide, by decide, by decide +kernel⟩
theorem xd_X6_own : xw_dsc yX6_own 1 := ⟨by decide, by decide, by decide +kernel⟩
theorem xd_X6_said : xw_dsc yX6_said 0 := ⟨by decide, by decide, by decide +kernel⟩
theorem xd_X6_term : xw_dsc yX6_term 1 := ⟨by decide, by decide, by decide +kernel⟩
theorem xd_X6_to : xw_dsc yX6_to 0 := ⟨by decide, by decide, by decide +kernel⟩
theorem xd_X15_init : xw_dsc yX15_init 3 := ⟨by decide, by decide, by decide +kernel⟩
theorem xd_X15_kind : xw_dsc yX15_kind 0 := ⟨by decide, by decide, by decide +kernel⟩
theorem xd_X16_init : xw_dsc yX16_init 2 := ⟨by decide, by decide, by decide +kernel⟩
theorem xd_X16_many : xw_dsc yX16_many 0 := ⟨by decide, by decide, by decide +kernel⟩
theorem xd_X19_init : xw_dsc yX19_init 0 := ⟨by decide, by decide, by decide +kernel⟩
theorem xd_X19_adds : xw_dsc yX19_adds 2 := ⟨by decide, by decide, by decide +kernel⟩
theorem xd_X17_init : xw_dsc yX17_init 6 := ⟨by decide, by decide, by decide +kernel⟩
theorem xd_X17_lost : xw_dsc yX17_lost 0 := ⟨by decide, by decide, by decide +kernel⟩
theorem xd_X17_wired : xw_dsc yX17_wired 0 := ⟨by decide, by decide, by decide +kernel⟩
theorem xd_X10_init : xw_dsc yX10_init 3 := ⟨by decide, by decide, by decide +kernel⟩
theorem xd_X10_answers : xw_dsc yX10_answers 0 := ⟨by decide, by decide, by decide +kernel⟩
theorem xd_X10_isYes : xw_dsc yX10_isYes 1 := ⟨by decide, by decide, by decide +kernel⟩
theorem xd_X10_kind : xw_dsc yX10_kind 0 := ⟨by decide, by decide, by decide +kernel⟩
theorem xd_X2_backHour : xw_dsc yX2_backHour 2 := ⟨by decide, by decide, by decide +kernel⟩
theorem xd_X2_bargainWord : xw_dsc yX2_bargainWord 1 := ⟨by decide, by decide, by decide +kernel⟩
theorem xd_X2_begins : xw_dsc yX2_begins 1 := ⟨by decide, by decide, by decide +kernel⟩
theorem xd_X2_bitsOf : xw_dsc yX2_bitsOf 1 := ⟨by decide, by decide, by decide +kernel⟩
theorem xd_X2_bring : xw_dsc yX2_bring 1 := ⟨by decide, by decide, by decide +kernel⟩
theorem xd_X2_bringPlain : xw_dsc yX2_bringPlain 1 := ⟨by decide, by decide, by decide +kernel⟩
theorem xd_X2_canAt : xw_dsc yX2_canAt 2 := ⟨by decide, by decide, by decide +kernel⟩
theorem xd_X2_copies : xw_dsc yX2_copies 2 := ⟨by decide, by decide, by decide +kernel⟩
theorem xd_X2_ends : xw_dsc yX2_ends 0 := ⟨by decide, by decide, by decide +kernel⟩
theorem xd_X2_endsBy : xw_dsc yX2_endsBy 3 := ⟨by decide, by decide, by decide +kernel⟩
theorem xd_X2_errs : xw_dsc yX2_errs 0 := ⟨by decide, by decide, by decide +kernel⟩
theorem xd_X2_findApart : xw_dsc yX2_findApart 3 := ⟨by decide, by decide, by decide +kernel⟩
theorem xd_X2_findAsked : xw_dsc yX2_findAsked 0 := ⟨by decide, by decide, by decide +kernel⟩
theorem xd_X2_findBargain : xw_dsc yX2_findBargain 0 := ⟨by decide, by decide, by decide +kernel⟩
theorem xd_X2_findOffers : xw_dsc yX2_findOffers 0 := ⟨by decide, by decide, by decide +kernel⟩
theorem xd_X2_handHere : xw_dsc yX2_handHere 1 := ⟨by decide, by decide, by decide +kernel⟩
theorem xd_X2_here : xw_dsc yX2_here 0 := ⟨by decide, by decide, by decide +kernel⟩
theorem xd_X2_hours : xw_dsc yX2_hours 1 := ⟨by decide, by decide, by decide +kernel⟩
theorem xd_X2_is : xw_dsc yX2_is 1 := ⟨by decide, by decide, by decide +kernel⟩
theorem xd_X2_isAnswered : xw_dsc yX2_isAnswered 2 := ⟨by decide, by decide, by decide +kernel⟩
theorem xd_X2_isCase : xw_dsc yX2_isCase 1 := ⟨by decide, by decide, by decide +kernel⟩
theorem xd_X2_isLaw : xw_dsc yX2_isLaw 1 := ⟨by decide, by decide, by decide +kernel⟩
theorem xd_X2_isLooked : xw_dsc yX2_isLooked 0 := ⟨by decide, by decide, by decide +kernel⟩
theorem xd_X2_isNo : xw_dsc yX2_isNo 1 := ⟨by decide, by decide, by decide +kernel⟩
theorem xd_X2_isOffer : xw_dsc yX2_isOffer 1 := ⟨by decide, by decide, by decide +kernel⟩
theorem xd_X2_isOffering : xw_dsc yX2_isOffering 1 := ⟨by decide, by decide, by decide +kernel⟩
theorem xd_X2_isOpenAt : xw_dsc yX2_isOpenAt 2 := ⟨by decide, by decide, by decide +kernel⟩
theorem xd_X2_isSaid : xw_dsc yX2_isSaid 3 := ⟨by decide, by decide, by decide +kernel⟩
theorem xd_X2_isSmall : xw_dsc yX2_isSmall 1 := ⟨by decide, by decide, by decide +kernel⟩
theorem xd_X2_isSureNow : xw_dsc yX2_isSureNow 0 := ⟨by decide, by decide, by decide +kernel⟩
theorem xd_X2_isTakenBack : xw_dsc yX2_isTakenBack 2 := ⟨by decide, by decide, by decide +kernel⟩
theorem xd_X2_isWritten : xw_dsc yX2_isWritten 2 := ⟨by decide, by decide, by decide +kernel⟩
theorem xd_X2_isYes : xw_dsc yX2_isYes 1 := ⟨by decide, by decide, by decide +kernel⟩
theorem xd_X2_known : xw_dsc yX2_known 2 := ⟨by decide, by decide, by decide +kernel⟩
theorem xd_X2_lays : xw_dsc yX2_lays 2 := ⟨by decide, by decide, by decide +kernel⟩
theorem xd_X2_looks : xw_dsc yX2_looks 1 := ⟨by decide, by decide, by decide +kernel⟩
theorem xd_X2_looksAt : xw_dsc yX2_looksAt 3 := ⟨by decide, by decide, by decide +kernel⟩
theorem xd_X2_mustBe : xw_dsc yX2_mustBe 1 := ⟨by decide, by decide, by decide +kernel⟩
theorem xd_X2_next : xw_dsc yX2_next 0 := ⟨by decide, by decide, by decide +kernel⟩
theorem xd_X2_noHour : xw_dsc yX2_noHour 2 := ⟨by decide, by decide, by decide +kernel⟩
theorem xd_X2_numeral : xw_dsc yX2_numeral 2 := ⟨by decide, by decide, by decide +kernel⟩
theorem xd_X2_offersTo : xw_dsc yX2_offersTo 3 := ⟨by decide, by decide, by decide +kernel⟩
theorem xd_X2_one : xw_dsc yX2_one 3 := ⟨by decide, by decide, by decide +kernel⟩
theorem xd_X2_readRule : xw_dsc yX2_readRule 1 := ⟨by decide, by decide, by decide +kernel⟩
theorem xd_X2_readRules : xw_dsc yX2_readRules 1 := ⟨by decide, by decide, by decide +kernel⟩
theorem xd_X2_readSaying : xw_dsc yX2_readSaying 2 := ⟨by decide, by decide, by decide +kernel⟩
theorem xd_X2_readSayings : xw_dsc yX2_readSayings 2 := ⟨by decide, by decide, by decide +kernel⟩
theorem xd_X2_saidHere : xw_dsc yX2_saidHere 4 := ⟨by decide, by decide, by decide +kernel⟩
theorem xd_X2_sayingsInAll : xw_dsc yX2_sayingsInAll 0 := ⟨by decide, by decide, by decide +kernel⟩
theorem xd_X2_span : xw_dsc yX2_span 3 := ⟨by decide, by decide, by decide +kernel⟩
theorem xd_X2_takes : xw_dsc yX2_takes 1 := ⟨by decide, by decide, by decide +kernel⟩
theorem xd_X2_tells : xw_dsc yX2_tells 1 := ⟨by decide, by decide, by decide +kernel⟩
theorem xd_X2_times : xw_dsc yX2_times 1 := ⟨by decide, by decide, by decide +kernel⟩
theorem xd_X2_wayHere : xw_dsc yX2_wayHere 0 := ⟨by decide, by decide, by decide +kernel⟩
theorem xd_X2_whatHere : xw_dsc yX2_whatHere 0 := ⟨by decide, by decide, by decide +kernel⟩
theorem xd_X2_when : xw_dsc yX2_when 2 := ⟨by decide, by decide, by decide +kernel⟩
theorem xd_X2_whenHere : xw_dsc yX2_whenHere 0 := ⟨by decide, by decide, by decide +kernel⟩
theorem xd_X2_withBargain : xw_dsc yX2_withBargain 0 := ⟨by decide, by decide, by decide +kernel⟩
theorem xd_X2_within : xw_dsc yX2_within 3 := ⟨by decide, by decide, by decide +kernel⟩
theorem xd_X2_wordHere : xw_dsc yX2_wordHere 0 := ⟨by decide, by decide, by decide +kernel⟩
theorem xd_X2_wordOf : xw_dsc yX2_wordOf 2 := ⟨by decide, by decide, by decide +kernel⟩
theorem xd_X2_words : xw_dsc yX2_words 2 := ⟨by decide, by decide, by decide +kernel⟩
theorem xd_X2_yesHour : xw_dsc yX2_yesHour 1 := ⟨by decide, by decide, by decide +kernel⟩
theorem xd_J1_bitCount : xw_dsc yJ1_bitCount 1 := ⟨by decide, by decide, by decide +kernel⟩
theorem xD_CrossingWords_Answer_said___LCrossingWords_Saying_ : xw_dsc ⟨"CrossingWords$Answer", "said", "()LCrossingWords$Saying;"⟩ 0 := ⟨by decide, by decide, by decide +kernel⟩
theorem xD_CrossingWords_Reader_hasRoom___Z : xw_dsc ⟨"CrossingWords$Reader", "hasRoom", "()Z"⟩ 0 := ⟨by decide, by decide, by decide +kernel⟩
theorem xD_CrossingWords_Reader_isWhole___Z : xw_dsc ⟨"CrossingWords$Reader", "isWhole", "()Z"⟩ 0 := ⟨by decide, by decide, by decide +kernel⟩
theorem xD_CrossingWords_Reader_maybe___J_I : xw_dsc ⟨"CrossingWords$Reader", "maybe", "([J)I"⟩ 1 := ⟨by decide, by decide, by decide +kernel⟩
theorem xD_CrossingWords_Reader_name___J_I : xw_dsc ⟨"CrossingWords$Reader", "name", "([J)I"⟩ 1 := ⟨by decide, by decide, by decide +kernel⟩
theorem xD_CrossingWords_Reader_needs__IJ_V : xw_dsc ⟨"CrossingWords$Reader", "needs", "(IJ)V"⟩ 2 := ⟨by decide, by decide, by decide +kernel⟩
theorem xD_CrossingWords_Reader_number__II_I : xw_dsc ⟨"CrossingWords$Reader", "number", "(II)I"⟩ 2 := ⟨by decide, by decide, by decide +kernel⟩
theorem xD_CrossingWords_Reader_pass___V : xw_dsc ⟨"CrossingWords$Reader", "pass", "()V"⟩ 0 := ⟨by decide, by decide, by decide +kernel⟩
theorem xD_CrossingWords_Reader_place___I : xw_dsc ⟨"CrossingWords$Reader", "place", "()I"⟩ 0 := ⟨by decide, by decide, by decide +kernel⟩
theorem xD_CrossingWords_Reader_reads___Z : xw_dsc ⟨"CrossingWords$Reader", "reads", "()Z"⟩ 0 := ⟨by decide, by decide, by decide +kernel⟩
theorem xD_CrossingWords_Reader_statement___V : xw_dsc ⟨"CrossingWords$Reader", "statement", "()V"⟩ 0 := ⟨by decide, by decide, by decide +kernel⟩
theorem xD_CrossingWords_Reader_takes__J_Z : xw_dsc ⟨"CrossingWords$Reader", "takes", "(J)Z"⟩ 1 := ⟨by decide, by decide, by decide +kernel⟩
theorem xD_CrossingWords_Saying_answers___Z : xw_dsc ⟨"CrossingWords$Saying", "answers", "()Z"⟩ 0 := ⟨by decide, by decide, by decide +kernel⟩
theorem xD_CrossingWords_Saying_given___I : xw_dsc ⟨"CrossingWords$Saying", "given", "()I"⟩ 0 := ⟨by decide, by decide, by decide +kernel⟩
theorem xD_CrossingWords_Saying_hold___I : xw_dsc ⟨"CrossingWords$Saying", "hold", "()I"⟩ 0 := ⟨by decide, by decide, by decide +kernel⟩
theorem xD_CrossingWords_Saying_isNo__LCrossingWords_Rules__Z : xw_dsc ⟨"CrossingWords$Saying", "isNo", "(LCrossingWords$Rules;)Z"⟩ 1 := ⟨by decide, by decide, by decide +kernel⟩
theorem xD_CrossingWords_Saying_isOffer__LCrossingWords_Rules__Z : xw_dsc ⟨"CrossingWords$Saying", "isOffer", "(LCrossingWords$Rules;)Z"⟩ 1 := ⟨by decide, by decide, by decide +kernel⟩
theorem xD_CrossingWords_Saying_isSaid__LCrossingWords_Saying__Z : xw_dsc ⟨"CrossingWords$Saying", "isSaid", "(LCrossingWords$Saying;)Z"⟩ 1 := ⟨by decide, by decide, by decide +kernel⟩
theorem xD_CrossingWords_Saying_isYes__LCrossingWords_Rules__Z : xw_dsc ⟨"CrossingWords$Saying", "isYes", "(LCrossingWords$Rules;)Z"⟩ 1 := ⟨by decide, by decide, by decide +kernel⟩
theorem xD_CrossingWords_Saying_kind___I : xw_dsc ⟨"CrossingWords$Saying", "kind", "()I"⟩ 0 := ⟨by decide, by decide, by decide +kernel⟩
theorem xD_CrossingWords_Saying_own__I_I : xw_dsc ⟨"CrossingWords$Saying", "own", "(I)I"⟩ 1 := ⟨by decide, by decide, by decide +kernel⟩
theorem xD_CrossingWords_Saying_said___LCrossingWords_Saying_ : xw_dsc ⟨"CrossingWords$Saying", "said", "()LCrossingWords$Saying;"⟩ 0 := ⟨by decide, by decide, by decide +kernel⟩
theorem xD_CrossingWords_Saying_term__I_I : xw_dsc ⟨"CrossingWords$Saying", "term", "(I)I"⟩ 1 := ⟨by decide, by decide, by decide +kernel⟩
theorem xD_CrossingWords_Saying_to___I : xw_dsc ⟨"CrossingWords$Saying", "to", "()I"⟩ 0 := ⟨by decide, by decide, by decide +kernel⟩
theorem xw_out0_5 {x : Int32} (h0 : ¬ x = 0) (h1 : ¬ x = 1) (h2 : ¬ x = 2) (h3 : ¬ x = 3) (h4 : ¬ x = 4) (h5 : ¬ x = 5) : x.toInt < 0 ∨ 5 < x.toInt := by
  have g0 : x.toInt ≠ 0 := fun z => h0 (Int32.toInt_inj.mp (z.trans (by decide)))
  have g1 : x.toInt ≠ 1 := fun z => h1 (Int32.toInt_inj.mp (z.trans (by decide)))
  have g2 : x.toInt ≠ 2 := fun z => h2 (Int32.toInt_inj.mp (z.trans (by decide)))
  have g3 : x.toInt ≠ 3 := fun z => h3 (Int32.toInt_inj.mp (z.trans (by decide)))
  have g4 : x.toInt ≠ 4 := fun z => h4 (Int32.toInt_inj.mp (z.trans (by decide)))
  have g5 : x.toInt ≠ 5 := fun z => h5 (Int32.toInt_inj.mp (z.trans (by decide)))
  omega
theorem xw_out0_6 {x : Int32} (h0 : ¬ x = 0) (h1 : ¬ x = 1) (h2 : ¬ x = 2) (h3 : ¬ x = 3) (h4 : ¬ x = 4) (h5 : ¬ x = 5) (h6 : ¬ x = 6) : x.toInt < 0 ∨ 6 < x.toInt := by
  have g0 : x.toInt ≠ 0 := fun z => h0 (Int32.toInt_inj.mp (z.trans (by decide)))
  have g1 : x.toInt ≠ 1 := fun z => h1 (Int32.toInt_inj.mp (z.trans (by decide)))
  have g2 : x.toInt ≠ 2 := fun z => h2 (Int32.toInt_inj.mp (z.trans (by decide)))
  have g3 : x.toInt ≠ 3 := fun z => h3 (Int32.toInt_inj.mp (z.trans (by decide)))
  have g4 : x.toInt ≠ 4 := fun z => h4 (Int32.toInt_inj.mp (z.trans (by decide)))
  have g5 : x.toInt ≠ 5 := fun z => h5 (Int32.toInt_inj.mp (z.trans (by decide)))
  have g6 : x.toInt ≠ 6 := fun z => h6 (Int32.toInt_inj.mp (z.trans (by decide)))
  omega
theorem xw_out0_9 {x : Int32} (h0 : ¬ x = 0) (h1 : ¬ x = 1) (h2 : ¬ x = 2) (h3 : ¬ x = 3) (h4 : ¬ x = 4) (h5 : ¬ x = 5) (h6 : ¬ x = 6) (h7 : ¬ x = 7) (h8 : ¬ x = 8) (h9 : ¬ x = 9) : x.toInt < 0 ∨ 9 < x.toInt := by
  have g0 : x.toInt ≠ 0 := fun z => h0 (Int32.toInt_inj.mp (z.trans (by decide)))
  have g1 : x.toInt ≠ 1 := fun z => h1 (Int32.toInt_inj.mp (z.trans (by decide)))
  have g2 : x.toInt ≠ 2 := fun z => h2 (Int32.toInt_inj.mp (z.trans (by decide)))
  have g3 : x.toInt ≠ 3 := fun z => h3 (Int32.toInt_inj.mp (z.trans (by decide)))
  have g4 : x.toInt ≠ 4 := fun z => h4 (Int32.toInt_inj.mp (z.trans (by decide)))
  have g5 : x.toInt ≠ 5 := fun z => h5 (Int32.toInt_inj.mp (z.trans (by decide)))
  have g6 : x.toInt ≠ 6 := fun z => h6 (Int32.toInt_inj.mp (z.trans (by decide)))
  have g7 : x.toInt ≠ 7 := fun z => h7 (Int32.toInt_inj.mp (z.trans (by decide)))
  have g8 : x.toInt ≠ 8 := fun z => h8 (Int32.toInt_inj.mp (z.trans (by decide)))
  have g9 : x.toInt ≠ 9 := fun z => h9 (Int32.toInt_inj.mp (z.trans (by decide)))
  omega
theorem xw_out2_6 {x : Int32} (h2 : ¬ x = 2) (h3 : ¬ x = 3) (h4 : ¬ x = 4) (h5 : ¬ x = 5) (h6 : ¬ x = 6) : x.toInt < 2 ∨ 6 < x.toInt := by
  have g2 : x.toInt ≠ 2 := fun z => h2 (Int32.toInt_inj.mp (z.trans (by decide)))
  have g3 : x.toInt ≠ 3 := fun z => h3 (Int32.toInt_inj.mp (z.trans (by decide)))
  have g4 : x.toInt ≠ 4 := fun z => h4 (Int32.toInt_inj.mp (z.trans (by decide)))
  have g5 : x.toInt ≠ 5 := fun z => h5 (Int32.toInt_inj.mp (z.trans (by decide)))
  have g6 : x.toInt ≠ 6 := fun z => h6 (Int32.toInt_inj.mp (z.trans (by decide)))
  omega
def pg_X0_isIn (v1 : Int32) (v2 : Int32) (v3 : Int32) : xw_M xw_St Int32 :=
 if v1 < v2 then (
    xw_rt 0)
    else (
    if v3 < v1 then (
    xw_rt 0)
    else (
    xw_rt 1))

def pg_X0_find (v1 : Option Nat) (v2 : Int64) : xw_M xw_St Int32 :=
 xw_loop (α := Int32) (β := Int32) (fun v3 =>
    xw_bd (xw_len v1) fun v4 =>
    if v4 ≤ v3 then (
    xw_rt (.inr (-1)))
    else (
    xw_bd (xw_ldJ v1 v3) fun v5 =>
    if (lg_cmp v5 v2) = 0 then (
    if (lg_cmp v2 0) = 0 then (
    xw_rt (.inl (v3 + 1)))
    else (
    xw_rt (.inr v3)))
    else (
    xw_rt (.inl (v3 + 1))))) xw_FU 0

def pg_X1_init (v1 : Nat) (v2 : Option Nat) : xw_M xw_St Unit :=
 xw_bd (xw_pR 25 (some v1) v2) fun _ =>
    xw_bd (xw_nwa 127 36) fun v3 =>
    xw_bd (xw_pR 15 (some v1) (some v3)) fun _ =>
    xw_bd (xw_nwa 128 12) fun v4 =>
    xw_bd (xw_pR 16 (some v1) (some v4)) fun _ =>
    xw_bd (xw_nwa 129 12) fun v5 =>
    xw_bd (xw_pR 17 (some v1) (some v5)) fun _ =>
    xw_bd (xw_nwa 130 12) fun v6 =>
    xw_bd (xw_pR 18 (some v1) (some v6)) fun _ =>
    xw_bd (xw_nwa 131 48) fun v7 =>
    xw_bd (xw_pR 19 (some v1) (some v7)) fun _ =>
    xw_rt ()

def pg_X0_init (v1 : Nat) : xw_M xw_St Unit :=
 xw_bd (xw_nwa 64 16) fun v2 =>
    xw_bd (xw_pR 0 (some v1) (some v2)) fun _ =>
    xw_bd (xw_nwa 65 8) fun v3 =>
    xw_bd (xw_pR 1 (some v1) (some v3)) fun _ =>
    xw_bd (xw_nwa 66 6) fun v4 =>
    xw_bd (xw_pR 2 (some v1) (some v4)) fun _ =>
    xw_bd (xw_nwa 67 900) fun v5 =>
    xw_bd (xw_pR 3 (some v1) (some v5)) fun _ =>
    xw_bd (xw_nwa 68 18) fun v6 =>
    xw_bd (xw_pR 4 (some v1) (some v6)) fun _ =>
    xw_bd (xw_pI 9 (some v1) (-1)) fun _ =>
    xw_bd (xw_nwa 69 4) fun v7 =>
    xw_bd (xw_pR 11 (some v1) (some v7)) fun _ =>
    xw_bd (xw_nwa 70 1024) fun v8 =>
    xw_bd (xw_pR 13 (some v1) (some v8)) fun _ =>
    xw_bd (xw_nwa 71 1024) fun v9 =>
    xw_bd (xw_pR 14 (some v1) (some v9)) fun _ =>
    xw_bd (xw_loop (α := Int32) (β := Unit) (fun v10 =>
    if 18 ≤ v10 then (
    xw_rt (.inr ()))
    else (
    xw_bd (xw_gR 4 (some v1)) fun v12 =>
    xw_bd (xw_new 1) fun v13 =>
    xw_bd (pg_X1_init v13 (some v1)) fun _ =>
    xw_bd (xw_stR v12 v10 (some v13)) fun _ =>
    xw_rt (.inl (v10 + 1)))) xw_FU 0)
    (fun (v11 : Unit) =>
    xw_rt ())

def pg_X5_combos (v1 : Nat) : xw_M xw_St Int32 :=
 xw_bd (xw_gJ 105 (some v1)) fun v2 =>
    xw_rt ((v2 : Int64).toInt32)

def pg_X5_isLooked (v1 : Nat) : xw_M xw_St Int32 :=
 xw_bd (xw_gJ 105 (some v1)) fun v2 =>
    if 0 < (lg_cmp v2 1024) then (
    xw_rt 0)
    else (
    xw_rt 1)

def pg_X1_isBargain (v1 : Nat) : xw_M xw_St Int32 :=
 xw_bd (xw_gI 23 (some v1)) fun v2 =>
    if 9999 ≤ v2 then (
    xw_rt 0)
    else (
    xw_rt 1)

def pg_X9_said (v1 : Nat) : xw_M xw_St (Option Nat) :=
 xw_bd (xw_gR 114 (some v1)) fun v2 =>
    xw_rt v2

def pg_X20_isSmall (v1 : Nat) : xw_M xw_St Int32 :=
 xw_bd (xw_gR 130 (some v1)) fun v2 =>
    xw_bd (xw_ldI v2 9) fun v3 =>
    if v3 = 1 then (
    xw_rt 1)
    else (
    xw_rt 0)

def pg_X11_isSmall (v1 : Nat) (v2 : Option Nat) : xw_M xw_St Int32 :=
 xw_bd (xw_cv 17 v2 (fun v4 => pg_X20_isSmall v4)) fun v3 =>
    xw_bd (xw_loop (α := Int32 × Int32) (β := Int32) (fun v5 =>
    if 3 ≤ v5.2 then (
    xw_rt (.inr (v5.1)))
    else (
    if v5.1 = 0 then (
    xw_rt (.inl (0, v5.2 + 1)))
    else (
    xw_bd (xw_gR 115 (some v1)) fun v7 =>
    xw_bd (xw_ldI v7 v5.2) fun v8 =>
    if v8 = (-1) then (
    xw_rt (.inl (1, v5.2 + 1)))
    else (
    xw_rt (.inl (0, v5.2 + 1)))))) xw_FU (v3, 0))
    (fun (v6 : Int32) =>
    xw_rt (v6 &&& 1))

def pg_X11_isOffer (v1 : Nat) (v2 : Option Nat) : xw_M xw_St Int32 :=
 xw_bd (xw_cv 8 (some v1) (fun v4 => pg_X11_isSmall v4 v2)) fun v3 =>
    if v3 = 0 then (
    xw_rt 1)
    else (
    xw_rt 0)

def pg_X11_isYes (v1 : Nat) (v2 : Option Nat) : xw_M xw_St Int32 :=
 xw_bd (xw_cv 8 (some v1) (fun v4 => pg_X11_isSmall v4 v2)) fun v3 =>
    xw_rt (v3 &&& 1)

def pg_X20_isDeedYes (v1 : Nat) : xw_M xw_St Int32 :=
 xw_bd (xw_gR 130 (some v1)) fun v2 =>
    xw_bd (xw_ldI v2 11) fun v3 =>
    if v3 = 1 then (
    xw_rt 1)
    else (
    xw_rt 0)

def pg_X14_isYes (v1 : Nat) (v2 : Option Nat) : xw_M xw_St Int32 :=
 xw_bd (xw_cv 17 v2 (fun v4 => pg_X20_isDeedYes v4)) fun v3 =>
    xw_rt (v3 &&& 1)

def pg_X8_isOffer (v1 : Nat) (v2 : Option Nat) : xw_M xw_St Int32 :=
 xw_rt 1

def pg_X5_digit (v1 : Nat) (v2 : Int32) (v3 : Int32) : xw_M xw_St Int32 :=
 xw_bd (xw_loop (α := Int32 × Int32) (β := Int32) (fun v4 =>
    if v3 ≤ v4.2 then (
    xw_rt (.inr (v4.1)))
    else (
    xw_bd (xw_gR 102 (some v1)) fun v9 =>
    xw_bd (xw_ldI v9 v4.2) fun v10 =>
    xw_bd (xw_div v4.1 v10) fun v11 =>
    xw_rt (.inl (v11, v4.2 + 1)))) xw_FU (v2, 0))
    (fun (v5 : Int32) =>
    xw_bd (xw_gR 102 (some v1)) fun v6 =>
    xw_bd (xw_ldI v6 v3) fun v7 =>
    xw_bd (xw_rem v5 v7) fun v8 =>
    xw_rt v8)

def pg_X1_lays (v1 : Nat) (v2 : Option Nat) (v3 : Int32) : xw_M xw_St Unit :=
 xw_bd (xw_pR 20 (some v1) v2) fun _ =>
    xw_bd (xw_loop (α := Int32) (β := Unit) (fun v4 =>
    if 48 ≤ v4 then (
    xw_rt (.inr ()))
    else (
    xw_bd (xw_gR 19 (some v1)) fun v47 =>
    xw_bd (xw_stI v47 v4 0) fun _ =>
    xw_rt (.inl (v4 + 1)))) xw_FU 0)
    (fun (v5 : Unit) =>
    xw_bd (xw_loop (α := Int32) (β := Unit) (fun v6 =>
    xw_bd (xw_gI 104 v2) fun v39 =>
    if v39 ≤ v6 then (
    xw_rt (.inr ()))
    else (
    xw_bd (xw_gR 19 (some v1)) fun v40 =>
    xw_bd (xw_gR 100 v2) fun v41 =>
    xw_bd (xw_ldI v41 v6) fun v42 =>
    xw_bd (xw_gR 101 v2) fun v43 =>
    xw_bd (xw_ldI v43 v6) fun v44 =>
    xw_bd (xw_cv 4 v2 (fun v46 => pg_X5_digit v46 v3 v6)) fun v45 =>
    xw_bd (xw_stI v40 ((4 * v42) + v44) v45) fun _ =>
    xw_rt (.inl (v6 + 1)))) xw_FU 0)
    (fun (v7 : Unit) =>
    xw_bd (xw_loop (α := Int32) (β := Unit) (fun v8 =>
    xw_bd (xw_gI 103 v2) fun v10 =>
    if v10 ≤ v8 then (
    xw_rt (.inr ()))
    else (
    xw_bd (xw_gR 99 v2) fun v11 =>
    xw_bd (xw_ldR v11 v8) fun v12 =>
    xw_bd (xw_gR 108 v12) fun v13 =>
    xw_bd (xw_gI 123 v13) fun v14 =>
    xw_bd (if v14 = 0 then (
    xw_bd (xw_gR 19 (some v1)) fun v37 =>
    xw_bd (xw_ldI v37 ((4 * v8) + 3)) fun v38 =>
    if v38 = 1 then (
    xw_rt 1)
    else (
    xw_rt 0))
    else (
    xw_rt 1))
    (fun (v15 : Int32) =>
    xw_bd (xw_gR 15 (some v1)) fun v16 =>
    xw_bd (xw_gR 119 v13) fun v17 =>
    xw_bd (xw_gI 116 v17) fun v18 =>
    xw_bd (xw_gR 19 (some v1)) fun v19 =>
    xw_bd (xw_ldI v19 (4 * v8)) fun v20 =>
    xw_bd (xw_stI v16 (3 * v8) (v18 + v20)) fun _ =>
    xw_bd (xw_gR 15 (some v1)) fun v21 =>
    xw_bd (if v15 = 0 then (
    xw_bd (xw_gR 15 (some v1)) fun v31 =>
    xw_bd (xw_ldI v31 (3 * v8)) fun v32 =>
    xw_bd (xw_gR 120 v13) fun v33 =>
    xw_bd (xw_gI 116 v33) fun v34 =>
    xw_bd (xw_gR 19 (some v1)) fun v35 =>
    xw_bd (xw_ldI v35 ((4 * v8) + 1)) fun v36 =>
    xw_rt ((v32 + v34) + v36))
    else (
    xw_rt 9999))
    (fun (v22 : Int32) =>
    xw_bd (xw_stI v21 ((3 * v8) + 1) v22) fun _ =>
    xw_bd (xw_gR 15 (some v1)) fun v23 =>
    xw_bd (if v15 = 0 then (
    xw_bd (xw_gR 15 (some v1)) fun v25 =>
    xw_bd (xw_ldI v25 ((3 * v8) + 1)) fun v26 =>
    xw_bd (xw_gR 121 v13) fun v27 =>
    xw_bd (xw_gI 116 v27) fun v28 =>
    xw_bd (xw_gR 19 (some v1)) fun v29 =>
    xw_bd (xw_ldI v29 ((4 * v8) + 2)) fun v30 =>
    xw_rt ((v26 + v28) + v30))
    else (
    xw_rt 9999))
    (fun (v24 : Int32) =>
    xw_bd (xw_stI v23 ((3 * v8) + 2) v24) fun _ =>
    xw_rt (.inl (v8 + 1))))))) xw_FU 0)
    (fun (v9 : Unit) =>
    xw_rt ())))

def pg_X7_kind (v1 : Nat) : xw_M xw_St Int32 :=
 xw_rt 1

def pg_X13_kind (v1 : Nat) : xw_M xw_St Int32 :=
 xw_rt 5

def pg_X11_kind (v1 : Nat) : xw_M xw_St Int32 :=
 xw_rt 3

def pg_X14_kind (v1 : Nat) : xw_M xw_St Int32 :=
 xw_rt 6

def pg_X12_kind (v1 : Nat) : xw_M xw_St Int32 :=
 xw_rt 4

def pg_X8_kind (v1 : Nat) : xw_M xw_St Int32 :=
 xw_rt 0

def pg_X20_at (v1 : Nat) (v2 : Int32) : xw_M xw_St Int32 :=
 xw_bd (xw_gR 130 (some v1)) fun v3 =>
    xw_bd (xw_ldI v3 v2) fun v4 =>
    xw_rt v4

def pg_X15_kind (v1 : Nat) : xw_M xw_St Int32 :=
 xw_rt 7

def pg_X10_kind (v1 : Nat) : xw_M xw_St Int32 :=
 xw_rt 2

def pg_X20_yesWhen (v1 : Nat) (v2 : Option Nat) : xw_M xw_St Int32 :=
 xw_bd (xw_dv v2 [(5, fun v4 => pg_X7_kind v4), (6, fun v4 => pg_X8_kind v4), (7, fun v4 => pg_X10_kind v4), (8, fun v4 => pg_X11_kind v4), (9, fun v4 => pg_X12_kind v4), (10, fun v4 => pg_X13_kind v4), (11, fun v4 => pg_X14_kind v4), (12, fun v4 => pg_X15_kind v4)]) fun v3 =>
    if v3 = 6 then (
    xw_rt 0)
    else (
    xw_bd (xw_gR 130 (some v1)) fun v5 =>
    xw_bd (xw_gR 108 v2) fun v6 =>
    xw_bd (xw_gI 118 v6) fun v7 =>
    xw_lt (xw_min 2 v7) fun v8 =>
    xw_bd (xw_ldI v5 (0 + v8)) fun v9 =>
    xw_rt v9)

def pg_X1_hour (v1 : Nat) (v2 : Option Nat) (v3 : Int32) : xw_M xw_St Int32 :=
 xw_bd (xw_gR 15 (some v1)) fun v4 =>
    xw_bd (xw_gI 106 v2) fun v5 =>
    xw_bd (xw_ldI v4 ((3 * v5) + v3)) fun v6 =>
    xw_rt v6

def pg_X1_isOpen (v1 : Nat) (v2 : Option Nat) (v3 : Int32) : xw_M xw_St Int32 :=
 if v3 = 9999 then (
    xw_rt 0)
    else (
    xw_bd (xw_gR 16 (some v1)) fun v4 =>
    xw_bd (xw_gI 106 v2) fun v5 =>
    xw_bd (xw_ldI v4 v5) fun v6 =>
    if v3 < v6 then (
    xw_rt 0)
    else (
    xw_bd (xw_gR 17 (some v1)) fun v7 =>
    xw_bd (xw_gI 106 v2) fun v8 =>
    xw_bd (xw_ldI v7 v8) fun v9 =>
    if v9 ≤ v3 then (
    xw_rt 0)
    else (
    xw_rt 1)))

def pg_X6_isOffer (v1 : Nat) (v2 : Option Nat) : xw_M xw_St Int32 :=
 xw_rt 0

def pg_X6_said (v1 : Nat) : xw_M xw_St (Option Nat) :=
 xw_rt none

def pg_X6_isSaid (v1 : Nat) (v2 : Option Nat) : xw_M xw_St Int32 :=
 xw_bd (xw_dv (some v1) [(5, fun v4 => pg_X6_said v4), (6, fun v4 => pg_X6_said v4), (7, fun v4 => pg_X9_said v4), (8, fun v4 => pg_X9_said v4), (9, fun v4 => pg_X9_said v4), (10, fun v4 => pg_X9_said v4), (11, fun v4 => pg_X9_said v4), (12, fun v4 => pg_X9_said v4)]) fun v3 =>
    if v3 = v2 then (
    xw_rt 1)
    else (
    xw_rt 0)

def pg_X1_makes (v1 : Nat) (v2 : Option Nat) : xw_M xw_St Int32 :=
 xw_bd (xw_dv v2 [(5, fun v4 => pg_X6_said v4), (6, fun v4 => pg_X6_said v4), (7, fun v4 => pg_X9_said v4), (8, fun v4 => pg_X9_said v4), (9, fun v4 => pg_X9_said v4), (10, fun v4 => pg_X9_said v4), (11, fun v4 => pg_X9_said v4), (12, fun v4 => pg_X9_said v4)]) fun v3 =>
    xw_bd (xw_gR 21 (some v1)) fun v5 =>
    xw_bd (xw_cv 17 v5 (fun v7 => pg_X20_yesWhen v7 v2)) fun v6 =>
    xw_bd (xw_cv 1 (some v1) (fun v9 => pg_X1_hour v9 v2 v6)) fun v8 =>
    xw_bd (xw_gR 21 (some v1)) fun v10 =>
    xw_bd (xw_dv v3 [(5, fun v12 => pg_X6_isOffer v12 v10), (6, fun v12 => pg_X8_isOffer v12 v10), (7, fun v12 => pg_X6_isOffer v12 v10), (8, fun v12 => pg_X11_isOffer v12 v10), (9, fun v12 => pg_X6_isOffer v12 v10), (10, fun v12 => pg_X6_isOffer v12 v10), (11, fun v12 => pg_X6_isOffer v12 v10), (12, fun v12 => pg_X6_isOffer v12 v10)]) fun v11 =>
    if v11 = 0 then (
    xw_rt 9999)
    else (
    xw_bd (xw_cv 1 (some v1) (fun v14 => pg_X1_hour v14 v3 1)) fun v13 =>
    xw_bd (xw_cv 1 (some v1) (fun v16 => pg_X1_hour v16 v2 0)) fun v15 =>
    if v15 < v13 then (
    xw_rt 9999)
    else (
    xw_bd (xw_cv 1 (some v1) (fun v18 => pg_X1_isOpen v18 v3 v8)) fun v17 =>
    if v17 = 0 then (
    xw_rt 9999)
    else (
    xw_loop (α := Int32) (β := Int32) (fun v19 =>
    xw_bd (xw_gR 20 (some v1)) fun v20 =>
    xw_bd (xw_gI 103 v20) fun v21 =>
    if v21 ≤ v19 then (
    xw_rt (.inr v8))
    else (
    xw_bd (xw_gR 20 (some v1)) fun v22 =>
    xw_bd (xw_gR 99 v22) fun v23 =>
    xw_bd (xw_ldR v23 v19) fun v24 =>
    xw_bd (xw_dv v24 [(5, fun v26 => pg_X7_kind v26), (6, fun v26 => pg_X8_kind v26), (7, fun v26 => pg_X10_kind v26), (8, fun v26 => pg_X11_kind v26), (9, fun v26 => pg_X12_kind v26), (10, fun v26 => pg_X13_kind v26), (11, fun v26 => pg_X14_kind v26), (12, fun v26 => pg_X15_kind v26)]) fun v25 =>
    if v25 = 5 then (
    xw_bd (xw_dv v24 [(5, fun v28 => pg_X6_isSaid v28 v2), (6, fun v28 => pg_X6_isSaid v28 v2), (7, fun v28 => pg_X6_isSaid v28 v2), (8, fun v28 => pg_X6_isSaid v28 v2), (9, fun v28 => pg_X6_isSaid v28 v2), (10, fun v28 => pg_X6_isSaid v28 v2), (11, fun v28 => pg_X6_isSaid v28 v2), (12, fun v28 => pg_X6_isSaid v28 v2)]) fun v27 =>
    if v27 = 0 then (
    xw_rt (.inl (v19 + 1)))
    else (
    xw_bd (xw_gR 21 (some v1)) fun v29 =>
    xw_bd (xw_cv 17 v29 (fun v31 => pg_X20_at v31 4)) fun v30 =>
    xw_bd (xw_cv 1 (some v1) (fun v33 => pg_X1_hour v33 v24 v30)) fun v32 =>
    if v8 ≤ v32 then (
    xw_rt (.inl (v19 + 1)))
    else (
    xw_rt (.inr 9999))))
    else (
    xw_rt (.inl (v19 + 1))))) xw_FU 0)))

def pg_X11_isNo (v1 : Nat) (v2 : Option Nat) : xw_M xw_St Int32 :=
 xw_bd (xw_cv 8 (some v1) (fun v4 => pg_X11_isSmall v4 v2)) fun v3 =>
    if v3 = 0 then (
    xw_rt 1)
    else (
    xw_rt 0)

def pg_X12_isNo (v1 : Nat) (v2 : Option Nat) : xw_M xw_St Int32 :=
 xw_rt 1

def pg_X8_given (v1 : Nat) : xw_M xw_St Int32 :=
 xw_bd (xw_gI 113 (some v1)) fun v2 =>
    xw_rt v2

def pg_X8_hold (v1 : Nat) : xw_M xw_St Int32 :=
 xw_bd (xw_gI 112 (some v1)) fun v2 =>
    xw_rt v2

def pg_X1_ends (v1 : Nat) (v2 : Int32) (v3 : Int32) (v4 : Int32) : xw_M xw_St Unit :=
 xw_bd (xw_gR 17 (some v1)) fun v5 =>
    xw_bd (xw_ldI v5 v2) fun v6 =>
    if v3 < v6 then (
    xw_bd (xw_gR 17 (some v1)) fun v7 =>
    xw_bd (xw_stI v7 v2 v3) fun _ =>
    xw_bd (xw_gR 18 (some v1)) fun v8 =>
    xw_bd (xw_stI v8 v2 v4) fun _ =>
    xw_rt ())
    else (
    xw_rt ())

def pg_X6_given (v1 : Nat) : xw_M xw_St Int32 :=
 xw_rt (-1)

def pg_X6_hold (v1 : Nat) : xw_M xw_St Int32 :=
 xw_rt (-1)

def pg_X6_isNo (v1 : Nat) (v2 : Option Nat) : xw_M xw_St Int32 :=
 xw_rt 0

def pg_X1_opens (HG : Nat → Int32 → Option Nat → xw_M xw_St Int32) (v1 : Nat) (v2 : Option Nat) : xw_M xw_St Unit :=
 xw_bd (xw_gI 106 v2) fun v3 =>
    xw_bd (xw_gR 16 (some v1)) fun v4 =>
    xw_bd (xw_dv v2 [(5, fun v6 => pg_X6_given v6), (6, fun v6 => pg_X8_given v6), (7, fun v6 => pg_X6_given v6), (8, fun v6 => pg_X6_given v6), (9, fun v6 => pg_X6_given v6), (10, fun v6 => pg_X6_given v6), (11, fun v6 => pg_X6_given v6), (12, fun v6 => pg_X6_given v6)]) fun v5 =>
    xw_bd (xw_jn (fun (v76 : Unit) =>
    xw_bd (xw_gR 21 (some v1)) fun v77 =>
    xw_bd (xw_cv 17 v77 (fun v79 => pg_X20_at v79 3)) fun v78 =>
    xw_bd (xw_cv 1 (some v1) (fun v81 => pg_X1_hour v81 v2 v78)) fun v80 =>
    xw_rt v80)
    (fun J6 =>
    if v5 = (-1) then (
    J6 ())
    else (
    xw_bd (xw_gR 25 (some v1)) fun v82 =>
    xw_bd (xw_dv v2 [(5, fun v84 => pg_X6_given v84), (6, fun v84 => pg_X8_given v84), (7, fun v84 => pg_X6_given v84), (8, fun v84 => pg_X6_given v84), (9, fun v84 => pg_X6_given v84), (10, fun v84 => pg_X6_given v84), (11, fun v84 => pg_X6_given v84), (12, fun v84 => pg_X6_given v84)]) fun v83 =>
    xw_bd (xw_gR 21 (some v1)) fun v85 =>
    xw_bd (xw_cv 0 v82 (fun v87 => HG v87 v83 v85)) fun v86 =>
    if v86 = 0 then (
    xw_rt 9999)
    else (
    J6 ()))))
    (fun (v7 : Int32) =>
    xw_bd (xw_stI v4 v3 v7) fun _ =>
    xw_bd (xw_gR 17 (some v1)) fun v8 =>
    xw_bd (xw_stI v8 v3 9999) fun _ =>
    xw_bd (xw_gR 18 (some v1)) fun v9 =>
    xw_bd (xw_stI v9 v3 0) fun _ =>
    xw_bd (xw_loop (α := Int32) (β := Unit) (fun v10 =>
    xw_bd (xw_gR 20 (some v1)) fun v52 =>
    xw_bd (xw_gI 103 v52) fun v53 =>
    if v53 ≤ v10 then (
    xw_rt (.inr ()))
    else (
    xw_bd (xw_gR 20 (some v1)) fun v54 =>
    xw_bd (xw_gR 99 v54) fun v55 =>
    xw_bd (xw_ldR v55 v10) fun v56 =>
    xw_bd (xw_dv v56 [(5, fun v58 => pg_X7_kind v58), (6, fun v58 => pg_X8_kind v58), (7, fun v58 => pg_X10_kind v58), (8, fun v58 => pg_X11_kind v58), (9, fun v58 => pg_X12_kind v58), (10, fun v58 => pg_X13_kind v58), (11, fun v58 => pg_X14_kind v58), (12, fun v58 => pg_X15_kind v58)]) fun v57 =>
    if v57 = 5 then (
    xw_bd (xw_dv v56 [(5, fun v60 => pg_X6_isSaid v60 v2), (6, fun v60 => pg_X6_isSaid v60 v2), (7, fun v60 => pg_X6_isSaid v60 v2), (8, fun v60 => pg_X6_isSaid v60 v2), (9, fun v60 => pg_X6_isSaid v60 v2), (10, fun v60 => pg_X6_isSaid v60 v2), (11, fun v60 => pg_X6_isSaid v60 v2), (12, fun v60 => pg_X6_isSaid v60 v2)]) fun v59 =>
    if v59 = 0 then (
    xw_rt (.inl (v10 + 1)))
    else (
    xw_bd (xw_gR 21 (some v1)) fun v61 =>
    xw_bd (xw_cv 17 v61 (fun v63 => pg_X20_at v63 4)) fun v62 =>
    xw_bd (xw_cv 1 (some v1) (fun v65 => pg_X1_hour v65 v56 v62)) fun v64 =>
    xw_bd (xw_dv v2 [(5, fun v67 => pg_X6_hold v67), (6, fun v67 => pg_X8_hold v67), (7, fun v67 => pg_X6_hold v67), (8, fun v67 => pg_X6_hold v67), (9, fun v67 => pg_X6_hold v67), (10, fun v67 => pg_X6_hold v67), (11, fun v67 => pg_X6_hold v67), (12, fun v67 => pg_X6_hold v67)]) fun v66 =>
    if v66 = (-1) then (
    xw_bd (xw_cv 1 (some v1) (fun v68 => pg_X1_ends v68 v3 v64 1)) fun _ =>
    xw_rt (.inl (v10 + 1)))
    else (
    xw_bd (xw_gR 21 (some v1)) fun v69 =>
    xw_bd (xw_cv 17 v69 (fun v71 => pg_X20_at v71 6)) fun v70 =>
    if v70 = 0 then (
    xw_bd (xw_cv 1 (some v1) (fun v72 => pg_X1_ends v72 v3 v64 1)) fun _ =>
    xw_rt (.inl (v10 + 1)))
    else (
    xw_bd (xw_dv v2 [(5, fun v74 => pg_X6_hold v74), (6, fun v74 => pg_X8_hold v74), (7, fun v74 => pg_X6_hold v74), (8, fun v74 => pg_X6_hold v74), (9, fun v74 => pg_X6_hold v74), (10, fun v74 => pg_X6_hold v74), (11, fun v74 => pg_X6_hold v74), (12, fun v74 => pg_X6_hold v74)]) fun v73 =>
    if v64 ≤ v73 then (
    xw_rt (.inl (v10 + 1)))
    else (
    xw_bd (xw_cv 1 (some v1) (fun v75 => pg_X1_ends v75 v3 v64 1)) fun _ =>
    xw_rt (.inl (v10 + 1)))))))
    else (
    xw_rt (.inl (v10 + 1))))) xw_FU 0)
    (fun (v11 : Unit) =>
    xw_bd (xw_loop (α := Int32) (β := Unit) (fun v12 =>
    xw_bd (xw_gR 20 (some v1)) fun v30 =>
    xw_bd (xw_gI 103 v30) fun v31 =>
    if v31 ≤ v12 then (
    xw_rt (.inr ()))
    else (
    xw_bd (xw_gR 20 (some v1)) fun v32 =>
    xw_bd (xw_gR 99 v32) fun v33 =>
    xw_bd (xw_ldR v33 v12) fun v34 =>
    xw_bd (xw_gR 21 (some v1)) fun v35 =>
    xw_bd (xw_dv v34 [(5, fun v37 => pg_X6_isNo v37 v35), (6, fun v37 => pg_X6_isNo v37 v35), (7, fun v37 => pg_X6_isNo v37 v35), (8, fun v37 => pg_X11_isNo v37 v35), (9, fun v37 => pg_X12_isNo v37 v35), (10, fun v37 => pg_X6_isNo v37 v35), (11, fun v37 => pg_X6_isNo v37 v35), (12, fun v37 => pg_X6_isNo v37 v35)]) fun v36 =>
    if v36 = 0 then (
    xw_rt (.inl (v12 + 1)))
    else (
    xw_bd (xw_gR 20 (some v1)) fun v38 =>
    xw_bd (xw_gR 99 v38) fun v39 =>
    xw_bd (xw_ldR v39 v12) fun v40 =>
    xw_bd (xw_dv v40 [(5, fun v42 => pg_X6_isSaid v42 v2), (6, fun v42 => pg_X6_isSaid v42 v2), (7, fun v42 => pg_X6_isSaid v42 v2), (8, fun v42 => pg_X6_isSaid v42 v2), (9, fun v42 => pg_X6_isSaid v42 v2), (10, fun v42 => pg_X6_isSaid v42 v2), (11, fun v42 => pg_X6_isSaid v42 v2), (12, fun v42 => pg_X6_isSaid v42 v2)]) fun v41 =>
    if v41 = 0 then (
    xw_rt (.inl (v12 + 1)))
    else (
    xw_bd (xw_gR 20 (some v1)) fun v43 =>
    xw_bd (xw_gR 99 v43) fun v44 =>
    xw_bd (xw_ldR v44 v12) fun v45 =>
    xw_bd (xw_gR 21 (some v1)) fun v46 =>
    xw_bd (xw_cv 17 v46 (fun v48 => pg_X20_at v48 5)) fun v47 =>
    xw_bd (xw_cv 1 (some v1) (fun v50 => pg_X1_hour v50 v45 v47)) fun v49 =>
    xw_bd (xw_cv 1 (some v1) (fun v51 => pg_X1_ends v51 v3 v49 2)) fun _ =>
    xw_rt (.inl (v12 + 1)))))) xw_FU 0)
    (fun (v13 : Unit) =>
    xw_bd (xw_dv v2 [(5, fun v15 => pg_X6_hold v15), (6, fun v15 => pg_X8_hold v15), (7, fun v15 => pg_X6_hold v15), (8, fun v15 => pg_X6_hold v15), (9, fun v15 => pg_X6_hold v15), (10, fun v15 => pg_X6_hold v15), (11, fun v15 => pg_X6_hold v15), (12, fun v15 => pg_X6_hold v15)]) fun v14 =>
    if v14 = (-1) then (
    xw_bd (xw_gR 21 (some v1)) fun v16 =>
    xw_bd (xw_cv 17 v16 (fun v18 => pg_X20_at v18 7)) fun v17 =>
    if v17 = (-1) then (
    xw_rt ())
    else (
    xw_bd (xw_cv 1 (some v1) (fun v20 => pg_X1_hour v20 v2 1)) fun v19 =>
    if v19 = 9999 then (
    xw_rt ())
    else (
    xw_bd (xw_cv 1 (some v1) (fun v22 => pg_X1_hour v22 v2 1)) fun v21 =>
    xw_bd (xw_gR 21 (some v1)) fun v23 =>
    xw_bd (xw_cv 17 v23 (fun v25 => pg_X20_at v25 7)) fun v24 =>
    xw_bd (xw_cv 1 (some v1) (fun v26 => pg_X1_ends v26 v3 ((v21 + v24) + 1) 4)) fun _ =>
    xw_rt ())))
    else (
    xw_bd (xw_dv v2 [(5, fun v28 => pg_X6_hold v28), (6, fun v28 => pg_X8_hold v28), (7, fun v28 => pg_X6_hold v28), (8, fun v28 => pg_X6_hold v28), (9, fun v28 => pg_X6_hold v28), (10, fun v28 => pg_X6_hold v28), (11, fun v28 => pg_X6_hold v28), (12, fun v28 => pg_X6_hold v28)]) fun v27 =>
    xw_bd (xw_cv 1 (some v1) (fun v29 => pg_X1_ends v29 v3 (v27 + 1) 3)) fun _ =>
    xw_rt ()))))

def pg_X12_answers (v1 : Nat) : xw_M xw_St Int32 :=
 xw_rt 1

def pg_X6_answers (v1 : Nat) : xw_M xw_St Int32 :=
 xw_rt 0

def pg_X10_answers (v1 : Nat) : xw_M xw_St Int32 :=
 xw_rt 1

def pg_X1_silence (v1 : Nat) (v2 : Option Nat) : xw_M xw_St Int32 :=
 xw_bd (xw_gR 21 (some v1)) fun v3 =>
    xw_bd (xw_cv 17 v3 (fun v5 => pg_X20_at v5 8)) fun v4 =>
    if v4 = (-1) then (
    xw_rt 9999)
    else (
    xw_bd (xw_cv 1 (some v1) (fun v7 => pg_X1_hour v7 v2 2)) fun v6 =>
    if v6 = 9999 then (
    xw_rt 9999)
    else (
    xw_bd (xw_cv 1 (some v1) (fun v9 => pg_X1_hour v9 v2 2)) fun v8 =>
    xw_bd (xw_gR 21 (some v1)) fun v10 =>
    xw_bd (xw_cv 17 v10 (fun v12 => pg_X20_at v12 8)) fun v11 =>
    xw_lt (v8 + v11) fun v13 =>
    xw_bd (xw_cv 1 (some v1) (fun v15 => pg_X1_isOpen v15 v2 v13)) fun v14 =>
    if v14 = 0 then (
    xw_rt 9999)
    else (
    xw_loop (α := Int32) (β := Int32) (fun v16 =>
    xw_bd (xw_gR 20 (some v1)) fun v17 =>
    xw_bd (xw_gI 103 v17) fun v18 =>
    if v18 ≤ v16 then (
    xw_rt (.inr v13))
    else (
    xw_bd (xw_gR 20 (some v1)) fun v19 =>
    xw_bd (xw_gR 99 v19) fun v20 =>
    xw_bd (xw_ldR v20 v16) fun v21 =>
    xw_bd (xw_dv v21 [(5, fun v23 => pg_X6_answers v23), (6, fun v23 => pg_X6_answers v23), (7, fun v23 => pg_X10_answers v23), (8, fun v23 => pg_X10_answers v23), (9, fun v23 => pg_X12_answers v23), (10, fun v23 => pg_X6_answers v23), (11, fun v23 => pg_X10_answers v23), (12, fun v23 => pg_X6_answers v23)]) fun v22 =>
    if v22 = 0 then (
    xw_rt (.inl (v16 + 1)))
    else (
    xw_bd (xw_gR 20 (some v1)) fun v24 =>
    xw_bd (xw_gR 99 v24) fun v25 =>
    xw_bd (xw_ldR v25 v16) fun v26 =>
    xw_bd (xw_dv v26 [(5, fun v28 => pg_X6_isSaid v28 v2), (6, fun v28 => pg_X6_isSaid v28 v2), (7, fun v28 => pg_X6_isSaid v28 v2), (8, fun v28 => pg_X6_isSaid v28 v2), (9, fun v28 => pg_X6_isSaid v28 v2), (10, fun v28 => pg_X6_isSaid v28 v2), (11, fun v28 => pg_X6_isSaid v28 v2), (12, fun v28 => pg_X6_isSaid v28 v2)]) fun v27 =>
    if v27 = 0 then (
    xw_rt (.inl (v16 + 1)))
    else (
    xw_bd (xw_gR 20 (some v1)) fun v29 =>
    xw_bd (xw_gR 99 v29) fun v30 =>
    xw_bd (xw_ldR v30 v16) fun v31 =>
    xw_bd (xw_cv 1 (some v1) (fun v33 => pg_X1_hour v33 v31 0)) fun v32 =>
    if v13 < v32 then (
    xw_rt (.inl (v16 + 1)))
    else (
    xw_rt (.inr 9999)))))) xw_FU 0)))

def pg_X1_takes (v1 : Nat) (v2 : Int32) (v3 : Int32) (v4 : Option Nat) : xw_M xw_St Unit :=
 xw_bd (xw_gI 23 (some v1)) fun v5 =>
    if v2 < v5 then (
    xw_bd (xw_pI 23 (some v1) v2) fun _ =>
    xw_bd (xw_pI 22 (some v1) v3) fun _ =>
    xw_bd (xw_pR 24 (some v1) v4) fun _ =>
    xw_rt ())
    else (
    xw_rt ())

def pg_X6_isYes (v1 : Nat) (v2 : Option Nat) : xw_M xw_St Int32 :=
 xw_rt 0

def pg_X10_isYes (v1 : Nat) (v2 : Option Nat) : xw_M xw_St Int32 :=
 xw_rt 1

def pg_X1_runs (HG : Nat → Int32 → Option Nat → xw_M xw_St Int32) (v1 : Nat) (v2 : Option Nat) (v3 : Option Nat) (v4 : Int32) : xw_M xw_St Unit :=
 xw_bd (xw_cv 1 (some v1) (fun v5 => pg_X1_lays v5 v2 v4)) fun _ =>
    xw_bd (xw_pR 21 (some v1) v3) fun _ =>
    xw_bd (xw_pI 23 (some v1) 9999) fun _ =>
    xw_bd (xw_pI 22 (some v1) (-1)) fun _ =>
    xw_bd (xw_pR 24 (some v1) none) fun _ =>
    xw_bd (xw_loop (α := Int32) (β := Unit) (fun v6 =>
    xw_bd (xw_gI 103 v2) fun v38 =>
    if v38 ≤ v6 then (
    xw_rt (.inr ()))
    else (
    xw_bd (xw_gR 99 v2) fun v39 =>
    xw_bd (xw_ldR v39 v6) fun v40 =>
    xw_bd (xw_dv v40 [(5, fun v42 => pg_X6_isOffer v42 v3), (6, fun v42 => pg_X8_isOffer v42 v3), (7, fun v42 => pg_X6_isOffer v42 v3), (8, fun v42 => pg_X11_isOffer v42 v3), (9, fun v42 => pg_X6_isOffer v42 v3), (10, fun v42 => pg_X6_isOffer v42 v3), (11, fun v42 => pg_X6_isOffer v42 v3), (12, fun v42 => pg_X6_isOffer v42 v3)]) fun v41 =>
    if v41 = 0 then (
    xw_rt (.inl (v6 + 1)))
    else (
    xw_bd (xw_gR 99 v2) fun v43 =>
    xw_bd (xw_ldR v43 v6) fun v44 =>
    xw_bd (xw_cv 1 (some v1) (fun v45 => pg_X1_opens HG v45 v44)) fun _ =>
    xw_rt (.inl (v6 + 1))))) xw_FU 0)
    (fun (v7 : Unit) =>
    xw_bd (xw_loop (α := Int32) (β := Unit) (fun v8 =>
    xw_bd (xw_gI 103 v2) fun v24 =>
    if v24 ≤ v8 then (
    xw_rt (.inr ()))
    else (
    xw_bd (xw_gR 99 v2) fun v25 =>
    xw_bd (xw_ldR v25 v8) fun v26 =>
    xw_bd (xw_dv v26 [(5, fun v28 => pg_X6_isYes v28 v3), (6, fun v28 => pg_X6_isYes v28 v3), (7, fun v28 => pg_X10_isYes v28 v3), (8, fun v28 => pg_X11_isYes v28 v3), (9, fun v28 => pg_X6_isYes v28 v3), (10, fun v28 => pg_X6_isYes v28 v3), (11, fun v28 => pg_X14_isYes v28 v3), (12, fun v28 => pg_X6_isYes v28 v3)]) fun v27 =>
    if v27 = 0 then (
    xw_rt (.inl (v8 + 1)))
    else (
    xw_bd (xw_gR 99 v2) fun v29 =>
    xw_bd (xw_ldR v29 v8) fun v30 =>
    xw_bd (xw_cv 1 (some v1) (fun v32 => pg_X1_makes v32 v30)) fun v31 =>
    xw_bd (xw_gR 99 v2) fun v33 =>
    xw_bd (xw_ldR v33 v8) fun v34 =>
    xw_bd (xw_dv v34 [(5, fun v36 => pg_X6_said v36), (6, fun v36 => pg_X6_said v36), (7, fun v36 => pg_X9_said v36), (8, fun v36 => pg_X9_said v36), (9, fun v36 => pg_X9_said v36), (10, fun v36 => pg_X9_said v36), (11, fun v36 => pg_X9_said v36), (12, fun v36 => pg_X9_said v36)]) fun v35 =>
    xw_bd (xw_cv 1 (some v1) (fun v37 => pg_X1_takes v37 v31 v8 v35)) fun _ =>
    xw_rt (.inl (v8 + 1))))) xw_FU 0)
    (fun (v9 : Unit) =>
    xw_bd (xw_loop (α := Int32) (β := Unit) (fun v10 =>
    xw_bd (xw_gI 103 v2) fun v12 =>
    if v12 ≤ v10 then (
    xw_rt (.inr ()))
    else (
    xw_bd (xw_gR 99 v2) fun v13 =>
    xw_bd (xw_ldR v13 v10) fun v14 =>
    xw_bd (xw_dv v14 [(5, fun v16 => pg_X6_isOffer v16 v3), (6, fun v16 => pg_X8_isOffer v16 v3), (7, fun v16 => pg_X6_isOffer v16 v3), (8, fun v16 => pg_X11_isOffer v16 v3), (9, fun v16 => pg_X6_isOffer v16 v3), (10, fun v16 => pg_X6_isOffer v16 v3), (11, fun v16 => pg_X6_isOffer v16 v3), (12, fun v16 => pg_X6_isOffer v16 v3)]) fun v15 =>
    if v15 = 0 then (
    xw_rt (.inl (v10 + 1)))
    else (
    xw_bd (xw_gR 99 v2) fun v17 =>
    xw_bd (xw_ldR v17 v10) fun v18 =>
    xw_bd (xw_cv 1 (some v1) (fun v20 => pg_X1_silence v20 v18)) fun v19 =>
    xw_bd (xw_gR 99 v2) fun v21 =>
    xw_bd (xw_ldR v21 v10) fun v22 =>
    xw_bd (xw_cv 1 (some v1) (fun v23 => pg_X1_takes v23 v19 (-1) v22)) fun _ =>
    xw_rt (.inl (v10 + 1))))) xw_FU 0)
    (fun (v11 : Unit) =>
    xw_rt ())))

def pg_X0_hasGiven : Nat → Nat → Int32 → Option Nat → xw_M xw_St Int32
  | 0 => fun _ _ _ => xw_no
  | d + 1 => fun v1 v2 v3 =>
 xw_bd (xw_gR 131 v3) fun v4 =>
    xw_bd (xw_ldI v4 v2) fun v5 =>
    xw_bd (if v5 = 0 then (
    xw_bd (xw_gR 0 (some v1)) fun v9 =>
    xw_bd (xw_ldR v9 v2) fun v10 =>
    xw_bd (xw_gI 10 (some v1)) fun v11 =>
    xw_bd (xw_pI 10 (some v1) (v11 + 1)) fun _ =>
    xw_bd (xw_gR 4 (some v1)) fun v12 =>
    xw_bd (xw_gI 10 (some v1)) fun v13 =>
    xw_bd (xw_ldR v12 v13) fun v14 =>
    xw_bd (xw_cv 4 v10 (fun v16 => pg_X5_isLooked v16)) fun v15 =>
    xw_bd (xw_loop (α := Int32 × Int32) (β := Int32) (fun v17 =>
    if v17.1 = 0 then (
    xw_rt (.inr (v17.1)))
    else (
    xw_bd (xw_cv 4 v10 (fun v23 => pg_X5_combos v23)) fun v22 =>
    if v22 ≤ v17.2 then (
    xw_rt (.inr (v17.1)))
    else (
    xw_bd (xw_cv 1 v14 (fun v24 => pg_X1_runs (pg_X0_hasGiven d) v24 v10 v3 v17.2)) fun _ =>
    xw_bd (xw_cv 1 v14 (fun v26 => pg_X1_isBargain v26)) fun v25 =>
    xw_rt (.inl (v25, v17.2 + 1))))) xw_FU (v15, 0))
    (fun (v18 : Int32) =>
    xw_bd (xw_gI 10 (some v1)) fun v19 =>
    xw_bd (xw_pI 10 (some v1) (v19 - 1)) fun _ =>
    xw_bd (xw_gR 131 v3) fun v20 =>
    xw_bd (if v18 = 0 then (
    xw_rt 1)
    else (
    xw_rt 2))
    (fun (v21 : Int32) =>
    xw_bd (xw_stI v20 v2 v21) fun _ =>
    xw_rt ())))
    else (
    xw_rt ()))
    (fun (v6 : Unit) =>
    xw_bd (xw_gR 131 v3) fun v7 =>
    xw_bd (xw_ldI v7 v2) fun v8 =>
    if v8 = 2 then (
    xw_rt 1)
    else (
    xw_rt 0))

def pg_X20_init (v1 : Nat) : xw_M xw_St Unit :=
 xw_bd (xw_nwa 125 13) fun v2 =>
    xw_bd (xw_stI (some v2) 0 1) fun _ =>
    xw_bd (xw_stI (some v2) 1 1) fun _ =>
    xw_bd (xw_stI (some v2) 2 1) fun _ =>
    xw_bd (xw_stI (some v2) 3 1) fun _ =>
    xw_bd (xw_stI (some v2) 4 1) fun _ =>
    xw_bd (xw_stI (some v2) 5 1) fun _ =>
    xw_bd (xw_stI (some v2) 6 0) fun _ =>
    xw_bd (xw_stI (some v2) 7 (-1)) fun _ =>
    xw_bd (xw_stI (some v2) 8 (-1)) fun _ =>
    xw_bd (xw_stI (some v2) 9 0) fun _ =>
    xw_bd (xw_stI (some v2) 10 0) fun _ =>
    xw_bd (xw_stI (some v2) 11 0) fun _ =>
    xw_bd (xw_stI (some v2) 12 0) fun _ =>
    xw_bd (xw_pR 130 (some v1) (some v2)) fun _ =>
    xw_bd (xw_nwa 126 16) fun v3 =>
    xw_bd (xw_pR 131 (some v1) (some v3)) fun _ =>
    xw_rt ()

def pg_X20_takes (v1 : Nat) (v2 : Option Nat) : xw_M xw_St Unit :=
 xw_bd (xw_loop (α := Int32) (β := Unit) (fun v3 =>
    xw_bd (xw_gI 128 v2) fun v5 =>
    if v5 ≤ v3 then (
    xw_rt (.inr ()))
    else (
    xw_bd (xw_gR 130 (some v1)) fun v6 =>
    xw_bd (xw_gR 126 v2) fun v7 =>
    xw_bd (xw_ldI v7 v3) fun v8 =>
    xw_bd (xw_gR 127 v2) fun v9 =>
    xw_bd (xw_ldI v9 v3) fun v10 =>
    xw_bd (xw_stI v6 v8 v10) fun _ =>
    xw_rt (.inl (v3 + 1)))) xw_FU 0)
    (fun (v4 : Unit) =>
    xw_rt ())

def pg_X0_rulesOf (v1 : Nat) (v2 : Int32) : xw_M xw_St (Option Nat) :=
 xw_bd (xw_new 17) fun v3 =>
    xw_bd (pg_X20_init v3) fun _ =>
    xw_bd (xw_gR 1 (some v1)) fun v4 =>
    xw_bd (xw_ldR v4 v2) fun v5 =>
    xw_bd (xw_cv 17 (some v3) (fun v6 => pg_X20_takes v6 v5)) fun _ =>
    xw_rt (some v3)

def pg_X0_ran (v1 : Nat) (v2 : Option Nat) (v3 : Option Nat) (v4 : Int32) : xw_M xw_St (Option Nat) :=
 xw_bd (xw_gR 4 (some v1)) fun v5 =>
    xw_bd (xw_ldR v5 0) fun v6 =>
    xw_bd (xw_cv 1 v6 (fun v7 => pg_X1_runs (pg_X0_hasGiven 17) v7 v2 v3 v4)) fun _ =>
    xw_bd (xw_gR 4 (some v1)) fun v8 =>
    xw_bd (xw_ldR v8 0) fun v9 =>
    xw_rt v9

def pg_X0_feed (v1 : Nat) (v2 : Int32) (v3 : Int32) (v4 : Int32) (v5 : Int32) (v6 : Int32) : xw_M xw_St Int32 :=
 xw_bd (xw_gI 5 (some v1)) fun v7 =>
    if (v7 + 20) ≤ 900 then (
    xw_bd (xw_nwa 72 5) fun v8 =>
    xw_bd (xw_stI (some v8) 0 v2) fun _ =>
    xw_bd (xw_stI (some v8) 1 v3) fun _ =>
    xw_bd (xw_stI (some v8) 2 v4) fun _ =>
    xw_bd (xw_stI (some v8) 3 v5) fun _ =>
    xw_bd (xw_stI (some v8) 4 v6) fun _ =>
    xw_bd (xw_loop (α := Int32) (β := Unit) (fun v9 =>
    if 20 ≤ v9 then (
    xw_rt (.inr ()))
    else (
    xw_bd (xw_gR 3 (some v1)) fun v13 =>
    xw_bd (xw_gI 5 (some v1)) fun v14 =>
    xw_bd (xw_div v9 4) fun v15 =>
    xw_bd (xw_ldI (some v8) v15) fun v16 =>
    xw_bd (xw_rem v9 4) fun v17 =>
    xw_bd (xw_stB v13 (v14 + v9) ((v16 >>> ((24 - (8 * v17)) &&& 31) : Int32).toInt8.toInt32)) fun _ =>
    xw_rt (.inl (v9 + 1)))) xw_FU 0)
    (fun (v10 : Unit) =>
    xw_bd (xw_gI 5 (some v1)) fun v11 =>
    xw_bd (xw_pI 5 (some v1) (v11 + 20)) fun _ =>
    xw_bd (xw_gI 5 (some v1)) fun v12 =>
    xw_rt v12))
    else (
    xw_rt (-1))

def pg_X3_place (v1 : Nat) : xw_M xw_St Int32 :=
 xw_bd (xw_gI 91 (some v1)) fun v2 =>
    xw_rt v2

def pg_X4_hasRoom (v1 : Nat) : xw_M xw_St Int32 :=
 xw_bd (xw_gR 96 (some v1)) fun v2 =>
    xw_bd (xw_gI 103 v2) fun v3 =>
    if 12 ≤ v3 then (
    xw_rt 0)
    else (
    xw_rt 1)

def pg_X4_isWhole (v1 : Nat) : xw_M xw_St Int32 :=
 xw_bd (xw_gR 96 (some v1)) fun v2 =>
    xw_bd (xw_gI 103 v2) fun v3 =>
    xw_bd (xw_gI 98 (some v1)) fun v4 =>
    if v3 ≤ v4 then (
    xw_rt 0)
    else (
    xw_rt 1)

def pg_X5_asks (v1 : Nat) (v2 : Int32) (v3 : Int32) (v4 : Int32) : xw_M xw_St Unit :=
 if v4 = 1 then (
    xw_rt ())
    else (
    xw_bd (xw_gR 100 (some v1)) fun v5 =>
    xw_bd (xw_gI 104 (some v1)) fun v6 =>
    xw_bd (xw_stI v5 v6 v2) fun _ =>
    xw_bd (xw_gR 101 (some v1)) fun v7 =>
    xw_bd (xw_gI 104 (some v1)) fun v8 =>
    xw_bd (xw_stI v7 v8 v3) fun _ =>
    xw_bd (xw_gR 102 (some v1)) fun v9 =>
    xw_bd (xw_gI 104 (some v1)) fun v10 =>
    xw_bd (xw_stI v9 v10 v4) fun _ =>
    xw_bd (xw_gI 104 (some v1)) fun v11 =>
    xw_bd (xw_pI 104 (some v1) (v11 + 1)) fun _ =>
    xw_bd (xw_gJ 105 (some v1)) fun v12 =>
    xw_lt (xw_minL 1025 (v12 * ((v4 : Int32).toInt64))) fun v13 =>
    xw_bd (xw_pJ 105 (some v1) v13) fun _ =>
    xw_rt ())

def pg_X16_many (v1 : Nat) : xw_M xw_St Int32 :=
 xw_bd (xw_gI 117 (some v1)) fun v2 =>
    xw_bd (xw_gI 116 (some v1)) fun v3 =>
    xw_rt ((v2 - v3) + 1)

def pg_X5_adds (v1 : Nat) (v2 : Option Nat) : xw_M xw_St Unit :=
 xw_bd (xw_gR 99 (some v1)) fun v3 =>
    xw_bd (xw_gI 103 (some v1)) fun v4 =>
    xw_bd (xw_stR v3 v4 v2) fun _ =>
    xw_bd (xw_gI 103 (some v1)) fun v5 =>
    xw_bd (xw_pI 103 (some v1) (v5 + 1)) fun _ =>
    xw_bd (xw_gI 106 v2) fun v6 =>
    xw_bd (xw_gR 108 v2) fun v7 =>
    xw_bd (xw_gR 119 v7) fun v8 =>
    xw_bd (xw_cv 13 v8 (fun v10 => pg_X16_many v10)) fun v9 =>
    xw_bd (xw_cv 4 (some v1) (fun v11 => pg_X5_asks v11 v6 0 v9)) fun _ =>
    xw_bd (xw_gI 106 v2) fun v12 =>
    xw_bd (xw_gR 108 v2) fun v13 =>
    xw_bd (xw_gR 120 v13) fun v14 =>
    xw_bd (xw_cv 13 v14 (fun v16 => pg_X16_many v16)) fun v15 =>
    xw_bd (xw_cv 4 (some v1) (fun v17 => pg_X5_asks v17 v12 1 v15)) fun _ =>
    xw_bd (xw_gI 106 v2) fun v18 =>
    xw_bd (xw_gR 108 v2) fun v19 =>
    xw_bd (xw_gR 121 v19) fun v20 =>
    xw_bd (xw_cv 13 v20 (fun v22 => pg_X16_many v22)) fun v21 =>
    xw_bd (xw_cv 4 (some v1) (fun v23 => pg_X5_asks v23 v18 2 v21)) fun _ =>
    xw_bd (xw_gI 106 v2) fun v24 =>
    xw_bd (xw_gR 108 v2) fun v25 =>
    xw_bd (xw_gI 122 v25) fun v26 =>
    xw_bd (if v26 = 0 then (
    xw_rt 1)
    else (
    xw_rt 2))
    (fun (v27 : Int32) =>
    xw_bd (xw_cv 4 (some v1) (fun v28 => pg_X5_asks v28 v24 3 v27)) fun _ =>
    xw_rt ())

def pg_X6_init (v1 : Nat) (v2 : Int32) (v3 : Int32) : xw_M xw_St Unit :=
 xw_bd (xw_pI 106 (some v1) v2) fun _ =>
    xw_bd (xw_pI 107 (some v1) v3) fun _ =>
    xw_rt ()

def pg_X9_init (v1 : Nat) (v2 : Int32) (v3 : Int32) (v4 : Option Nat) : xw_M xw_St Unit :=
 xw_bd (pg_X6_init v1 v2 v3) fun _ =>
    xw_bd (xw_pR 114 (some v1) v4) fun _ =>
    xw_rt ()

def pg_X13_init (v1 : Nat) (v2 : Int32) (v3 : Int32) (v4 : Option Nat) : xw_M xw_St Unit :=
 xw_bd (pg_X9_init v1 v2 v3 v4) fun _ =>
    xw_rt ()

def pg_X10_init (v1 : Nat) (v2 : Int32) (v3 : Int32) (v4 : Option Nat) : xw_M xw_St Unit :=
 xw_bd (pg_X9_init v1 v2 v3 v4) fun _ =>
    xw_rt ()

def pg_X11_init (v1 : Nat) (v2 : Int32) (v3 : Int32) (v4 : Option Nat) (v5 : Option Nat) : xw_M xw_St Unit :=
 xw_bd (pg_X10_init v1 v2 v3 v4) fun _ =>
    xw_bd (xw_pR 115 (some v1) v5) fun _ =>
    xw_rt ()

def pg_X3_isDigit (v1 : Nat) (v2 : Int32) : xw_M xw_St Int32 :=
 xw_bd (xw_gI 90 (some v1)) fun v3 =>
    if v3 ≤ v2 then (
    xw_rt 0)
    else (
    xw_bd (xw_gR 89 (some v1)) fun v4 =>
    xw_bd (xw_ldB v4 v2) fun v5 =>
    if v5 < 48 then (
    xw_rt 0)
    else (
    xw_bd (xw_gR 89 (some v1)) fun v6 =>
    xw_bd (xw_ldB v6 v2) fun v7 =>
    if 57 < v7 then (
    xw_rt 0)
    else (
    xw_rt 1)))

def pg_X3_isLetter (v1 : Nat) (v2 : Int32) : xw_M xw_St Int32 :=
 xw_bd (xw_gI 90 (some v1)) fun v3 =>
    if v3 ≤ v2 then (
    xw_rt 0)
    else (
    xw_bd (xw_gR 89 (some v1)) fun v4 =>
    xw_bd (xw_ldB v4 v2) fun v5 =>
    if v5 < 97 then (
    xw_rt 0)
    else (
    xw_bd (xw_gR 89 (some v1)) fun v6 =>
    xw_bd (xw_ldB v6 v2) fun v7 =>
    if 122 < v7 then (
    xw_rt 0)
    else (
    xw_rt 1)))

def pg_X3_look (v1 : Nat) : xw_M xw_St Unit :=
 xw_bd (xw_loop (α := Unit) (β := Unit) (fun v2 =>
    xw_bd (xw_gI 91 (some v1)) fun v47 =>
    xw_bd (xw_gI 90 (some v1)) fun v48 =>
    if v48 ≤ v47 then (
    xw_rt (.inr ()))
    else (
    xw_bd (xw_gR 89 (some v1)) fun v49 =>
    xw_bd (xw_gI 91 (some v1)) fun v50 =>
    xw_bd (xw_ldB v49 v50) fun v51 =>
    xw_jn (fun (v52 : Unit) =>
    xw_bd (xw_gI 91 (some v1)) fun v53 =>
    xw_bd (xw_pI 91 (some v1) (v53 + 1)) fun _ =>
    xw_rt (.inl ()))
    (fun J9 =>
    if v51 = 32 then (
    J9 ())
    else (
    xw_bd (xw_gR 89 (some v1)) fun v54 =>
    xw_bd (xw_gI 91 (some v1)) fun v55 =>
    xw_bd (xw_ldB v54 v55) fun v56 =>
    if v56 = 10 then (
    J9 ())
    else (
    xw_rt (.inr ())))))) xw_FU ())
    (fun (v3 : Unit) =>
    xw_bd (xw_gI 91 (some v1)) fun v4 =>
    xw_bd (xw_pI 92 (some v1) v4) fun _ =>
    xw_bd (xw_pJ 94 (some v1) 0) fun _ =>
    xw_bd (xw_gI 91 (some v1)) fun v5 =>
    xw_bd (xw_gI 90 (some v1)) fun v6 =>
    if v5 = v6 then (
    xw_bd (xw_pI 93 (some v1) 0) fun _ =>
    xw_rt ())
    else (
    xw_bd (xw_gI 91 (some v1)) fun v7 =>
    xw_bd (xw_dv (some v1) [(3, fun v9 => pg_X3_isLetter v9 v7), (15, fun v9 => pg_X3_isLetter v9 v7)]) fun v8 =>
    if v8 = 0 then (
    xw_bd (xw_gI 91 (some v1)) fun v10 =>
    xw_bd (xw_dv (some v1) [(3, fun v12 => pg_X3_isDigit v12 v10), (15, fun v12 => pg_X3_isDigit v12 v10)]) fun v11 =>
    if v11 = 0 then (
    xw_bd (xw_pI 93 (some v1) 3) fun _ =>
    xw_bd (xw_gR 89 (some v1)) fun v13 =>
    xw_bd (xw_gI 91 (some v1)) fun v14 =>
    xw_bd (xw_ldB v13 v14) fun v15 =>
    xw_bd (xw_pJ 94 (some v1) ((v15 : Int32).toInt64)) fun _ =>
    xw_bd (xw_gI 92 (some v1)) fun v16 =>
    xw_bd (xw_pI 92 (some v1) (v16 + 1)) fun _ =>
    xw_rt ())
    else (
    xw_bd (xw_pI 93 (some v1) 2) fun _ =>
    xw_bd (xw_loop (α := Unit) (β := Unit) (fun v17 =>
    xw_bd (xw_gI 92 (some v1)) fun v21 =>
    xw_bd (xw_dv (some v1) [(3, fun v23 => pg_X3_isDigit v23 v21), (15, fun v23 => pg_X3_isDigit v23 v21)]) fun v22 =>
    if v22 = 0 then (
    xw_rt (.inr ()))
    else (
    xw_bd (xw_gI 92 (some v1)) fun v24 =>
    xw_bd (xw_gI 91 (some v1)) fun v25 =>
    xw_bd (if 4 ≤ (v24 - v25) then (
    xw_rt ())
    else (
    xw_bd (xw_gJ 94 (some v1)) fun v28 =>
    xw_bd (xw_gR 89 (some v1)) fun v29 =>
    xw_bd (xw_gI 92 (some v1)) fun v30 =>
    xw_bd (xw_ldB v29 v30) fun v31 =>
    xw_bd (xw_pJ 94 (some v1) (((10 * v28) + ((v31 : Int32).toInt64)) - 48)) fun _ =>
    xw_rt ()))
    (fun (v26 : Unit) =>
    xw_bd (xw_gI 92 (some v1)) fun v27 =>
    xw_bd (xw_pI 92 (some v1) (v27 + 1)) fun _ =>
    xw_rt (.inl ())))) xw_FU ())
    (fun (v18 : Unit) =>
    xw_bd (xw_gI 92 (some v1)) fun v19 =>
    xw_bd (xw_gI 91 (some v1)) fun v20 =>
    if (v19 - v20) ≤ 4 then (
    xw_rt ())
    else (
    xw_bd (xw_pJ 94 (some v1) (-1)) fun _ =>
    xw_rt ()))))
    else (
    xw_bd (xw_pI 93 (some v1) 1) fun _ =>
    xw_bd (xw_loop (α := Unit) (β := Unit) (fun v32 =>
    xw_bd (xw_gI 92 (some v1)) fun v36 =>
    xw_bd (xw_dv (some v1) [(3, fun v38 => pg_X3_isLetter v38 v36), (15, fun v38 => pg_X3_isLetter v38 v36)]) fun v37 =>
    if v37 = 0 then (
    xw_rt (.inr ()))
    else (
    xw_bd (xw_gI 92 (some v1)) fun v39 =>
    xw_bd (xw_gI 91 (some v1)) fun v40 =>
    xw_bd (if 7 ≤ (v39 - v40) then (
    xw_rt (-1))
    else (
    xw_bd (xw_gJ 94 (some v1)) fun v43 =>
    xw_bd (xw_gR 89 (some v1)) fun v44 =>
    xw_bd (xw_gI 92 (some v1)) fun v45 =>
    xw_bd (xw_ldB v44 v45) fun v46 =>
    xw_rt ((v43 <<< ((8 : Int32).toInt64 &&& 63)) ||| ((v46 : Int32).toInt64))))
    (fun (v41 : Int64) =>
    xw_bd (xw_pJ 94 (some v1) v41) fun _ =>
    xw_bd (xw_gI 92 (some v1)) fun v42 =>
    xw_bd (xw_pI 92 (some v1) (v42 + 1)) fun _ =>
    xw_rt (.inl ())))) xw_FU ())
    (fun (v33 : Unit) =>
    xw_bd (xw_gI 92 (some v1)) fun v34 =>
    xw_bd (xw_gI 91 (some v1)) fun v35 =>
    if (v34 - v35) ≤ 7 then (
    xw_rt ())
    else (
    xw_bd (xw_pJ 94 (some v1) (-1)) fun _ =>
    xw_rt ())))))

def pg_X3_pass (v1 : Nat) : xw_M xw_St Unit :=
 xw_bd (xw_gI 92 (some v1)) fun v2 =>
    xw_bd (xw_pI 91 (some v1) v2) fun _ =>
    xw_bd (xw_dv (some v1) [(3, fun v3 => pg_X3_look v3), (15, fun v3 => pg_X3_look v3)]) fun _ =>
    xw_rt ()

def pg_X3_maybe (v1 : Nat) (v2 : Option Nat) : xw_M xw_St Int32 :=
 xw_bd (xw_gI 95 (some v1)) fun v3 =>
    xw_bd (if v3 = 0 then (
    xw_bd (xw_gI 93 (some v1)) fun v6 =>
    if v6 = 1 then (
    xw_bd (xw_gJ 94 (some v1)) fun v7 =>
    xw_bd (pg_X0_find v2 v7) fun v8 =>
    xw_rt v8)
    else (
    xw_rt (-1)))
    else (
    xw_rt (-1)))
    (fun (v4 : Int32) =>
    if v4 = (-1) then (
    xw_rt v4)
    else (
    xw_bd (xw_dv (some v1) [(3, fun v5 => pg_X3_pass v5), (15, fun v5 => pg_X3_pass v5)]) fun _ =>
    xw_rt v4))

def pg_X3_number (v1 : Nat) (v2 : Int32) (v3 : Int32) : xw_M xw_St Int32 :=
 xw_bd (xw_gI 95 (some v1)) fun v4 =>
    xw_jn (fun (v5 : Unit) =>
    xw_bd (xw_pZ 95 (some v1) 1) fun _ =>
    xw_rt v2)
    (fun J1 =>
    if v4 = 0 then (
    xw_bd (xw_gI 93 (some v1)) fun v6 =>
    if v6 = 2 then (
    xw_bd (xw_gJ 94 (some v1)) fun v7 =>
    xw_bd (pg_X0_isIn ((v7 : Int64).toInt32) v2 v3) fun v8 =>
    if v8 = 0 then (
    J1 ())
    else (
    xw_bd (xw_gJ 94 (some v1)) fun v9 =>
    xw_lt ((v9 : Int64).toInt32) fun v10 =>
    xw_bd (xw_dv (some v1) [(3, fun v11 => pg_X3_pass v11), (15, fun v11 => pg_X3_pass v11)]) fun _ =>
    xw_rt v10))
    else (
    J1 ()))
    else (
    J1 ()))

def pg_X4_terms (v1 : Nat) : xw_M xw_St (Option Nat) :=
 xw_bd (xw_nwa 121 5) fun v2 =>
    xw_bd (xw_stI (some v2) 0 (-1)) fun _ =>
    xw_bd (xw_stI (some v2) 1 (-1)) fun _ =>
    xw_bd (xw_stI (some v2) 2 (-1)) fun _ =>
    xw_bd (xw_stI (some v2) 3 (-1)) fun _ =>
    xw_bd (xw_stI (some v2) 4 (-1)) fun _ =>
    xw_bd (xw_gs 2) fun v3 =>
    xw_bd (xw_cv 3 (some v1) (fun v5 => pg_X3_maybe v5 v3)) fun v4 =>
    xw_bd (xw_loop (α := Int32) (β := Unit) (fun v6 =>
    if v6 = (-1) then (
    xw_rt (.inr ()))
    else (
    xw_bd (xw_cv 3 (some v1) (fun v9 => pg_X3_number v9 0 999)) fun v8 =>
    xw_bd (xw_stI (some v2) v6 v8) fun _ =>
    xw_bd (xw_gs 2) fun v10 =>
    xw_bd (xw_cv 3 (some v1) (fun v12 => pg_X3_maybe v12 v10)) fun v11 =>
    xw_rt (.inl v11))) xw_FU v4)
    (fun (v7 : Unit) =>
    xw_rt (some v2))

def pg_X4_but (v1 : Nat) (v2 : Int32) (v3 : Int32) (v4 : Option Nat) : xw_M xw_St (Option Nat) :=
 xw_bd (xw_gI 95 (some v1)) fun v5 =>
    xw_bd (xw_jn (fun (v10 : Unit) =>
    xw_bd (xw_pZ 95 (some v1) 1) fun _ =>
    xw_rt ())
    (fun J2 =>
    if v5 = 0 then (
    xw_bd (xw_gI 93 (some v1)) fun v11 =>
    if v11 = 1 then (
    xw_bd (xw_gs 2) fun v12 =>
    xw_bd (xw_gJ 94 (some v1)) fun v13 =>
    xw_bd (pg_X0_find v12 v13) fun v14 =>
    if v14 = (-1) then (
    J2 ())
    else (
    xw_rt ()))
    else (
    J2 ()))
    else (
    J2 ())))
    (fun (v6 : Unit) =>
    xw_bd (xw_new 8) fun v7 =>
    xw_bd (xw_cv 3 (some v1) (fun v9 => pg_X4_terms v9)) fun v8 =>
    xw_bd (pg_X11_init v7 v2 v3 v4 v8) fun _ =>
    xw_rt (some v7))

def pg_X7_to (v1 : Nat) : xw_M xw_St Int32 :=
 xw_bd (xw_gI 109 (some v1)) fun v2 =>
    xw_rt v2

def pg_X11_to (v1 : Nat) : xw_M xw_St Int32 :=
 xw_bd (xw_cv 8 (some v1) (fun v3 => pg_X9_said v3)) fun v2 =>
    xw_bd (xw_gI 107 v2) fun v4 =>
    xw_rt v4

def pg_X8_to (v1 : Nat) : xw_M xw_St Int32 :=
 xw_bd (xw_gI 110 (some v1)) fun v2 =>
    xw_rt v2

def pg_X6_to (v1 : Nat) : xw_M xw_St Int32 :=
 xw_rt (-1)

def pg_X4_maySay (v1 : Nat) (v2 : Int32) (v3 : Int32) (v4 : Option Nat) : xw_M xw_St Int32 :=
 xw_bd (xw_dv v4 [(5, fun v6 => pg_X7_kind v6), (6, fun v6 => pg_X8_kind v6), (7, fun v6 => pg_X10_kind v6), (8, fun v6 => pg_X11_kind v6), (9, fun v6 => pg_X12_kind v6), (10, fun v6 => pg_X13_kind v6), (11, fun v6 => pg_X14_kind v6), (12, fun v6 => pg_X15_kind v6)]) fun v5 =>
    xw_bd (if v5 = 0 then (
    xw_rt 1)
    else (
    xw_bd (xw_dv v4 [(5, fun v15 => pg_X7_kind v15), (6, fun v15 => pg_X8_kind v15), (7, fun v15 => pg_X10_kind v15), (8, fun v15 => pg_X11_kind v15), (9, fun v15 => pg_X12_kind v15), (10, fun v15 => pg_X13_kind v15), (11, fun v15 => pg_X14_kind v15), (12, fun v15 => pg_X15_kind v15)]) fun v14 =>
    if v14 = 3 then (
    xw_rt 1)
    else (
    xw_rt 0)))
    (fun (v7 : Int32) =>
    if v2 = 5 then (
    xw_bd (xw_gI 107 v4) fun v11 =>
    if v11 = v3 then (
    if v7 = 0 then (
    xw_bd (xw_dv v4 [(5, fun v13 => pg_X7_kind v13), (6, fun v13 => pg_X8_kind v13), (7, fun v13 => pg_X10_kind v13), (8, fun v13 => pg_X11_kind v13), (9, fun v13 => pg_X12_kind v13), (10, fun v13 => pg_X13_kind v13), (11, fun v13 => pg_X14_kind v13), (12, fun v13 => pg_X15_kind v13)]) fun v12 =>
    if v12 = 2 then (
    xw_rt 1)
    else (
    xw_rt 0))
    else (
    xw_rt 1))
    else (
    xw_rt 0))
    else (
    if v7 = 0 then (
    xw_rt 0)
    else (
    if v2 = 7 then (
    xw_bd (xw_gI 107 v4) fun v10 =>
    if v10 = v3 then (
    xw_rt 1)
    else (
    xw_rt 0))
    else (
    xw_bd (xw_dv v4 [(5, fun v9 => pg_X7_to v9), (6, fun v9 => pg_X8_to v9), (7, fun v9 => pg_X6_to v9), (8, fun v9 => pg_X11_to v9), (9, fun v9 => pg_X6_to v9), (10, fun v9 => pg_X6_to v9), (11, fun v9 => pg_X6_to v9), (12, fun v9 => pg_X6_to v9)]) fun v8 =>
    if v8 = v3 then (
    xw_rt 1)
    else (
    xw_rt 0)))))

def pg_X4_said (v1 : Nat) (v2 : Int32) (v3 : Int32) : xw_M xw_St (Option Nat) :=
 xw_bd (xw_gI 95 (some v1)) fun v4 =>
    xw_jn (fun (v5 : Unit) =>
    xw_bd (xw_pZ 95 (some v1) 1) fun _ =>
    xw_rt none)
    (fun J1 =>
    if v4 = 0 then (
    xw_bd (xw_gI 93 (some v1)) fun v6 =>
    if v6 = 2 then (
    xw_bd (xw_gJ 94 (some v1)) fun v7 =>
    xw_bd (xw_gR 96 (some v1)) fun v8 =>
    xw_bd (xw_gI 103 v8) fun v9 =>
    xw_bd (pg_X0_isIn ((v7 : Int64).toInt32) 0 (v9 - 1)) fun v10 =>
    if v10 = 0 then (
    J1 ())
    else (
    xw_bd (xw_gR 96 (some v1)) fun v11 =>
    xw_bd (xw_gR 99 v11) fun v12 =>
    xw_bd (xw_gJ 94 (some v1)) fun v13 =>
    xw_bd (xw_ldR v12 ((v13 : Int64).toInt32)) fun v14 =>
    xw_bd (xw_cv 3 (some v1) (fun v16 => pg_X4_maySay v16 v2 v3 v14)) fun v15 =>
    if v15 = 0 then (
    J1 ())
    else (
    xw_bd (xw_gR 96 (some v1)) fun v17 =>
    xw_bd (xw_gR 99 v17) fun v18 =>
    xw_bd (xw_gJ 94 (some v1)) fun v19 =>
    xw_bd (xw_ldR v18 ((v19 : Int64).toInt32)) fun v20 =>
    xw_bd (xw_cv 3 (some v1) (fun v21 => pg_X3_pass v21)) fun _ =>
    xw_rt v20)))
    else (
    J1 ()))
    else (
    J1 ()))

def pg_X14_init (v1 : Nat) (v2 : Int32) (v3 : Int32) (v4 : Option Nat) : xw_M xw_St Unit :=
 xw_bd (pg_X10_init v1 v2 v3 v4) fun _ =>
    xw_rt ()

def pg_X12_init (v1 : Nat) (v2 : Int32) (v3 : Int32) (v4 : Option Nat) : xw_M xw_St Unit :=
 xw_bd (pg_X9_init v1 v2 v3 v4) fun _ =>
    xw_rt ()

def pg_X3_takes (v1 : Nat) (v2 : Int64) : xw_M xw_St Int32 :=
 xw_bd (xw_gI 95 (some v1)) fun v3 =>
    if v3 = 0 then (
    xw_bd (xw_gI 93 (some v1)) fun v4 =>
    if v4 = 1 then (
    xw_bd (xw_gJ 94 (some v1)) fun v5 =>
    if (lg_cmp v5 v2) = 0 then (
    xw_bd (xw_dv (some v1) [(3, fun v6 => pg_X3_pass v6), (15, fun v6 => pg_X3_pass v6)]) fun _ =>
    xw_rt 1)
    else (
    xw_rt 0))
    else (
    xw_rt 0))
    else (
    xw_rt 0)

def pg_X15_init (v1 : Nat) (v2 : Int32) (v3 : Int32) (v4 : Option Nat) : xw_M xw_St Unit :=
 xw_bd (pg_X9_init v1 v2 v3 v4) fun _ =>
    xw_rt ()

def pg_X4_answers (v1 : Nat) (v2 : Int32) (v3 : Int32) : xw_M xw_St (Option Nat) :=
 xw_bd (xw_cv 3 (some v1) (fun v5 => pg_X4_said v5 v2 v3)) fun v4 =>
    xw_bd (xw_gR 96 (some v1)) fun v6 =>
    xw_bd (xw_gI 103 v6) fun v7 =>
    if v2 = 2 then (xw_bd (xw_cv 3 (some v1) (fun v9 => pg_X3_takes v9 6452596)) fun v8 =>
    if v8 = 0 then (
    xw_bd (xw_new 7) fun v10 =>
    xw_bd (pg_X10_init v10 v7 v3 v4) fun _ =>
    xw_rt (some v10))
    else (
    xw_bd (xw_cv 3 (some v1) (fun v12 => pg_X4_but v12 v7 v3 v4)) fun v11 =>
    xw_rt v11)) else (
    if v2 = 3 then (xw_bd (xw_new 12) fun v13 =>
    xw_bd (pg_X15_init v13 v7 v3 v4) fun _ =>
    xw_rt (some v13)) else (
    if v2 = 4 then (xw_bd (xw_new 9) fun v14 =>
    xw_bd (pg_X12_init v14 v7 v3 v4) fun _ =>
    xw_rt (some v14)) else (
    if v2 = 5 then (xw_bd (xw_new 10) fun v15 =>
    xw_bd (pg_X13_init v15 v7 v3 v4) fun _ =>
    xw_rt (some v15)) else (
    if v2 = 6 then (xw_bd (xw_new 11) fun v16 =>
    xw_bd (pg_X14_init v16 v7 v3 v4) fun _ =>
    xw_rt (some v16)) else (
    xw_bd (xw_new 12) fun v17 =>
    xw_bd (pg_X15_init v17 v7 v3 v4) fun _ =>
    xw_rt (some v17))))))

def pg_X7_init (v1 : Nat) (v2 : Int32) (v3 : Int32) (v4 : Int32) : xw_M xw_St Unit :=
 xw_bd (pg_X6_init v1 v2 v3) fun _ =>
    xw_bd (xw_pI 109 (some v1) v4) fun _ =>
    xw_rt ()

def pg_X4_kindOfHand (v1 : Nat) (v2 : Int32) : xw_M xw_St Int32 :=
 xw_bd (xw_gI 95 (some v1)) fun v3 =>
    xw_bd (if v3 = 0 then (
    xw_bd (xw_gI 93 (some v1)) fun v7 =>
    if v7 = 1 then (
    xw_bd (xw_gs 1) fun v8 =>
    xw_bd (xw_gJ 94 (some v1)) fun v9 =>
    xw_bd (pg_X0_find v8 v9) fun v10 =>
    xw_rt v10)
    else (
    xw_rt (-1)))
    else (
    xw_rt (-1)))
    (fun (v4 : Int32) =>
    xw_jn (fun (v5 : Unit) =>
    xw_bd (xw_pZ 95 (some v1) 1) fun _ =>
    xw_rt 0)
    (fun J2 =>
    if v4 = (-1) then (
    J2 ())
    else (
    if v4 = v2 then (
    J2 ())
    else (
    xw_bd (xw_cv 3 (some v1) (fun v6 => pg_X3_pass v6)) fun _ =>
    xw_rt v4))))

def pg_X8_init (v1 : Nat) (v2 : Int32) (v3 : Int32) (v4 : Int32) (v5 : Option Nat) : xw_M xw_St Unit :=
 xw_bd (pg_X6_init v1 v2 v3) fun _ =>
    xw_bd (xw_pI 112 (some v1) (-1)) fun _ =>
    xw_bd (xw_pI 113 (some v1) (-1)) fun _ =>
    xw_bd (xw_pI 110 (some v1) v4) fun _ =>
    xw_bd (xw_pR 111 (some v1) v5) fun _ =>
    xw_rt ()

def pg_X4_opens (v1 : Nat) (v2 : Int32) (v3 : Int32) : xw_M xw_St (Option Nat) :=
 xw_bd (xw_cv 3 (some v1) (fun v5 => pg_X4_kindOfHand v5 v3)) fun v4 =>
    if v2 = 1 then (
    xw_bd (xw_new 5) fun v21 =>
    xw_bd (xw_gR 96 (some v1)) fun v22 =>
    xw_bd (xw_gI 103 v22) fun v23 =>
    xw_bd (pg_X7_init v21 v23 v3 v4) fun _ =>
    xw_rt (some v21))
    else (
    xw_bd (xw_new 6) fun v6 =>
    xw_bd (xw_gR 96 (some v1)) fun v7 =>
    xw_bd (xw_gI 103 v7) fun v8 =>
    xw_bd (xw_cv 3 (some v1) (fun v10 => pg_X4_terms v10)) fun v9 =>
    xw_bd (pg_X8_init v6 v8 v3 v4 v9) fun _ =>
    xw_bd (xw_cv 3 (some v1) (fun v12 => pg_X3_takes v12 1752132708)) fun v11 =>
    xw_bd (if v11 = 0 then (
    xw_rt ())
    else (
    xw_bd (xw_cv 3 (some v1) (fun v20 => pg_X3_number v20 0 1999)) fun v19 =>
    xw_bd (xw_pI 112 (some v6) v19) fun _ =>
    xw_rt ()))
    (fun (v13 : Unit) =>
    xw_bd (xw_cv 3 (some v1) (fun v15 => pg_X3_takes v15 444150998382)) fun v14 =>
    if v14 = 0 then (
    xw_rt (some v6))
    else (
    xw_bd (xw_gI 97 (some v1)) fun v16 =>
    xw_bd (xw_cv 3 (some v1) (fun v18 => pg_X3_number v18 0 (v16 - 1))) fun v17 =>
    xw_bd (xw_pI 113 (some v6) v17) fun _ =>
    xw_rt (some v6))))

def pg_X16_init (v1 : Nat) (v2 : Int32) (v3 : Int32) : xw_M xw_St Unit :=
 xw_bd (xw_pI 116 (some v1) v2) fun _ =>
    xw_bd (xw_pI 117 (some v1) v3) fun _ =>
    xw_rt ()

def pg_X4_span (v1 : Nat) (v2 : Int32) : xw_M xw_St (Option Nat) :=
 xw_bd (xw_cv 3 (some v1) (fun v4 => pg_X3_number v4 0 v2)) fun v3 =>
    xw_bd (xw_new 13) fun v5 =>
    xw_bd (xw_cv 3 (some v1) (fun v7 => pg_X3_takes v7 29807)) fun v6 =>
    xw_bd (if v6 = 0 then (
    xw_rt v3)
    else (
    xw_lt (xw_min v2 (v3 + 15)) fun v9 =>
    xw_bd (xw_cv 3 (some v1) (fun v11 => pg_X3_number v11 v3 v9)) fun v10 =>
    xw_rt v10))
    (fun (v8 : Int32) =>
    xw_bd (pg_X16_init v5 v3 v8) fun _ =>
    xw_rt (some v5))

def pg_X3_name (v1 : Nat) (v2 : Option Nat) : xw_M xw_St Int32 :=
 xw_bd (xw_dv (some v1) [(3, fun v4 => pg_X3_maybe v4 v2), (15, fun v4 => pg_X3_maybe v4 v2)]) fun v3 =>
    xw_bd (if v3 = (-1) then (
    xw_bd (xw_pZ 95 (some v1) 1) fun _ =>
    xw_rt ())
    else (
    xw_rt ()))
    (fun (v5 : Unit) =>
    xw_lt (xw_max 0 v3) fun v6 =>
    xw_rt v6)

def pg_X3_needs (v1 : Nat) (v2 : Int32) (v3 : Int64) : xw_M xw_St Unit :=
 xw_bd (xw_gI 95 (some v1)) fun v4 =>
    if v4 = 0 then (
    xw_bd (xw_gI 93 (some v1)) fun v5 =>
    if v5 = v2 then (
    xw_bd (xw_gJ 94 (some v1)) fun v6 =>
    if (lg_cmp v6 v3) = 0 then (
    xw_bd (xw_dv (some v1) [(3, fun v7 => pg_X3_pass v7), (15, fun v7 => pg_X3_pass v7)]) fun _ =>
    xw_rt ())
    else (
    xw_bd (xw_pZ 95 (some v1) 1) fun _ =>
    xw_rt ()))
    else (
    xw_bd (xw_pZ 95 (some v1) 1) fun _ =>
    xw_rt ()))
    else (
    xw_bd (xw_pZ 95 (some v1) 1) fun _ =>
    xw_rt ())

def pg_X17_init (v1 : Nat) (v2 : Int32) (v3 : Option Nat) (v4 : Option Nat) (v5 : Option Nat) (v6 : Int32) (v7 : Int32) : xw_M xw_St Unit :=
 xw_bd (xw_pI 118 (some v1) v2) fun _ =>
    xw_bd (xw_pR 119 (some v1) v3) fun _ =>
    xw_bd (xw_pR 120 (some v1) v4) fun _ =>
    xw_bd (xw_pR 121 (some v1) v5) fun _ =>
    xw_bd (xw_pZ 122 (some v1) v6) fun _ =>
    xw_bd (xw_pZ 123 (some v1) v7) fun _ =>
    xw_rt ()

def pg_X4_times (v1 : Nat) : xw_M xw_St (Option Nat) :=
 xw_bd (xw_gs 3) fun v2 =>
    xw_bd (xw_cv 3 (some v1) (fun v4 => pg_X3_name v4 v2)) fun v3 =>
    xw_bd (xw_cv 3 (some v1) (fun v5 => pg_X3_needs v5 1 24948)) fun _ =>
    xw_bd (xw_cv 3 (some v1) (fun v7 => pg_X4_span v7 1999)) fun v6 =>
    xw_jn (fun (v8 : Unit) =>
    xw_bd (xw_new 14) fun v9 =>
    xw_bd (xw_gs 12) fun v10 =>
    xw_bd (xw_gs 12) fun v11 =>
    xw_bd (pg_X17_init v9 v3 v6 v10 v11 0 0) fun _ =>
    xw_rt (some v9))
    (fun J1 =>
    if v3 = 2 then (
    J1 ())
    else (
    if v3 = 3 then (
    J1 ())
    else (
    xw_bd (xw_cv 3 (some v1) (fun v12 => pg_X3_needs v12 1 418330731890)) fun _ =>
    xw_bd (xw_cv 3 (some v1) (fun v14 => pg_X4_span v14 999)) fun v13 =>
    xw_bd (xw_cv 3 (some v1) (fun v16 => pg_X3_takes v16 1919246692)) fun v15 =>
    xw_bd (if v15 = 0 then (
    xw_bd (xw_gs 12) fun v21 =>
    xw_rt v21)
    else (
    xw_bd (xw_cv 3 (some v1) (fun v23 => pg_X4_span v23 999)) fun v22 =>
    xw_rt v22))
    (fun (v17 : Option Nat) =>
    xw_bd (xw_new 14) fun v18 =>
    xw_bd (xw_cv 3 (some v1) (fun v20 => pg_X3_takes v20 1819243380)) fun v19 =>
    xw_bd (pg_X17_init v18 v3 v6 v13 v17 v19 0) fun _ =>
    xw_rt (some v18)))))

def pg_X4_statement (v1 : Nat) : xw_M xw_St Unit :=
 xw_bd (xw_gs 0) fun v2 =>
    xw_bd (xw_cv 3 (some v1) (fun v4 => pg_X3_name v4 v2)) fun v3 =>
    xw_bd (xw_gs 1) fun v5 =>
    xw_bd (xw_cv 3 (some v1) (fun v7 => pg_X3_name v7 v5)) fun v6 =>
    xw_bd (xw_jn (fun (v15 : Unit) =>
    xw_bd (xw_cv 3 (some v1) (fun v17 => pg_X4_opens v17 v3 v6)) fun v16 =>
    xw_rt v16)
    (fun J2 =>
    if v3 = 0 then (
    J2 ())
    else (
    if v3 = 1 then (
    J2 ())
    else (
    xw_bd (xw_cv 3 (some v1) (fun v19 => pg_X4_answers v19 v3 v6)) fun v18 =>
    xw_rt v18))))
    (fun (v8 : Option Nat) =>
    xw_bd (xw_cv 3 (some v1) (fun v10 => pg_X4_times v10)) fun v9 =>
    xw_bd (xw_cv 3 (some v1) (fun v11 => pg_X3_needs v11 3 59)) fun _ =>
    xw_bd (xw_gI 95 (some v1)) fun v12 =>
    if v12 = 0 then (
    xw_bd (xw_pR 108 v8 v9) fun _ =>
    xw_bd (xw_gR 96 (some v1)) fun v13 =>
    xw_bd (xw_cv 4 v13 (fun v14 => pg_X5_adds v14 v8)) fun _ =>
    xw_rt ())
    else (
    xw_rt ()))

def pg_X18_hasRoom (v1 : Nat) : xw_M xw_St Int32 :=
 xw_bd (xw_gR 124 (some v1)) fun v2 =>
    xw_bd (xw_gI 129 v2) fun v3 =>
    if 20 ≤ v3 then (
    xw_rt 0)
    else (
    xw_rt 1)

def pg_X18_isWhole (v1 : Nat) : xw_M xw_St Int32 :=
 xw_bd (xw_gR 124 (some v1)) fun v2 =>
    xw_bd (xw_gI 129 v2) fun v3 =>
    xw_bd (xw_gI 125 (some v1)) fun v4 =>
    if v3 < v4 then (
    xw_rt 0)
    else (
    xw_rt 1)

def pg_X19_adds (v1 : Nat) (v2 : Int32) (v3 : Int32) : xw_M xw_St Unit :=
 xw_bd (xw_gR 126 (some v1)) fun v4 =>
    xw_bd (xw_gI 128 (some v1)) fun v5 =>
    xw_bd (xw_stI v4 v5 v2) fun _ =>
    xw_bd (xw_gR 127 (some v1)) fun v6 =>
    xw_bd (xw_gI 128 (some v1)) fun v7 =>
    xw_bd (xw_stI v6 v7 v3) fun _ =>
    xw_bd (xw_gI 128 (some v1)) fun v8 =>
    xw_bd (xw_pI 128 (some v1) (v8 + 1)) fun _ =>
    xw_rt ()

def pg_X18_yes (v1 : Nat) : xw_M xw_St Unit :=
 xw_bd (xw_gs 6) fun v2 =>
    xw_bd (xw_cv 15 (some v1) (fun v4 => pg_X3_name v4 v2)) fun v3 =>
    xw_bd (xw_gs 4) fun v5 =>
    xw_bd (xw_cv 15 (some v1) (fun v7 => pg_X3_name v7 v5)) fun v6 =>
    xw_bd (xw_loop (α := Int32) (β := Unit) (fun v8 =>
    if 3 ≤ v8 then (
    xw_rt (.inr ()))
    else (
    if v3 = 3 then (
    xw_bd (xw_gR 124 (some v1)) fun v10 =>
    xw_bd (xw_cv 16 v10 (fun v11 => pg_X19_adds v11 (0 + v8) v6)) fun _ =>
    xw_rt (.inl (v8 + 1)))
    else (
    if v3 = v8 then (
    xw_bd (xw_gR 124 (some v1)) fun v12 =>
    xw_bd (xw_cv 16 v12 (fun v13 => pg_X19_adds v13 (0 + v8) v6)) fun _ =>
    xw_rt (.inl (v8 + 1)))
    else (
    xw_rt (.inl (v8 + 1)))))) xw_FU 0)
    (fun (v9 : Unit) =>
    xw_rt ())

def pg_X18_statement (v1 : Nat) : xw_M xw_St Unit :=
 xw_bd (xw_gs 5) fun v2 =>
    xw_bd (xw_cv 15 (some v1) (fun v4 => pg_X3_name v4 v2)) fun v3 =>
    xw_bd (if v3 = 0 then (xw_bd (xw_cv 15 (some v1) (fun v9 => pg_X18_yes v9)) fun _ =>
    xw_rt ()) else (
    if v3 = 1 then (xw_bd (xw_gR 124 (some v1)) fun v10 =>
    xw_bd (xw_gs 4) fun v11 =>
    xw_bd (xw_cv 15 (some v1) (fun v13 => pg_X3_name v13 v11)) fun v12 =>
    xw_bd (xw_cv 16 v10 (fun v14 => pg_X19_adds v14 3 v12)) fun _ =>
    xw_rt ()) else (
    if v3 = 2 then (xw_bd (xw_gR 124 (some v1)) fun v15 =>
    xw_bd (xw_gs 4) fun v16 =>
    xw_bd (xw_cv 15 (some v1) (fun v18 => pg_X3_name v18 v16)) fun v17 =>
    xw_bd (xw_cv 16 v15 (fun v19 => pg_X19_adds v19 4 v17)) fun _ =>
    xw_rt ()) else (
    if v3 = 3 then (xw_bd (xw_gR 124 (some v1)) fun v20 =>
    xw_bd (xw_gs 4) fun v21 =>
    xw_bd (xw_cv 15 (some v1) (fun v23 => pg_X3_name v23 v21)) fun v22 =>
    xw_bd (xw_cv 16 v20 (fun v24 => pg_X19_adds v24 5 v22)) fun _ =>
    xw_rt ()) else (
    if v3 = 4 then (xw_bd (xw_gR 124 (some v1)) fun v25 =>
    xw_bd (xw_gs 7) fun v26 =>
    xw_bd (xw_cv 15 (some v1) (fun v28 => pg_X3_name v28 v26)) fun v27 =>
    xw_bd (xw_cv 16 v25 (fun v29 => pg_X19_adds v29 6 v27)) fun _ =>
    xw_rt ()) else (
    if v3 = 5 then (xw_bd (xw_gR 124 (some v1)) fun v30 =>
    xw_bd (xw_cv 15 (some v1) (fun v32 => pg_X3_number v32 0 999)) fun v31 =>
    xw_bd (xw_cv 16 v30 (fun v33 => pg_X19_adds v33 7 v31)) fun _ =>
    xw_rt ()) else (
    if v3 = 6 then (xw_bd (xw_gR 124 (some v1)) fun v34 =>
    xw_bd (xw_cv 15 (some v1) (fun v36 => pg_X3_number v36 0 999)) fun v35 =>
    xw_bd (xw_cv 16 v34 (fun v37 => pg_X19_adds v37 8 v35)) fun _ =>
    xw_rt ()) else (
    if v3 = 7 then (xw_bd (xw_gR 124 (some v1)) fun v38 =>
    xw_bd (xw_gs 8) fun v39 =>
    xw_bd (xw_cv 15 (some v1) (fun v41 => pg_X3_name v41 v39)) fun v40 =>
    xw_bd (xw_cv 16 v38 (fun v42 => pg_X19_adds v42 9 v40)) fun _ =>
    xw_rt ()) else (
    if v3 = 8 then (xw_bd (xw_gR 124 (some v1)) fun v43 =>
    xw_bd (xw_gs 9) fun v44 =>
    xw_bd (xw_cv 15 (some v1) (fun v46 => pg_X3_name v46 v44)) fun v45 =>
    xw_bd (xw_cv 16 v43 (fun v47 => pg_X19_adds v47 10 v45)) fun _ =>
    xw_rt ()) else (
    if v3 = 9 then (xw_bd (xw_gR 124 (some v1)) fun v48 =>
    xw_bd (xw_gs 10) fun v49 =>
    xw_bd (xw_cv 15 (some v1) (fun v51 => pg_X3_name v51 v49)) fun v50 =>
    xw_bd (xw_cv 16 v48 (fun v52 => pg_X19_adds v52 11 v50)) fun _ =>
    xw_rt ()) else (
    xw_bd (xw_gR 124 (some v1)) fun v53 =>
    xw_bd (xw_gs 11) fun v54 =>
    xw_bd (xw_cv 15 (some v1) (fun v56 => pg_X3_name v56 v54)) fun v55 =>
    xw_bd (xw_cv 16 v53 (fun v57 => pg_X19_adds v57 12 v55)) fun _ =>
    xw_rt ())))))))))))
    (fun (v5 : Unit) =>
    xw_bd (xw_cv 15 (some v1) (fun v6 => pg_X3_needs v6 3 59)) fun _ =>
    xw_bd (xw_gR 124 (some v1)) fun v7 =>
    xw_bd (xw_gI 129 v7) fun v8 =>
    xw_bd (xw_pI 129 v7 (v8 + 1)) fun _ =>
    xw_rt ())

def pg_X3_reads (v1 : Nat) : xw_M xw_St Int32 :=
 xw_bd (xw_loop (α := Unit) (β := Unit) (fun v2 =>
    xw_bd (xw_gI 95 (some v1)) fun v7 =>
    if v7 = 0 then (
    xw_bd (xw_gI 93 (some v1)) fun v8 =>
    if v8 = 0 then (
    xw_rt (.inr ()))
    else (
    xw_bd (xw_dv (some v1) [(3, fun v10 => pg_X4_hasRoom v10), (15, fun v10 => pg_X18_hasRoom v10)]) fun v9 =>
    if v9 = 0 then (
    xw_bd (xw_pZ 95 (some v1) 1) fun _ =>
    xw_rt (.inl ()))
    else (
    xw_bd (xw_dv (some v1) [(3, fun v11 => pg_X4_statement v11), (15, fun v11 => pg_X18_statement v11)]) fun _ =>
    xw_rt (.inl ()))))
    else (
    xw_rt (.inr ()))) xw_FU ())
    (fun (v3 : Unit) =>
    xw_bd (xw_gI 95 (some v1)) fun v4 =>
    if v4 = 0 then (
    xw_bd (xw_dv (some v1) [(3, fun v6 => pg_X4_isWhole v6), (15, fun v6 => pg_X18_isWhole v6)]) fun v5 =>
    if v5 = 0 then (
    xw_rt 0)
    else (
    xw_rt 1))
    else (
    xw_rt 0))

def pg_X0_isTaken (v1 : Nat) (v2 : Option Nat) : xw_M xw_St Int32 :=
 xw_bd (xw_dv v2 [(3, fun v4 => pg_X3_reads v4), (15, fun v4 => pg_X3_reads v4)]) fun v3 =>
    xw_bd (xw_pI 5 (some v1) 0) fun _ =>
    xw_bd (if v3 = 0 then (
    xw_bd (xw_dv v2 [(3, fun v7 => pg_X3_place v7), (15, fun v7 => pg_X3_place v7)]) fun v6 =>
    xw_rt v6)
    else (
    xw_rt (-1)))
    (fun (v5 : Int32) =>
    xw_bd (xw_pI 9 (some v1) v5) fun _ =>
    xw_rt (v3 &&& 1))

def pg_X5_init (v1 : Nat) : xw_M xw_St Unit :=
 xw_bd (xw_nwa 117 12) fun v2 =>
    xw_bd (xw_pR 99 (some v1) (some v2)) fun _ =>
    xw_bd (xw_nwa 118 48) fun v3 =>
    xw_bd (xw_pR 100 (some v1) (some v3)) fun _ =>
    xw_bd (xw_nwa 119 48) fun v4 =>
    xw_bd (xw_pR 101 (some v1) (some v4)) fun _ =>
    xw_bd (xw_nwa 120 48) fun v5 =>
    xw_bd (xw_pR 102 (some v1) (some v5)) fun _ =>
    xw_bd (xw_pJ 105 (some v1) 1) fun _ =>
    xw_rt ()

def pg_X5_is (v1 : Nat) (v2 : Option Nat) : xw_M xw_St Unit :=
 xw_bd (xw_pI 103 (some v1) 0) fun _ =>
    xw_bd (xw_pI 104 (some v1) 0) fun _ =>
    xw_bd (xw_pJ 105 (some v1) 1) fun _ =>
    xw_bd (xw_loop (α := Int32) (β := Unit) (fun v3 =>
    xw_bd (xw_gI 103 v2) fun v5 =>
    if v5 ≤ v3 then (
    xw_rt (.inr ()))
    else (
    xw_bd (xw_gR 99 v2) fun v6 =>
    xw_bd (xw_ldR v6 v3) fun v7 =>
    xw_bd (xw_cv 4 (some v1) (fun v8 => pg_X5_adds v8 v7)) fun _ =>
    xw_rt (.inl (v3 + 1)))) xw_FU 0)
    (fun (v4 : Unit) =>
    xw_rt ())

def pg_X3_init (v1 : Nat) (v2 : Option Nat) (v3 : Int32) : xw_M xw_St Unit :=
 xw_bd (xw_pR 89 (some v1) v2) fun _ =>
    xw_bd (xw_pI 90 (some v1) v3) fun _ =>
    xw_bd (xw_dv (some v1) [(3, fun v4 => pg_X3_look v4), (15, fun v4 => pg_X3_look v4)]) fun _ =>
    xw_rt ()

def pg_X4_init (v1 : Nat) (v2 : Option Nat) (v3 : Int32) (v4 : Option Nat) (v5 : Int32) : xw_M xw_St Unit :=
 xw_bd (pg_X3_init v1 v2 v3) fun _ =>
    xw_bd (xw_new 4) fun v6 =>
    xw_bd (pg_X5_init v6) fun _ =>
    xw_bd (xw_pR 96 (some v1) (some v6)) fun _ =>
    xw_bd (xw_pI 97 (some v1) v5) fun _ =>
    xw_bd (if v4 = none then (
    xw_rt ())
    else (
    xw_bd (xw_gR 96 (some v1)) fun v10 =>
    xw_bd (xw_cv 4 v10 (fun v11 => pg_X5_is v11 v4)) fun _ =>
    xw_rt ()))
    (fun (v7 : Unit) =>
    xw_bd (xw_gR 96 (some v1)) fun v8 =>
    xw_bd (xw_gI 103 v8) fun v9 =>
    xw_bd (xw_pI 98 (some v1) v9) fun _ =>
    xw_rt ())

def pg_X0_tell (v1 : Nat) (v2 : Int32) : xw_M xw_St Int32 :=
 xw_bd (xw_gI 5 (some v1)) fun v3 =>
    xw_bd (pg_X0_isIn v2 0 v3) fun v4 =>
    if v4 = 0 then (
    xw_rt (-2))
    else (
    xw_bd (xw_gI 6 (some v1)) fun v5 =>
    if v5 = 16 then (
    xw_rt (-3))
    else (
    xw_bd (xw_new 3) fun v6 =>
    xw_bd (xw_gR 3 (some v1)) fun v7 =>
    xw_bd (xw_gI 6 (some v1)) fun v8 =>
    xw_bd (pg_X4_init v6 v7 v2 none v8) fun _ =>
    xw_bd (xw_cv 0 (some v1) (fun v10 => pg_X0_isTaken v10 (some v6))) fun v9 =>
    if v9 = 0 then (
    xw_rt (-1))
    else (
    xw_bd (xw_gR 0 (some v1)) fun v11 =>
    xw_bd (xw_gI 6 (some v1)) fun v12 =>
    xw_bd (xw_gR 96 (some v6)) fun v13 =>
    xw_bd (xw_stR v11 v12 v13) fun _ =>
    xw_bd (xw_gI 6 (some v1)) fun v14 =>
    xw_bd (xw_pI 6 (some v1) (v14 + 1)) fun _ =>
    xw_bd (xw_gI 6 (some v1)) fun v15 =>
    xw_rt (v15 - 1))))

def pg_X0_isCase (v1 : Nat) (v2 : Int32) : xw_M xw_St Int32 :=
 xw_bd (xw_gI 6 (some v1)) fun v3 =>
    xw_bd (pg_X0_isIn v2 0 (v3 - 1)) fun v4 =>
    xw_rt (v4 &&& 1)

def pg_X0_more (v1 : Nat) (v2 : Int32) (v3 : Int32) : xw_M xw_St Int32 :=
 xw_bd (xw_cv 0 (some v1) (fun v5 => pg_X0_isCase v5 v2)) fun v4 =>
    if v4 = 0 then (
    xw_rt (-2))
    else (
    xw_bd (xw_gI 5 (some v1)) fun v6 =>
    xw_bd (pg_X0_isIn v3 0 v6) fun v7 =>
    if v7 = 0 then (
    xw_rt (-2))
    else (
    xw_bd (xw_new 3) fun v8 =>
    xw_bd (xw_gR 3 (some v1)) fun v9 =>
    xw_bd (xw_gR 0 (some v1)) fun v10 =>
    xw_bd (xw_ldR v10 v2) fun v11 =>
    xw_bd (pg_X4_init v8 v9 v3 v11 v2) fun _ =>
    xw_bd (xw_cv 0 (some v1) (fun v13 => pg_X0_isTaken v13 (some v8))) fun v12 =>
    if v12 = 0 then (
    xw_rt (-1))
    else (
    xw_bd (xw_gR 0 (some v1)) fun v14 =>
    xw_bd (xw_gR 96 (some v8)) fun v15 =>
    xw_bd (xw_stR v14 v2 v15) fun _ =>
    xw_bd (xw_gR 96 (some v8)) fun v16 =>
    xw_bd (xw_gI 103 v16) fun v17 =>
    xw_rt v17)))

def pg_X19_init (v1 : Nat) : xw_M xw_St Unit :=
 xw_bd (xw_nwa 132 60) fun v2 =>
    xw_bd (xw_pR 126 (some v1) (some v2)) fun _ =>
    xw_bd (xw_nwa 133 60) fun v3 =>
    xw_bd (xw_pR 127 (some v1) (some v3)) fun _ =>
    xw_rt ()

def pg_X18_init (v1 : Nat) (v2 : Option Nat) (v3 : Int32) (v4 : Int32) : xw_M xw_St Unit :=
 xw_bd (pg_X3_init v1 v2 v3) fun _ =>
    xw_bd (xw_new 16) fun v5 =>
    xw_bd (pg_X19_init v5) fun _ =>
    xw_bd (xw_pR 124 (some v1) (some v5)) fun _ =>
    xw_bd (xw_pI 125 (some v1) v4) fun _ =>
    xw_rt ()

def pg_X0_law (v1 : Nat) (v2 : Int32) : xw_M xw_St Int32 :=
 xw_bd (xw_gI 5 (some v1)) fun v3 =>
    xw_bd (pg_X0_isIn v2 0 v3) fun v4 =>
    if v4 = 0 then (
    xw_rt (-2))
    else (
    xw_bd (xw_gI 7 (some v1)) fun v5 =>
    if v5 = 8 then (
    xw_rt (-3))
    else (
    xw_bd (xw_new 15) fun v6 =>
    xw_bd (xw_gR 3 (some v1)) fun v7 =>
    xw_bd (pg_X18_init v6 v7 v2 0) fun _ =>
    xw_bd (xw_cv 0 (some v1) (fun v9 => pg_X0_isTaken v9 (some v6))) fun v8 =>
    if v8 = 0 then (
    xw_rt (-1))
    else (
    xw_bd (xw_gR 1 (some v1)) fun v10 =>
    xw_bd (xw_gI 7 (some v1)) fun v11 =>
    xw_bd (xw_gR 124 (some v6)) fun v12 =>
    xw_bd (xw_stR v10 v11 v12) fun _ =>
    xw_bd (xw_gI 7 (some v1)) fun v13 =>
    xw_bd (xw_pI 7 (some v1) (v13 + 1)) fun _ =>
    xw_bd (xw_gI 7 (some v1)) fun v14 =>
    xw_rt (v14 - 1))))

def pg_X0_clause (v1 : Nat) (v2 : Int32) : xw_M xw_St Int32 :=
 xw_bd (xw_gI 5 (some v1)) fun v3 =>
    xw_bd (pg_X0_isIn v2 0 v3) fun v4 =>
    if v4 = 0 then (
    xw_rt (-2))
    else (
    xw_bd (xw_gI 8 (some v1)) fun v5 =>
    if v5 = 6 then (
    xw_rt (-3))
    else (
    xw_bd (xw_new 15) fun v6 =>
    xw_bd (xw_gR 3 (some v1)) fun v7 =>
    xw_bd (pg_X18_init v6 v7 v2 1) fun _ =>
    xw_bd (xw_cv 0 (some v1) (fun v9 => pg_X0_isTaken v9 (some v6))) fun v8 =>
    if v8 = 0 then (
    xw_rt (-1))
    else (
    xw_bd (xw_gR 2 (some v1)) fun v10 =>
    xw_bd (xw_gI 8 (some v1)) fun v11 =>
    xw_bd (xw_gR 124 (some v6)) fun v12 =>
    xw_bd (xw_stR v10 v11 v12) fun _ =>
    xw_bd (xw_gI 8 (some v1)) fun v13 =>
    xw_bd (xw_pI 8 (some v1) (v13 + 1)) fun _ =>
    xw_bd (xw_gI 8 (some v1)) fun v14 =>
    xw_rt (v14 - 1))))

def pg_X0_fault (v1 : Nat) : xw_M xw_St Int32 :=
 xw_bd (xw_gI 9 (some v1)) fun v2 =>
    xw_rt v2

def pg_X11_own (v1 : Nat) (v2 : Int32) : xw_M xw_St Int32 :=
 xw_bd (xw_gR 115 (some v1)) fun v3 =>
    xw_bd (xw_ldI v3 v2) fun v4 =>
    xw_rt v4

def pg_X8_own (v1 : Nat) (v2 : Int32) : xw_M xw_St Int32 :=
 xw_bd (xw_gR 111 (some v1)) fun v3 =>
    xw_bd (xw_ldI v3 v2) fun v4 =>
    xw_rt v4

def pg_X6_own (v1 : Nat) (v2 : Int32) : xw_M xw_St Int32 :=
 xw_rt (-1)

def pg_X0_saying (v1 : Nat) (v2 : Int32) (v3 : Int32) (v4 : Int32) : xw_M xw_St Int32 :=
 xw_bd (xw_cv 0 (some v1) (fun v6 => pg_X0_isCase v6 v2)) fun v5 =>
    if v5 = 0 then (
    xw_rt (-2))
    else (
    xw_bd (xw_gR 0 (some v1)) fun v7 =>
    xw_bd (xw_ldR v7 v2) fun v8 =>
    xw_bd (xw_gI 103 v8) fun v9 =>
    xw_bd (pg_X0_isIn v3 0 (v9 - 1)) fun v10 =>
    if v10 = 0 then (
    xw_rt (-2))
    else (
    xw_bd (xw_gR 0 (some v1)) fun v11 =>
    xw_bd (xw_ldR v11 v2) fun v12 =>
    xw_bd (xw_gR 99 v12) fun v13 =>
    xw_bd (xw_ldR v13 v3) fun v14 =>
    if v4 = 0 then (xw_bd (xw_dv v14 [(5, fun v16 => pg_X7_kind v16), (6, fun v16 => pg_X8_kind v16), (7, fun v16 => pg_X10_kind v16), (8, fun v16 => pg_X11_kind v16), (9, fun v16 => pg_X12_kind v16), (10, fun v16 => pg_X13_kind v16), (11, fun v16 => pg_X14_kind v16), (12, fun v16 => pg_X15_kind v16)]) fun v15 =>
    xw_rt v15) else (
    if v4 = 1 then (xw_bd (xw_gI 107 v14) fun v17 =>
    xw_rt v17) else (
    if v4 = 2 then (xw_bd (xw_dv v14 [(5, fun v19 => pg_X7_to v19), (6, fun v19 => pg_X8_to v19), (7, fun v19 => pg_X6_to v19), (8, fun v19 => pg_X11_to v19), (9, fun v19 => pg_X6_to v19), (10, fun v19 => pg_X6_to v19), (11, fun v19 => pg_X6_to v19), (12, fun v19 => pg_X6_to v19)]) fun v18 =>
    xw_rt v18) else (
    if v4 = 3 then (xw_bd (xw_dv v14 [(5, fun v21 => pg_X6_said v21), (6, fun v21 => pg_X6_said v21), (7, fun v21 => pg_X9_said v21), (8, fun v21 => pg_X9_said v21), (9, fun v21 => pg_X9_said v21), (10, fun v21 => pg_X9_said v21), (11, fun v21 => pg_X9_said v21), (12, fun v21 => pg_X9_said v21)]) fun v20 =>
    if v20 = none then (
    xw_rt (-1))
    else (
    xw_bd (xw_dv v14 [(5, fun v23 => pg_X6_said v23), (6, fun v23 => pg_X6_said v23), (7, fun v23 => pg_X9_said v23), (8, fun v23 => pg_X9_said v23), (9, fun v23 => pg_X9_said v23), (10, fun v23 => pg_X9_said v23), (11, fun v23 => pg_X9_said v23), (12, fun v23 => pg_X9_said v23)]) fun v22 =>
    xw_bd (xw_gI 106 v22) fun v24 =>
    xw_rt v24)) else (
    if v4 = 4 then (xw_bd (xw_gR 108 v14) fun v25 =>
    xw_bd (xw_gI 118 v25) fun v26 =>
    xw_rt v26) else (
    if v4 = 5 then (xw_bd (xw_dv v14 [(5, fun v28 => pg_X6_hold v28), (6, fun v28 => pg_X8_hold v28), (7, fun v28 => pg_X6_hold v28), (8, fun v28 => pg_X6_hold v28), (9, fun v28 => pg_X6_hold v28), (10, fun v28 => pg_X6_hold v28), (11, fun v28 => pg_X6_hold v28), (12, fun v28 => pg_X6_hold v28)]) fun v27 =>
    xw_rt v27) else (
    if v4 = 6 then (xw_bd (xw_dv v14 [(5, fun v30 => pg_X6_given v30), (6, fun v30 => pg_X8_given v30), (7, fun v30 => pg_X6_given v30), (8, fun v30 => pg_X6_given v30), (9, fun v30 => pg_X6_given v30), (10, fun v30 => pg_X6_given v30), (11, fun v30 => pg_X6_given v30), (12, fun v30 => pg_X6_given v30)]) fun v29 =>
    xw_rt v29) else (
    xw_bd (pg_X0_isIn v4 10 14) fun v31 =>
    if v31 = 0 then (
    xw_rt (-2))
    else (
    xw_bd (xw_dv v14 [(5, fun v33 => pg_X6_own v33 (v4 - 10)), (6, fun v33 => pg_X8_own v33 (v4 - 10)), (7, fun v33 => pg_X6_own v33 (v4 - 10)), (8, fun v33 => pg_X11_own v33 (v4 - 10)), (9, fun v33 => pg_X6_own v33 (v4 - 10)), (10, fun v33 => pg_X6_own v33 (v4 - 10)), (11, fun v33 => pg_X6_own v33 (v4 - 10)), (12, fun v33 => pg_X6_own v33 (v4 - 10))]) fun v32 =>
    xw_rt v32))))))))))

def pg_X0_asked (v1 : Nat) (v2 : Int32) (v3 : Int32) : xw_M xw_St Int32 :=
 xw_bd (xw_cv 0 (some v1) (fun v5 => pg_X0_isCase v5 v2)) fun v4 =>
    if v4 = 0 then (
    xw_rt (-2))
    else (
    xw_bd (pg_X0_isIn v3 0 2) fun v6 =>
    if v6 = 0 then (
    xw_rt (-2))
    else (
    xw_bd (xw_gR 0 (some v1)) fun v7 =>
    xw_bd (xw_ldR v7 v2) fun v8 =>
    if v3 = 0 then (
    xw_bd (xw_gI 103 v8) fun v14 =>
    xw_rt v14)
    else (
    if v3 = 1 then (
    xw_bd (xw_gI 104 v8) fun v13 =>
    xw_rt v13)
    else (
    xw_bd (xw_cv 4 v8 (fun v10 => pg_X5_isLooked v10)) fun v9 =>
    if v9 = 0 then (
    xw_rt (-1))
    else (
    xw_bd (xw_cv 4 v8 (fun v12 => pg_X5_combos v12)) fun v11 =>
    xw_rt v11)))))

def pg_X0_isCombo (v1 : Nat) (v2 : Int32) (v3 : Int32) : xw_M xw_St Int32 :=
 xw_bd (xw_cv 0 (some v1) (fun v5 => pg_X0_isCase v5 v2)) fun v4 =>
    if v4 = 0 then (
    xw_rt 0)
    else (
    xw_bd (xw_gR 0 (some v1)) fun v6 =>
    xw_bd (xw_ldR v6 v2) fun v7 =>
    xw_bd (xw_cv 4 v7 (fun v9 => pg_X5_isLooked v9)) fun v8 =>
    if v8 = 0 then (
    xw_rt 0)
    else (
    xw_bd (xw_gR 0 (some v1)) fun v10 =>
    xw_bd (xw_ldR v10 v2) fun v11 =>
    xw_bd (xw_cv 4 v11 (fun v13 => pg_X5_combos v13)) fun v12 =>
    xw_bd (pg_X0_isIn v3 0 (v12 - 1)) fun v14 =>
    if v14 = 0 then (
    xw_rt 0)
    else (
    xw_rt 1)))

def pg_X0_isLaw (v1 : Nat) (v2 : Int32) : xw_M xw_St Int32 :=
 xw_bd (xw_gI 7 (some v1)) fun v3 =>
    xw_bd (pg_X0_isIn v2 0 (v3 - 1)) fun v4 =>
    xw_rt (v4 &&& 1)

def pg_X0_isRun (v1 : Nat) (v2 : Int32) (v3 : Int32) (v4 : Int32) : xw_M xw_St Int32 :=
 xw_bd (xw_cv 0 (some v1) (fun v6 => pg_X0_isLaw v6 v3)) fun v5 =>
    if v5 = 0 then (
    xw_rt 0)
    else (
    xw_bd (xw_cv 0 (some v1) (fun v8 => pg_X0_isCombo v8 v2 v4)) fun v7 =>
    if v7 = 0 then (
    xw_rt 0)
    else (
    xw_rt 1))

def pg_X0_hour (v1 : Nat) (v2 : Int32) (v3 : Int32) (v4 : Int32) (v5 : Int32) : xw_M xw_St Int32 :=
 xw_bd (xw_cv 0 (some v1) (fun v7 => pg_X0_isCombo v7 v2 v3)) fun v6 =>
    if v6 = 0 then (
    xw_rt (-2))
    else (
    xw_bd (xw_gR 0 (some v1)) fun v8 =>
    xw_bd (xw_ldR v8 v2) fun v9 =>
    xw_bd (xw_gI 103 v9) fun v10 =>
    xw_bd (pg_X0_isIn v4 0 (v10 - 1)) fun v11 =>
    if v11 = 0 then (
    xw_rt (-2))
    else (
    xw_bd (pg_X0_isIn v5 0 2) fun v12 =>
    if v12 = 0 then (
    xw_rt (-2))
    else (
    xw_bd (xw_gR 4 (some v1)) fun v13 =>
    xw_bd (xw_ldR v13 0) fun v14 =>
    xw_bd (xw_gR 0 (some v1)) fun v15 =>
    xw_bd (xw_ldR v15 v2) fun v16 =>
    xw_bd (xw_cv 1 v14 (fun v17 => pg_X1_lays v17 v16 v3)) fun _ =>
    xw_bd (xw_gR 4 (some v1)) fun v18 =>
    xw_bd (xw_ldR v18 0) fun v19 =>
    xw_bd (xw_gR 0 (some v1)) fun v20 =>
    xw_bd (xw_ldR v20 v2) fun v21 =>
    xw_bd (xw_gR 99 v21) fun v22 =>
    xw_bd (xw_ldR v22 v4) fun v23 =>
    xw_bd (xw_cv 1 v19 (fun v25 => pg_X1_hour v25 v23 v5)) fun v24 =>
    if v24 = 9999 then (
    xw_rt (-1))
    else (
    xw_rt v24))))

def pg_X0_rule (v1 : Nat) (v2 : Int32) (v3 : Int32) : xw_M xw_St Int32 :=
 xw_bd (xw_cv 0 (some v1) (fun v5 => pg_X0_isLaw v5 v2)) fun v4 =>
    if v4 = 0 then (
    xw_rt (-2))
    else (
    xw_bd (pg_X0_isIn v3 0 13) fun v6 =>
    if v6 = 0 then (
    xw_rt (-2))
    else (
    if v3 = 13 then (
    xw_bd (xw_gR 1 (some v1)) fun v11 =>
    xw_bd (xw_ldR v11 v2) fun v12 =>
    xw_bd (xw_gI 129 v12) fun v13 =>
    xw_rt v13)
    else (
    xw_bd (xw_cv 0 (some v1) (fun v8 => pg_X0_rulesOf v8 v2)) fun v7 =>
    xw_bd (xw_cv 17 v7 (fun v10 => pg_X20_at v10 v3)) fun v9 =>
    xw_rt v9)))

def pg_X6_term (v1 : Nat) (v2 : Int32) : xw_M xw_St Int32 :=
 xw_bd (xw_dv (some v1) [(5, fun v4 => pg_X6_own v4 v2), (6, fun v4 => pg_X8_own v4 v2), (7, fun v4 => pg_X6_own v4 v2), (8, fun v4 => pg_X11_own v4 v2), (9, fun v4 => pg_X6_own v4 v2), (10, fun v4 => pg_X6_own v4 v2), (11, fun v4 => pg_X6_own v4 v2), (12, fun v4 => pg_X6_own v4 v2)]) fun v3 =>
    xw_rt v3

def pg_X11_term : Nat → Nat → Int32 → xw_M xw_St Int32
  | 0 => fun _ _ => xw_no
  | d + 1 => fun v1 v2 =>
 xw_bd (xw_gR 115 (some v1)) fun v3 =>
    xw_bd (xw_ldI v3 v2) fun v4 =>
    if v4 = (-1) then (
    xw_bd (xw_cv 8 (some v1) (fun v6 => pg_X9_said v6)) fun v5 =>
    xw_bd (xw_dv v5 [(5, fun v8 => pg_X6_term v8 v2), (6, fun v8 => pg_X6_term v8 v2), (7, fun v8 => pg_X6_term v8 v2), (8, fun v8 => pg_X11_term d v8 v2), (9, fun v8 => pg_X6_term v8 v2), (10, fun v8 => pg_X6_term v8 v2), (11, fun v8 => pg_X6_term v8 v2), (12, fun v8 => pg_X6_term v8 v2)]) fun v7 =>
    xw_rt v7)
    else (
    xw_bd (xw_gR 115 (some v1)) fun v9 =>
    xw_bd (xw_ldI v9 v2) fun v10 =>
    xw_rt v10)

def pg_X1_term (v1 : Nat) (v2 : Int32) : xw_M xw_St Int32 :=
 xw_bd (xw_gI 22 (some v1)) fun v3 =>
    xw_bd (if v3 = (-1) then (
    xw_rt (-1))
    else (
    xw_bd (xw_gR 20 (some v1)) fun v15 =>
    xw_bd (xw_gR 99 v15) fun v16 =>
    xw_bd (xw_gI 22 (some v1)) fun v17 =>
    xw_bd (xw_ldR v16 v17) fun v18 =>
    xw_bd (xw_dv v18 [(5, fun v20 => pg_X6_own v20 v2), (6, fun v20 => pg_X8_own v20 v2), (7, fun v20 => pg_X6_own v20 v2), (8, fun v20 => pg_X11_own v20 v2), (9, fun v20 => pg_X6_own v20 v2), (10, fun v20 => pg_X6_own v20 v2), (11, fun v20 => pg_X6_own v20 v2), (12, fun v20 => pg_X6_own v20 v2)]) fun v19 =>
    xw_rt v19))
    (fun (v4 : Int32) =>
    xw_jn (fun (v5 : Unit) =>
    xw_bd (xw_gR 24 (some v1)) fun v6 =>
    xw_bd (xw_dv v6 [(5, fun v8 => pg_X6_term v8 v2), (6, fun v8 => pg_X6_term v8 v2), (7, fun v8 => pg_X6_term v8 v2), (8, fun v8 => pg_X11_term 13 v8 v2), (9, fun v8 => pg_X6_term v8 v2), (10, fun v8 => pg_X6_term v8 v2), (11, fun v8 => pg_X6_term v8 v2), (12, fun v8 => pg_X6_term v8 v2)]) fun v7 =>
    xw_rt v7)
    (fun J2 =>
    if v4 = (-1) then (
    J2 ())
    else (
    xw_bd (xw_gR 21 (some v1)) fun v9 =>
    xw_bd (xw_cv 17 v9 (fun v11 => pg_X20_at v11 10)) fun v10 =>
    if v10 = 0 then (
    J2 ())
    else (
    xw_bd (xw_gR 21 (some v1)) fun v12 =>
    xw_bd (xw_cv 17 v12 (fun v14 => pg_X20_at v14 10)) fun v13 =>
    if v13 = 1 then (
    xw_rt v4)
    else (
    xw_rt (-1))))))

def pg_X0_run (v1 : Nat) (v2 : Int32) (v3 : Int32) (v4 : Int32) (v5 : Int32) : xw_M xw_St Int32 :=
 xw_bd (xw_cv 0 (some v1) (fun v7 => pg_X0_isRun v7 v2 v3 v4)) fun v6 =>
    if v6 = 0 then (
    xw_rt (-3))
    else (
    xw_bd (pg_X0_isIn v5 0 2) fun v8 =>
    xw_jn (fun (v9 : Unit) =>
    xw_bd (xw_gR 0 (some v1)) fun v10 =>
    xw_bd (xw_ldR v10 v2) fun v11 =>
    xw_bd (xw_cv 0 (some v1) (fun v13 => pg_X0_rulesOf v13 v3)) fun v12 =>
    xw_bd (xw_cv 0 (some v1) (fun v15 => pg_X0_ran v15 v11 v12 v4)) fun v14 =>
    xw_bd (xw_cv 1 v14 (fun v17 => pg_X1_isBargain v17)) fun v16 =>
    if v16 = 0 then (
    xw_rt (-2))
    else (
    if v5 = 0 then (
    xw_bd (xw_gI 22 v14) fun v23 =>
    xw_rt v23)
    else (
    if v5 = 1 then (
    xw_bd (xw_gR 24 v14) fun v21 =>
    xw_bd (xw_gI 106 v21) fun v22 =>
    xw_rt v22)
    else (
    if v5 = 2 then (
    xw_bd (xw_gI 23 v14) fun v20 =>
    xw_rt v20)
    else (
    xw_bd (xw_cv 1 v14 (fun v19 => pg_X1_term v19 (v5 - 10))) fun v18 =>
    xw_rt v18)))))
    (fun J1 =>
    if v8 = 0 then (
    xw_bd (pg_X0_isIn v5 10 14) fun v24 =>
    if v24 = 0 then (
    xw_rt (-3))
    else (
    J1 ()))
    else (
    J1 ())))

def pg_X0_open (v1 : Nat) (v2 : Int32) (v3 : Int32) (v4 : Int32) (v5 : Int32) (v6 : Int32) : xw_M xw_St Int32 :=
 xw_bd (xw_cv 0 (some v1) (fun v8 => pg_X0_isRun v8 v2 v3 v4)) fun v7 =>
    if v7 = 0 then (
    xw_rt (-2))
    else (
    xw_bd (xw_gR 0 (some v1)) fun v9 =>
    xw_bd (xw_ldR v9 v2) fun v10 =>
    xw_bd (xw_gI 103 v10) fun v11 =>
    xw_bd (pg_X0_isIn v5 0 (v11 - 1)) fun v12 =>
    if v12 = 0 then (
    xw_rt (-2))
    else (
    xw_bd (pg_X0_isIn v6 0 2) fun v13 =>
    if v13 = 0 then (
    xw_rt (-2))
    else (
    xw_bd (xw_cv 0 (some v1) (fun v15 => pg_X0_rulesOf v15 v3)) fun v14 =>
    xw_bd (xw_gR 0 (some v1)) fun v16 =>
    xw_bd (xw_ldR v16 v2) fun v17 =>
    xw_bd (xw_gR 99 v17) fun v18 =>
    xw_bd (xw_ldR v18 v5) fun v19 =>
    xw_bd (xw_dv v19 [(5, fun v21 => pg_X6_isOffer v21 v14), (6, fun v21 => pg_X8_isOffer v21 v14), (7, fun v21 => pg_X6_isOffer v21 v14), (8, fun v21 => pg_X11_isOffer v21 v14), (9, fun v21 => pg_X6_isOffer v21 v14), (10, fun v21 => pg_X6_isOffer v21 v14), (11, fun v21 => pg_X6_isOffer v21 v14), (12, fun v21 => pg_X6_isOffer v21 v14)]) fun v20 =>
    if v20 = 0 then (
    xw_rt (-2))
    else (
    xw_bd (xw_gR 0 (some v1)) fun v22 =>
    xw_bd (xw_ldR v22 v2) fun v23 =>
    xw_bd (xw_cv 0 (some v1) (fun v25 => pg_X0_ran v25 v23 v14 v4)) fun v24 =>
    if v6 = 0 then (
    xw_bd (xw_gR 16 v24) fun v30 =>
    xw_bd (xw_ldI v30 v5) fun v31 =>
    if v31 = 9999 then (
    xw_rt (-1))
    else (
    xw_bd (xw_gR 16 v24) fun v32 =>
    xw_bd (xw_ldI v32 v5) fun v33 =>
    xw_rt v33))
    else (
    if v6 = 1 then (
    xw_bd (xw_gR 17 v24) fun v28 =>
    xw_bd (xw_ldI v28 v5) fun v29 =>
    xw_rt v29)
    else (
    xw_bd (xw_gR 18 v24) fun v26 =>
    xw_bd (xw_ldI v26 v5) fun v27 =>
    xw_rt v27))))))

def pg_X0_binds (v1 : Nat) (v2 : Int32) (v3 : Int32) (v4 : Int32) : xw_M xw_St Int32 :=
 xw_bd (xw_cv 0 (some v1) (fun v6 => pg_X0_isRun v6 v2 v3 v4)) fun v5 =>
    if v5 = 0 then (
    xw_rt (-2))
    else (
    xw_bd (xw_gR 0 (some v1)) fun v7 =>
    xw_bd (xw_ldR v7 v2) fun v8 =>
    xw_bd (xw_cv 0 (some v1) (fun v10 => pg_X0_rulesOf v10 v3)) fun v9 =>
    xw_bd (xw_cv 0 (some v1) (fun v12 => pg_X0_ran v12 v8 v9 v4)) fun v11 =>
    xw_bd (xw_cv 1 v11 (fun v14 => pg_X1_isBargain v14)) fun v13 =>
    if v13 = 0 then (
    xw_rt 0)
    else (
    xw_bd (xw_gR 24 v11) fun v15 =>
    xw_bd (xw_gI 107 v15) fun v16 =>
    xw_bd (xw_gR 24 v11) fun v17 =>
    xw_bd (xw_dv v17 [(5, fun v19 => pg_X7_to v19), (6, fun v19 => pg_X8_to v19), (7, fun v19 => pg_X6_to v19), (8, fun v19 => pg_X11_to v19), (9, fun v19 => pg_X6_to v19), (10, fun v19 => pg_X6_to v19), (11, fun v19 => pg_X6_to v19), (12, fun v19 => pg_X6_to v19)]) fun v18 =>
    xw_rt ((1 <<< (v16 &&& 31)) ||| (1 <<< (v18 &&& 31)))))

def pg_X0_sure (v1 : Nat) (v2 : Int32) (v3 : Int32) (v4 : Int32) : xw_M xw_St Int32 :=
 xw_bd (xw_cv 0 (some v1) (fun v6 => pg_X0_isRun v6 v2 v3 0)) fun v5 =>
    if v5 = 0 then (
    xw_rt (-2))
    else (
    xw_bd (pg_X0_isIn v4 0 4) fun v7 =>
    if v7 = 0 then (
    xw_rt (-2))
    else (
    xw_bd (xw_gR 0 (some v1)) fun v8 =>
    xw_bd (xw_ldR v8 v2) fun v9 =>
    xw_bd (xw_cv 0 (some v1) (fun v11 => pg_X0_rulesOf v11 v3)) fun v10 =>
    xw_bd (xw_loop (α := Int32 × Int32 × Int32 × Int32 × Int32 × Int32) (β := Int32 × Int32 × Int32 × Int32 × Int32) (fun v12 =>
    xw_bd (xw_cv 4 v9 (fun v15 => pg_X5_combos v15)) fun v14 =>
    if v14 ≤ v12.2.2.2.2.2 then (
    xw_rt (.inr (v12.1, v12.2.1, v12.2.2.1, v12.2.2.2.1, v12.2.2.2.2.1)))
    else (
    xw_bd (xw_cv 0 (some v1) (fun v17 => pg_X0_ran v17 v9 v10 v12.2.2.2.2.2)) fun v16 =>
    xw_bd (xw_cv 1 v16 (fun v19 => pg_X1_isBargain v19)) fun v18 =>
    if v18 = 0 then (
    if v12.2.2.1 = (-1) then (
    xw_rt (.inl (v12.1, v12.2.1, v12.2.2.2.2.2, v12.2.2.2.1, v12.2.2.2.2.1, v12.2.2.2.2.2 + 1)))
    else (
    xw_rt (.inl (v12.1, v12.2.1, v12.2.2.1, v12.2.2.2.1, v12.2.2.2.2.1, v12.2.2.2.2.2 + 1))))
    else (
    xw_bd (if v12.2.1 = (-1) then (
    xw_rt (v12.2.2.2.2.2))
    else (
    xw_rt (v12.2.1)))
    (fun (v20 : Int32) =>
    xw_bd (xw_jn (fun (v24 : Unit) =>
    xw_bd (xw_gI 23 v16) fun v25 =>
    xw_rt v25)
    (fun J5 =>
    if v12.2.2.2.1 = (-1) then (
    J5 ())
    else (
    xw_bd (xw_gI 23 v16) fun v26 =>
    if v12.2.2.2.1 ≤ v26 then (
    xw_rt (v12.2.2.2.1))
    else (
    J5 ()))))
    (fun (v21 : Int32) =>
    xw_bd (xw_gI 23 v16) fun v22 =>
    xw_lt (xw_max v12.2.2.2.2.1 v22) fun v23 =>
    xw_rt (.inl (v12.1 + 1, v20, v12.2.2.1, v21, v23, v12.2.2.2.2.2 + 1))))))) xw_FU (0, (-1), (-1), (-1), (-1), 0))
    (fun (v13 : Int32 × Int32 × Int32 × Int32 × Int32) =>
    if v4 = 0 then (
    xw_rt v13.1)
    else (
    if v4 = 1 then (
    xw_rt v13.2.1)
    else (
    if v4 = 2 then (
    xw_rt v13.2.2.1)
    else (
    if v4 = 3 then (
    xw_rt v13.2.2.2.1)
    else (
    xw_rt v13.2.2.2.2)))))))

def pg_X1_isEnd (v1 : Nat) (v2 : Option Nat) (v3 : Option Nat) : xw_M xw_St Int32 :=
 xw_bd (xw_dv v2 [(5, fun v5 => pg_X7_kind v5), (6, fun v5 => pg_X8_kind v5), (7, fun v5 => pg_X10_kind v5), (8, fun v5 => pg_X11_kind v5), (9, fun v5 => pg_X12_kind v5), (10, fun v5 => pg_X13_kind v5), (11, fun v5 => pg_X14_kind v5), (12, fun v5 => pg_X15_kind v5)]) fun v4 =>
    xw_bd (if v4 = 5 then (
    xw_rt 1)
    else (
    xw_rt 0))
    (fun (v6 : Int32) =>
    xw_bd (xw_dv v2 [(5, fun v8 => pg_X6_isSaid v8 v3), (6, fun v8 => pg_X6_isSaid v8 v3), (7, fun v8 => pg_X6_isSaid v8 v3), (8, fun v8 => pg_X6_isSaid v8 v3), (9, fun v8 => pg_X6_isSaid v8 v3), (10, fun v8 => pg_X6_isSaid v8 v3), (11, fun v8 => pg_X6_isSaid v8 v3), (12, fun v8 => pg_X6_isSaid v8 v3)]) fun v7 =>
    if v7 = 0 then (
    xw_rt 0)
    else (
    xw_bd (xw_gR 21 (some v1)) fun v9 =>
    xw_bd (xw_dv v3 [(5, fun v11 => pg_X6_isOffer v11 v9), (6, fun v11 => pg_X8_isOffer v11 v9), (7, fun v11 => pg_X6_isOffer v11 v9), (8, fun v11 => pg_X11_isOffer v11 v9), (9, fun v11 => pg_X6_isOffer v11 v9), (10, fun v11 => pg_X6_isOffer v11 v9), (11, fun v11 => pg_X6_isOffer v11 v9), (12, fun v11 => pg_X6_isOffer v11 v9)]) fun v10 =>
    if v10 = 0 then (
    xw_rt 0)
    else (
    xw_bd (xw_gR 18 (some v1)) fun v12 =>
    xw_bd (xw_gI 106 v3) fun v13 =>
    xw_bd (xw_ldI v12 v13) fun v14 =>
    xw_bd (if v6 = 0 then (
    xw_rt 2)
    else (
    xw_rt 1))
    (fun (v15 : Int32) =>
    if v14 = v15 then (
    xw_jn (fun (v16 : Unit) =>
    xw_bd (xw_gR 21 (some v1)) fun v17 =>
    xw_bd (if v6 = 0 then (
    xw_rt 5)
    else (
    xw_rt 4))
    (fun (v18 : Int32) =>
    xw_bd (xw_cv 17 v17 (fun v20 => pg_X20_at v20 v18)) fun v19 =>
    xw_bd (xw_cv 1 (some v1) (fun v22 => pg_X1_hour v22 v2 v19)) fun v21 =>
    xw_bd (xw_gR 17 (some v1)) fun v23 =>
    xw_bd (xw_gI 106 v3) fun v24 =>
    xw_bd (xw_ldI v23 v24) fun v25 =>
    if v21 = v25 then (
    xw_loop (α := Int32) (β := Int32) (fun v26 =>
    xw_bd (xw_gI 106 v2) fun v27 =>
    if v27 ≤ v26 then (
    xw_rt (.inr 1))
    else (
    xw_bd (xw_gR 20 (some v1)) fun v28 =>
    xw_bd (xw_gR 99 v28) fun v29 =>
    xw_bd (xw_ldR v29 v26) fun v30 =>
    xw_bd (if v6 = 0 then (
    xw_bd (xw_gR 21 (some v1)) fun v39 =>
    xw_bd (xw_dv v30 [(5, fun v41 => pg_X6_isNo v41 v39), (6, fun v41 => pg_X6_isNo v41 v39), (7, fun v41 => pg_X6_isNo v41 v39), (8, fun v41 => pg_X11_isNo v41 v39), (9, fun v41 => pg_X12_isNo v41 v39), (10, fun v41 => pg_X6_isNo v41 v39), (11, fun v41 => pg_X6_isNo v41 v39), (12, fun v41 => pg_X6_isNo v41 v39)]) fun v40 =>
    xw_rt v40)
    else (
    xw_bd (xw_dv v30 [(5, fun v43 => pg_X7_kind v43), (6, fun v43 => pg_X8_kind v43), (7, fun v43 => pg_X10_kind v43), (8, fun v43 => pg_X11_kind v43), (9, fun v43 => pg_X12_kind v43), (10, fun v43 => pg_X13_kind v43), (11, fun v43 => pg_X14_kind v43), (12, fun v43 => pg_X15_kind v43)]) fun v42 =>
    if v42 = 5 then (
    xw_rt 1)
    else (
    xw_rt 0)))
    (fun (v31 : Int32) =>
    if v31 = 0 then (
    xw_rt (.inl (v26 + 1)))
    else (
    xw_bd (xw_dv v30 [(5, fun v33 => pg_X6_isSaid v33 v3), (6, fun v33 => pg_X6_isSaid v33 v3), (7, fun v33 => pg_X6_isSaid v33 v3), (8, fun v33 => pg_X6_isSaid v33 v3), (9, fun v33 => pg_X6_isSaid v33 v3), (10, fun v33 => pg_X6_isSaid v33 v3), (11, fun v33 => pg_X6_isSaid v33 v3), (12, fun v33 => pg_X6_isSaid v33 v3)]) fun v32 =>
    if v32 = 0 then (
    xw_rt (.inl (v26 + 1)))
    else (
    xw_bd (xw_cv 1 (some v1) (fun v35 => pg_X1_hour v35 v30 v19)) fun v34 =>
    xw_bd (xw_gR 17 (some v1)) fun v36 =>
    xw_bd (xw_gI 106 v3) fun v37 =>
    xw_bd (xw_ldI v36 v37) fun v38 =>
    if v34 = v38 then (
    xw_rt (.inr 0))
    else (
    xw_rt (.inl (v26 + 1)))))))) xw_FU 0)
    else (
    xw_rt 0)))
    (fun J3 =>
    if v6 = 0 then (
    xw_bd (xw_gR 21 (some v1)) fun v44 =>
    xw_bd (xw_dv v2 [(5, fun v46 => pg_X6_isNo v46 v44), (6, fun v46 => pg_X6_isNo v46 v44), (7, fun v46 => pg_X6_isNo v46 v44), (8, fun v46 => pg_X11_isNo v46 v44), (9, fun v46 => pg_X12_isNo v46 v44), (10, fun v46 => pg_X6_isNo v46 v44), (11, fun v46 => pg_X6_isNo v46 v44), (12, fun v46 => pg_X6_isNo v46 v44)]) fun v45 =>
    if v45 = 0 then (
    xw_rt 0)
    else (
    J3 ()))
    else (
    J3 ())))
    else (
    xw_rt 0)))))

def pg_X1_does (v1 : Nat) (v2 : Option Nat) : xw_M xw_St Int32 :=
 xw_bd (xw_gR 21 (some v1)) fun v3 =>
    xw_bd (xw_dv v2 [(5, fun v5 => pg_X6_isOffer v5 v3), (6, fun v5 => pg_X8_isOffer v5 v3), (7, fun v5 => pg_X6_isOffer v5 v3), (8, fun v5 => pg_X11_isOffer v5 v3), (9, fun v5 => pg_X6_isOffer v5 v3), (10, fun v5 => pg_X6_isOffer v5 v3), (11, fun v5 => pg_X6_isOffer v5 v3), (12, fun v5 => pg_X6_isOffer v5 v3)]) fun v4 =>
    xw_bd (if v4 = 0 then (
    xw_rt 0)
    else (
    xw_bd (xw_gR 16 (some v1)) fun v36 =>
    xw_bd (xw_gI 106 v2) fun v37 =>
    xw_bd (xw_ldI v36 v37) fun v38 =>
    if v38 = 9999 then (
    xw_rt 0)
    else (
    xw_rt 1)))
    (fun (v6 : Int32) =>
    xw_bd (xw_dv v2 [(5, fun v8 => pg_X6_said v8), (6, fun v8 => pg_X6_said v8), (7, fun v8 => pg_X9_said v8), (8, fun v8 => pg_X9_said v8), (9, fun v8 => pg_X9_said v8), (10, fun v8 => pg_X9_said v8), (11, fun v8 => pg_X9_said v8), (12, fun v8 => pg_X9_said v8)]) fun v7 =>
    if v7 = none then (
    xw_rt v6)
    else (
    xw_bd (xw_cv 1 (some v1) (fun v10 => pg_X1_isEnd v10 v2 v7)) fun v9 =>
    xw_bd (if v9 = 0 then (
    xw_rt v6)
    else (
    xw_lt (v6 ||| 2) fun v35 =>
    xw_rt v35))
    (fun (v11 : Int32) =>
    xw_bd (xw_cv 1 (some v1) (fun v13 => pg_X1_isBargain v13)) fun v12 =>
    xw_bd (if v12 = 0 then (
    xw_rt v11)
    else (
    xw_bd (xw_gI 22 (some v1)) fun v32 =>
    xw_bd (xw_gI 106 v2) fun v33 =>
    if v32 = v33 then (
    xw_lt (v11 ||| 4) fun v34 =>
    xw_rt v34)
    else (
    xw_rt v11)))
    (fun (v14 : Int32) =>
    xw_bd (xw_gR 21 (some v1)) fun v15 =>
    xw_bd (xw_dv v7 [(5, fun v17 => pg_X6_isYes v17 v15), (6, fun v17 => pg_X6_isYes v17 v15), (7, fun v17 => pg_X10_isYes v17 v15), (8, fun v17 => pg_X11_isYes v17 v15), (9, fun v17 => pg_X6_isYes v17 v15), (10, fun v17 => pg_X6_isYes v17 v15), (11, fun v17 => pg_X14_isYes v17 v15), (12, fun v17 => pg_X6_isYes v17 v15)]) fun v16 =>
    xw_bd (if v16 = 0 then (
    xw_rt 9999)
    else (
    xw_bd (xw_gR 21 (some v1)) fun v27 =>
    xw_bd (xw_cv 17 v27 (fun v29 => pg_X20_yesWhen v29 v7)) fun v28 =>
    xw_bd (xw_cv 1 (some v1) (fun v31 => pg_X1_hour v31 v7 v28)) fun v30 =>
    xw_rt v30))
    (fun (v18 : Int32) =>
    xw_bd (xw_dv v2 [(5, fun v20 => pg_X7_kind v20), (6, fun v20 => pg_X8_kind v20), (7, fun v20 => pg_X10_kind v20), (8, fun v20 => pg_X11_kind v20), (9, fun v20 => pg_X12_kind v20), (10, fun v20 => pg_X13_kind v20), (11, fun v20 => pg_X14_kind v20), (12, fun v20 => pg_X15_kind v20)]) fun v19 =>
    if v19 = 5 then (
    if v18 = 9999 then (
    xw_rt v14)
    else (
    xw_bd (xw_gR 21 (some v1)) fun v21 =>
    xw_bd (xw_cv 17 v21 (fun v23 => pg_X20_at v23 4)) fun v22 =>
    xw_bd (xw_cv 1 (some v1) (fun v25 => pg_X1_hour v25 v2 v22)) fun v24 =>
    if v18 ≤ v24 then (
    xw_rt v14)
    else (
    xw_lt (v14 ||| 8) fun v26 =>
    xw_rt v26)))
    else (
    xw_rt v14))))))

def pg_X0_does (v1 : Nat) (v2 : Int32) (v3 : Int32) (v4 : Int32) (v5 : Int32) : xw_M xw_St Int32 :=
 xw_bd (xw_cv 0 (some v1) (fun v7 => pg_X0_isRun v7 v2 v3 v4)) fun v6 =>
    if v6 = 0 then (
    xw_rt (-2))
    else (
    xw_bd (xw_gR 0 (some v1)) fun v8 =>
    xw_bd (xw_ldR v8 v2) fun v9 =>
    xw_bd (xw_gI 103 v9) fun v10 =>
    xw_bd (pg_X0_isIn v5 0 (v10 - 1)) fun v11 =>
    if v11 = 0 then (
    xw_rt (-2))
    else (
    xw_bd (xw_gR 0 (some v1)) fun v12 =>
    xw_bd (xw_ldR v12 v2) fun v13 =>
    xw_bd (xw_cv 0 (some v1) (fun v15 => pg_X0_rulesOf v15 v3)) fun v14 =>
    xw_bd (xw_cv 0 (some v1) (fun v17 => pg_X0_ran v17 v13 v14 v4)) fun v16 =>
    xw_bd (xw_gR 0 (some v1)) fun v18 =>
    xw_bd (xw_ldR v18 v2) fun v19 =>
    xw_bd (xw_gR 99 v19) fun v20 =>
    xw_bd (xw_ldR v20 v5) fun v21 =>
    xw_bd (xw_cv 1 v16 (fun v23 => pg_X1_does v23 v21)) fun v22 =>
    xw_rt v22))

def pg_X0_isHand (v1 : Int32) : xw_M xw_St Int32 :=
 xw_bd (pg_X0_isIn v1 0 2) fun v2 =>
    xw_rt (v2 &&& 1)

def pg_X1_can (v1 : Nat) (v2 : Int32) (v3 : Int32) : xw_M xw_St Int32 :=
 xw_bd (xw_gI 23 (some v1)) fun v4 =>
    if v3 < v4 then (
    xw_bd (xw_loop (α := Int32 × Int32) (β := Int32) (fun v5 =>
    xw_bd (xw_gR 20 (some v1)) fun v7 =>
    xw_bd (xw_gI 103 v7) fun v8 =>
    if v8 ≤ v5.2 then (
    xw_rt (.inr (v5.1)))
    else (
    xw_bd (xw_gR 20 (some v1)) fun v9 =>
    xw_bd (xw_gR 99 v9) fun v10 =>
    xw_bd (xw_ldR v10 v5.2) fun v11 =>
    xw_bd (xw_gR 21 (some v1)) fun v12 =>
    xw_bd (xw_dv v11 [(5, fun v14 => pg_X6_isOffer v14 v12), (6, fun v14 => pg_X8_isOffer v14 v12), (7, fun v14 => pg_X6_isOffer v14 v12), (8, fun v14 => pg_X11_isOffer v14 v12), (9, fun v14 => pg_X6_isOffer v14 v12), (10, fun v14 => pg_X6_isOffer v14 v12), (11, fun v14 => pg_X6_isOffer v14 v12), (12, fun v14 => pg_X6_isOffer v14 v12)]) fun v13 =>
    if v13 = 0 then (
    xw_rt (.inl (v5.1, v5.2 + 1)))
    else (
    xw_bd (xw_cv 1 (some v1) (fun v16 => pg_X1_isOpen v16 v11 v3)) fun v15 =>
    if v15 = 0 then (
    xw_rt (.inl (v5.1, v5.2 + 1)))
    else (
    xw_bd (xw_gI 107 v11) fun v17 =>
    xw_bd (if v17 = v2 then (
    xw_bd (xw_dv v11 [(5, fun v25 => pg_X6_hold v25), (6, fun v25 => pg_X8_hold v25), (7, fun v25 => pg_X6_hold v25), (8, fun v25 => pg_X6_hold v25), (9, fun v25 => pg_X6_hold v25), (10, fun v25 => pg_X6_hold v25), (11, fun v25 => pg_X6_hold v25), (12, fun v25 => pg_X6_hold v25)]) fun v24 =>
    if v24 = (-1) then (
    xw_lt (v5.1 ||| 1) fun v26 =>
    xw_rt v26)
    else (
    xw_bd (xw_gR 21 (some v1)) fun v27 =>
    xw_bd (xw_cv 17 v27 (fun v29 => pg_X20_at v29 6)) fun v28 =>
    if v28 = 0 then (
    xw_lt (v5.1 ||| 1) fun v30 =>
    xw_rt v30)
    else (
    xw_bd (xw_dv v11 [(5, fun v32 => pg_X6_hold v32), (6, fun v32 => pg_X8_hold v32), (7, fun v32 => pg_X6_hold v32), (8, fun v32 => pg_X6_hold v32), (9, fun v32 => pg_X6_hold v32), (10, fun v32 => pg_X6_hold v32), (11, fun v32 => pg_X6_hold v32), (12, fun v32 => pg_X6_hold v32)]) fun v31 =>
    if v3 ≤ v31 then (
    xw_rt (v5.1))
    else (
    xw_lt (v5.1 ||| 1) fun v33 =>
    xw_rt v33))))
    else (
    xw_rt (v5.1)))
    (fun (v18 : Int32) =>
    xw_bd (xw_dv v11 [(5, fun v20 => pg_X7_to v20), (6, fun v20 => pg_X8_to v20), (7, fun v20 => pg_X6_to v20), (8, fun v20 => pg_X11_to v20), (9, fun v20 => pg_X6_to v20), (10, fun v20 => pg_X6_to v20), (11, fun v20 => pg_X6_to v20), (12, fun v20 => pg_X6_to v20)]) fun v19 =>
    if v19 = v2 then (
    xw_bd (xw_cv 1 (some v1) (fun v22 => pg_X1_hour v22 v11 1)) fun v21 =>
    if v3 < v21 then (
    xw_rt (.inl (v18, v5.2 + 1)))
    else (
    xw_lt (v18 ||| 2) fun v23 =>
    xw_rt (.inl (v23, v5.2 + 1))))
    else (
    xw_rt (.inl (v18, v5.2 + 1)))))))) xw_FU (0, 0))
    (fun (v6 : Int32) =>
    xw_rt v6))
    else (
    xw_rt 0)

def pg_X0_can (v1 : Nat) (v2 : Int32) (v3 : Int32) (v4 : Int32) (v5 : Int32) (v6 : Int32) : xw_M xw_St Int32 :=
 xw_bd (xw_cv 0 (some v1) (fun v8 => pg_X0_isRun v8 v2 v3 v4)) fun v7 =>
    if v7 = 0 then (
    xw_rt (-2))
    else (
    xw_bd (pg_X0_isHand v5) fun v9 =>
    if v9 = 0 then (
    xw_rt (-2))
    else (
    xw_bd (pg_X0_isIn v6 0 9998) fun v10 =>
    if v10 = 0 then (
    xw_rt (-2))
    else (
    xw_bd (xw_gR 0 (some v1)) fun v11 =>
    xw_bd (xw_ldR v11 v2) fun v12 =>
    xw_bd (xw_cv 0 (some v1) (fun v14 => pg_X0_rulesOf v14 v3)) fun v13 =>
    xw_bd (xw_cv 0 (some v1) (fun v16 => pg_X0_ran v16 v12 v13 v4)) fun v15 =>
    xw_bd (xw_cv 1 v15 (fun v18 => pg_X1_can v18 v5 v6)) fun v17 =>
    xw_rt v17)))

def pg_X0_until (v1 : Nat) (v2 : Int32) (v3 : Int32) (v4 : Int32) (v5 : Int32) (v6 : Int32) : xw_M xw_St Int32 :=
 xw_bd (xw_cv 0 (some v1) (fun v8 => pg_X0_isRun v8 v2 v3 v4)) fun v7 =>
    if v7 = 0 then (
    xw_rt (-2))
    else (
    xw_bd (pg_X0_isHand v5) fun v9 =>
    if v9 = 0 then (
    xw_rt (-2))
    else (
    xw_bd (pg_X0_isIn v6 1 2) fun v10 =>
    if v10 = 0 then (
    xw_rt (-2))
    else (
    xw_bd (xw_gR 0 (some v1)) fun v11 =>
    xw_bd (xw_ldR v11 v2) fun v12 =>
    xw_bd (xw_cv 0 (some v1) (fun v14 => pg_X0_rulesOf v14 v3)) fun v13 =>
    xw_bd (xw_cv 0 (some v1) (fun v16 => pg_X0_ran v16 v12 v13 v4)) fun v15 =>
    xw_bd (xw_loop (α := Int32) (β := Int32) (fun v17 =>
    if v17 < 0 then (
    xw_rt (.inr v17))
    else (
    xw_bd (xw_cv 1 v15 (fun v20 => pg_X1_can v20 v5 v17)) fun v19 =>
    if (v19 &&& v6) = 0 then (
    xw_rt (.inl (v17 + (-1))))
    else (
    xw_rt (.inr v17)))) xw_FU 9998)
    (fun (v18 : Int32) =>
    xw_rt v18))))

def pg_X0_with (v1 : Nat) (v2 : Int32) (v3 : Int32) (v4 : Int32) (v5 : Option Nat) : xw_M xw_St Int32 :=
 xw_bd (xw_gR 0 (some v1)) fun v6 =>
    xw_bd (xw_ldR v6 v2) fun v7 =>
    xw_bd (xw_gR 99 v7) fun v8 =>
    xw_bd (xw_ldR v8 v4) fun v9 =>
    xw_bd (xw_gR 108 v9) fun v10 =>
    xw_bd (xw_pR 108 v9 v5) fun _ =>
    xw_bd (xw_new 4) fun v11 =>
    xw_bd (pg_X5_init v11) fun _ =>
    xw_bd (xw_gR 0 (some v1)) fun v12 =>
    xw_bd (xw_ldR v12 v2) fun v13 =>
    xw_bd (xw_cv 4 (some v11) (fun v14 => pg_X5_is v14 v13)) fun _ =>
    xw_bd (xw_cv 4 (some v11) (fun v16 => pg_X5_isLooked v16)) fun v15 =>
    xw_bd (if v15 = 0 then (
    xw_rt (-2))
    else (
    xw_rt 0))
    (fun (v17 : Int32) =>
    xw_bd (xw_cv 0 (some v1) (fun v19 => pg_X0_rulesOf v19 v3)) fun v18 =>
    xw_bd (xw_loop (α := Int32 × Int32) (β := Int32) (fun v20 =>
    if v20.1 < 0 then (
    xw_rt (.inr (v20.1)))
    else (
    xw_bd (xw_cv 4 (some v11) (fun v23 => pg_X5_combos v23)) fun v22 =>
    if v22 ≤ v20.2 then (
    xw_rt (.inr (v20.1)))
    else (
    xw_bd (xw_cv 0 (some v1) (fun v25 => pg_X0_ran v25 (some v11) v18 v20.2)) fun v24 =>
    xw_bd (xw_cv 1 v24 (fun v27 => pg_X1_isBargain v27)) fun v26 =>
    if v26 = 0 then (
    xw_rt (.inl (v20.1, v20.2 + 1)))
    else (
    xw_rt (.inl (v20.1 + 1, v20.2 + 1)))))) xw_FU (v17, 0))
    (fun (v21 : Int32) =>
    xw_bd (xw_pR 108 v9 v10) fun _ =>
    xw_rt v21))

def pg_X0_isSaying (v1 : Nat) (v2 : Int32) (v3 : Int32) : xw_M xw_St Int32 :=
 xw_bd (xw_cv 0 (some v1) (fun v5 => pg_X0_isCase v5 v2)) fun v4 =>
    if v4 = 0 then (
    xw_rt 0)
    else (
    xw_bd (xw_gR 0 (some v1)) fun v6 =>
    xw_bd (xw_ldR v6 v2) fun v7 =>
    xw_bd (xw_gI 103 v7) fun v8 =>
    xw_bd (pg_X0_isIn v3 0 (v8 - 1)) fun v9 =>
    if v9 = 0 then (
    xw_rt 0)
    else (
    xw_rt 1))

def pg_X17_lost (v1 : Nat) : xw_M xw_St (Option Nat) :=
 xw_bd (xw_new 14) fun v2 =>
    xw_bd (xw_gI 118 (some v1)) fun v3 =>
    xw_bd (xw_gR 119 (some v1)) fun v4 =>
    xw_bd (xw_gR 120 (some v1)) fun v5 =>
    xw_bd (xw_gR 121 (some v1)) fun v6 =>
    xw_bd (pg_X17_init v2 v3 v4 v5 v6 0 1) fun _ =>
    xw_rt (some v2)

def pg_X0_lost (v1 : Nat) (v2 : Int32) (v3 : Int32) (v4 : Int32) : xw_M xw_St Int32 :=
 xw_bd (xw_cv 0 (some v1) (fun v6 => pg_X0_isLaw v6 v3)) fun v5 =>
    if v5 = 0 then (
    xw_rt (-2))
    else (
    xw_bd (xw_cv 0 (some v1) (fun v8 => pg_X0_isSaying v8 v2 v4)) fun v7 =>
    if v7 = 0 then (
    xw_rt (-2))
    else (
    xw_bd (xw_gR 0 (some v1)) fun v9 =>
    xw_bd (xw_ldR v9 v2) fun v10 =>
    xw_bd (xw_gR 99 v10) fun v11 =>
    xw_bd (xw_ldR v11 v4) fun v12 =>
    xw_bd (xw_gR 108 v12) fun v13 =>
    xw_bd (xw_gI 118 v13) fun v14 =>
    if 1 < v14 then (
    xw_rt (-2))
    else (
    xw_bd (xw_gR 0 (some v1)) fun v15 =>
    xw_bd (xw_ldR v15 v2) fun v16 =>
    xw_bd (xw_gR 99 v16) fun v17 =>
    xw_bd (xw_ldR v17 v4) fun v18 =>
    xw_bd (xw_gR 108 v18) fun v19 =>
    xw_bd (xw_cv 14 v19 (fun v21 => pg_X17_lost v21)) fun v20 =>
    xw_bd (xw_cv 0 (some v1) (fun v23 => pg_X0_with v23 v2 v3 v4 v20)) fun v22 =>
    xw_rt v22)))

def pg_X17_wired (v1 : Nat) : xw_M xw_St (Option Nat) :=
 xw_bd (xw_new 14) fun v2 =>
    xw_bd (xw_gR 119 (some v1)) fun v3 =>
    xw_bd (xw_gs 12) fun v4 =>
    xw_bd (xw_gs 12) fun v5 =>
    xw_bd (pg_X17_init v2 1 v3 v4 v5 0 0) fun _ =>
    xw_rt (some v2)

def pg_X0_wired (v1 : Nat) (v2 : Int32) (v3 : Int32) (v4 : Int32) : xw_M xw_St Int32 :=
 xw_bd (xw_cv 0 (some v1) (fun v6 => pg_X0_isLaw v6 v3)) fun v5 =>
    if v5 = 0 then (
    xw_rt (-2))
    else (
    xw_bd (xw_cv 0 (some v1) (fun v8 => pg_X0_isSaying v8 v2 v4)) fun v7 =>
    if v7 = 0 then (
    xw_rt (-2))
    else (
    xw_bd (xw_gR 0 (some v1)) fun v9 =>
    xw_bd (xw_ldR v9 v2) fun v10 =>
    xw_bd (xw_gR 99 v10) fun v11 =>
    xw_bd (xw_ldR v11 v4) fun v12 =>
    xw_bd (xw_gR 108 v12) fun v13 =>
    xw_bd (xw_cv 14 v13 (fun v15 => pg_X17_wired v15)) fun v14 =>
    xw_bd (xw_cv 0 (some v1) (fun v17 => pg_X0_with v17 v2 v3 v4 v14)) fun v16 =>
    xw_rt v16))

def pg_X21_init (v1 : Nat) (v2 : Option Nat) : xw_M xw_St Unit :=
 xw_bd (xw_nwa 122 16) fun v3 =>
    xw_bd (xw_pR 132 (some v1) (some v3)) fun _ =>
    xw_bd (xw_nwa 123 8) fun v4 =>
    xw_bd (xw_pR 136 (some v1) (some v4)) fun _ =>
    xw_bd (xw_nwa 124 6) fun v5 =>
    xw_bd (xw_pR 137 (some v1) (some v5)) fun _ =>
    xw_bd (xw_gI 6 v2) fun v6 =>
    xw_bd (xw_pI 133 (some v1) v6) fun _ =>
    xw_bd (xw_gI 7 v2) fun v7 =>
    xw_bd (xw_pI 134 (some v1) v7) fun _ =>
    xw_bd (xw_gI 8 v2) fun v8 =>
    xw_bd (xw_pI 135 (some v1) v8) fun _ =>
    xw_bd (xw_gR 0 v2) fun v9 =>
    xw_bd (xw_gR 132 (some v1)) fun v10 =>
    xw_bd (xw_cp v9 v10 16) fun _ =>
    xw_bd (xw_gR 1 v2) fun v11 =>
    xw_bd (xw_gR 136 (some v1)) fun v12 =>
    xw_bd (xw_cp v11 v12 8) fun _ =>
    xw_bd (xw_gR 2 v2) fun v13 =>
    xw_bd (xw_gR 137 (some v1)) fun v14 =>
    xw_bd (xw_cp v13 v14 6) fun _ =>
    xw_rt ()

def pg_X0_image (v1 : Nat) : xw_M xw_St Int32 :=
 xw_bd (xw_gI 12 (some v1)) fun v2 =>
    if v2 = 4 then (
    xw_rt (-1))
    else (
    xw_bd (xw_gR 11 (some v1)) fun v3 =>
    xw_bd (xw_gI 12 (some v1)) fun v4 =>
    xw_bd (xw_new 18) fun v5 =>
    xw_bd (pg_X21_init v5 (some v1)) fun _ =>
    xw_bd (xw_stR v3 v4 (some v5)) fun _ =>
    xw_bd (xw_gI 12 (some v1)) fun v6 =>
    xw_bd (xw_pI 12 (some v1) (v6 + 1)) fun _ =>
    xw_bd (xw_gI 12 (some v1)) fun v7 =>
    xw_rt (v7 - 1))

def pg_X21_puts (v1 : Nat) (v2 : Option Nat) : xw_M xw_St Unit :=
 xw_bd (xw_gI 133 (some v1)) fun v3 =>
    xw_bd (xw_pI 6 v2 v3) fun _ =>
    xw_bd (xw_gI 134 (some v1)) fun v4 =>
    xw_bd (xw_pI 7 v2 v4) fun _ =>
    xw_bd (xw_gI 135 (some v1)) fun v5 =>
    xw_bd (xw_pI 8 v2 v5) fun _ =>
    xw_bd (xw_gR 132 (some v1)) fun v6 =>
    xw_bd (xw_gR 0 v2) fun v7 =>
    xw_bd (xw_cp v6 v7 16) fun _ =>
    xw_bd (xw_gR 136 (some v1)) fun v8 =>
    xw_bd (xw_gR 1 v2) fun v9 =>
    xw_bd (xw_cp v8 v9 8) fun _ =>
    xw_bd (xw_gR 137 (some v1)) fun v10 =>
    xw_bd (xw_gR 2 v2) fun v11 =>
    xw_bd (xw_cp v10 v11 6) fun _ =>
    xw_rt ()

def pg_X0_back (v1 : Nat) (v2 : Int32) : xw_M xw_St Int32 :=
 xw_bd (xw_gI 12 (some v1)) fun v3 =>
    xw_bd (pg_X0_isIn v2 0 (v3 - 1)) fun v4 =>
    if v4 = 0 then (
    xw_rt 0)
    else (
    xw_bd (xw_gR 11 (some v1)) fun v5 =>
    xw_bd (xw_ldR v5 v2) fun v6 =>
    xw_bd (xw_cv 18 v6 (fun v7 => pg_X21_puts v7 (some v1))) fun _ =>
    xw_rt 1)

def pg_X0_tells (v1 : Nat) (v2 : Option Nat) (v3 : Int32) : xw_M xw_St Int32 :=
 xw_bd (xw_loop (α := Int32) (β := Unit) (fun v4 =>
    if 1024 ≤ v4 then (
    xw_rt (.inr ()))
    else (
    xw_bd (xw_gR 14 (some v1)) fun v30 =>
    xw_bd (xw_stI v30 v4 0) fun _ =>
    xw_rt (.inl (v4 + 1)))) xw_FU 0)
    (fun (v5 : Unit) =>
    xw_loop (α := Int32) (β := Int32) (fun v6 =>
    xw_bd (xw_cv 4 v2 (fun v8 => pg_X5_combos v8)) fun v7 =>
    if v7 ≤ v6 then (
    xw_rt (.inr 1))
    else (
    xw_bd (xw_loop (α := Int32 × Int32 × Int32) (β := Int32) (fun v9 =>
    xw_bd (xw_gI 104 v2) fun v20 =>
    if v20 ≤ v9.2.2 then (
    xw_rt (.inr (v9.1)))
    else (
    xw_bd (xw_gR 102 v2) fun v21 =>
    xw_bd (xw_ldI v21 v9.2.2) fun v22 =>
    xw_bd (xw_rem v9.2.1 v22) fun v23 =>
    xw_bd (xw_gR 102 v2) fun v24 =>
    xw_bd (xw_ldI v24 v9.2.2) fun v25 =>
    xw_bd (xw_div v9.2.1 v25) fun v26 =>
    if ((v3 >>> (v9.2.2 &&& 31)) &&& 1) = 1 then (
    xw_bd (xw_gR 102 v2) fun v27 =>
    xw_bd (xw_ldI v27 v9.2.2) fun v28 =>
    xw_lt ((v9.1 * v28) + v23) fun v29 =>
    xw_rt (.inl (v29, v26, v9.2.2 + 1)))
    else (
    xw_rt (.inl (v9.1, v26, v9.2.2 + 1))))) xw_FU (0, v6, 0))
    (fun (v10 : Int32) =>
    xw_bd (xw_gR 13 (some v1)) fun v11 =>
    xw_bd (xw_ldB v11 v6) fun v12 =>
    xw_bd (if v12 = 0 then (
    xw_rt 1)
    else (
    xw_rt 2))
    (fun (v13 : Int32) =>
    xw_bd (xw_gR 14 (some v1)) fun v14 =>
    xw_bd (xw_ldI v14 v10) fun v15 =>
    xw_jn (fun (v16 : Unit) =>
    xw_bd (xw_gR 14 (some v1)) fun v17 =>
    xw_bd (xw_stI v17 v10 v13) fun _ =>
    xw_rt (.inl (v6 + 1)))
    (fun J7 =>
    if v15 = 0 then (
    J7 ())
    else (
    xw_bd (xw_gR 14 (some v1)) fun v18 =>
    xw_bd (xw_ldI v18 v10) fun v19 =>
    if v19 = v13 then (
    J7 ())
    else (
    xw_rt (.inr 0)))))))) xw_FU 0)

def pg_J1_bitCount (v1 : Int32) : xw_M xw_St Int32 :=
 xw_lt (v1 - ((((v1 : Int32).toUInt32 >>> ((1 : Int32).toUInt32 &&& Int32.toUInt32 31)).toInt32) &&& 1431655765)) fun v2 =>
    xw_lt ((v2 &&& 858993459) + ((((v2 : Int32).toUInt32 >>> ((2 : Int32).toUInt32 &&& Int32.toUInt32 31)).toInt32) &&& 858993459)) fun v3 =>
    xw_lt ((v3 + (((v3 : Int32).toUInt32 >>> ((4 : Int32).toUInt32 &&& Int32.toUInt32 31)).toInt32)) &&& 252645135) fun v4 =>
    xw_lt (v4 + (((v4 : Int32).toUInt32 >>> ((8 : Int32).toUInt32 &&& Int32.toUInt32 31)).toInt32)) fun v5 =>
    xw_lt (v5 + (((v5 : Int32).toUInt32 >>> ((16 : Int32).toUInt32 &&& Int32.toUInt32 31)).toInt32)) fun v6 =>
    xw_rt (v6 &&& 63)

def pg_X0_hang (v1 : Nat) (v2 : Int32) (v3 : Int32) : xw_M xw_St Int32 :=
 xw_bd (xw_cv 0 (some v1) (fun v5 => pg_X0_isRun v5 v2 v3 0)) fun v4 =>
    if v4 = 0 then (
    xw_rt (-2))
    else (
    xw_bd (xw_gR 0 (some v1)) fun v6 =>
    xw_bd (xw_ldR v6 v2) fun v7 =>
    xw_bd (xw_gI 104 v7) fun v8 =>
    if v8 ≤ 12 then (
    xw_bd (xw_gR 0 (some v1)) fun v9 =>
    xw_bd (xw_ldR v9 v2) fun v10 =>
    xw_bd (xw_cv 0 (some v1) (fun v12 => pg_X0_rulesOf v12 v3)) fun v11 =>
    xw_bd (xw_loop (α := Int32) (β := Unit) (fun v13 =>
    xw_bd (xw_cv 4 v10 (fun v25 => pg_X5_combos v25)) fun v24 =>
    if v24 ≤ v13 then (
    xw_rt (.inr ()))
    else (
    xw_bd (xw_gR 13 (some v1)) fun v26 =>
    xw_bd (xw_cv 0 (some v1) (fun v28 => pg_X0_ran v28 v10 v11 v13)) fun v27 =>
    xw_bd (xw_cv 1 v27 (fun v30 => pg_X1_isBargain v30)) fun v29 =>
    xw_bd (xw_stZ v26 v13 v29) fun _ =>
    xw_rt (.inl (v13 + 1)))) xw_FU 0)
    (fun (v14 : Unit) =>
    xw_bd (xw_gI 104 v10) fun v15 =>
    xw_lt ((1 <<< (v15 &&& 31)) - 1) fun v16 =>
    xw_bd (xw_loop (α := Int32 × Int32) (β := Int32) (fun v17 =>
    xw_bd (xw_gI 104 v10) fun v19 =>
    if (1 <<< (v19 &&& 31)) ≤ v17.2 then (
    xw_rt (.inr (v17.1)))
    else (
    xw_bd (pg_J1_bitCount v17.2) fun v20 =>
    xw_bd (pg_J1_bitCount v17.1) fun v21 =>
    if v21 ≤ v20 then (
    xw_rt (.inl (v17.1, v17.2 + 1)))
    else (
    xw_bd (xw_cv 0 (some v1) (fun v23 => pg_X0_tells v23 v10 v17.2)) fun v22 =>
    if v22 = 0 then (
    xw_rt (.inl (v17.1, v17.2 + 1)))
    else (
    xw_rt (.inl (v17.2, v17.2 + 1)))))) xw_FU (v16, 0))
    (fun (v18 : Int32) =>
    xw_rt v18)))
    else (
    xw_rt (-2)))

def pg_X1_passesOn (v1 : Nat) : xw_M xw_St Int32 :=
 xw_bd (xw_gR 21 (some v1)) fun v2 =>
    xw_bd (xw_cv 17 v2 (fun v4 => pg_X20_at v4 12)) fun v3 =>
    if v3 = 0 then (
    xw_bd (xw_gI 23 (some v1)) fun v26 =>
    xw_rt v26)
    else (
    xw_bd (xw_loop (α := Int32 × Int32) (β := Int32) (fun v5 =>
    xw_bd (xw_gR 20 (some v1)) fun v9 =>
    xw_bd (xw_gI 103 v9) fun v10 =>
    if v10 ≤ v5.2 then (
    xw_rt (.inr (v5.1)))
    else (
    xw_bd (xw_gR 20 (some v1)) fun v11 =>
    xw_bd (xw_gR 99 v11) fun v12 =>
    xw_bd (xw_ldR v12 v5.2) fun v13 =>
    xw_bd (xw_dv v13 [(5, fun v15 => pg_X7_kind v15), (6, fun v15 => pg_X8_kind v15), (7, fun v15 => pg_X10_kind v15), (8, fun v15 => pg_X11_kind v15), (9, fun v15 => pg_X12_kind v15), (10, fun v15 => pg_X13_kind v15), (11, fun v15 => pg_X14_kind v15), (12, fun v15 => pg_X15_kind v15)]) fun v14 =>
    if v14 = 7 then (
    xw_bd (xw_gR 24 (some v1)) fun v16 =>
    xw_bd (xw_dv v13 [(5, fun v18 => pg_X6_isSaid v18 v16), (6, fun v18 => pg_X6_isSaid v18 v16), (7, fun v18 => pg_X6_isSaid v18 v16), (8, fun v18 => pg_X6_isSaid v18 v16), (9, fun v18 => pg_X6_isSaid v18 v16), (10, fun v18 => pg_X6_isSaid v18 v16), (11, fun v18 => pg_X6_isSaid v18 v16), (12, fun v18 => pg_X6_isSaid v18 v16)]) fun v17 =>
    if v17 = 0 then (
    xw_rt (.inl (v5.1, v5.2 + 1)))
    else (
    xw_bd (xw_gR 21 (some v1)) fun v19 =>
    xw_bd (xw_cv 17 v19 (fun v21 => pg_X20_at v21 12)) fun v20 =>
    xw_bd (if v20 = 1 then (
    xw_rt 0)
    else (
    xw_rt 1))
    (fun (v22 : Int32) =>
    xw_bd (xw_cv 1 (some v1) (fun v24 => pg_X1_hour v24 v13 v22)) fun v23 =>
    xw_lt (xw_min v5.1 v23) fun v25 =>
    xw_rt (.inl (v25, v5.2 + 1)))))
    else (
    xw_rt (.inl (v5.1, v5.2 + 1))))) xw_FU (9999, 0))
    (fun (v6 : Int32) =>
    if v6 = 9999 then (
    xw_rt 9999)
    else (
    xw_bd (xw_gI 23 (some v1)) fun v7 =>
    xw_lt (xw_max v7 v6) fun v8 =>
    xw_rt v8)))

def pg_X1_bears (v1 : Nat) (v2 : Int32) : xw_M xw_St Int32 :=
 xw_bd (xw_cv 1 (some v1) (fun v4 => pg_X1_passesOn v4)) fun v3 =>
    if v2 < v3 then (
    xw_bd (xw_gR 24 (some v1)) fun v5 =>
    xw_bd (xw_gI 107 v5) fun v6 =>
    xw_rt v6)
    else (
    xw_bd (xw_gR 24 (some v1)) fun v7 =>
    xw_bd (xw_dv v7 [(5, fun v9 => pg_X7_to v9), (6, fun v9 => pg_X8_to v9), (7, fun v9 => pg_X6_to v9), (8, fun v9 => pg_X11_to v9), (9, fun v9 => pg_X6_to v9), (10, fun v9 => pg_X6_to v9), (11, fun v9 => pg_X6_to v9), (12, fun v9 => pg_X6_to v9)]) fun v8 =>
    xw_rt v8)

def pg_X0_bears (v1 : Nat) (v2 : Int32) (v3 : Int32) (v4 : Int32) (v5 : Int32) : xw_M xw_St Int32 :=
 xw_bd (xw_cv 0 (some v1) (fun v7 => pg_X0_isRun v7 v2 v3 v4)) fun v6 =>
    if v6 = 0 then (
    xw_rt (-2))
    else (
    if 0 ≤ v5 then (
    xw_bd (xw_gR 0 (some v1)) fun v8 =>
    xw_bd (xw_ldR v8 v2) fun v9 =>
    xw_bd (xw_cv 0 (some v1) (fun v11 => pg_X0_rulesOf v11 v3)) fun v10 =>
    xw_bd (xw_cv 0 (some v1) (fun v13 => pg_X0_ran v13 v9 v10 v4)) fun v12 =>
    xw_bd (xw_cv 1 v12 (fun v15 => pg_X1_isBargain v15)) fun v14 =>
    if v14 = 0 then (
    xw_rt (-1))
    else (
    xw_lt (xw_min v5 9998) fun v16 =>
    xw_bd (xw_cv 1 v12 (fun v18 => pg_X1_bears v18 v16)) fun v17 =>
    xw_rt v17))
    else (
    xw_rt (-2)))

def pg_X0_judge (v1 : Nat) (v2 : Int32) (v3 : Int32) (v4 : Int32) (v5 : Int32) (v6 : Int32) : xw_M xw_St Int32 :=
 xw_bd (xw_cv 0 (some v1) (fun v8 => pg_X0_isRun v8 v2 v3 v4)) fun v7 =>
    if v7 = 0 then (
    xw_rt (-2))
    else (
    xw_bd (xw_gR 0 (some v1)) fun v9 =>
    xw_bd (xw_ldR v9 v2) fun v10 =>
    xw_bd (xw_cv 0 (some v1) (fun v12 => pg_X0_rulesOf v12 v3)) fun v11 =>
    xw_bd (xw_cv 0 (some v1) (fun v14 => pg_X0_ran v14 v10 v11 v4)) fun v13 =>
    xw_bd (xw_cv 1 v13 (fun v16 => pg_X1_isBargain v16)) fun v15 =>
    xw_bd (if v5 = (-2) then (
    xw_rt 0)
    else (
    xw_rt 1))
    (fun (v17 : Int32) =>
    if v15 = v17 then (
    xw_bd (xw_cv 1 v13 (fun v19 => pg_X1_isBargain v19)) fun v18 =>
    if v18 = 0 then (
    xw_rt (-1))
    else (
    xw_bd (xw_gI 22 v13) fun v20 =>
    if v20 = v5 then (
    xw_bd (xw_gI 23 v13) fun v21 =>
    if v21 = v6 then (
    xw_rt (-1))
    else (
    xw_rt 2))
    else (
    xw_rt 1)))
    else (
    xw_rt 0)))

def pg_X0_areApart (v1 : Nat) (v2 : Option Nat) (v3 : Option Nat) (v4 : Option Nat) (v5 : Int32) : xw_M xw_St Int32 :=
 xw_bd (xw_gR 4 (some v1)) fun v6 =>
    xw_bd (xw_ldR v6 0) fun v7 =>
    xw_bd (xw_gR 4 (some v1)) fun v8 =>
    xw_bd (xw_ldR v8 17) fun v9 =>
    xw_bd (xw_cv 1 v7 (fun v10 => pg_X1_runs (pg_X0_hasGiven 17) v10 v2 v3 v5)) fun _ =>
    xw_bd (xw_cv 1 v9 (fun v11 => pg_X1_runs (pg_X0_hasGiven 17) v11 v2 v4 v5)) fun _ =>
    xw_bd (xw_cv 1 v7 (fun v13 => pg_X1_isBargain v13)) fun v12 =>
    xw_bd (xw_cv 1 v9 (fun v15 => pg_X1_isBargain v15)) fun v14 =>
    if v12 = v14 then (
    xw_bd (xw_cv 1 v7 (fun v17 => pg_X1_isBargain v17)) fun v16 =>
    if v16 = 0 then (
    xw_rt 0)
    else (
    xw_bd (xw_gI 23 v7) fun v18 =>
    xw_bd (xw_gI 23 v9) fun v19 =>
    xw_bd (if v18 = v19 then (
    xw_rt 0)
    else (
    xw_rt 1))
    (fun (v20 : Int32) =>
    xw_bd (xw_loop (α := Int32 × Int32) (β := Int32) (fun v21 =>
    if 5 ≤ v21.2 then (
    xw_rt (.inr (v21.1)))
    else (
    if v21.1 = 0 then (
    xw_bd (xw_cv 1 v7 (fun v24 => pg_X1_term v24 v21.2)) fun v23 =>
    xw_bd (xw_cv 1 v9 (fun v26 => pg_X1_term v26 v21.2)) fun v25 =>
    if v23 = v25 then (
    xw_rt (.inl (0, v21.2 + 1)))
    else (
    xw_rt (.inl (1, v21.2 + 1))))
    else (
    xw_rt (.inl (1, v21.2 + 1))))) xw_FU (v20, 0))
    (fun (v22 : Int32) =>
    xw_rt (v22 &&& 1)))))
    else (
    xw_rt 1)

def pg_X0_apart (v1 : Nat) (v2 : Int32) (v3 : Int32) (v4 : Int32) (v5 : Int32) : xw_M xw_St Int32 :=
 xw_bd (xw_cv 0 (some v1) (fun v7 => pg_X0_isRun v7 v2 v3 0)) fun v6 =>
    if v6 = 0 then (
    xw_rt (-2))
    else (
    xw_bd (xw_cv 0 (some v1) (fun v9 => pg_X0_isLaw v9 v4)) fun v8 =>
    if v8 = 0 then (
    xw_rt (-2))
    else (
    xw_bd (pg_X0_isIn v5 0 1) fun v10 =>
    if v10 = 0 then (
    xw_rt (-2))
    else (
    xw_bd (xw_cv 0 (some v1) (fun v12 => pg_X0_rulesOf v12 v3)) fun v11 =>
    xw_bd (xw_cv 0 (some v1) (fun v14 => pg_X0_rulesOf v14 v4)) fun v13 =>
    xw_bd (xw_loop (α := Int32 × Int32 × Int32) (β := Int32 × Int32) (fun v15 =>
    xw_bd (xw_gR 0 (some v1)) fun v17 =>
    xw_bd (xw_ldR v17 v2) fun v18 =>
    xw_bd (xw_cv 4 v18 (fun v20 => pg_X5_combos v20)) fun v19 =>
    if v19 ≤ v15.2.2 then (
    xw_rt (.inr (v15.1, v15.2.1)))
    else (
    xw_bd (xw_gR 0 (some v1)) fun v21 =>
    xw_bd (xw_ldR v21 v2) fun v22 =>
    xw_bd (xw_cv 0 (some v1) (fun v24 => pg_X0_areApart v24 v22 v11 v13 v15.2.2)) fun v23 =>
    if v23 = 0 then (
    xw_rt (.inl (v15.1, v15.2.1, v15.2.2 + 1)))
    else (
    if v15.2.1 = (-1) then (
    xw_rt (.inl (v15.1 + 1, v15.2.2, v15.2.2 + 1)))
    else (
    xw_rt (.inl (v15.1 + 1, v15.2.1, v15.2.2 + 1)))))) xw_FU (0, (-1), 0))
    (fun (v16 : Int32 × Int32) =>
    if v5 = 0 then (
    xw_rt v16.1)
    else (
    xw_rt v16.2)))))

def pg_X0_part (v1 : Nat) (v2 : Int32) (v3 : Int32) : xw_M xw_St Int32 :=
 xw_bd (xw_cv 0 (some v1) (fun v5 => pg_X0_isLaw v5 v2)) fun v4 =>
    if v4 = 0 then (
    xw_rt (-2))
    else (
    xw_bd (xw_cv 0 (some v1) (fun v7 => pg_X0_isLaw v7 v3)) fun v6 =>
    if v6 = 0 then (
    xw_rt (-2))
    else (
    xw_bd (xw_cv 0 (some v1) (fun v9 => pg_X0_rulesOf v9 v2)) fun v8 =>
    xw_bd (xw_cv 0 (some v1) (fun v11 => pg_X0_rulesOf v11 v3)) fun v10 =>
    xw_bd (xw_loop (α := Int32 × Int32) (β := Int32) (fun v12 =>
    xw_bd (xw_gI 6 (some v1)) fun v14 =>
    if v14 ≤ v12.2 then (
    xw_rt (.inr (v12.1)))
    else (
    xw_bd (xw_gR 0 (some v1)) fun v15 =>
    xw_bd (xw_ldR v15 v12.2) fun v16 =>
    xw_bd (xw_cv 4 v16 (fun v18 => pg_X5_isLooked v18)) fun v17 =>
    if v17 = 0 then (
    xw_rt (.inl (v12.1, v12.2 + 1)))
    else (
    if v12.1 = (-1) then (
    xw_bd (xw_loop (α := Int32 × Int32) (β := Int32) (fun v19 =>
    xw_bd (xw_cv 4 v16 (fun v22 => pg_X5_combos v22)) fun v21 =>
    if v21 ≤ v19.2 then (
    xw_rt (.inr (v19.1)))
    else (
    if v19.1 = 0 then (
    xw_bd (xw_cv 0 (some v1) (fun v24 => pg_X0_areApart v24 v16 v8 v10 v19.2)) fun v23 =>
    xw_rt (.inl (v23, v19.2 + 1)))
    else (
    xw_rt (.inr (v19.1))))) xw_FU (0, 0))
    (fun (v20 : Int32) =>
    if v20 = 0 then (
    xw_rt (.inl (v12.1, v12.2 + 1)))
    else (
    xw_rt (.inl (v12.2, v12.2 + 1)))))
    else (
    xw_bd (xw_gI 103 v16) fun v25 =>
    xw_bd (xw_gR 0 (some v1)) fun v26 =>
    xw_bd (xw_ldR v26 v12.1) fun v27 =>
    xw_bd (xw_gI 103 v27) fun v28 =>
    if v25 < v28 then (
    xw_bd (xw_loop (α := Int32 × Int32) (β := Int32) (fun v29 =>
    xw_bd (xw_cv 4 v16 (fun v32 => pg_X5_combos v32)) fun v31 =>
    if v31 ≤ v29.2 then (
    xw_rt (.inr (v29.1)))
    else (
    if v29.1 = 0 then (
    xw_bd (xw_cv 0 (some v1) (fun v34 => pg_X0_areApart v34 v16 v8 v10 v29.2)) fun v33 =>
    xw_rt (.inl (v33, v29.2 + 1)))
    else (
    xw_rt (.inr (v29.1))))) xw_FU (0, 0))
    (fun (v30 : Int32) =>
    if v30 = 0 then (
    xw_rt (.inl (v12.1, v12.2 + 1)))
    else (
    xw_rt (.inl (v12.2, v12.2 + 1)))))
    else (
    xw_rt (.inl (v12.1, v12.2 + 1))))))) xw_FU ((-1), 0))
    (fun (v13 : Int32) =>
    xw_rt v13)))

def pg_X0_isSure (v1 : Nat) (v2 : Option Nat) (v3 : Int32) : xw_M xw_St Int32 :=
 xw_loop (α := Int32) (β := Int32) (fun v4 =>
    xw_bd (xw_gI 7 (some v1)) fun v5 =>
    if v5 ≤ v4 then (
    xw_rt (.inr 1))
    else (
    xw_bd (xw_cv 0 (some v1) (fun v7 => pg_X0_rulesOf v7 v4)) fun v6 =>
    xw_bd (xw_loop (α := Int32) (β := Unit) (fun v8 =>
    xw_bd (xw_gI 8 (some v1)) fun v17 =>
    if v17 ≤ v8 then (
    xw_rt (.inr ()))
    else (
    if ((v3 >>> (v8 &&& 31)) &&& 1) = 1 then (
    xw_bd (xw_gR 2 (some v1)) fun v18 =>
    xw_bd (xw_ldR v18 v8) fun v19 =>
    xw_bd (xw_cv 17 v6 (fun v20 => pg_X20_takes v20 v19)) fun _ =>
    xw_rt (.inl (v8 + 1)))
    else (
    xw_rt (.inl (v8 + 1))))) xw_FU 0)
    (fun (v9 : Unit) =>
    xw_loop (α := Int32) (β := (Int32) ⊕ (Int32)) (fun v10 =>
    xw_bd (xw_cv 4 v2 (fun v12 => pg_X5_combos v12)) fun v11 =>
    if v11 ≤ v10 then (
    xw_rt (.inr (.inl (v4 + 1))))
    else (
    xw_bd (xw_cv 0 (some v1) (fun v14 => pg_X0_ran v14 v2 v6 v10)) fun v13 =>
    xw_bd (xw_cv 1 v13 (fun v16 => pg_X1_isBargain v16)) fun v15 =>
    if v15 = 0 then (
    xw_rt (.inr (.inr 0)))
    else (
    xw_rt (.inl (v10 + 1))))) xw_FU 0))) xw_FU 0

def pg_X0_write (v1 : Nat) (v2 : Int32) : xw_M xw_St Int32 :=
 xw_bd (xw_cv 0 (some v1) (fun v4 => pg_X0_isCombo v4 v2 0)) fun v3 =>
    if v3 = 0 then (
    xw_rt (-2))
    else (
    xw_bd (xw_gI 7 (some v1)) fun v5 =>
    if v5 = 0 then (
    xw_rt (-2))
    else (
    xw_bd (xw_loop (α := Int32 × Int32) (β := Int32) (fun v6 =>
    xw_bd (xw_gI 8 (some v1)) fun v8 =>
    if (1 <<< (v8 &&& 31)) ≤ v6.2 then (
    xw_rt (.inr (v6.1)))
    else (
    if v6.1 = (-1) then (
    xw_bd (xw_gR 0 (some v1)) fun v9 =>
    xw_bd (xw_ldR v9 v2) fun v10 =>
    xw_bd (xw_cv 0 (some v1) (fun v12 => pg_X0_isSure v12 v10 v6.2)) fun v11 =>
    if v11 = 0 then (
    xw_rt (.inl (v6.1, v6.2 + 1)))
    else (
    xw_rt (.inl (v6.2, v6.2 + 1))))
    else (
    xw_bd (pg_J1_bitCount v6.2) fun v13 =>
    xw_bd (pg_J1_bitCount v6.1) fun v14 =>
    if v14 ≤ v13 then (
    xw_rt (.inl (v6.1, v6.2 + 1)))
    else (
    xw_bd (xw_gR 0 (some v1)) fun v15 =>
    xw_bd (xw_ldR v15 v2) fun v16 =>
    xw_bd (xw_cv 0 (some v1) (fun v18 => pg_X0_isSure v18 v16 v6.2)) fun v17 =>
    if v17 = 0 then (
    xw_rt (.inl (v6.1, v6.2 + 1)))
    else (
    xw_rt (.inl (v6.2, v6.2 + 1))))))) xw_FU ((-1), 0))
    (fun (v7 : Int32) =>
    xw_rt v7)))

def pg_X0_count (v1 : Nat) (v2 : Int32) : xw_M xw_St Int32 :=
 if v2 = 0 then (xw_bd (xw_gI 6 (some v1)) fun v3 =>
    xw_rt v3) else (
    if v2 = 1 then (xw_bd (xw_gI 7 (some v1)) fun v4 =>
    xw_rt v4) else (
    if v2 = 2 then (xw_bd (xw_gI 8 (some v1)) fun v5 =>
    xw_rt v5) else (
    if v2 = 3 then (xw_bd (xw_gI 5 (some v1)) fun v6 =>
    xw_rt v6) else (
    if v2 = 4 then (xw_bd (xw_loop (α := Int32 × Int32) (β := Int32) (fun v7 =>
    xw_bd (xw_gI 6 (some v1)) fun v9 =>
    if v9 ≤ v7.2 then (
    xw_rt (.inr (v7.1)))
    else (
    xw_bd (xw_gR 0 (some v1)) fun v10 =>
    xw_bd (xw_ldR v10 v7.2) fun v11 =>
    xw_bd (xw_gI 103 v11) fun v12 =>
    xw_lt (v7.1 + v12) fun v13 =>
    xw_rt (.inl (v13, v7.2 + 1)))) xw_FU (0, 0))
    (fun (v8 : Int32) =>
    xw_rt v8)) else (
    if v2 = 5 then (xw_bd (xw_gI 12 (some v1)) fun v14 =>
    xw_rt v14) else (
    xw_rt (-1)))))))

def pg_X2_init (v1 : Nat) : xw_M xw_St Unit :=
 xw_bd (xw_nwa 73 5) fun v2 =>
    xw_bd (xw_pR 26 (some v1) (some v2)) fun _ =>
    xw_bd (xw_nwa 74 5) fun v3 =>
    xw_bd (xw_pR 27 (some v1) (some v3)) fun _ =>
    xw_bd (xw_nwa 75 5) fun v4 =>
    xw_bd (xw_pR 28 (some v1) (some v4)) fun _ =>
    xw_bd (xw_nwa 76 80) fun v5 =>
    xw_bd (xw_pR 29 (some v1) (some v5)) fun _ =>
    xw_bd (xw_nwa 77 960) fun v6 =>
    xw_bd (xw_pR 30 (some v1) (some v6)) fun _ =>
    xw_bd (xw_nwa 78 960) fun v7 =>
    xw_bd (xw_pR 31 (some v1) (some v7)) fun _ =>
    xw_bd (xw_nwa 79 960) fun v8 =>
    xw_bd (xw_pR 32 (some v1) (some v8)) fun _ =>
    xw_bd (xw_nwa 80 960) fun v9 =>
    xw_bd (xw_pR 33 (some v1) (some v9)) fun _ =>
    xw_bd (xw_nwa 81 960) fun v10 =>
    xw_bd (xw_pR 34 (some v1) (some v10)) fun _ =>
    xw_bd (xw_nwa 82 960) fun v11 =>
    xw_bd (xw_pR 35 (some v1) (some v11)) fun _ =>
    xw_bd (xw_nwa 83 960) fun v12 =>
    xw_bd (xw_pR 36 (some v1) (some v12)) fun _ =>
    xw_bd (xw_nwa 84 960) fun v13 =>
    xw_bd (xw_pR 37 (some v1) (some v13)) fun _ =>
    xw_bd (xw_nwa 85 4800) fun v14 =>
    xw_bd (xw_pR 38 (some v1) (some v14)) fun _ =>
    xw_bd (xw_nwa 86 2880) fun v15 =>
    xw_bd (xw_pR 39 (some v1) (some v15)) fun _ =>
    xw_bd (xw_nwa 87 2880) fun v16 =>
    xw_bd (xw_pR 40 (some v1) (some v16)) fun _ =>
    xw_bd (xw_nwa 88 980) fun v17 =>
    xw_bd (xw_pR 41 (some v1) (some v17)) fun _ =>
    xw_bd (xw_nwa 89 900) fun v18 =>
    xw_bd (xw_pR 42 (some v1) (some v18)) fun _ =>
    xw_bd (xw_pI 44 (some v1) (-1)) fun _ =>
    xw_bd (xw_nwa 90 13) fun v19 =>
    xw_bd (xw_pR 52 (some v1) (some v19)) fun _ =>
    xw_bd (xw_nwa 91 12) fun v20 =>
    xw_bd (xw_pR 56 (some v1) (some v20)) fun _ =>
    xw_bd (xw_nwa 92 12) fun v21 =>
    xw_bd (xw_pR 57 (some v1) (some v21)) fun _ =>
    xw_bd (xw_nwa 93 12) fun v22 =>
    xw_bd (xw_pR 58 (some v1) (some v22)) fun _ =>
    xw_bd (xw_nwa 94 12) fun v23 =>
    xw_bd (xw_pR 59 (some v1) (some v23)) fun _ =>
    xw_bd (xw_nwa 95 12) fun v24 =>
    xw_bd (xw_pR 60 (some v1) (some v24)) fun _ =>
    xw_bd (xw_nwa 96 12) fun v25 =>
    xw_bd (xw_pR 61 (some v1) (some v25)) fun _ =>
    xw_bd (xw_nwa 97 12) fun v26 =>
    xw_bd (xw_pR 62 (some v1) (some v26)) fun _ =>
    xw_bd (xw_nwa 98 12) fun v27 =>
    xw_bd (xw_pR 63 (some v1) (some v27)) fun _ =>
    xw_bd (xw_nwa 99 60) fun v28 =>
    xw_bd (xw_pR 64 (some v1) (some v28)) fun _ =>
    xw_bd (xw_nwa 100 36) fun v29 =>
    xw_bd (xw_pR 65 (some v1) (some v29)) fun _ =>
    xw_bd (xw_nwa 101 36) fun v30 =>
    xw_bd (xw_pR 66 (some v1) (some v30)) fun _ =>
    xw_bd (xw_nwa 102 48) fun v31 =>
    xw_bd (xw_pR 67 (some v1) (some v31)) fun _ =>
    xw_bd (xw_nwa 103 48) fun v32 =>
    xw_bd (xw_pR 68 (some v1) (some v32)) fun _ =>
    xw_bd (xw_nwa 104 12) fun v33 =>
    xw_bd (xw_pR 69 (some v1) (some v33)) fun _ =>
    xw_bd (xw_nwa 105 12) fun v34 =>
    xw_bd (xw_pR 70 (some v1) (some v34)) fun _ =>
    xw_bd (xw_nwa 106 12) fun v35 =>
    xw_bd (xw_pR 71 (some v1) (some v35)) fun _ =>
    xw_bd (xw_nwa 107 48) fun v36 =>
    xw_bd (xw_pR 72 (some v1) (some v36)) fun _ =>
    xw_bd (xw_nwa 108 12) fun v37 =>
    xw_bd (xw_pR 73 (some v1) (some v37)) fun _ =>
    xw_bd (xw_nwa 109 12) fun v38 =>
    xw_bd (xw_pR 74 (some v1) (some v38)) fun _ =>
    xw_bd (xw_nwa 110 12) fun v39 =>
    xw_bd (xw_pR 75 (some v1) (some v39)) fun _ =>
    xw_bd (xw_nwa 111 16) fun v40 =>
    xw_bd (xw_pR 80 (some v1) (some v40)) fun _ =>
    xw_bd (xw_nwa 112 16) fun v41 =>
    xw_bd (xw_pR 81 (some v1) (some v41)) fun _ =>
    xw_bd (xw_nwa 113 1024) fun v42 =>
    xw_bd (xw_pR 82 (some v1) (some v42)) fun _ =>
    xw_bd (xw_nwa 114 1024) fun v43 =>
    xw_bd (xw_pR 83 (some v1) (some v43)) fun _ =>
    xw_bd (xw_nwa 115 1024) fun v44 =>
    xw_bd (xw_pR 84 (some v1) (some v44)) fun _ =>
    xw_bd (xw_nwa 116 5120) fun v45 =>
    xw_bd (xw_pR 85 (some v1) (some v45)) fun _ =>
    xw_rt ()
