set_option maxRecDepth 100000
def pg_X2_within (v1 : Int32) (v2 : Int32) (v3 : Int32) : xw_M xw_Mu Int32 :=
 if v1 < v2 then (
    xw_rt 0)
    else (
    if v3 < v1 then (
    xw_rt 0)
    else (
    xw_rt 1))

def pg_X2_feed (v1 : Int32) (v2 : Int32) (v3 : Int32) (v4 : Int32) (v5 : Int32) : xw_M xw_Mu Int32 :=
 ym_g 17 fun v6 =>
    if (v6 + 20) ≤ 900 then (
    xw_bd (xw_loop (α := Int32) (β := Unit) (fun v7 =>
    if 20 ≤ v7 then (
    xw_rt (.inr ()))
    else (
    xw_bd (if 4 ≤ v7 then (
    if 8 ≤ v7 then (
    if 12 ≤ v7 then (
    if 16 ≤ v7 then (
    xw_rt v5)
    else (
    xw_rt v4))
    else (
    xw_rt v3))
    else (
    xw_rt v2))
    else (
    xw_rt v1))
    (fun (v10 : Int32) =>
    ym_g 17 fun v11 =>
    xw_bd (xw_rem v7 4) fun v12 =>
    xw_bd (ym_stB 16 v11 ((v10 >>> ((24 - (8 * v12)) &&& 31) : Int32).toInt8.toInt32)) fun _ =>
    ym_g 17 fun v13 =>
    xw_bd (ym_p 17 (v13 + 1)) fun _ =>
    xw_rt (.inl (v7 + 1))))) xw_FU 0)
    (fun (v8 : Unit) =>
    ym_g 17 fun v9 =>
    xw_rt v9))
    else (
    xw_rt (-1))

def pg_X2_here  : xw_M xw_Mu Int32 :=
 ym_g 20 fun v1 =>
    ym_g 19 fun v2 =>
    if v2 ≤ v1 then (
    xw_rt (-1))
    else (
    ym_g 20 fun v3 =>
    xw_bd (ym_ld 16 v3) fun v4 =>
    xw_rt (v4 &&& 255))

def pg_X2_next  : xw_M xw_Mu Unit :=
 xw_bd (xw_loop (α := Unit) (β := Unit) (fun v1 =>
    xw_bd (pg_X2_here) fun v31 =>
    xw_jn (fun (v32 : Unit) =>
    ym_g 20 fun v33 =>
    xw_bd (ym_p 20 (v33 + 1)) fun _ =>
    xw_rt (.inl ()))
    (fun J11 =>
    if v31 = 32 then (
    J11 ())
    else (
    xw_bd (pg_X2_here) fun v34 =>
    if v34 = 10 then (
    J11 ())
    else (
    xw_rt (.inr ()))))) xw_FU ())
    (fun (v2 : Unit) =>
    ym_g 20 fun v3 =>
    xw_bd (ym_p 21 v3) fun _ =>
    xw_bd (pg_X2_here) fun v4 =>
    xw_bd (ym_pJ (-1)) fun _ =>
    xw_bd (ym_p 23 0) fun _ =>
    if 0 ≤ v4 then (
    xw_bd (pg_X2_within v4 97 122) fun v5 =>
    if v5 = 0 then (
    xw_bd (pg_X2_within v4 48 57) fun v6 =>
    if v6 = 0 then (
    xw_bd (if v4 = 59 then (
    xw_rt 59)
    else (
    xw_rt 3))
    (fun (v7 : Int32) =>
    xw_bd (ym_p 22 v7) fun _ =>
    ym_g 20 fun v8 =>
    xw_bd (ym_p 20 (v8 + 1)) fun _ =>
    xw_rt ()))
    else (
    xw_bd (xw_loop (α := Unit) (β := Unit) (fun v9 =>
    xw_bd (pg_X2_here) fun v14 =>
    xw_bd (pg_X2_within v14 48 57) fun v15 =>
    if v15 = 0 then (
    xw_rt (.inr ()))
    else (
    ym_g 23 fun v16 =>
    xw_bd (if 1000000 ≤ v16 then (
    xw_rt ())
    else (
    ym_g 23 fun v19 =>
    xw_bd (pg_X2_here) fun v20 =>
    xw_bd (ym_p 23 (((10 * v19) + v20) - 48)) fun _ =>
    xw_rt ()))
    (fun (v17 : Unit) =>
    ym_g 20 fun v18 =>
    xw_bd (ym_p 20 (v18 + 1)) fun _ =>
    xw_rt (.inl ())))) xw_FU ())
    (fun (v10 : Unit) =>
    ym_g 20 fun v11 =>
    ym_g 21 fun v12 =>
    xw_bd (if 4 < (v11 - v12) then (
    xw_rt 3)
    else (
    xw_rt 2))
    (fun (v13 : Int32) =>
    xw_bd (ym_p 22 v13) fun _ =>
    xw_rt ()))))
    else (
    xw_bd (ym_p 22 1) fun _ =>
    xw_bd (ym_pJ 0) fun _ =>
    xw_bd (xw_loop (α := Unit) (β := Unit) (fun v21 =>
    xw_bd (pg_X2_here) fun v23 =>
    xw_bd (pg_X2_within v23 97 122) fun v24 =>
    if v24 = 0 then (
    xw_rt (.inr ()))
    else (
    ym_g 20 fun v25 =>
    ym_g 21 fun v26 =>
    xw_bd (if 8 ≤ (v25 - v26) then (
    xw_rt (-1))
    else (
    ym_gJ fun v29 =>
    xw_bd (pg_X2_here) fun v30 =>
    xw_rt ((v29 * 27) + ((v30 - 96 : Int32).toInt64))))
    (fun (v27 : Int64) =>
    xw_bd (ym_pJ v27) fun _ =>
    ym_g 20 fun v28 =>
    xw_bd (ym_p 20 (v28 + 1)) fun _ =>
    xw_rt (.inl ())))) xw_FU ())
    (fun (v22 : Unit) =>
    xw_rt ())))
    else (
    xw_bd (ym_p 22 0) fun _ =>
    xw_rt ()))

def pg_X2_errs  : xw_M xw_Mu Unit :=
 ym_g 25 fun v1 =>
    if v1 = 0 then (
    xw_bd (ym_p 25 1) fun _ =>
    ym_g 21 fun v2 =>
    xw_bd (ym_p 18 v2) fun _ =>
    xw_rt ())
    else (
    xw_rt ())

def pg_X2_is (v1 : Int64) : xw_M xw_Mu Int32 :=
 ym_g 25 fun v2 =>
    if v2 = 0 then (
    ym_g 22 fun v3 =>
    if v3 = 1 then (
    ym_gJ fun v4 =>
    if (lg_cmp v4 v1) = 0 then (
    xw_rt 1)
    else (
    xw_rt 0))
    else (
    xw_rt 0))
    else (
    xw_rt 0)

def pg_X2_mustBe (v1 : Int64) : xw_M xw_Mu Unit :=
 xw_bd (pg_X2_is v1) fun v2 =>
    if v2 = 0 then (
    xw_bd (pg_X2_errs) fun _ =>
    xw_rt ())
    else (
    xw_bd (pg_X2_next) fun _ =>
    xw_rt ())

def pg_X2_numeral (v1 : Int32) (v2 : Int32) : xw_M xw_Mu Int32 :=
 ym_g 23 fun v3 =>
    ym_g 25 fun v4 =>
    if v4 = 0 then (
    ym_g 22 fun v5 =>
    xw_jn (fun (v6 : Unit) =>
    xw_bd (pg_X2_errs) fun _ =>
    xw_rt 0)
    (fun J1 =>
    if v5 = 2 then (
    if v3 < v1 then (
    J1 ())
    else (
    if v3 ≤ v2 then (
    xw_bd (pg_X2_next) fun _ =>
    xw_rt v3)
    else (
    J1 ())))
    else (
    J1 ())))
    else (
    xw_rt 0)

def pg_X2_ends  : xw_M xw_Mu Unit :=
 ym_g 25 fun v1 =>
    if v1 = 0 then (
    ym_g 22 fun v2 =>
    if v2 = 59 then (
    xw_bd (pg_X2_next) fun _ =>
    xw_rt ())
    else (
    xw_bd (pg_X2_errs) fun _ =>
    xw_rt ()))
    else (
    xw_rt ())

def pg_X2_begins (v1 : Int32) : xw_M xw_Mu Unit :=
 xw_bd (ym_p 19 v1) fun _ =>
    xw_bd (ym_p 17 0) fun _ =>
    xw_bd (ym_p 20 0) fun _ =>
    xw_bd (ym_p 18 (-1)) fun _ =>
    xw_bd (ym_p 25 0) fun _ =>
    xw_bd (pg_X2_next) fun _ =>
    xw_rt ()

def pg_X2_handHere (v1 : Int32) : xw_M xw_Mu Int32 :=
 ym_g 25 fun v2 =>
    if v2 = 0 then (
    ym_g 22 fun v3 =>
    xw_bd (if v3 = 1 then (
    ym_gJ fun v6 =>
    if (lg_cmp v6 1) < 0 then (
    xw_rt (-1))
    else (
    ym_gJ fun v7 =>
    if 0 < (lg_cmp v7 3) then (
    xw_rt (-1))
    else (
    ym_gJ fun v8 =>
    xw_rt (((v8 : Int64).toInt32) - 1))))
    else (
    xw_rt (-1)))
    (fun (v4 : Int32) =>
    xw_jn (fun (v5 : Unit) =>
    xw_bd (pg_X2_errs) fun _ =>
    xw_rt 0)
    (fun J2 =>
    if v4 < 0 then (
    J2 ())
    else (
    if v4 = v1 then (
    J2 ())
    else (
    xw_bd (pg_X2_next) fun _ =>
    xw_rt v4)))))
    else (
    xw_rt 0)

def pg_X2_wordHere  : xw_M xw_Mu Int32 :=
 ym_g 25 fun v1 =>
    if v1 = 0 then (
    ym_g 22 fun v2 =>
    if v2 = 1 then (
    ym_gJ fun v3 =>
    if (lg_cmp v3 8863997) = 0 then (
    xw_rt 0)
    else (
    ym_gJ fun v4 =>
    if (lg_cmp v4 271277) = 0 then (
    xw_rt 1)
    else (
    ym_gJ fun v5 =>
    if (lg_cmp v5 2968) = 0 then (
    xw_rt 2)
    else (
    ym_gJ fun v6 =>
    if (lg_cmp v6 326369) = 0 then (
    xw_rt 3)
    else (
    ym_gJ fun v7 =>
    if (lg_cmp v7 1905383) = 0 then (
    xw_rt 4)
    else (
    xw_rt (-1)))))))
    else (
    xw_rt (-1)))
    else (
    xw_rt (-1))

def pg_X2_whatHere  : xw_M xw_Mu Int32 :=
 ym_g 25 fun v1 =>
    if v1 = 0 then (
    ym_g 22 fun v2 =>
    if v2 = 1 then (
    ym_gJ fun v3 =>
    if (lg_cmp v3 8094240) = 0 then (
    xw_rt 0)
    else (
    ym_gJ fun v4 =>
    if (lg_cmp v4 1253) = 0 then (
    xw_rt 1)
    else (
    ym_gJ fun v5 =>
    if (lg_cmp v5 18379) = 0 then (
    xw_rt 2)
    else (
    ym_gJ fun v6 =>
    if (lg_cmp v6 393) = 0 then (
    xw_rt 4)
    else (
    ym_gJ fun v7 =>
    if (lg_cmp v7 40187) = 0 then (
    xw_rt 5)
    else (
    ym_gJ fun v8 =>
    if (lg_cmp v8 82516) = 0 then (
    xw_rt 6)
    else (
    ym_gJ fun v9 =>
    if (lg_cmp v9 378004) = 0 then (
    xw_rt 7)
    else (
    xw_rt (-1)))))))))
    else (
    xw_rt (-1)))
    else (
    xw_rt (-1))

def pg_X2_wayHere  : xw_M xw_Mu Int32 :=
 ym_g 25 fun v1 =>
    if v1 = 0 then (
    ym_g 22 fun v2 =>
    if v2 = 1 then (
    ym_gJ fun v3 =>
    if (lg_cmp v3 326396) = 0 then (
    xw_rt 0)
    else (
    ym_gJ fun v4 =>
    if (lg_cmp v4 459761) = 0 then (
    xw_rt 1)
    else (
    ym_gJ fun v5 =>
    if (lg_cmp v5 7219835) = 0 then (
    xw_rt 2)
    else (
    ym_gJ fun v6 =>
    if (lg_cmp v6 82516) = 0 then (
    xw_rt 3)
    else (
    xw_rt (-1))))))
    else (
    xw_rt (-1)))
    else (
    xw_rt (-1))

def pg_X2_words (v1 : Int32) (v2 : Int32) : xw_M xw_Mu Unit :=
 xw_bd (if v2 = 0 then (
    xw_rt ())
    else (
    xw_bd (pg_X2_wordHere) fun v9 =>
    if 0 ≤ v9 then (
    xw_rt ())
    else (
    xw_bd (pg_X2_errs) fun _ =>
    xw_rt ())))
    (fun (v3 : Unit) =>
    xw_bd (xw_loop (α := Unit) (β := Unit) (fun v4 =>
    xw_bd (pg_X2_wordHere) fun v6 =>
    if v6 < 0 then (
    xw_rt (.inr ()))
    else (
    xw_bd (pg_X2_wordHere) fun v7 =>
    xw_bd (pg_X2_next) fun _ =>
    xw_bd (pg_X2_numeral 0 999) fun v8 =>
    xw_bd (ym_st 12 ((5 * v1) + v7) v8) fun _ =>
    xw_rt (.inl ()))) xw_FU ())
    (fun (v5 : Unit) =>
    xw_rt ()))

def pg_X2_span (v1 : Int32) (v2 : Int32) (v3 : Int32) : xw_M xw_Mu Unit :=
 xw_bd (pg_X2_numeral 0 v3) fun v4 =>
    xw_bd (ym_st 13 ((3 * v1) + v2) v4) fun _ =>
    xw_bd (ym_ld 13 ((3 * v1) + v2)) fun v5 =>
    xw_bd (ym_st 14 ((3 * v1) + v2) v5) fun _ =>
    xw_bd (pg_X2_is 555) fun v6 =>
    if v6 = 0 then (
    xw_rt ())
    else (
    xw_bd (pg_X2_next) fun _ =>
    xw_bd (ym_ld 13 ((3 * v1) + v2)) fun v7 =>
    xw_lt (v7 + 15) fun v8 =>
    xw_bd (ym_ld 13 ((3 * v1) + v2)) fun v9 =>
    xw_bd (if v3 ≤ v8 then (
    xw_rt v3)
    else (
    xw_rt v8))
    (fun (v10 : Int32) =>
    xw_bd (pg_X2_numeral v9 v10) fun v11 =>
    xw_bd (ym_st 14 ((3 * v1) + v2) v11) fun _ =>
    xw_rt ()))

def pg_X2_times (v1 : Int32) : xw_M xw_Mu Unit :=
 xw_bd (pg_X2_wayHere) fun v2 =>
    if 0 ≤ v2 then (
    xw_bd (pg_X2_next) fun _ =>
    xw_bd (ym_st 8 v1 v2) fun _ =>
    xw_bd (pg_X2_mustBe 47) fun _ =>
    xw_bd (pg_X2_span v1 0 1999) fun _ =>
    if v2 ≤ 1 then (
    xw_bd (pg_X2_mustBe 664272) fun _ =>
    xw_bd (pg_X2_span v1 1 999) fun _ =>
    xw_bd (pg_X2_is 357970) fun v3 =>
    xw_bd (if v3 = 0 then (
    xw_rt ())
    else (
    xw_bd (pg_X2_next) fun _ =>
    xw_bd (pg_X2_span v1 2 999) fun _ =>
    xw_rt ()))
    (fun (v4 : Unit) =>
    xw_bd (pg_X2_is 247664) fun v5 =>
    if v5 = 0 then (
    xw_rt ())
    else (
    xw_bd (pg_X2_next) fun _ =>
    xw_bd (ym_st 11 v1 1) fun _ =>
    xw_rt ())))
    else (
    xw_rt ()))
    else (
    xw_bd (pg_X2_errs) fun _ =>
    xw_rt ())

def pg_X2_isOffer (v1 : Int32) : xw_M xw_Mu Int32 :=
 if v1 = 0 then (
    xw_rt 1)
    else (
    if v1 = 3 then (
    xw_rt 1)
    else (
    xw_rt 0))

def pg_X2_saidHere (v1 : Int32) (v2 : Int32) (v3 : Int32) (v4 : Int32) : xw_M xw_Mu Int32 :=
 ym_g 25 fun v5 =>
    if v5 = 0 then (
    ym_g 22 fun v6 =>
    xw_bd (if v6 = 2 then (
    ym_g 23 fun v25 =>
    if v2 ≤ v25 then (
    xw_rt (-1))
    else (
    ym_g 23 fun v26 =>
    xw_rt v26))
    else (
    xw_rt (-1)))
    (fun (v7 : Int32) =>
    xw_lt ((12 * v1) + v7) fun v8 =>
    xw_bd (if v7 < 0 then (
    xw_rt 0)
    else (
    xw_rt 1))
    (fun (v9 : Int32) =>
    xw_bd (if v9 = 0 then (
    xw_rt v9)
    else (
    xw_jn (fun (v21 : Unit) =>
    xw_bd (ym_ld 4 v8) fun v22 =>
    xw_bd (pg_X2_isOffer v22) fun v23 =>
    if v23 = 0 then (
    xw_rt 0)
    else (
    xw_bd (ym_ld 6 v8) fun v24 =>
    if v24 = v4 then (
    xw_rt 1)
    else (
    xw_rt 0)))
    (fun J6 =>
    if v3 = 2 then (
    J6 ())
    else (
    if v3 = 4 then (
    J6 ())
    else (
    if v3 = 6 then (
    J6 ())
    else (
    xw_rt v9))))))
    (fun (v10 : Int32) =>
    xw_bd (if v10 = 0 then (
    xw_rt v10)
    else (
    if v3 = 5 then (
    xw_bd (ym_ld 4 v8) fun v16 =>
    xw_bd (pg_X2_isOffer v16) fun v17 =>
    if v17 = 0 then (
    xw_bd (ym_ld 4 v8) fun v19 =>
    if v19 = 2 then (
    xw_bd (ym_ld 5 v8) fun v20 =>
    if v20 = v4 then (
    xw_rt 1)
    else (
    xw_rt 0))
    else (
    xw_rt 0))
    else (
    xw_bd (ym_ld 5 v8) fun v18 =>
    if v18 = v4 then (
    xw_rt 1)
    else (
    xw_rt 0)))
    else (
    xw_rt v10)))
    (fun (v11 : Int32) =>
    xw_bd (if v11 = 0 then (
    xw_rt v11)
    else (
    if v3 = 7 then (
    xw_bd (ym_ld 4 v8) fun v13 =>
    xw_bd (pg_X2_isOffer v13) fun v14 =>
    if v14 = 0 then (
    xw_rt 0)
    else (
    xw_bd (ym_ld 5 v8) fun v15 =>
    if v15 = v4 then (
    xw_rt 1)
    else (
    xw_rt 0)))
    else (
    xw_rt v11)))
    (fun (v12 : Int32) =>
    if v12 = 0 then (
    xw_bd (pg_X2_errs) fun _ =>
    xw_rt v7)
    else (
    xw_bd (pg_X2_next) fun _ =>
    xw_rt v7)))))))
    else (
    xw_rt (-1))

def pg_X2_readSaying (v1 : Int32) (v2 : Int32) : xw_M xw_Mu Unit :=
 xw_lt ((12 * v1) + v2) fun v3 =>
    xw_bd (pg_X2_whatHere) fun v4 =>
    xw_jn (fun (v5 : Unit) =>
    xw_bd (pg_X2_errs) fun _ =>
    xw_rt ())
    (fun J1 =>
    if v4 < 0 then (
    J1 ())
    else (
    if v2 = 12 then (
    J1 ())
    else (
    xw_bd (pg_X2_next) fun _ =>
    xw_bd (ym_st 4 v3 v4) fun _ =>
    xw_bd (ym_st 6 v3 (-1)) fun _ =>
    xw_bd (ym_st 7 v3 (-1)) fun _ =>
    xw_bd (ym_st 9 v3 (-1)) fun _ =>
    xw_bd (ym_st 10 v3 (-1)) fun _ =>
    xw_bd (ym_st 11 v3 0) fun _ =>
    xw_bd (xw_loop (α := Int32) (β := Unit) (fun v6 =>
    if 5 ≤ v6 then (
    xw_rt (.inr ()))
    else (
    xw_bd (ym_st 12 ((5 * v3) + v6) (-1)) fun _ =>
    xw_rt (.inl (v6 + 1)))) xw_FU 0)
    (fun (v7 : Unit) =>
    xw_bd (xw_loop (α := Int32) (β := Unit) (fun v8 =>
    if 3 ≤ v8 then (
    xw_rt (.inr ()))
    else (
    xw_bd (ym_st 13 ((3 * v3) + v8) 0) fun _ =>
    xw_bd (ym_st 14 ((3 * v3) + v8) 0) fun _ =>
    xw_rt (.inl (v8 + 1)))) xw_FU 0)
    (fun (v9 : Unit) =>
    xw_bd (pg_X2_handHere (-1)) fun v10 =>
    xw_bd (ym_st 5 v3 v10) fun _ =>
    xw_bd (if 2 ≤ v4 then (
    xw_bd (ym_ld 5 v3) fun v22 =>
    xw_bd (pg_X2_saidHere v1 v2 v4 v22) fun v23 =>
    xw_bd (ym_st 7 v3 v23) fun _ =>
    xw_rt ())
    else (
    xw_bd (ym_ld 5 v3) fun v24 =>
    xw_bd (pg_X2_handHere v24) fun v25 =>
    xw_bd (ym_st 6 v3 v25) fun _ =>
    xw_rt ()))
    (fun (v11 : Unit) =>
    xw_bd (if v4 = 0 then (
    xw_bd (pg_X2_words v3 0) fun _ =>
    xw_bd (pg_X2_is 168727) fun v17 =>
    xw_bd (if v17 = 0 then (
    xw_rt ())
    else (
    xw_bd (pg_X2_next) fun _ =>
    xw_bd (pg_X2_numeral 0 1999) fun v21 =>
    xw_bd (ym_st 9 v3 v21) fun _ =>
    xw_rt ()))
    (fun (v18 : Unit) =>
    xw_bd (pg_X2_is 3913421) fun v19 =>
    if v19 = 0 then (
    xw_rt ())
    else (
    xw_bd (pg_X2_next) fun _ =>
    xw_bd (pg_X2_numeral 0 (v1 - 1)) fun v20 =>
    xw_bd (ym_st 10 v3 v20) fun _ =>
    xw_rt ())))
    else (
    xw_rt ()))
    (fun (v12 : Unit) =>
    xw_bd (if v4 = 2 then (
    xw_bd (pg_X2_is 2045) fun v14 =>
    if v14 = 0 then (
    xw_rt ())
    else (
    xw_bd (pg_X2_next) fun _ =>
    xw_bd (ym_st 4 v3 3) fun _ =>
    xw_bd (ym_ld 7 v3) fun v15 =>
    xw_bd (ym_ld 5 ((12 * v1) + v15)) fun v16 =>
    xw_bd (ym_st 6 v3 v16) fun _ =>
    xw_bd (pg_X2_words v3 1) fun _ =>
    xw_rt ()))
    else (
    xw_rt ()))
    (fun (v13 : Unit) =>
    xw_bd (pg_X2_times v3) fun _ =>
    xw_bd (pg_X2_ends) fun _ =>
    xw_rt ()))))))))

def pg_X2_readSayings (v1 : Int32) (v2 : Int32) : xw_M xw_Mu Int32 :=
 ym_g 22 fun v3 =>
    xw_bd (if v3 = 0 then (
    xw_bd (pg_X2_errs) fun _ =>
    xw_rt ())
    else (
    xw_rt ()))
    (fun (v4 : Unit) =>
    xw_bd (xw_loop (α := Int32) (β := Int32) (fun v5 =>
    ym_g 22 fun v8 =>
    if v8 = 0 then (
    xw_rt (.inr v5))
    else (
    ym_g 25 fun v9 =>
    if v9 = 0 then (
    xw_bd (pg_X2_readSaying v1 v5) fun _ =>
    xw_rt (.inl (v5 + 1)))
    else (
    xw_rt (.inr v5)))) xw_FU v2)
    (fun (v6 : Int32) =>
    ym_g 25 fun v7 =>
    if v7 = 0 then (
    xw_rt v6)
    else (
    xw_rt (-1))))

def pg_X2_tell (v1 : Int32) : xw_M xw_Mu Int32 :=
 if v1 < 0 then (
    xw_rt (-2))
    else (
    ym_g 17 fun v2 =>
    if v1 ≤ v2 then (
    xw_bd (ym_ld 0 0) fun v3 =>
    if v3 = 16 then (
    xw_rt (-3))
    else (
    xw_bd (pg_X2_begins v1) fun _ =>
    xw_bd (ym_ld 0 0) fun v4 =>
    xw_bd (pg_X2_readSayings v4 0) fun v5 =>
    if 0 ≤ v5 then (
    xw_bd (ym_ld 0 0) fun v6 =>
    xw_bd (ym_st 3 v6 v5) fun _ =>
    xw_bd (ym_ld 0 0) fun v7 =>
    xw_bd (ym_st 0 0 (v7 + 1)) fun _ =>
    xw_bd (ym_ld 0 0) fun v8 =>
    xw_rt (v8 - 1))
    else (
    xw_rt (-1))))
    else (
    xw_rt (-2)))

def pg_X2_isCase (v1 : Int32) : xw_M xw_Mu Int32 :=
 if v1 < 0 then (
    xw_rt 0)
    else (
    xw_bd (ym_ld 0 0) fun v2 =>
    if v2 ≤ v1 then (
    xw_rt 0)
    else (
    xw_rt 1))

def pg_X2_isLaw (v1 : Int32) : xw_M xw_Mu Int32 :=
 if v1 < 0 then (
    xw_rt 0)
    else (
    xw_bd (ym_ld 1 0) fun v2 =>
    if v2 ≤ v1 then (
    xw_rt 0)
    else (
    xw_rt 1))

def pg_X2_more (v1 : Int32) (v2 : Int32) : xw_M xw_Mu Int32 :=
 xw_bd (pg_X2_isCase v1) fun v3 =>
    if v3 = 0 then (
    xw_rt (-2))
    else (
    if v2 < 0 then (
    xw_rt (-2))
    else (
    ym_g 17 fun v4 =>
    if v2 ≤ v4 then (
    xw_bd (pg_X2_begins v2) fun _ =>
    xw_bd (ym_ld 3 v1) fun v5 =>
    xw_bd (pg_X2_readSayings v1 v5) fun v6 =>
    if 0 ≤ v6 then (
    xw_bd (ym_st 3 v1 v6) fun _ =>
    xw_rt v6)
    else (
    xw_rt (-1)))
    else (
    xw_rt (-2))))

def pg_X2_whenHere  : xw_M xw_Mu Int32 :=
 xw_bd (pg_X2_is 378020) fun v1 =>
    xw_bd (if v1 = 0 then (
    xw_bd (pg_X2_is 70340) fun v3 =>
    if v3 = 0 then (
    xw_bd (pg_X2_is 357970) fun v4 =>
    if v4 = 0 then (
    xw_rt (-1))
    else (
    xw_rt 2))
    else (
    xw_rt 1))
    else (
    xw_rt 0))
    (fun (v2 : Int32) =>
    if 0 ≤ v2 then (
    xw_bd (pg_X2_next) fun _ =>
    xw_rt v2)
    else (
    xw_bd (pg_X2_errs) fun _ =>
    xw_rt v2))

def pg_X2_one (v1 : Int64) (v2 : Int64) (v3 : Int64) : xw_M xw_Mu Int32 :=
 xw_bd (pg_X2_is v1) fun v4 =>
    xw_bd (if v4 = 0 then (
    xw_bd (pg_X2_is v2) fun v6 =>
    if v6 = 0 then (
    xw_bd (pg_X2_is v3) fun v7 =>
    if v7 = 0 then (
    xw_rt (-1))
    else (
    xw_rt 2))
    else (
    xw_rt 1))
    else (
    xw_rt 0))
    (fun (v5 : Int32) =>
    if 0 ≤ v5 then (
    xw_bd (pg_X2_next) fun _ =>
    xw_rt v5)
    else (
    xw_bd (pg_X2_errs) fun _ =>
    xw_rt v5))

def pg_X2_readRule (v1 : Int32) : xw_M xw_Mu Unit :=
 xw_bd (pg_X2_is 18379) fun v2 =>
    xw_bd (if v2 = 0 then (
    xw_bd (pg_X2_is 8094240) fun v4 =>
    if v4 = 0 then (
    xw_bd (pg_X2_is 40187) fun v5 =>
    if v5 = 0 then (
    xw_bd (pg_X2_is 393) fun v6 =>
    if v6 = 0 then (
    xw_bd (pg_X2_is 168727) fun v7 =>
    if v7 = 0 then (
    xw_bd (pg_X2_is 6409157) fun v8 =>
    if v8 = 0 then (
    xw_bd (pg_X2_is 7496615453) fun v9 =>
    if v9 = 0 then (
    xw_bd (pg_X2_is 2045) fun v10 =>
    if v10 = 0 then (
    xw_bd (pg_X2_is 129532) fun v11 =>
    if v11 = 0 then (
    xw_bd (pg_X2_is 82516) fun v12 =>
    if v12 = 0 then (
    xw_bd (pg_X2_is 361379) fun v13 =>
    if v13 = 0 then (
    xw_bd (pg_X2_errs) fun _ =>
    xw_rt ())
    else (
    xw_bd (pg_X2_next) fun _ =>
    xw_bd (pg_X2_one 798894590 378020 70340) fun v14 =>
    xw_bd (ym_st 15 (v1 + 12) v14) fun _ =>
    xw_rt ()))
    else (
    xw_bd (pg_X2_next) fun _ =>
    xw_bd (pg_X2_one 286880 18379 (-9)) fun v15 =>
    xw_bd (ym_st 15 (v1 + 11) v15) fun _ =>
    xw_rt ()))
    else (
    xw_bd (pg_X2_next) fun _ =>
    xw_bd (pg_X2_one 3379448 237458 286880) fun v16 =>
    xw_bd (ym_st 15 (v1 + 10) v16) fun _ =>
    xw_rt ()))
    else (
    xw_bd (pg_X2_next) fun _ =>
    xw_bd (pg_X2_one 393 10354323 (-9)) fun v17 =>
    xw_bd (ym_st 15 (v1 + 9) v17) fun _ =>
    xw_rt ()))
    else (
    xw_bd (pg_X2_next) fun _ =>
    xw_bd (pg_X2_numeral 0 999) fun v18 =>
    xw_bd (ym_st 15 (v1 + 8) v18) fun _ =>
    xw_rt ()))
    else (
    xw_bd (pg_X2_next) fun _ =>
    xw_bd (pg_X2_numeral 0 999) fun v19 =>
    xw_bd (ym_st 15 (v1 + 7) v19) fun _ =>
    xw_rt ()))
    else (
    xw_bd (pg_X2_next) fun _ =>
    xw_bd (pg_X2_one 131360 1250362 (-9)) fun v20 =>
    xw_bd (ym_st 15 (v1 + 6) v20) fun _ =>
    xw_rt ()))
    else (
    xw_bd (pg_X2_next) fun _ =>
    xw_bd (pg_X2_whenHere) fun v21 =>
    xw_bd (ym_st 15 (v1 + 5) v21) fun _ =>
    xw_rt ()))
    else (
    xw_bd (pg_X2_next) fun _ =>
    xw_bd (pg_X2_whenHere) fun v22 =>
    xw_bd (ym_st 15 (v1 + 4) v22) fun _ =>
    xw_rt ()))
    else (
    xw_bd (pg_X2_next) fun _ =>
    xw_bd (pg_X2_whenHere) fun v23 =>
    xw_bd (ym_st 15 (v1 + 3) v23) fun _ =>
    xw_rt ()))
    else (
    xw_bd (pg_X2_next) fun _ =>
    xw_bd (pg_X2_is 1065) fun v24 =>
    xw_bd (if v24 = 0 then (
    xw_rt (-1))
    else (
    xw_rt 3))
    (fun (v25 : Int32) =>
    xw_bd (if v25 = 3 then (
    xw_bd (pg_X2_next) fun _ =>
    xw_rt v25)
    else (
    xw_bd (pg_X2_one 326396 459761 7219835) fun v30 =>
    xw_rt v30))
    (fun (v26 : Int32) =>
    xw_bd (pg_X2_whenHere) fun v27 =>
    xw_bd (xw_loop (α := Int32) (β := Unit) (fun v28 =>
    if 3 ≤ v28 then (
    xw_rt (.inr ()))
    else (
    if v26 = 3 then (
    xw_bd (ym_st 15 (v1 + v28) v27) fun _ =>
    xw_rt (.inl (v28 + 1)))
    else (
    if v26 = v28 then (
    xw_bd (ym_st 15 (v1 + v28) v27) fun _ =>
    xw_rt (.inl (v28 + 1)))
    else (
    xw_rt (.inl (v28 + 1)))))) xw_FU 0)
    (fun (v29 : Unit) =>
    xw_rt ())))))
    (fun (v3 : Unit) =>
    xw_bd (pg_X2_ends) fun _ =>
    xw_rt ())

def pg_X2_readRules (v1 : Int32) : xw_M xw_Mu Int32 :=
 xw_bd (xw_loop (α := Int32) (β := Unit) (fun v2 =>
    if 13 ≤ v2 then (
    xw_rt (.inr ()))
    else (
    xw_bd (ym_st 15 (v1 + v2) (-2)) fun _ =>
    xw_rt (.inl (v2 + 1)))) xw_FU 0)
    (fun (v3 : Unit) =>
    xw_bd (xw_loop (α := Int32) (β := Int32) (fun v4 =>
    ym_g 22 fun v7 =>
    if v7 = 0 then (
    xw_rt (.inr v4))
    else (
    ym_g 25 fun v8 =>
    if v8 = 0 then (
    if v4 = 20 then (
    xw_bd (pg_X2_errs) fun _ =>
    xw_rt (.inl (v4 + 1)))
    else (
    xw_bd (pg_X2_readRule v1) fun _ =>
    xw_rt (.inl (v4 + 1))))
    else (
    xw_rt (.inr v4)))) xw_FU 0)
    (fun (v5 : Int32) =>
    xw_bd (ym_st 15 (v1 + 13) v5) fun _ =>
    ym_g 25 fun v6 =>
    if v6 = 0 then (
    xw_rt 1)
    else (
    xw_rt 0)))

def pg_X2_law (v1 : Int32) : xw_M xw_Mu Int32 :=
 if v1 < 0 then (
    xw_rt (-2))
    else (
    ym_g 17 fun v2 =>
    if v1 ≤ v2 then (
    xw_bd (ym_ld 1 0) fun v3 =>
    if v3 = 8 then (
    xw_rt (-3))
    else (
    xw_bd (pg_X2_begins v1) fun _ =>
    xw_bd (ym_ld 1 0) fun v4 =>
    xw_bd (pg_X2_readRules (14 * v4)) fun v5 =>
    if v5 = 0 then (
    xw_rt (-1))
    else (
    xw_bd (ym_ld 1 0) fun v6 =>
    xw_bd (ym_st 1 0 (v6 + 1)) fun _ =>
    xw_bd (ym_ld 1 0) fun v7 =>
    xw_rt (v7 - 1))))
    else (
    xw_rt (-2)))

def pg_X2_clause (v1 : Int32) : xw_M xw_Mu Int32 :=
 if v1 < 0 then (
    xw_rt (-2))
    else (
    ym_g 17 fun v2 =>
    if v1 ≤ v2 then (
    xw_bd (ym_ld 2 0) fun v3 =>
    if v3 = 6 then (
    xw_rt (-3))
    else (
    xw_bd (pg_X2_begins v1) fun _ =>
    ym_g 22 fun v4 =>
    xw_bd (if v4 = 0 then (
    xw_bd (pg_X2_errs) fun _ =>
    xw_rt ())
    else (
    xw_rt ()))
    (fun (v5 : Unit) =>
    xw_bd (ym_ld 2 0) fun v6 =>
    xw_bd (pg_X2_readRules (112 + (14 * v6))) fun v7 =>
    if v7 = 0 then (
    xw_rt (-1))
    else (
    xw_bd (ym_ld 2 0) fun v8 =>
    xw_bd (ym_st 2 0 (v8 + 1)) fun _ =>
    xw_bd (ym_ld 2 0) fun v9 =>
    xw_rt (v9 - 1)))))
    else (
    xw_rt (-2)))

def pg_X2_fault  : xw_M xw_Mu Int32 :=
 ym_g 18 fun v1 =>
    xw_rt v1

def pg_X2_lays (v1 : Int32) (v2 : Int32) : xw_M xw_Mu Unit :=
 xw_bd (xw_loop (α := Int32) (β := Unit) (fun v3 =>
    if 13 ≤ v3 then (
    xw_rt (.inr ()))
    else (
    xw_bd (if 6 ≤ v3 then (
    xw_bd (pg_X2_within v3 7 8) fun v17 =>
    if v17 = 0 then (
    xw_rt 0)
    else (
    xw_rt (-1)))
    else (
    xw_rt 1))
    (fun (v16 : Int32) =>
    xw_bd (ym_st 26 v3 v16) fun _ =>
    xw_rt (.inl (v3 + 1))))) xw_FU 0)
    (fun (v4 : Unit) =>
    xw_bd (xw_loop (α := Int32) (β := Unit) (fun v5 =>
    if 13 ≤ v5 then (
    xw_rt (.inr ()))
    else (
    xw_bd (ym_ld 15 ((14 * v1) + v5)) fun v14 =>
    if v14 = (-2) then (
    xw_rt (.inl (v5 + 1)))
    else (
    xw_bd (ym_ld 15 ((14 * v1) + v5)) fun v15 =>
    xw_bd (ym_st 26 v5 v15) fun _ =>
    xw_rt (.inl (v5 + 1))))) xw_FU 0)
    (fun (v6 : Unit) =>
    xw_bd (xw_loop (α := Int32) (β := Unit) (fun v7 =>
    xw_bd (ym_ld 2 0) fun v9 =>
    if v9 ≤ v7 then (
    xw_rt (.inr ()))
    else (
    xw_bd (xw_loop (α := Int32) (β := Unit) (fun v10 =>
    if 13 ≤ v10 then (
    xw_rt (.inr ()))
    else (
    if ((v2 >>> (v7 &&& 31)) &&& 1) = 1 then (
    xw_bd (ym_ld 15 ((112 + (14 * v7)) + v10)) fun v12 =>
    if v12 = (-2) then (
    xw_rt (.inl (v10 + 1)))
    else (
    xw_bd (ym_ld 15 ((112 + (14 * v7)) + v10)) fun v13 =>
    xw_bd (ym_st 26 v10 v13) fun _ =>
    xw_rt (.inl (v10 + 1))))
    else (
    xw_rt (.inl (v10 + 1))))) xw_FU 0)
    (fun (v11 : Unit) =>
    xw_rt (.inl (v7 + 1))))) xw_FU 0)
    (fun (v8 : Unit) =>
    xw_rt ())))

def pg_X2_rule (v1 : Int32) (v2 : Int32) : xw_M xw_Mu Int32 :=
 xw_bd (pg_X2_isLaw v1) fun v3 =>
    if v3 = 0 then (
    xw_rt (-2))
    else (
    xw_bd (pg_X2_within v2 0 13) fun v4 =>
    if v4 = 0 then (
    xw_rt (-2))
    else (
    if v2 = 13 then (
    xw_bd (ym_ld 15 ((14 * v1) + 13)) fun v6 =>
    xw_rt v6)
    else (
    xw_bd (pg_X2_lays v1 0) fun _ =>
    xw_bd (ym_ld 26 v2) fun v5 =>
    xw_rt v5)))

def pg_X2_saying (v1 : Int32) (v2 : Int32) (v3 : Int32) : xw_M xw_Mu Int32 :=
 xw_bd (pg_X2_isCase v1) fun v4 =>
    if v4 = 0 then (
    xw_rt (-2))
    else (
    if v2 < 0 then (
    xw_rt (-2))
    else (
    xw_bd (ym_ld 3 v1) fun v5 =>
    if v2 < v5 then (
    xw_lt ((12 * v1) + v2) fun v6 =>
    xw_bd (pg_X2_within v3 10 14) fun v7 =>
    if v7 = 0 then (
    if v3 = 0 then (xw_bd (ym_ld 4 v6) fun v8 =>
    xw_rt v8) else (
    if v3 = 1 then (xw_bd (ym_ld 5 v6) fun v9 =>
    xw_rt v9) else (
    if v3 = 2 then (xw_bd (ym_ld 6 v6) fun v10 =>
    xw_rt v10) else (
    if v3 = 3 then (xw_bd (ym_ld 7 v6) fun v11 =>
    xw_rt v11) else (
    if v3 = 4 then (xw_bd (ym_ld 8 v6) fun v12 =>
    xw_rt v12) else (
    if v3 = 5 then (xw_bd (ym_ld 9 v6) fun v13 =>
    xw_rt v13) else (
    if v3 = 6 then (xw_bd (ym_ld 10 v6) fun v14 =>
    xw_rt v14) else (
    xw_rt (-2)))))))))
    else (
    xw_bd (ym_ld 12 (((5 * v6) + v3) - 10)) fun v15 =>
    xw_rt v15))
    else (
    xw_rt (-2))))

def pg_X2_bring (v1 : Int32) : xw_M xw_Mu Unit :=
 xw_bd (ym_ld 3 v1) fun v2 =>
    xw_bd (ym_p 27 v2) fun _ =>
    xw_bd (xw_loop (α := Int32) (β := Unit) (fun v3 =>
    ym_g 27 fun v5 =>
    if v5 ≤ v3 then (
    xw_rt (.inr ()))
    else (
    xw_lt ((12 * v1) + v3) fun v6 =>
    xw_bd (ym_ld 4 v6) fun v7 =>
    xw_bd (ym_st 30 v3 v7) fun _ =>
    xw_bd (ym_ld 8 v6) fun v8 =>
    xw_bd (ym_st 31 v3 v8) fun _ =>
    xw_bd (ym_ld 11 v6) fun v9 =>
    xw_bd (ym_st 32 v3 v9) fun _ =>
    xw_bd (ym_ld 9 v6) fun v10 =>
    xw_bd (ym_st 33 v3 v10) fun _ =>
    xw_bd (ym_ld 7 v6) fun v11 =>
    xw_bd (ym_st 34 v3 v11) fun _ =>
    xw_bd (ym_ld 5 v6) fun v12 =>
    xw_bd (ym_st 35 v3 v12) fun _ =>
    xw_bd (ym_ld 6 v6) fun v13 =>
    xw_bd (ym_st 36 v3 v13) fun _ =>
    xw_bd (ym_ld 10 v6) fun v14 =>
    xw_bd (if v14 < 0 then (
    xw_rt 0)
    else (
    xw_bd (ym_ld 10 v6) fun v23 =>
    xw_bd (ym_ld 54 v23) fun v24 =>
    if v24 = 0 then (
    xw_rt 1)
    else (
    xw_rt 0)))
    (fun (v15 : Int32) =>
    xw_bd (ym_stZ 37 v3 v15) fun _ =>
    xw_bd (xw_loop (α := Int32) (β := Unit) (fun v16 =>
    if 5 ≤ v16 then (
    xw_rt (.inr ()))
    else (
    xw_bd (ym_ld 12 ((5 * v6) + v16)) fun v22 =>
    xw_bd (ym_st 38 ((5 * v3) + v16) v22) fun _ =>
    xw_rt (.inl (v16 + 1)))) xw_FU 0)
    (fun (v17 : Unit) =>
    xw_bd (xw_loop (α := Int32) (β := Unit) (fun v18 =>
    if 3 ≤ v18 then (
    xw_rt (.inr ()))
    else (
    xw_bd (ym_ld 13 ((3 * v6) + v18)) fun v20 =>
    xw_bd (ym_st 39 ((3 * v3) + v18) v20) fun _ =>
    xw_bd (ym_ld 14 ((3 * v6) + v18)) fun v21 =>
    xw_bd (ym_st 40 ((3 * v3) + v18) v21) fun _ =>
    xw_rt (.inl (v18 + 1)))) xw_FU 0)
    (fun (v19 : Unit) =>
    xw_rt (.inl (v3 + 1))))))) xw_FU 0)
    (fun (v4 : Unit) =>
    xw_rt ())

def pg_X2_findAsked  : xw_M xw_Mu Unit :=
 xw_bd (ym_p 28 0) fun _ =>
    xw_bd (ym_p 29 1) fun _ =>
    xw_bd (xw_loop (α := Int32) (β := Unit) (fun v1 =>
    ym_g 27 fun v3 =>
    if v3 ≤ v1 then (
    xw_rt (.inr ()))
    else (
    xw_bd (xw_loop (α := Int32) (β := Unit) (fun v4 =>
    if 4 ≤ v4 then (
    xw_rt (.inr ()))
    else (
    xw_bd (if 3 ≤ v4 then (
    xw_bd (ym_ld 32 v1) fun v13 =>
    if v13 = 1 then (
    xw_rt 2)
    else (
    xw_rt 1))
    else (
    xw_bd (ym_ld 40 ((3 * v1) + v4)) fun v14 =>
    xw_bd (ym_ld 39 ((3 * v1) + v4)) fun v15 =>
    xw_rt ((v14 - v15) + 1)))
    (fun (v6 : Int32) =>
    if 2 ≤ v6 then (
    ym_g 28 fun v7 =>
    xw_bd (ym_st 41 v7 ((4 * v1) + v4)) fun _ =>
    ym_g 28 fun v8 =>
    xw_bd (ym_st 42 v8 v6) fun _ =>
    ym_g 28 fun v9 =>
    xw_bd (ym_p 28 (v9 + 1)) fun _ =>
    ym_g 29 fun v10 =>
    xw_bd (if (v10 * v6) ≤ 1024 then (
    ym_g 29 fun v12 =>
    xw_rt (v12 * v6))
    else (
    xw_rt 1025))
    (fun (v11 : Int32) =>
    xw_bd (ym_p 29 v11) fun _ =>
    xw_rt (.inl (v4 + 1))))
    else (
    xw_rt (.inl (v4 + 1)))))) xw_FU 0)
    (fun (v5 : Unit) =>
    xw_rt (.inl (v1 + 1))))) xw_FU 0)
    (fun (v2 : Unit) =>
    xw_rt ())

def pg_X2_isLooked  : xw_M xw_Mu Int32 :=
 ym_g 29 fun v1 =>
    if 1024 < v1 then (
    xw_rt 0)
    else (
    xw_rt 1)

def pg_X2_hours (v1 : Int32) : xw_M xw_Mu Unit :=
 xw_bd (xw_loop (α := Int32) (β := Unit) (fun v2 =>
    if 48 ≤ v2 then (
    xw_rt (.inr ()))
    else (
    xw_bd (ym_st 46 v2 0) fun _ =>
    xw_rt (.inl (v2 + 1)))) xw_FU 0)
    (fun (v3 : Unit) =>
    xw_bd (xw_loop (α := Int32 × Int32) (β := Unit) (fun v4 =>
    ym_g 28 fun v22 =>
    if v22 ≤ v4.2 then (
    xw_rt (.inr ()))
    else (
    xw_bd (ym_ld 41 v4.2) fun v23 =>
    xw_bd (ym_ld 42 v4.2) fun v24 =>
    xw_bd (xw_rem v4.1 v24) fun v25 =>
    xw_bd (ym_st 46 v23 v25) fun _ =>
    xw_bd (ym_ld 42 v4.2) fun v26 =>
    xw_bd (xw_div v4.1 v26) fun v27 =>
    xw_rt (.inl (v27, v4.2 + 1)))) xw_FU (v1, 0))
    (fun (v5 : Unit) =>
    xw_bd (xw_loop (α := Int32) (β := Unit) (fun v6 =>
    ym_g 27 fun v8 =>
    if v8 ≤ v6 then (
    xw_rt (.inr ()))
    else (
    xw_bd (ym_ld 32 v6) fun v9 =>
    xw_bd (if v9 = 2 then (
    xw_rt 1)
    else (
    xw_bd (ym_ld 46 ((4 * v6) + 3)) fun v21 =>
    if v21 = 1 then (
    xw_rt 1)
    else (
    xw_rt 0)))
    (fun (v10 : Int32) =>
    xw_bd (ym_ld 39 (3 * v6)) fun v11 =>
    xw_bd (ym_ld 46 (4 * v6)) fun v12 =>
    xw_bd (ym_st 43 v6 (v11 + v12)) fun _ =>
    xw_bd (if v10 = 0 then (
    xw_bd (ym_ld 43 v6) fun v18 =>
    xw_bd (ym_ld 39 ((3 * v6) + 1)) fun v19 =>
    xw_bd (ym_ld 46 ((4 * v6) + 1)) fun v20 =>
    xw_rt ((v18 + v19) + v20))
    else (
    xw_rt (-1)))
    (fun (v13 : Int32) =>
    xw_bd (ym_st 44 v6 v13) fun _ =>
    xw_bd (if v10 = 0 then (
    xw_bd (ym_ld 44 v6) fun v15 =>
    xw_bd (ym_ld 39 ((3 * v6) + 2)) fun v16 =>
    xw_bd (ym_ld 46 ((4 * v6) + 2)) fun v17 =>
    xw_rt ((v15 + v16) + v17))
    else (
    xw_rt (-1)))
    (fun (v14 : Int32) =>
    xw_bd (ym_st 45 v6 v14) fun _ =>
    xw_rt (.inl (v6 + 1))))))) xw_FU 0)
    (fun (v7 : Unit) =>
    xw_rt ())))

def pg_X2_when (v1 : Int32) (v2 : Int32) : xw_M xw_Mu Int32 :=
 if v2 = 0 then (
    xw_bd (ym_ld 43 v1) fun v5 =>
    xw_rt v5)
    else (
    if v2 = 1 then (
    xw_bd (ym_ld 44 v1) fun v4 =>
    xw_rt v4)
    else (
    xw_bd (ym_ld 45 v1) fun v3 =>
    xw_rt v3))

def pg_X2_isSmall (v1 : Int32) : xw_M xw_Mu Int32 :=
 xw_bd (ym_ld 30 v1) fun v2 =>
    if v2 = 3 then (
    xw_bd (ym_ld 26 9) fun v3 =>
    if v3 = 0 then (
    xw_rt 0)
    else (
    xw_lt (5 * v1) fun v4 =>
    xw_bd (ym_ld 38 v4) fun v5 =>
    if 0 ≤ v5 then (
    xw_rt 0)
    else (
    xw_bd (ym_ld 38 (v4 + 1)) fun v6 =>
    if 0 ≤ v6 then (
    xw_rt 0)
    else (
    xw_bd (ym_ld 38 (v4 + 2)) fun v7 =>
    if 0 ≤ v7 then (
    xw_rt 0)
    else (
    xw_rt 1)))))
    else (
    xw_rt 0)

def pg_X2_isOffering (v1 : Int32) : xw_M xw_Mu Int32 :=
 xw_bd (ym_ld 30 v1) fun v2 =>
    if v2 = 0 then (
    xw_rt 1)
    else (
    xw_bd (ym_ld 30 v1) fun v3 =>
    if v3 = 3 then (
    xw_bd (pg_X2_isSmall v1) fun v4 =>
    if v4 = 0 then (
    xw_rt 1)
    else (
    xw_rt 0))
    else (
    xw_rt 0))

def pg_X2_isNo (v1 : Int32) : xw_M xw_Mu Int32 :=
 xw_bd (ym_ld 30 v1) fun v2 =>
    if v2 = 4 then (
    xw_rt 1)
    else (
    xw_bd (ym_ld 30 v1) fun v3 =>
    if v3 = 3 then (
    xw_bd (pg_X2_isSmall v1) fun v4 =>
    if v4 = 0 then (
    xw_rt 1)
    else (
    xw_rt 0))
    else (
    xw_rt 0))

def pg_X2_isYes (v1 : Int32) : xw_M xw_Mu Int32 :=
 xw_bd (ym_ld 30 v1) fun v2 =>
    if v2 = 2 then (
    xw_rt 1)
    else (
    xw_bd (pg_X2_isSmall v1) fun v3 =>
    if v3 = 0 then (
    xw_bd (ym_ld 30 v1) fun v4 =>
    if v4 = 6 then (
    xw_bd (ym_ld 26 11) fun v5 =>
    if v5 = 1 then (
    xw_rt 1)
    else (
    xw_rt 0))
    else (
    xw_rt 0))
    else (
    xw_rt 1))

def pg_X2_backHour (v1 : Int32) (v2 : Int32) : xw_M xw_Mu Int32 :=
 xw_bd (ym_ld 30 v1) fun v3 =>
    if v3 = 5 then (
    xw_bd (ym_ld 34 v1) fun v4 =>
    if v4 = v2 then (
    xw_bd (ym_ld 26 4) fun v5 =>
    xw_bd (pg_X2_when v1 v5) fun v6 =>
    xw_bd (ym_ld 33 v2) fun v7 =>
    if v7 < 0 then (
    xw_rt v6)
    else (
    xw_bd (ym_ld 26 6) fun v8 =>
    if v8 = 1 then (
    xw_bd (ym_ld 33 v2) fun v9 =>
    if v9 < v6 then (
    xw_rt v6)
    else (
    xw_rt (-1)))
    else (
    xw_rt v6)))
    else (
    xw_rt (-1)))
    else (
    xw_rt (-1))

def pg_X2_noHour (v1 : Int32) (v2 : Int32) : xw_M xw_Mu Int32 :=
 xw_bd (pg_X2_isNo v1) fun v3 =>
    if v3 = 0 then (
    xw_rt (-1))
    else (
    xw_bd (ym_ld 34 v1) fun v4 =>
    if v4 = v2 then (
    xw_bd (ym_ld 26 5) fun v5 =>
    xw_bd (pg_X2_when v1 v5) fun v6 =>
    xw_rt v6)
    else (
    xw_rt (-1)))

def pg_X2_endsBy (v1 : Int32) (v2 : Int32) (v3 : Int32) : xw_M xw_Mu Unit :=
 if v2 < 0 then (
    xw_rt ())
    else (
    xw_bd (ym_ld 48 v1) fun v4 =>
    if v4 < v2 then (
    xw_rt ())
    else (
    xw_bd (ym_ld 48 v1) fun v5 =>
    xw_jn (fun (v6 : Unit) =>
    xw_bd (ym_st 48 v1 v2) fun _ =>
    xw_bd (ym_st 49 v1 v3) fun _ =>
    xw_rt ())
    (fun J1 =>
    if v2 = v5 then (
    xw_bd (ym_ld 49 v1) fun v7 =>
    if v7 ≤ 0 then (
    J1 ())
    else (
    xw_bd (ym_ld 49 v1) fun v8 =>
    if v3 < v8 then (
    J1 ())
    else (
    xw_rt ())))
    else (
    J1 ()))))

def pg_X2_findOffers  : xw_M xw_Mu Unit :=
 xw_bd (xw_loop (α := Int32) (β := Unit) (fun v1 =>
    ym_g 27 fun v3 =>
    if v3 ≤ v1 then (
    xw_rt (.inr ()))
    else (
    xw_bd (pg_X2_isOffering v1) fun v4 =>
    if v4 = 0 then (
    xw_rt (.inl (v1 + 1)))
    else (
    xw_bd (ym_ld 37 v1) fun v5 =>
    xw_bd (if v5 = 0 then (
    xw_bd (ym_ld 26 3) fun v19 =>
    xw_bd (pg_X2_when v1 v19) fun v20 =>
    xw_rt v20)
    else (
    xw_rt (-1)))
    (fun (v6 : Int32) =>
    xw_bd (ym_st 47 v1 v6) fun _ =>
    xw_bd (ym_st 48 v1 9999) fun _ =>
    xw_bd (ym_st 49 v1 0) fun _ =>
    xw_lt (v1 + 1) fun v7 =>
    xw_bd (xw_loop (α := Int32) (β := Unit) (fun v8 =>
    ym_g 27 fun v16 =>
    if v16 ≤ v8 then (
    xw_rt (.inr ()))
    else (
    xw_bd (pg_X2_backHour v8 v1) fun v17 =>
    xw_bd (pg_X2_endsBy v1 v17 1) fun _ =>
    xw_bd (pg_X2_noHour v8 v1) fun v18 =>
    xw_bd (pg_X2_endsBy v1 v18 2) fun _ =>
    xw_rt (.inl (v8 + 1)))) xw_FU v7)
    (fun (v9 : Unit) =>
    xw_bd (ym_ld 33 v1) fun v10 =>
    if v10 < 0 then (
    xw_bd (ym_ld 26 7) fun v11 =>
    if v11 < 0 then (
    xw_rt (.inl (v1 + 1)))
    else (
    xw_bd (ym_ld 44 v1) fun v12 =>
    if v12 < 0 then (
    xw_rt (.inl (v1 + 1)))
    else (
    xw_bd (ym_ld 44 v1) fun v13 =>
    xw_bd (ym_ld 26 7) fun v14 =>
    xw_bd (pg_X2_endsBy v1 ((v13 + v14) + 1) 4) fun _ =>
    xw_rt (.inl (v1 + 1)))))
    else (
    xw_bd (ym_ld 33 v1) fun v15 =>
    xw_bd (pg_X2_endsBy v1 (v15 + 1) 3) fun _ =>
    xw_rt (.inl (v1 + 1)))))))) xw_FU 0)
    (fun (v2 : Unit) =>
    xw_rt ())

def pg_X2_isOpenAt (v1 : Int32) (v2 : Int32) : xw_M xw_Mu Int32 :=
 xw_bd (ym_ld 47 v1) fun v3 =>
    if v3 < 0 then (
    xw_rt 0)
    else (
    xw_bd (ym_ld 47 v1) fun v4 =>
    if v2 < v4 then (
    xw_rt 0)
    else (
    xw_bd (ym_ld 48 v1) fun v5 =>
    if v5 ≤ v2 then (
    xw_rt 0)
    else (
    xw_rt 1)))

def pg_X2_yesHour (v1 : Int32) : xw_M xw_Mu Int32 :=
 xw_bd (ym_ld 30 v1) fun v2 =>
    if v2 = 6 then (
    xw_bd (ym_ld 43 v1) fun v8 =>
    xw_rt v8)
    else (
    xw_bd (ym_ld 31 v1) fun v3 =>
    xw_bd (if v3 ≤ 2 then (
    xw_bd (ym_ld 31 v1) fun v7 =>
    xw_rt v7)
    else (
    xw_rt 2))
    (fun (v4 : Int32) =>
    xw_bd (ym_ld 26 v4) fun v5 =>
    xw_bd (pg_X2_when v1 v5) fun v6 =>
    xw_rt v6))

def pg_X2_isTakenBack (v1 : Int32) (v2 : Int32) : xw_M xw_Mu Int32 :=
 xw_lt (v1 + 1) fun v3 =>
    xw_loop (α := Int32) (β := Int32) (fun v4 =>
    ym_g 27 fun v5 =>
    if v5 ≤ v4 then (
    xw_rt (.inr 0))
    else (
    xw_bd (ym_ld 30 v4) fun v6 =>
    xw_bd (if v6 = 5 then (
    xw_bd (ym_ld 34 v4) fun v8 =>
    if v8 = v1 then (
    xw_bd (ym_ld 26 4) fun v9 =>
    xw_bd (pg_X2_when v4 v9) fun v10 =>
    xw_rt v10)
    else (
    xw_rt (-1)))
    else (
    xw_rt (-1)))
    (fun (v7 : Int32) =>
    if v7 < 0 then (
    xw_rt (.inl (v4 + 1)))
    else (
    if v2 ≤ v7 then (
    xw_rt (.inl (v4 + 1)))
    else (
    xw_rt (.inr 1)))))) xw_FU v3

def pg_X2_offersTo (v1 : Int32) (v2 : Int32) (v3 : Int32) : xw_M xw_Mu Unit :=
 ym_g 50 fun v4 =>
    xw_jn (fun (v5 : Unit) =>
    xw_bd (ym_p 50 1) fun _ =>
    xw_bd (ym_p 51 v1) fun _ =>
    xw_bd (ym_p 52 v2) fun _ =>
    xw_bd (ym_p 53 v3) fun _ =>
    xw_rt ())
    (fun J1 =>
    if v4 = 0 then (
    J1 ())
    else (
    ym_g 53 fun v6 =>
    if v3 < v6 then (
    J1 ())
    else (
    xw_rt ())))

def pg_X2_isAnswered (v1 : Int32) (v2 : Int32) : xw_M xw_Mu Int32 :=
 xw_lt (v1 + 1) fun v3 =>
    xw_loop (α := Int32) (β := Int32) (fun v4 =>
    ym_g 27 fun v5 =>
    if v5 ≤ v4 then (
    xw_rt (.inr 0))
    else (
    xw_bd (ym_ld 30 v4) fun v6 =>
    xw_bd (if v6 = 2 then (
    xw_rt 1)
    else (
    xw_bd (ym_ld 30 v4) fun v10 =>
    if v10 = 3 then (
    xw_rt 1)
    else (
    xw_bd (ym_ld 30 v4) fun v11 =>
    if v11 = 4 then (
    xw_rt 1)
    else (
    xw_bd (ym_ld 30 v4) fun v12 =>
    if v12 = 6 then (
    xw_rt 1)
    else (
    xw_rt 0)))))
    (fun (v7 : Int32) =>
    if v7 = 0 then (
    xw_rt (.inl (v4 + 1)))
    else (
    xw_bd (ym_ld 34 v4) fun v8 =>
    if v8 = v1 then (
    xw_bd (ym_ld 43 v4) fun v9 =>
    if v2 < v9 then (
    xw_rt (.inl (v4 + 1)))
    else (
    xw_rt (.inr 1)))
    else (
    xw_rt (.inl (v4 + 1))))))) xw_FU v3

def pg_X2_findBargain  : xw_M xw_Mu Unit :=
 xw_bd (ym_p 50 0) fun _ =>
    xw_bd (xw_loop (α := Int32) (β := Unit) (fun v1 =>
    ym_g 27 fun v14 =>
    if v14 ≤ v1 then (
    xw_rt (.inr ()))
    else (
    xw_bd (ym_ld 34 v1) fun v15 =>
    xw_bd (pg_X2_isYes v1) fun v16 =>
    if v16 = 0 then (
    xw_rt (.inl (v1 + 1)))
    else (
    xw_bd (pg_X2_isOffering v15) fun v17 =>
    if v17 = 0 then (
    xw_rt (.inl (v1 + 1)))
    else (
    xw_bd (pg_X2_yesHour v1) fun v18 =>
    if v18 < 0 then (
    xw_rt (.inl (v1 + 1)))
    else (
    xw_bd (ym_ld 44 v15) fun v19 =>
    if v19 < 0 then (
    xw_rt (.inl (v1 + 1)))
    else (
    xw_bd (ym_ld 44 v15) fun v20 =>
    xw_bd (ym_ld 43 v1) fun v21 =>
    if v21 < v20 then (
    xw_rt (.inl (v1 + 1)))
    else (
    xw_bd (pg_X2_isTakenBack v1 v18) fun v22 =>
    if v22 = 0 then (
    xw_bd (pg_X2_isOpenAt v15 v18) fun v23 =>
    if v23 = 0 then (
    xw_rt (.inl (v1 + 1)))
    else (
    xw_bd (pg_X2_offersTo v1 v15 v18) fun _ =>
    xw_rt (.inl (v1 + 1))))
    else (
    xw_rt (.inl (v1 + 1)))))))))) xw_FU 0)
    (fun (v2 : Unit) =>
    xw_bd (ym_ld 26 8) fun v3 =>
    if 0 ≤ v3 then (
    xw_bd (xw_loop (α := Int32) (β := Unit) (fun v4 =>
    ym_g 27 fun v6 =>
    if v6 ≤ v4 then (
    xw_rt (.inr ()))
    else (
    xw_bd (pg_X2_isOffering v4) fun v7 =>
    if v7 = 0 then (
    xw_rt (.inl (v4 + 1)))
    else (
    xw_bd (ym_ld 45 v4) fun v8 =>
    if 0 ≤ v8 then (
    xw_bd (ym_ld 45 v4) fun v9 =>
    xw_bd (ym_ld 26 8) fun v10 =>
    xw_lt (v9 + v10) fun v11 =>
    xw_bd (pg_X2_isOpenAt v4 v11) fun v12 =>
    if v12 = 0 then (
    xw_rt (.inl (v4 + 1)))
    else (
    xw_bd (pg_X2_isAnswered v4 v11) fun v13 =>
    if v13 = 0 then (
    xw_bd (pg_X2_offersTo (-1) v4 v11) fun _ =>
    xw_rt (.inl (v4 + 1)))
    else (
    xw_rt (.inl (v4 + 1)))))
    else (
    xw_rt (.inl (v4 + 1)))))) xw_FU 0)
    (fun (v5 : Unit) =>
    xw_rt ()))
    else (
    xw_rt ()))

def pg_X2_looks (v1 : Int32) : xw_M xw_Mu Unit :=
 xw_bd (pg_X2_hours v1) fun _ =>
    xw_bd (pg_X2_findOffers) fun _ =>
    xw_bd (pg_X2_findBargain) fun _ =>
    xw_rt ()

def pg_X2_wordOf (v1 : Int32) (v2 : Int32) : xw_M xw_Mu Int32 :=
 xw_bd (xw_loop (α := Int32) (β := Int32) (fun v3 =>
    xw_bd (ym_ld 38 ((5 * v3) + v2)) fun v6 =>
    if 0 ≤ v6 then (
    xw_rt (.inr v3))
    else (
    xw_bd (ym_ld 30 v3) fun v7 =>
    if v7 = 3 then (
    xw_bd (ym_ld 34 v3) fun v8 =>
    xw_rt (.inl v8))
    else (
    xw_rt (.inr v3)))) xw_FU v1)
    (fun (v4 : Int32) =>
    xw_bd (ym_ld 38 ((5 * v4) + v2)) fun v5 =>
    xw_rt v5)

def pg_X2_bargainWord (v1 : Int32) : xw_M xw_Mu Int32 :=
 ym_g 52 fun v2 =>
    xw_bd (pg_X2_wordOf v2 v1) fun v3 =>
    ym_g 51 fun v4 =>
    if v4 < 0 then (
    xw_rt v3)
    else (
    ym_g 51 fun v5 =>
    xw_bd (pg_X2_isSmall v5) fun v6 =>
    if v6 = 0 then (
    xw_rt v3)
    else (
    ym_g 51 fun v7 =>
    xw_bd (ym_ld 38 ((5 * v7) + v1)) fun v8 =>
    if v8 < 0 then (
    xw_rt v3)
    else (
    xw_bd (ym_ld 26 10) fun v9 =>
    if v9 = 0 then (
    xw_rt v3)
    else (
    xw_bd (ym_ld 26 10) fun v10 =>
    if v10 = 1 then (
    ym_g 51 fun v11 =>
    xw_bd (ym_ld 38 ((5 * v11) + v1)) fun v12 =>
    xw_rt v12)
    else (
    xw_rt (-1))))))

def pg_X2_isSureNow  : xw_M xw_Mu Int32 :=
 xw_bd (pg_X2_findAsked) fun _ =>
    xw_bd (pg_X2_isLooked) fun v1 =>
    if v1 = 0 then (
    xw_rt 0)
    else (
    xw_loop (α := Int32) (β := Int32) (fun v2 =>
    ym_g 29 fun v3 =>
    if v3 ≤ v2 then (
    xw_rt (.inr 1))
    else (
    xw_bd (pg_X2_looks v2) fun _ =>
    ym_g 50 fun v4 =>
    if v4 = 0 then (
    xw_rt (.inr 0))
    else (
    xw_rt (.inl (v2 + 1))))) xw_FU 0)

def pg_X2_takes (v1 : Int32) : xw_M xw_Mu Unit :=
 xw_bd (xw_loop (α := Int32) (β := Unit) (fun v2 =>
    if 16 ≤ v2 then (
    xw_rt (.inr ()))
    else (
    xw_bd (if v2 = v1 then (
    xw_rt 1)
    else (
    xw_rt 0))
    (fun (v16 : Int32) =>
    xw_bd (ym_stZ 55 v2 v16) fun _ =>
    xw_rt (.inl (v2 + 1))))) xw_FU 0)
    (fun (v3 : Unit) =>
    xw_bd (xw_loop (α := Int32) (β := Unit) (fun v4 =>
    if v4 < 0 then (
    xw_rt (.inr ()))
    else (
    xw_bd (xw_loop (α := Int32) (β := Unit) (fun v10 =>
    xw_bd (ym_ld 3 v4) fun v12 =>
    if v12 ≤ v10 then (
    xw_rt (.inr ()))
    else (
    xw_bd (ym_ld 55 v4) fun v13 =>
    if v13 = 0 then (
    xw_rt (.inr ()))
    else (
    xw_bd (ym_ld 10 ((12 * v4) + v10)) fun v14 =>
    if v14 < 0 then (
    xw_rt (.inl (v10 + 1)))
    else (
    xw_bd (ym_ld 10 ((12 * v4) + v10)) fun v15 =>
    xw_bd (ym_stZ 55 v15 1) fun _ =>
    xw_rt (.inl (v10 + 1)))))) xw_FU 0)
    (fun (v11 : Unit) =>
    xw_rt (.inl (v4 + (-1)))))) xw_FU v1)
    (fun (v5 : Unit) =>
    xw_bd (xw_loop (α := Int32) (β := Unit) (fun v6 =>
    if v1 ≤ v6 then (
    xw_rt (.inr ()))
    else (
    xw_bd (ym_ld 55 v6) fun v8 =>
    if v8 = 0 then (
    xw_rt (.inl (v6 + 1)))
    else (
    xw_bd (pg_X2_bring v6) fun _ =>
    xw_bd (pg_X2_isSureNow) fun v9 =>
    xw_bd (ym_stZ 54 v6 v9) fun _ =>
    xw_rt (.inl (v6 + 1))))) xw_FU 0)
    (fun (v7 : Unit) =>
    xw_bd (pg_X2_bring v1) fun _ =>
    xw_bd (pg_X2_findAsked) fun _ =>
    xw_rt ())))

def pg_X2_looksAt (v1 : Int32) (v2 : Int32) (v3 : Int32) : xw_M xw_Mu Int32 :=
 xw_bd (pg_X2_isCase v1) fun v4 =>
    if v4 = 0 then (
    xw_rt 0)
    else (
    xw_bd (pg_X2_isLaw v2) fun v5 =>
    if v5 = 0 then (
    xw_rt 0)
    else (
    if 0 ≤ v3 then (
    xw_bd (pg_X2_lays v2 0) fun _ =>
    xw_bd (pg_X2_takes v1) fun _ =>
    xw_bd (pg_X2_isLooked) fun v6 =>
    if v6 = 0 then (
    xw_rt 0)
    else (
    ym_g 29 fun v7 =>
    if v3 < v7 then (
    xw_bd (pg_X2_looks v3) fun _ =>
    xw_rt 1)
    else (
    xw_rt 0)))
    else (
    xw_rt 0)))

def pg_X2_bringPlain (v1 : Int32) : xw_M xw_Mu Unit :=
 xw_bd (xw_loop (α := Int32) (β := Unit) (fun v2 =>
    if 16 ≤ v2 then (
    xw_rt (.inr ()))
    else (
    xw_bd (ym_stZ 54 v2 0) fun _ =>
    xw_rt (.inl (v2 + 1)))) xw_FU 0)
    (fun (v3 : Unit) =>
    xw_bd (pg_X2_bring v1) fun _ =>
    xw_bd (pg_X2_findAsked) fun _ =>
    xw_rt ())

def pg_X2_asked (v1 : Int32) (v2 : Int32) : xw_M xw_Mu Int32 :=
 xw_bd (pg_X2_isCase v1) fun v3 =>
    if v3 = 0 then (
    xw_rt (-2))
    else (
    xw_bd (pg_X2_within v2 0 2) fun v4 =>
    if v4 = 0 then (
    xw_rt (-2))
    else (
    xw_bd (pg_X2_bringPlain v1) fun _ =>
    if v2 = 0 then (
    ym_g 27 fun v8 =>
    xw_rt v8)
    else (
    if v2 = 1 then (
    ym_g 28 fun v7 =>
    xw_rt v7)
    else (
    xw_bd (pg_X2_isLooked) fun v5 =>
    if v5 = 0 then (
    xw_rt (-1))
    else (
    ym_g 29 fun v6 =>
    xw_rt v6)))))

def pg_X2_hour (v1 : Int32) (v2 : Int32) (v3 : Int32) (v4 : Int32) : xw_M xw_Mu Int32 :=
 xw_bd (pg_X2_isCase v1) fun v5 =>
    if v5 = 0 then (
    xw_rt (-2))
    else (
    if v2 < 0 then (
    xw_rt (-2))
    else (
    xw_bd (pg_X2_within v4 0 2) fun v6 =>
    if v6 = 0 then (
    xw_rt (-2))
    else (
    xw_bd (pg_X2_bringPlain v1) fun _ =>
    xw_bd (pg_X2_isLooked) fun v7 =>
    if v7 = 0 then (
    xw_rt (-2))
    else (
    ym_g 29 fun v8 =>
    if v8 ≤ v2 then (
    xw_rt (-2))
    else (
    if v3 < 0 then (
    xw_rt (-2))
    else (
    ym_g 27 fun v9 =>
    if v3 < v9 then (
    xw_bd (pg_X2_hours v2) fun _ =>
    xw_bd (pg_X2_when v3 v4) fun v10 =>
    xw_rt v10)
    else (
    xw_rt (-2))))))))

def pg_X2_run (v1 : Int32) (v2 : Int32) (v3 : Int32) (v4 : Int32) : xw_M xw_Mu Int32 :=
 xw_bd (pg_X2_within v4 0 2) fun v5 =>
    xw_jn (fun (v6 : Unit) =>
    xw_bd (pg_X2_looksAt v1 v2 v3) fun v7 =>
    if v7 = 0 then (
    xw_rt (-3))
    else (
    ym_g 50 fun v8 =>
    if v8 = 0 then (
    xw_rt (-2))
    else (
    if v4 = 0 then (
    ym_g 51 fun v12 =>
    xw_rt v12)
    else (
    if v4 = 1 then (
    ym_g 52 fun v11 =>
    xw_rt v11)
    else (
    if v4 = 2 then (
    ym_g 53 fun v10 =>
    xw_rt v10)
    else (
    xw_bd (pg_X2_bargainWord (v4 - 10)) fun v9 =>
    xw_rt v9))))))
    (fun J1 =>
    if v5 = 0 then (
    xw_bd (pg_X2_within v4 10 14) fun v13 =>
    if v13 = 0 then (
    xw_rt (-3))
    else (
    J1 ()))
    else (
    J1 ()))

def pg_X2_open (v1 : Int32) (v2 : Int32) (v3 : Int32) (v4 : Int32) (v5 : Int32) : xw_M xw_Mu Int32 :=
 xw_bd (pg_X2_within v5 0 2) fun v6 =>
    if v6 = 0 then (
    xw_rt (-2))
    else (
    xw_bd (pg_X2_looksAt v1 v2 v3) fun v7 =>
    if v7 = 0 then (
    xw_rt (-2))
    else (
    if v4 < 0 then (
    xw_rt (-2))
    else (
    ym_g 27 fun v8 =>
    if v8 ≤ v4 then (
    xw_rt (-2))
    else (
    xw_bd (pg_X2_isOffering v4) fun v9 =>
    if v9 = 0 then (
    xw_rt (-2))
    else (
    if v5 = 0 then (
    xw_bd (ym_ld 47 v4) fun v12 =>
    xw_rt v12)
    else (
    if v5 = 1 then (
    xw_bd (ym_ld 48 v4) fun v11 =>
    xw_rt v11)
    else (
    xw_bd (ym_ld 49 v4) fun v10 =>
    xw_rt v10)))))))

def pg_X2_binds (v1 : Int32) (v2 : Int32) (v3 : Int32) : xw_M xw_Mu Int32 :=
 xw_bd (pg_X2_looksAt v1 v2 v3) fun v4 =>
    if v4 = 0 then (
    xw_rt (-2))
    else (
    ym_g 50 fun v5 =>
    if v5 = 0 then (
    xw_rt 0)
    else (
    ym_g 52 fun v6 =>
    xw_bd (ym_ld 35 v6) fun v7 =>
    ym_g 52 fun v8 =>
    xw_bd (ym_ld 36 v8) fun v9 =>
    xw_rt ((1 <<< (v7 &&& 31)) ||| (1 <<< (v9 &&& 31)))))

def pg_X2_sure (v1 : Int32) (v2 : Int32) (v3 : Int32) : xw_M xw_Mu Int32 :=
 xw_bd (pg_X2_within v3 0 4) fun v4 =>
    if v4 = 0 then (
    xw_rt (-2))
    else (
    xw_bd (pg_X2_looksAt v1 v2 0) fun v5 =>
    if v5 = 0 then (
    xw_rt (-2))
    else (
    xw_bd (xw_loop (α := Int32 × Int32 × Int32 × Int32 × Int32 × Int32) (β := Int32 × Int32 × Int32 × Int32 × Int32) (fun v6 =>
    ym_g 29 fun v8 =>
    if v8 ≤ v6.2.2.2.2.2 then (
    xw_rt (.inr (v6.1, v6.2.1, v6.2.2.1, v6.2.2.2.1, v6.2.2.2.2.1)))
    else (
    xw_bd (pg_X2_looks v6.2.2.2.2.2) fun _ =>
    ym_g 50 fun v9 =>
    if v9 = 0 then (
    if 0 ≤ v6.2.2.1 then (
    xw_rt (.inl (v6.1, v6.2.1, v6.2.2.1, v6.2.2.2.1, v6.2.2.2.2.1, v6.2.2.2.2.2 + 1)))
    else (
    xw_rt (.inl (v6.1, v6.2.1, v6.2.2.2.2.2, v6.2.2.2.1, v6.2.2.2.2.1, v6.2.2.2.2.2 + 1))))
    else (
    xw_bd (if 0 ≤ v6.2.1 then (
    xw_rt (v6.2.1))
    else (
    xw_rt (v6.2.2.2.2.2)))
    (fun (v10 : Int32) =>
    xw_bd (xw_jn (fun (v14 : Unit) =>
    ym_g 53 fun v15 =>
    xw_rt v15)
    (fun J5 =>
    if v6.2.2.2.1 < 0 then (
    J5 ())
    else (
    ym_g 53 fun v16 =>
    if v6.2.2.2.1 ≤ v16 then (
    xw_rt (v6.2.2.2.1))
    else (
    J5 ()))))
    (fun (v11 : Int32) =>
    ym_g 53 fun v12 =>
    if v12 ≤ v6.2.2.2.2.1 then (
    xw_rt (.inl (v6.1 + 1, v10, v6.2.2.1, v11, v6.2.2.2.2.1, v6.2.2.2.2.2 + 1)))
    else (
    ym_g 53 fun v13 =>
    xw_rt (.inl (v6.1 + 1, v10, v6.2.2.1, v11, v13, v6.2.2.2.2.2 + 1)))))))) xw_FU (0, (-1), (-1), (-1), (-1), 0))
    (fun (v7 : Int32 × Int32 × Int32 × Int32 × Int32) =>
    if v3 = 0 then (
    xw_rt v7.1)
    else (
    if v3 = 1 then (
    xw_rt v7.2.1)
    else (
    if v3 = 2 then (
    xw_rt v7.2.2.1)
    else (
    if v3 = 3 then (
    xw_rt v7.2.2.2.1)
    else (
    xw_rt v7.2.2.2.2)))))))

def pg_X2_bitsOf (v1 : Int32) : xw_M xw_Mu Int32 :=
 xw_bd (xw_loop (α := Int32 × Int32) (β := Int32) (fun v2 =>
    if 16 ≤ v2.2 then (
    xw_rt (.inr (v2.1)))
    else (
    xw_lt (v2.1 + ((v1 >>> (v2.2 &&& 31)) &&& 1)) fun v4 =>
    xw_rt (.inl (v4, v2.2 + 1)))) xw_FU (0, 0))
    (fun (v3 : Int32) =>
    xw_rt v3)

def pg_X2_known (v1 : Int32) (v2 : Int32) : xw_M xw_Mu Int32 :=
 xw_bd (xw_loop (α := Int32 × Int32 × Int32 × Int32) (β := Int32) (fun v3 =>
    ym_g 28 fun v5 =>
    if v5 ≤ v3.2.2.2 then (
    xw_rt (.inr (v3.2.1)))
    else (
    xw_bd (if ((v2 >>> (v3.2.2.2 &&& 31)) &&& 1) = 1 then (
    xw_bd (ym_ld 42 v3.2.2.2) fun v9 =>
    xw_bd (xw_rem v3.1 v9) fun v10 =>
    xw_lt (v3.2.1 + (v3.2.2.1 * v10)) fun v11 =>
    xw_bd (ym_ld 42 v3.2.2.2) fun v12 =>
    xw_lt (v3.2.2.1 * v12) fun v13 =>
    xw_rt (v11, v13))
    else (
    xw_rt (v3.2.1, v3.2.2.1)))
    (fun (v6 : Int32 × Int32) =>
    xw_bd (ym_ld 42 v3.2.2.2) fun v7 =>
    xw_bd (xw_div v3.1 v7) fun v8 =>
    xw_rt (.inl (v8, v6.1, v6.2, v3.2.2.2 + 1))))) xw_FU (v1, 0, 1, 0))
    (fun (v4 : Int32) =>
    xw_rt v4)

def pg_X2_tells (v1 : Int32) : xw_M xw_Mu Int32 :=
 xw_bd (xw_loop (α := Int32) (β := Unit) (fun v2 =>
    if 1024 ≤ v2 then (
    xw_rt (.inr ()))
    else (
    xw_bd (ym_st 57 v2 0) fun _ =>
    xw_rt (.inl (v2 + 1)))) xw_FU 0)
    (fun (v3 : Unit) =>
    xw_loop (α := Int32) (β := Int32) (fun v4 =>
    ym_g 29 fun v5 =>
    if v5 ≤ v4 then (
    xw_rt (.inr 1))
    else (
    xw_bd (pg_X2_known v4 v1) fun v6 =>
    xw_bd (ym_ld 56 v4) fun v7 =>
    xw_bd (if v7 = 0 then (
    xw_rt 1)
    else (
    xw_rt 2))
    (fun (v8 : Int32) =>
    xw_bd (ym_ld 57 v6) fun v9 =>
    xw_jn (fun (v10 : Unit) =>
    xw_bd (ym_st 57 v6 v8) fun _ =>
    xw_rt (.inl (v4 + 1)))
    (fun J5 =>
    if v9 ≤ 0 then (
    J5 ())
    else (
    xw_bd (ym_ld 57 v6) fun v11 =>
    if v11 = v8 then (
    J5 ())
    else (
    xw_rt (.inr 0))))))) xw_FU 0)

def pg_X2_hang (v1 : Int32) (v2 : Int32) : xw_M xw_Mu Int32 :=
 xw_bd (pg_X2_looksAt v1 v2 0) fun v3 =>
    if v3 = 0 then (
    xw_rt (-2))
    else (
    ym_g 28 fun v4 =>
    if v4 ≤ 12 then (
    xw_bd (xw_loop (α := Int32) (β := Unit) (fun v5 =>
    ym_g 29 fun v14 =>
    if v14 ≤ v5 then (
    xw_rt (.inr ()))
    else (
    xw_bd (pg_X2_looks v5) fun _ =>
    ym_g 50 fun v15 =>
    xw_bd (ym_stZ 56 v5 v15) fun _ =>
    xw_rt (.inl (v5 + 1)))) xw_FU 0)
    (fun (v6 : Unit) =>
    xw_bd (xw_loop (α := Int32 × Int32) (β := Int32) (fun v7 =>
    ym_g 28 fun v9 =>
    if (1 <<< (v9 &&& 31)) ≤ v7.2 then (
    xw_rt (.inr (v7.1)))
    else (
    if v7.1 < 0 then (
    xw_bd (pg_X2_tells v7.2) fun v10 =>
    if v10 = 0 then (
    xw_rt (.inl (v7.1, v7.2 + 1)))
    else (
    xw_rt (.inl (v7.2, v7.2 + 1))))
    else (
    xw_bd (pg_X2_bitsOf v7.2) fun v11 =>
    xw_bd (pg_X2_bitsOf v7.1) fun v12 =>
    if v12 ≤ v11 then (
    xw_rt (.inl (v7.1, v7.2 + 1)))
    else (
    xw_bd (pg_X2_tells v7.2) fun v13 =>
    if v13 = 0 then (
    xw_rt (.inl (v7.1, v7.2 + 1)))
    else (
    xw_rt (.inl (v7.2, v7.2 + 1))))))) xw_FU ((-1), 0))
    (fun (v8 : Int32) =>
    xw_rt v8)))
    else (
    xw_rt (-2)))

def pg_X2_bears (v1 : Int32) (v2 : Int32) (v3 : Int32) (v4 : Int32) : xw_M xw_Mu Int32 :=
 if v4 < 0 then (
    xw_rt (-2))
    else (
    xw_bd (pg_X2_looksAt v1 v2 v3) fun v5 =>
    if v5 = 0 then (
    xw_rt (-2))
    else (
    ym_g 50 fun v6 =>
    if v6 = 0 then (
    xw_rt (-1))
    else (
    xw_bd (ym_ld 26 12) fun v7 =>
    xw_bd (if v7 = 0 then (
    ym_g 53 fun v28 =>
    xw_rt v28)
    else (
    xw_rt (-1)))
    (fun (v8 : Int32) =>
    xw_bd (xw_loop (α := Int32 × Int32) (β := Int32) (fun v9 =>
    ym_g 27 fun v20 =>
    if v20 ≤ v9.2 then (
    xw_rt (.inr (v9.1)))
    else (
    xw_bd (ym_ld 26 12) fun v21 =>
    if v21 ≤ 0 then (
    xw_rt (.inr (v9.1)))
    else (
    xw_bd (ym_ld 30 v9.2) fun v22 =>
    xw_bd (if v22 = 7 then (
    xw_bd (ym_ld 34 v9.2) fun v24 =>
    ym_g 52 fun v25 =>
    if v24 = v25 then (
    xw_bd (ym_ld 26 12) fun v26 =>
    xw_bd (pg_X2_when v9.2 (v26 - 1)) fun v27 =>
    xw_rt v27)
    else (
    xw_rt (-1)))
    else (
    xw_rt (-1)))
    (fun (v23 : Int32) =>
    if v23 < 0 then (
    xw_rt (.inl (v9.1, v9.2 + 1)))
    else (
    if v9.1 < 0 then (
    xw_rt (.inl (v23, v9.2 + 1)))
    else (
    if v9.1 ≤ v23 then (
    xw_rt (.inl (v9.1, v9.2 + 1)))
    else (
    xw_rt (.inl (v23, v9.2 + 1))))))))) xw_FU (v8, 0))
    (fun (v10 : Int32) =>
    xw_bd (if v10 < 0 then (
    xw_rt v10)
    else (
    ym_g 53 fun v18 =>
    if v18 ≤ v10 then (
    xw_rt v10)
    else (
    ym_g 53 fun v19 =>
    xw_rt v19)))
    (fun (v11 : Int32) =>
    if v11 < 0 then (
    ym_g 52 fun v12 =>
    xw_bd (ym_ld 35 v12) fun v13 =>
    xw_rt v13)
    else (
    if v4 < v11 then (
    ym_g 52 fun v14 =>
    xw_bd (ym_ld 35 v14) fun v15 =>
    xw_rt v15)
    else (
    ym_g 52 fun v16 =>
    xw_bd (ym_ld 36 v16) fun v17 =>
    xw_rt v17))))))))

def pg_X2_judge (v1 : Int32) (v2 : Int32) (v3 : Int32) (v4 : Int32) (v5 : Int32) : xw_M xw_Mu Int32 :=
 xw_bd (pg_X2_looksAt v1 v2 v3) fun v6 =>
    if v6 = 0 then (
    xw_rt (-2))
    else (
    xw_bd (if v4 = (-2) then (
    xw_rt 0)
    else (
    xw_rt 1))
    (fun (v7 : Int32) =>
    ym_g 50 fun v8 =>
    if v7 = v8 then (
    ym_g 50 fun v9 =>
    if v9 = 0 then (
    xw_rt (-1))
    else (
    ym_g 51 fun v10 =>
    if v4 = v10 then (
    ym_g 53 fun v11 =>
    if v5 = v11 then (
    xw_rt (-1))
    else (
    xw_rt 2))
    else (
    xw_rt 1)))
    else (
    xw_rt 0)))

def pg_X2_findApart (v1 : Int32) (v2 : Int32) (v3 : Int32) : xw_M xw_Mu Int32 :=
 xw_bd (pg_X2_looksAt v1 v2 0) fun v4 =>
    if v4 = 0 then (
    xw_rt 0)
    else (
    xw_bd (ym_p 60 0) fun _ =>
    xw_bd (ym_p 61 (-1)) fun _ =>
    xw_bd (xw_loop (α := Int32) (β := Unit) (fun v5 =>
    ym_g 29 fun v22 =>
    if v22 ≤ v5 then (
    xw_rt (.inr ()))
    else (
    xw_bd (pg_X2_looks v5) fun _ =>
    ym_g 50 fun v23 =>
    xw_bd (if v23 = 0 then (
    xw_rt (-1))
    else (
    ym_g 53 fun v30 =>
    xw_rt v30))
    (fun (v24 : Int32) =>
    xw_bd (ym_st 58 v5 v24) fun _ =>
    xw_bd (xw_loop (α := Int32) (β := Unit) (fun v25 =>
    if 5 ≤ v25 then (
    xw_rt (.inr ()))
    else (
    ym_g 50 fun v27 =>
    xw_bd (if v27 = 0 then (
    xw_rt (-1))
    else (
    xw_bd (pg_X2_bargainWord v25) fun v29 =>
    xw_rt v29))
    (fun (v28 : Int32) =>
    xw_bd (ym_st 59 ((5 * v5) + v25) v28) fun _ =>
    xw_rt (.inl (v25 + 1))))) xw_FU 0)
    (fun (v26 : Unit) =>
    xw_rt (.inl (v5 + 1)))))) xw_FU 0)
    (fun (v6 : Unit) =>
    xw_bd (pg_X2_lays v3 0) fun _ =>
    xw_bd (pg_X2_takes v1) fun _ =>
    xw_bd (xw_loop (α := Int32) (β := Unit) (fun v7 =>
    ym_g 29 fun v9 =>
    if v9 ≤ v7 then (
    xw_rt (.inr ()))
    else (
    xw_bd (pg_X2_looks v7) fun _ =>
    xw_bd (ym_ld 58 v7) fun v10 =>
    ym_g 50 fun v11 =>
    xw_bd (if v11 = 0 then (
    xw_rt (-1))
    else (
    ym_g 53 fun v21 =>
    xw_rt v21))
    (fun (v12 : Int32) =>
    xw_bd (if v10 = v12 then (
    xw_rt 0)
    else (
    xw_rt 1))
    (fun (v13 : Int32) =>
    xw_bd (xw_loop (α := Int32 × Int32) (β := Int32) (fun v14 =>
    if 5 ≤ v14.2 then (
    xw_rt (.inr (v14.1)))
    else (
    ym_g 50 fun v18 =>
    if v18 = 0 then (
    xw_rt (.inr (v14.1)))
    else (
    if v14.1 = 0 then (
    xw_bd (ym_ld 59 ((5 * v7) + v14.2)) fun v19 =>
    xw_bd (pg_X2_bargainWord v14.2) fun v20 =>
    if v19 = v20 then (
    xw_rt (.inl (0, v14.2 + 1)))
    else (
    xw_rt (.inl (1, v14.2 + 1))))
    else (
    xw_rt (.inl (1, v14.2 + 1)))))) xw_FU (v13, 0))
    (fun (v15 : Int32) =>
    if v15 = 0 then (
    xw_rt (.inl (v7 + 1)))
    else (
    ym_g 60 fun v16 =>
    xw_bd (ym_p 60 (v16 + 1)) fun _ =>
    ym_g 61 fun v17 =>
    if 0 ≤ v17 then (
    xw_rt (.inl (v7 + 1)))
    else (
    xw_bd (ym_p 61 v7) fun _ =>
    xw_rt (.inl (v7 + 1))))))))) xw_FU 0)
    (fun (v8 : Unit) =>
    xw_rt 1)))

def pg_X2_apart (v1 : Int32) (v2 : Int32) (v3 : Int32) (v4 : Int32) : xw_M xw_Mu Int32 :=
 xw_bd (pg_X2_isLaw v3) fun v5 =>
    if v5 = 0 then (
    xw_rt (-2))
    else (
    xw_bd (pg_X2_within v4 0 1) fun v6 =>
    if v6 = 0 then (
    xw_rt (-2))
    else (
    xw_bd (pg_X2_findApart v1 v2 v3) fun v7 =>
    if v7 = 0 then (
    xw_rt (-2))
    else (
    if v4 = 0 then (
    ym_g 60 fun v9 =>
    xw_rt v9)
    else (
    ym_g 61 fun v8 =>
    xw_rt v8))))

def pg_X2_part (v1 : Int32) (v2 : Int32) : xw_M xw_Mu Int32 :=
 xw_bd (pg_X2_isLaw v1) fun v3 =>
    if v3 = 0 then (
    xw_rt (-2))
    else (
    xw_bd (pg_X2_isLaw v2) fun v4 =>
    if v4 = 0 then (
    xw_rt (-2))
    else (
    xw_bd (xw_loop (α := Int32 × Int32) (β := Int32) (fun v5 =>
    xw_bd (ym_ld 0 0) fun v7 =>
    if v7 ≤ v5.2 then (
    xw_rt (.inr (v5.1)))
    else (
    if v5.1 < 0 then (
    xw_bd (pg_X2_findApart v5.2 v1 v2) fun v8 =>
    if v8 = 0 then (
    xw_rt (.inl (v5.1, v5.2 + 1)))
    else (
    ym_g 60 fun v9 =>
    if v9 ≤ 0 then (
    xw_rt (.inl (v5.1, v5.2 + 1)))
    else (
    xw_rt (.inl (v5.2, v5.2 + 1)))))
    else (
    xw_bd (ym_ld 3 v5.2) fun v10 =>
    xw_bd (ym_ld 3 v5.1) fun v11 =>
    if v11 ≤ v10 then (
    xw_rt (.inl (v5.1, v5.2 + 1)))
    else (
    xw_bd (pg_X2_findApart v5.2 v1 v2) fun v12 =>
    if v12 = 0 then (
    xw_rt (.inl (v5.1, v5.2 + 1)))
    else (
    ym_g 60 fun v13 =>
    if v13 ≤ 0 then (
    xw_rt (.inl (v5.1, v5.2 + 1)))
    else (
    xw_rt (.inl (v5.2, v5.2 + 1)))))))) xw_FU ((-1), 0))
    (fun (v6 : Int32) =>
    xw_rt v6)))

def pg_X2_isWritten (v1 : Int32) (v2 : Int32) : xw_M xw_Mu Int32 :=
 xw_loop (α := Int32) (β := Int32) (fun v3 =>
    xw_bd (ym_ld 1 0) fun v4 =>
    if v4 ≤ v3 then (
    xw_rt (.inr 1))
    else (
    xw_bd (pg_X2_lays v3 v2) fun _ =>
    xw_bd (pg_X2_takes v1) fun _ =>
    xw_bd (pg_X2_isSureNow) fun v5 =>
    if v5 = 0 then (
    xw_rt (.inr 0))
    else (
    xw_rt (.inl (v3 + 1))))) xw_FU 0

def pg_X2_write (v1 : Int32) : xw_M xw_Mu Int32 :=
 xw_bd (ym_ld 1 0) fun v2 =>
    if v2 = 0 then (
    xw_rt (-2))
    else (
    xw_bd (pg_X2_looksAt v1 0 0) fun v3 =>
    if v3 = 0 then (
    xw_rt (-2))
    else (
    xw_bd (xw_loop (α := Int32 × Int32) (β := Int32) (fun v4 =>
    xw_bd (ym_ld 2 0) fun v6 =>
    if (1 <<< (v6 &&& 31)) ≤ v4.2 then (
    xw_rt (.inr (v4.1)))
    else (
    if v4.1 < 0 then (
    xw_bd (pg_X2_isWritten v1 v4.2) fun v7 =>
    if v7 = 0 then (
    xw_rt (.inl (v4.1, v4.2 + 1)))
    else (
    xw_rt (.inl (v4.2, v4.2 + 1))))
    else (
    xw_bd (pg_X2_bitsOf v4.2) fun v8 =>
    xw_bd (pg_X2_bitsOf v4.1) fun v9 =>
    if v9 ≤ v8 then (
    xw_rt (.inl (v4.1, v4.2 + 1)))
    else (
    xw_bd (pg_X2_isWritten v1 v4.2) fun v10 =>
    if v10 = 0 then (
    xw_rt (.inl (v4.1, v4.2 + 1)))
    else (
    xw_rt (.inl (v4.2, v4.2 + 1))))))) xw_FU ((-1), 0))
    (fun (v5 : Int32) =>
    xw_rt v5)))

def pg_X2_does (v1 : Int32) (v2 : Int32) (v3 : Int32) (v4 : Int32) : xw_M xw_Mu Int32 :=
 xw_bd (pg_X2_looksAt v1 v2 v3) fun v5 =>
    if v5 = 0 then (
    xw_rt (-2))
    else (
    if v4 < 0 then (
    xw_rt (-2))
    else (
    ym_g 27 fun v6 =>
    if v4 < v6 then (
    xw_bd (pg_X2_isOffering v4) fun v7 =>
    xw_bd (if v7 = 0 then (
    xw_rt 0)
    else (
    xw_bd (ym_ld 47 v4) fun v37 =>
    if v37 < 0 then (
    xw_rt 0)
    else (
    xw_rt 1)))
    (fun (v8 : Int32) =>
    xw_bd (ym_ld 34 v4) fun v9 =>
    xw_bd (if v9 < 0 then (
    xw_rt v8)
    else (
    xw_bd (pg_X2_isOffering v9) fun v23 =>
    if v23 = 0 then (
    xw_rt v8)
    else (
    xw_bd (ym_ld 49 v9) fun v24 =>
    if v24 ≤ 0 then (
    xw_rt v8)
    else (
    xw_bd (ym_ld 49 v9) fun v25 =>
    if 3 ≤ v25 then (
    xw_rt v8)
    else (
    ym_g 27 fun v26 =>
    xw_lt (v26 - 1) fun v27 =>
    xw_bd (xw_loop (α := Int32 × Int32) (β := Int32) (fun v28 =>
    if v28.2 ≤ v9 then (
    xw_rt (.inr (v28.1)))
    else (
    xw_bd (ym_ld 49 v9) fun v32 =>
    xw_bd (if v32 = 1 then (
    xw_bd (pg_X2_backHour v28.2 v9) fun v36 =>
    xw_rt v36)
    else (
    xw_bd (pg_X2_noHour v28.2 v9) fun v35 =>
    xw_rt v35))
    (fun (v33 : Int32) =>
    xw_bd (ym_ld 48 v9) fun v34 =>
    if v33 = v34 then (
    xw_rt (.inl (v28.2, v28.2 + (-1))))
    else (
    xw_rt (.inl (v28.1, v28.2 + (-1))))))) xw_FU ((-1), v27))
    (fun (v29 : Int32) =>
    if v29 = v4 then (
    xw_lt (v8 ||| 2) fun v31 =>
    xw_rt v31)
    else (
    xw_lt (v8 ||| 0) fun v30 =>
    xw_rt v30)))))))
    (fun (v10 : Int32) =>
    ym_g 50 fun v11 =>
    xw_bd (if v11 = 0 then (
    xw_rt 0)
    else (
    ym_g 51 fun v22 =>
    if v22 = v4 then (
    xw_rt 4)
    else (
    xw_rt 0)))
    (fun (v12 : Int32) =>
    xw_lt (v10 ||| v12) fun v13 =>
    xw_bd (ym_ld 30 v4) fun v14 =>
    if v14 = 5 then (
    xw_bd (pg_X2_isYes v9) fun v15 =>
    if v15 = 0 then (
    xw_rt v13)
    else (
    xw_bd (ym_ld 26 4) fun v16 =>
    xw_bd (pg_X2_when v4 v16) fun v17 =>
    if v17 < 0 then (
    xw_lt (v13 ||| 0) fun v18 =>
    xw_rt v18)
    else (
    xw_bd (pg_X2_yesHour v9) fun v19 =>
    if v19 ≤ v17 then (
    xw_lt (v13 ||| 0) fun v20 =>
    xw_rt v20)
    else (
    xw_lt (v13 ||| 8) fun v21 =>
    xw_rt v21))))
    else (
    xw_rt v13)))))
    else (
    xw_rt (-2))))

def pg_X2_canAt (v1 : Int32) (v2 : Int32) : xw_M xw_Mu Int32 :=
 ym_g 50 fun v3 =>
    xw_jn (fun (v4 : Unit) =>
    xw_bd (xw_loop (α := Int32 × Int32) (β := Int32) (fun v5 =>
    ym_g 27 fun v7 =>
    if v7 ≤ v5.2 then (
    xw_rt (.inr (v5.1)))
    else (
    xw_bd (pg_X2_isOffering v5.2) fun v8 =>
    if v8 = 0 then (
    xw_rt (.inl (v5.1, v5.2 + 1)))
    else (
    xw_bd (pg_X2_isOpenAt v5.2 v2) fun v9 =>
    if v9 = 0 then (
    xw_rt (.inl (v5.1, v5.2 + 1)))
    else (
    xw_bd (ym_ld 35 v5.2) fun v10 =>
    xw_bd (if v10 = v1 then (
    xw_bd (ym_ld 33 v5.2) fun v16 =>
    if v16 < 0 then (
    xw_lt (v5.1 ||| 1) fun v17 =>
    xw_rt v17)
    else (
    xw_bd (ym_ld 26 6) fun v18 =>
    if v18 = 0 then (
    xw_lt (v5.1 ||| 1) fun v19 =>
    xw_rt v19)
    else (
    xw_bd (ym_ld 33 v5.2) fun v20 =>
    if v2 ≤ v20 then (
    xw_rt (v5.1))
    else (
    xw_lt (v5.1 ||| 1) fun v21 =>
    xw_rt v21))))
    else (
    xw_rt (v5.1)))
    (fun (v11 : Int32) =>
    xw_bd (ym_ld 36 v5.2) fun v12 =>
    if v12 = v1 then (
    xw_bd (ym_ld 44 v5.2) fun v13 =>
    if v13 < 0 then (
    xw_rt (.inl (v11, v5.2 + 1)))
    else (
    xw_bd (ym_ld 44 v5.2) fun v14 =>
    if v2 < v14 then (
    xw_rt (.inl (v11, v5.2 + 1)))
    else (
    xw_lt (v11 ||| 2) fun v15 =>
    xw_rt (.inl (v15, v5.2 + 1)))))
    else (
    xw_rt (.inl (v11, v5.2 + 1)))))))) xw_FU (0, 0))
    (fun (v6 : Int32) =>
    xw_rt v6))
    (fun J1 =>
    if v3 = 0 then (
    J1 ())
    else (
    ym_g 53 fun v22 =>
    if v2 < v22 then (
    J1 ())
    else (
    xw_rt 0)))

def pg_X2_can (v1 : Int32) (v2 : Int32) (v3 : Int32) (v4 : Int32) (v5 : Int32) : xw_M xw_Mu Int32 :=
 xw_bd (pg_X2_within v4 0 2) fun v6 =>
    if v6 = 0 then (
    xw_rt (-2))
    else (
    xw_bd (pg_X2_within v5 0 9998) fun v7 =>
    if v7 = 0 then (
    xw_rt (-2))
    else (
    xw_bd (pg_X2_looksAt v1 v2 v3) fun v8 =>
    if v8 = 0 then (
    xw_rt (-2))
    else (
    xw_bd (pg_X2_canAt v4 v5) fun v9 =>
    xw_rt v9)))

def pg_X2_until (v1 : Int32) (v2 : Int32) (v3 : Int32) (v4 : Int32) (v5 : Int32) : xw_M xw_Mu Int32 :=
 xw_bd (pg_X2_within v4 0 2) fun v6 =>
    if v6 = 0 then (
    xw_rt (-2))
    else (
    xw_bd (pg_X2_within v5 1 2) fun v7 =>
    if v7 = 0 then (
    xw_rt (-2))
    else (
    xw_bd (pg_X2_looksAt v1 v2 v3) fun v8 =>
    if v8 = 0 then (
    xw_rt (-2))
    else (
    xw_bd (xw_loop (α := Int32) (β := Int32) (fun v9 =>
    if v9 < 0 then (
    xw_rt (.inr v9))
    else (
    xw_bd (pg_X2_canAt v4 v9) fun v11 =>
    if (v11 &&& v5) = 0 then (
    xw_rt (.inl (v9 + (-1))))
    else (
    xw_rt (.inr v9)))) xw_FU 9998)
    (fun (v10 : Int32) =>
    xw_rt v10))))

def pg_X2_withBargain  : xw_M xw_Mu Int32 :=
 xw_bd (pg_X2_findAsked) fun _ =>
    xw_bd (pg_X2_isLooked) fun v1 =>
    if v1 = 0 then (
    xw_rt (-2))
    else (
    xw_bd (xw_loop (α := Int32 × Int32) (β := Int32) (fun v2 =>
    ym_g 29 fun v4 =>
    if v4 ≤ v2.2 then (
    xw_rt (.inr (v2.1)))
    else (
    xw_bd (pg_X2_looks v2.2) fun _ =>
    ym_g 50 fun v5 =>
    if v5 = 0 then (
    xw_lt (v2.1 + 0) fun v6 =>
    xw_rt (.inl (v6, v2.2 + 1)))
    else (
    xw_lt (v2.1 + 1) fun v7 =>
    xw_rt (.inl (v7, v2.2 + 1))))) xw_FU (0, 0))
    (fun (v3 : Int32) =>
    xw_rt v3))

def pg_X2_isSaid (v1 : Int32) (v2 : Int32) (v3 : Int32) : xw_M xw_Mu Int32 :=
 xw_bd (pg_X2_isCase v1) fun v4 =>
    if v4 = 0 then (
    xw_rt 0)
    else (
    xw_bd (pg_X2_isLaw v2) fun v5 =>
    if v5 = 0 then (
    xw_rt 0)
    else (
    if v3 < 0 then (
    xw_rt 0)
    else (
    xw_bd (ym_ld 3 v1) fun v6 =>
    if v6 ≤ v3 then (
    xw_rt 0)
    else (
    xw_rt 1))))

def pg_X2_lost (v1 : Int32) (v2 : Int32) (v3 : Int32) : xw_M xw_Mu Int32 :=
 xw_bd (pg_X2_isSaid v1 v2 v3) fun v4 =>
    if v4 = 0 then (
    xw_rt (-2))
    else (
    xw_bd (ym_ld 8 ((12 * v1) + v3)) fun v5 =>
    if v5 ≤ 1 then (
    xw_bd (pg_X2_lays v2 0) fun _ =>
    xw_bd (pg_X2_takes v1) fun _ =>
    xw_bd (ym_st 32 v3 2) fun _ =>
    xw_bd (pg_X2_withBargain) fun v6 =>
    xw_rt v6)
    else (
    xw_rt (-2)))

def pg_X2_wired (v1 : Int32) (v2 : Int32) (v3 : Int32) : xw_M xw_Mu Int32 :=
 xw_bd (pg_X2_isSaid v1 v2 v3) fun v4 =>
    if v4 = 0 then (
    xw_rt (-2))
    else (
    xw_bd (pg_X2_lays v2 0) fun _ =>
    xw_bd (pg_X2_takes v1) fun _ =>
    xw_bd (ym_st 32 v3 0) fun _ =>
    xw_bd (ym_st 31 v3 1) fun _ =>
    xw_bd (xw_loop (α := Int32) (β := Unit) (fun v5 =>
    if 3 ≤ v5 then (
    xw_rt (.inr ()))
    else (
    xw_bd (ym_st 39 ((3 * v3) + v5) 0) fun _ =>
    xw_bd (ym_st 40 ((3 * v3) + v5) 0) fun _ =>
    xw_rt (.inl (v5 + 1)))) xw_FU 1)
    (fun (v6 : Unit) =>
    xw_bd (pg_X2_withBargain) fun v7 =>
    xw_rt v7))

def pg_X2_copies (v1 : Int32) (v2 : Int32) : xw_M xw_Mu Unit :=
 xw_bd (ym_ld 0 v1) fun v3 =>
    xw_bd (ym_st 0 v2 v3) fun _ =>
    xw_bd (ym_ld 1 v1) fun v4 =>
    xw_bd (ym_st 1 v2 v4) fun _ =>
    xw_bd (ym_ld 2 v1) fun v5 =>
    xw_bd (ym_st 2 v2 v5) fun _ =>
    xw_bd (xw_loop (α := Int32) (β := Unit) (fun v6 =>
    if 16 ≤ v6 then (
    xw_rt (.inr ()))
    else (
    xw_bd (ym_ld 3 ((16 * v1) + v6)) fun v28 =>
    xw_bd (ym_st 3 ((16 * v2) + v6) v28) fun _ =>
    xw_rt (.inl (v6 + 1)))) xw_FU 0)
    (fun (v7 : Unit) =>
    xw_bd (xw_loop (α := Int32) (β := Unit) (fun v8 =>
    if 192 ≤ v8 then (
    xw_rt (.inr ()))
    else (
    xw_bd (ym_ld 4 ((192 * v1) + v8)) fun v20 =>
    xw_bd (ym_st 4 ((192 * v2) + v8) v20) fun _ =>
    xw_bd (ym_ld 5 ((192 * v1) + v8)) fun v21 =>
    xw_bd (ym_st 5 ((192 * v2) + v8) v21) fun _ =>
    xw_bd (ym_ld 6 ((192 * v1) + v8)) fun v22 =>
    xw_bd (ym_st 6 ((192 * v2) + v8) v22) fun _ =>
    xw_bd (ym_ld 7 ((192 * v1) + v8)) fun v23 =>
    xw_bd (ym_st 7 ((192 * v2) + v8) v23) fun _ =>
    xw_bd (ym_ld 8 ((192 * v1) + v8)) fun v24 =>
    xw_bd (ym_st 8 ((192 * v2) + v8) v24) fun _ =>
    xw_bd (ym_ld 9 ((192 * v1) + v8)) fun v25 =>
    xw_bd (ym_st 9 ((192 * v2) + v8) v25) fun _ =>
    xw_bd (ym_ld 10 ((192 * v1) + v8)) fun v26 =>
    xw_bd (ym_st 10 ((192 * v2) + v8) v26) fun _ =>
    xw_bd (ym_ld 11 ((192 * v1) + v8)) fun v27 =>
    xw_bd (ym_st 11 ((192 * v2) + v8) v27) fun _ =>
    xw_rt (.inl (v8 + 1)))) xw_FU 0)
    (fun (v9 : Unit) =>
    xw_bd (xw_loop (α := Int32) (β := Unit) (fun v10 =>
    if 960 ≤ v10 then (
    xw_rt (.inr ()))
    else (
    xw_bd (ym_ld 12 ((960 * v1) + v10)) fun v19 =>
    xw_bd (ym_st 12 ((960 * v2) + v10) v19) fun _ =>
    xw_rt (.inl (v10 + 1)))) xw_FU 0)
    (fun (v11 : Unit) =>
    xw_bd (xw_loop (α := Int32) (β := Unit) (fun v12 =>
    if 576 ≤ v12 then (
    xw_rt (.inr ()))
    else (
    xw_bd (ym_ld 13 ((576 * v1) + v12)) fun v17 =>
    xw_bd (ym_st 13 ((576 * v2) + v12) v17) fun _ =>
    xw_bd (ym_ld 14 ((576 * v1) + v12)) fun v18 =>
    xw_bd (ym_st 14 ((576 * v2) + v12) v18) fun _ =>
    xw_rt (.inl (v12 + 1)))) xw_FU 0)
    (fun (v13 : Unit) =>
    xw_bd (xw_loop (α := Int32) (β := Unit) (fun v14 =>
    if 196 ≤ v14 then (
    xw_rt (.inr ()))
    else (
    xw_bd (ym_ld 15 ((196 * v1) + v14)) fun v16 =>
    xw_bd (ym_st 15 ((196 * v2) + v14) v16) fun _ =>
    xw_rt (.inl (v14 + 1)))) xw_FU 0)
    (fun (v15 : Unit) =>
    xw_rt ())))))

def pg_X2_image  : xw_M xw_Mu Int32 :=
 ym_g 62 fun v1 =>
    if v1 = 4 then (
    xw_rt (-1))
    else (
    ym_g 62 fun v2 =>
    xw_bd (pg_X2_copies 0 (v2 + 1)) fun _ =>
    ym_g 62 fun v3 =>
    xw_bd (ym_p 62 (v3 + 1)) fun _ =>
    ym_g 62 fun v4 =>
    xw_rt (v4 - 1))

def pg_X2_back (v1 : Int32) : xw_M xw_Mu Int32 :=
 ym_g 62 fun v2 =>
    xw_bd (pg_X2_within v1 0 (v2 - 1)) fun v3 =>
    if v3 = 0 then (
    xw_rt 0)
    else (
    xw_bd (pg_X2_copies (v1 + 1) 0) fun _ =>
    xw_rt 1)

def pg_X2_sayingsInAll  : xw_M xw_Mu Int32 :=
 xw_bd (xw_loop (α := Int32 × Int32) (β := Int32) (fun v1 =>
    xw_bd (ym_ld 0 0) fun v3 =>
    if v3 ≤ v1.2 then (
    xw_rt (.inr (v1.1)))
    else (
    xw_bd (ym_ld 3 v1.2) fun v4 =>
    xw_lt (v1.1 + v4) fun v5 =>
    xw_rt (.inl (v5, v1.2 + 1)))) xw_FU (0, 0))
    (fun (v2 : Int32) =>
    xw_rt v2)

def pg_X2_count (v1 : Int32) : xw_M xw_Mu Int32 :=
 if v1 = 0 then (xw_bd (ym_ld 0 0) fun v2 =>
    xw_rt v2) else (
    if v1 = 1 then (xw_bd (ym_ld 1 0) fun v3 =>
    xw_rt v3) else (
    if v1 = 2 then (xw_bd (ym_ld 2 0) fun v4 =>
    xw_rt v4) else (
    if v1 = 3 then (ym_g 17 fun v5 =>
    xw_rt v5) else (
    if v1 = 4 then (xw_bd (pg_X2_sayingsInAll) fun v6 =>
    xw_rt v6) else (
    if v1 = 5 then (ym_g 62 fun v7 =>
    xw_rt v7) else (
    xw_rt (-1)))))))
