set_option maxRecDepth 100000
/-! the law's own world: both sides' states; the script -/
abbrev xl_S : Type := xw_St × xw_Mu
abbrev xl_w (G : xw_G) : xl_S → Heap → Prop := fun s H => xw_HH G s.1 s.2 H
def xl_1 {α : Type} (P : xw_M xw_St α) : xw_M xl_S α := fun s => match P s.1 with
  | none => none
  | some (a, σ', k, n) => some (a, (σ', s.2), k, n)
def xl_2 {α : Type} (P : xw_M xw_Mu α) : xw_M xl_S α := fun s => match P s.2 with
  | none => none
  | some (a, μ', k, n) => some (a, (s.1, μ'), k, n)
def xl_ldP (xs : Nat → Int32) (L : Nat) (i : Int32) : xw_M xl_S Int32 := fun s => if xw_ix i L then some (xs i.toNatClampNeg, s, 0, 0) else none
section XL
variable {α β γ δ : Type} {E : xw_E} {own : String} {cc : ByteArray} {nL lam pc : Nat} {ret : Option FieldType} {lv lv' : List (Nat × Value)} {st st' : List Value} {Q : γ → xl_S → Nat → Nat → State → Prop} {K : α → xw_M xl_S γ} {ρ : α → Option Value}
theorem xl_go1 {P : xw_M xw_St α} (h : ∀ μ, xw_Go E nL (xw_hc (xe_G E) μ) ρ pc st st' P) : xw_Go E nL (xl_w (xe_G E)) ρ pc st st' (xl_1 P) := by
  intro ls H locs cells slots s r s' k n hP hs hw hc hsl
  simp only [xl_1] at hP
  split at hP
  · cases hP
  · rename_i a σ' k' n' he
    cases hP
    exact h s.2 ls H locs cells slots s.1 _ _ _ _ he hs hw hc hsl
theorem xl_go2 {P : xw_M xw_Mu α} (h : ∀ σ, xw_Go E nL (xw_hr (xe_G E) σ) ρ pc st st' P) : xw_Go E nL (xl_w (xe_G E)) ρ pc st st' (xl_2 P) := by
  intro ls H locs cells slots s r s' k n hP hs hw hc hsl
  simp only [xl_2] at hP
  split at hP
  · cases hP
  · rename_i a σ' k' n' he
    cases hP
    exact h s.1 ls H locs cells slots s.2 _ _ _ _ he hs hw hc hsl
theorem xl_scr {s : xl_S} {H : Heap} {b L : Nat} {xs : Nat → Int32} (hw : xl_w (xe_G E) s H) (hX : va_X b L xs (xe_s E) (xw_hb (xe_G E))) (hbl : b < (xw_hb (xe_G E)).size) : va_X b L xs (xe_s E) H := hX.kept (hw.2.2.1 b hbl)
theorem xl_len (pc' : Nat) (hE : xw_ok E own cc nL ret lam) {b L : Nat} {xs : Nat → Int32} (hX : va_X b L xs (xe_s E) (xw_hb (xe_G E))) (hbl : b < (xw_hb (xe_G E)).size) {P : xw_M xl_S α} (hdg : decode cc pc = .ok (.arraylength, 1)) (hp : pc + 1 = pc') (kk : xw_X E nL (xl_w (xe_G E)) Q pc' lv (.int (Int32.ofNat L) :: st) P K) : xw_X E nL (xl_w (xe_G E)) Q pc lv (va_rf (some b) :: st) P K := by
  subst hp
  intro ls H locs cells slots σ r σ' a n h1 h2 h3 h4 h5 h6
  obtain ⟨scr, q1, q2, q3, q4, q5⟩ := xl_scr h3 hX hbl
  exact W.alen (n := Int32.ofNat L) hE.1 hE.2.1 q1 q2 (by rw [q4] <;> rfl) rfl rfl hdg (kk ls H locs cells slots σ r σ' a n h1 h2 h3 h4 h5 h6)
theorem xl_ld (pc' : Nat) (hE : xw_ok E own cc nL ret lam) {b L : Nat} {xs : Nat → Int32} (hX : va_X b L xs (xe_s E) (xw_hb (xe_G E))) (hbl : b < (xw_hb (xe_G E)).size) {i : Int32} {F : Int32 → xw_M xl_S α} (hdg : decode cc pc = .ok (.iaload, 1)) (hp : pc + 1 = pc') (kk : ∀ v, xw_X E nL (xl_w (xe_G E)) Q pc' lv (.int v :: st) (F v) K) : xw_X E nL (xl_w (xe_G E)) Q pc lv (.int i :: va_rf (some b) :: st) (xw_bd (xl_ldP xs L i) F) K := by
  subst hp
  refine xw_rd (pc + 1) (fun v => .int v :: st) (fun ls H locs cells slots s v s1 k1 n1 e hl hw hS => ?_) kk
  simp only [xl_ldP] at e
  split at e
  · rename_i hi
    cases e
    refine ⟨rfl, rfl, rfl, fun Qs k => ?_⟩
    obtain ⟨scr, q1, q2, q3, q4, q5⟩ := xl_scr hw hX hbl
    exact W.iald hE.1 hE.2.1 q1 q2 q3 (by rw [q4]; rintro (g | g); exact hi.1 g; exact Nat.not_le.mpr hi.2 g) (q5 _ hi.2) rfl rfl hdg k
  · cases e
end XL
theorem xc_b_31 : (Int8.ofInt 31).toInt32 = 31 := by decide
theorem xc_i_6 : Int32.ofInt 6 = 6 := by decide
theorem xd_X0_init : xw_dsc yX0_init 0 := ⟨by decide, by decide, by decide +kernel⟩
theorem xd_X0_apart : xw_dsc yX0_apart 4 := ⟨by decide, by decide, by decide +kernel⟩
theorem xd_X0_asked : xw_dsc yX0_asked 2 := ⟨by decide, by decide, by decide +kernel⟩
theorem xd_X0_back : xw_dsc yX0_back 1 := ⟨by decide, by decide, by decide +kernel⟩
theorem xd_X0_bears : xw_dsc yX0_bears 4 := ⟨by decide, by decide, by decide +kernel⟩
theorem xd_X0_binds : xw_dsc yX0_binds 3 := ⟨by decide, by decide, by decide +kernel⟩
theorem xd_X0_can : xw_dsc yX0_can 5 := ⟨by decide, by decide, by decide +kernel⟩
theorem xd_X0_clause : xw_dsc yX0_clause 1 := ⟨by decide, by decide, by decide +kernel⟩
theorem xd_X0_count : xw_dsc yX0_count 1 := ⟨by decide, by decide, by decide +kernel⟩
theorem xd_X0_does : xw_dsc yX0_does 4 := ⟨by decide, by decide, by decide +kernel⟩
theorem xd_X0_fault : xw_dsc yX0_fault 0 := ⟨by decide, by decide, by decide +kernel⟩
theorem xd_X0_feed : xw_dsc yX0_feed 5 := ⟨by decide, by decide, by decide +kernel⟩
theorem xd_X0_hang : xw_dsc yX0_hang 2 := ⟨by decide, by decide, by decide +kernel⟩
theorem xd_X0_hour : xw_dsc yX0_hour 4 := ⟨by decide, by decide, by decide +kernel⟩
theorem xd_X0_image : xw_dsc yX0_image 0 := ⟨by decide, by decide, by decide +kernel⟩
theorem xd_X0_judge : xw_dsc yX0_judge 5 := ⟨by decide, by decide, by decide +kernel⟩
theorem xd_X0_law : xw_dsc yX0_law 1 := ⟨by decide, by decide, by decide +kernel⟩
theorem xd_X0_lost : xw_dsc yX0_lost 3 := ⟨by decide, by decide, by decide +kernel⟩
theorem xd_X0_more : xw_dsc yX0_more 2 := ⟨by decide, by decide, by decide +kernel⟩
theorem xd_X0_open : xw_dsc yX0_open 5 := ⟨by decide, by decide, by decide +kernel⟩
theorem xd_X0_part : xw_dsc yX0_part 2 := ⟨by decide, by decide, by decide +kernel⟩
theorem xd_X0_rule : xw_dsc yX0_rule 2 := ⟨by decide, by decide, by decide +kernel⟩
theorem xd_X0_run : xw_dsc yX0_run 4 := ⟨by decide, by decide, by decide +kernel⟩
theorem xd_X0_saying : xw_dsc yX0_saying 3 := ⟨by decide, by decide, by decide +kernel⟩
theorem xd_X0_sure : xw_dsc yX0_sure 3 := ⟨by decide, by decide, by decide +kernel⟩
theorem xd_X0_tell : xw_dsc yX0_tell 1 := ⟨by decide, by decide, by decide +kernel⟩
theorem xd_X0_until : xw_dsc yX0_until 5 := ⟨by decide, by decide, by decide +kernel⟩
theorem xd_X0_wired : xw_dsc yX0_wired 3 := ⟨by decide, by decide, by decide +kernel⟩
theorem xd_X0_write : xw_dsc yX0_write 1 := ⟨by decide, by decide, by decide +kernel⟩
theorem xd_X2_init : xw_dsc yX2_init 0 := ⟨by decide, by decide, by decide +kernel⟩
theorem xd_X2_apart : xw_dsc yX2_apart 4 := ⟨by decide, by decide, by decide +kernel⟩
theorem xd_X2_asked : xw_dsc yX2_asked 2 := ⟨by decide, by decide, by decide +kernel⟩
theorem xd_X2_back : xw_dsc yX2_back 1 := ⟨by decide, by decide, by decide +kernel⟩
theorem xd_X2_bears : xw_dsc yX2_bears 4 := ⟨by decide, by decide, by decide +kernel⟩
theorem xd_X2_binds : xw_dsc yX2_binds 3 := ⟨by decide, by decide, by decide +kernel⟩
theorem xd_X2_can : xw_dsc yX2_can 5 := ⟨by decide, by decide, by decide +kernel⟩
theorem xd_X2_clause : xw_dsc yX2_clause 1 := ⟨by decide, by decide, by decide +kernel⟩
theorem xd_X2_count : xw_dsc yX2_count 1 := ⟨by decide, by decide, by decide +kernel⟩
theorem xd_X2_does : xw_dsc yX2_does 4 := ⟨by decide, by decide, by decide +kernel⟩
theorem xd_X2_fault : xw_dsc yX2_fault 0 := ⟨by decide, by decide, by decide +kernel⟩
theorem xd_X2_feed : xw_dsc yX2_feed 5 := ⟨by decide, by decide, by decide +kernel⟩
theorem xd_X2_hang : xw_dsc yX2_hang 2 := ⟨by decide, by decide, by decide +kernel⟩
theorem xd_X2_hour : xw_dsc yX2_hour 4 := ⟨by decide, by decide, by decide +kernel⟩
theorem xd_X2_image : xw_dsc yX2_image 0 := ⟨by decide, by decide, by decide +kernel⟩
theorem xd_X2_judge : xw_dsc yX2_judge 5 := ⟨by decide, by decide, by decide +kernel⟩
theorem xd_X2_law : xw_dsc yX2_law 1 := ⟨by decide, by decide, by decide +kernel⟩
theorem xd_X2_lost : xw_dsc yX2_lost 3 := ⟨by decide, by decide, by decide +kernel⟩
theorem xd_X2_more : xw_dsc yX2_more 2 := ⟨by decide, by decide, by decide +kernel⟩
theorem xd_X2_open : xw_dsc yX2_open 5 := ⟨by decide, by decide, by decide +kernel⟩
theorem xd_X2_part : xw_dsc yX2_part 2 := ⟨by decide, by decide, by decide +kernel⟩
theorem xd_X2_rule : xw_dsc yX2_rule 2 := ⟨by decide, by decide, by decide +kernel⟩
theorem xd_X2_run : xw_dsc yX2_run 4 := ⟨by decide, by decide, by decide +kernel⟩
theorem xd_X2_saying : xw_dsc yX2_saying 3 := ⟨by decide, by decide, by decide +kernel⟩
theorem xd_X2_sure : xw_dsc yX2_sure 3 := ⟨by decide, by decide, by decide +kernel⟩
theorem xd_X2_tell : xw_dsc yX2_tell 1 := ⟨by decide, by decide, by decide +kernel⟩
theorem xd_X2_until : xw_dsc yX2_until 5 := ⟨by decide, by decide, by decide +kernel⟩
theorem xd_X2_wired : xw_dsc yX2_wired 3 := ⟨by decide, by decide, by decide +kernel⟩
theorem xd_X2_write : xw_dsc yX2_write 1 := ⟨by decide, by decide, by decide +kernel⟩
theorem xw_out0_27 {x : Int32} (h0 : ¬ x = 0) (h1 : ¬ x = 1) (h2 : ¬ x = 2) (h3 : ¬ x = 3) (h4 : ¬ x = 4) (h5 : ¬ x = 5) (h6 : ¬ x = 6) (h7 : ¬ x = 7) (h8 : ¬ x = 8) (h9 : ¬ x = 9) (h10 : ¬ x = 10) (h11 : ¬ x = 11) (h12 : ¬ x = 12) (h13 : ¬ x = 13) (h14 : ¬ x = 14) (h15 : ¬ x = 15) (h16 : ¬ x = 16) (h17 : ¬ x = 17) (h18 : ¬ x = 18) (h19 : ¬ x = 19) (h20 : ¬ x = 20) (h21 : ¬ x = 21) (h22 : ¬ x = 22) (h23 : ¬ x = 23) (h24 : ¬ x = 24) (h25 : ¬ x = 25) (h26 : ¬ x = 26) (h27 : ¬ x = 27) : x.toInt < 0 ∨ 27 < x.toInt := by
  have g0 : x.toInt ≠ 0 := fun z => h0 (Int32.toInt_inj.mp (z.trans (by decide)))
  have g1 : x.toInt ≠ 1 := fun z => h1 (Int32.toInt_inj.mp (z.trans (by decide)))
  have g2 : x.toInt ≠ 2 := fun z => h2 (Int32.toInt_inj.mp (z.trans (by decide)))
  have g3 : x.toInt ≠ 3 := fun z => h3 (Int32.toInt_inj.mp (z.trans (by decide)))
  have g4 : x.toInt ≠ 4 := fun z => h4 (Int32.toInt_inj.mp (z.trans (by decide)))
  have g5 : x.toInt ≠ 5 := fun z => h5 (Int32.toInt_inj.mp (z.trans (by decide)))
  have g6 : x.toInt ≠ 6 := fun z => h6 (Int32.toInt_inj.mp (z.trans (by decide)))
  have g7 : x.toInt ≠ 7 := fun z => h7 (Int32.toInt_inj.mp (z.trans (by decide)))
  have g8 : x.toInt ≠ 8 := fun z => h8 (Int32.toInt_inj.mp (z.trans (by decide)))
  have g9 : x.toInt ≠ 9 := fun z => h9 (Int32.toInt_inj.mp (z.trans (by decide)))
  have g10 : x.toInt ≠ 10 := fun z => h10 (Int32.toInt_inj.mp (z.trans (by decide)))
  have g11 : x.toInt ≠ 11 := fun z => h11 (Int32.toInt_inj.mp (z.trans (by decide)))
  have g12 : x.toInt ≠ 12 := fun z => h12 (Int32.toInt_inj.mp (z.trans (by decide)))
  have g13 : x.toInt ≠ 13 := fun z => h13 (Int32.toInt_inj.mp (z.trans (by decide)))
  have g14 : x.toInt ≠ 14 := fun z => h14 (Int32.toInt_inj.mp (z.trans (by decide)))
  have g15 : x.toInt ≠ 15 := fun z => h15 (Int32.toInt_inj.mp (z.trans (by decide)))
  have g16 : x.toInt ≠ 16 := fun z => h16 (Int32.toInt_inj.mp (z.trans (by decide)))
  have g17 : x.toInt ≠ 17 := fun z => h17 (Int32.toInt_inj.mp (z.trans (by decide)))
  have g18 : x.toInt ≠ 18 := fun z => h18 (Int32.toInt_inj.mp (z.trans (by decide)))
  have g19 : x.toInt ≠ 19 := fun z => h19 (Int32.toInt_inj.mp (z.trans (by decide)))
  have g20 : x.toInt ≠ 20 := fun z => h20 (Int32.toInt_inj.mp (z.trans (by decide)))
  have g21 : x.toInt ≠ 21 := fun z => h21 (Int32.toInt_inj.mp (z.trans (by decide)))
  have g22 : x.toInt ≠ 22 := fun z => h22 (Int32.toInt_inj.mp (z.trans (by decide)))
  have g23 : x.toInt ≠ 23 := fun z => h23 (Int32.toInt_inj.mp (z.trans (by decide)))
  have g24 : x.toInt ≠ 24 := fun z => h24 (Int32.toInt_inj.mp (z.trans (by decide)))
  have g25 : x.toInt ≠ 25 := fun z => h25 (Int32.toInt_inj.mp (z.trans (by decide)))
  have g26 : x.toInt ≠ 26 := fun z => h26 (Int32.toInt_inj.mp (z.trans (by decide)))
  have g27 : x.toInt ≠ 27 := fun z => h27 (Int32.toInt_inj.mp (z.trans (by decide)))
  omega
set_option maxRecDepth 100000
/-! the law: printed by wip/D-91877w/gen/gen3.py -/
def pg_law0 : xw_M xw_St (Nat × Nat) :=
    xw_bd (xw_new 0) fun v1 =>
    xw_bd (pg_X0_init v1) fun _ =>
    xw_bd (xw_new 2) fun v2 =>
    xw_bd (pg_X2_init v2) fun _ =>
    xw_rt (v1, v2)

def pg_law2 (x : Nat) (xs : Nat → Int32) (L : Nat) : xw_M xl_S Int32 :=
    xw_loop (α := Int32) (β := Int32) (fun v3 =>
    if ((Int32.ofNat L) - 6) < v3 then (
    xw_rt (.inr 1))
    else (
    xw_bd (xl_ldP xs L v3) fun v4 =>
    if (v4 &&& 31) = 0 then (xw_bd (xl_ldP xs L (v3 + 1)) fun v5 =>
    xw_bd (xl_ldP xs L (v3 + 2)) fun v6 =>
    xw_bd (xl_ldP xs L (v3 + 3)) fun v7 =>
    xw_bd (xl_ldP xs L (v3 + 4)) fun v8 =>
    xw_bd (xl_ldP xs L (v3 + 5)) fun v9 =>
    xw_bd (xl_1 (xw_cv 0 (some x) (fun v11 => pg_X0_feed v11 v5 v6 v7 v8 v9))) fun v10 =>
    xw_bd (xl_ldP xs L (v3 + 1)) fun v12 =>
    xw_bd (xl_ldP xs L (v3 + 2)) fun v13 =>
    xw_bd (xl_ldP xs L (v3 + 3)) fun v14 =>
    xw_bd (xl_ldP xs L (v3 + 4)) fun v15 =>
    xw_bd (xl_ldP xs L (v3 + 5)) fun v16 =>
    xw_bd (xl_2 (pg_X2_feed v12 v13 v14 v15 v16)) fun v17 =>
    if v10 = v17 then (
    xw_rt (.inl (v3 + 6)))
    else (
    xw_rt (.inr 0))) else (
    if (v4 &&& 31) = 1 then (xw_bd (xl_ldP xs L (v3 + 1)) fun v18 =>
    xw_bd (xl_1 (xw_cv 0 (some x) (fun v20 => pg_X0_tell v20 v18))) fun v19 =>
    xw_bd (xl_ldP xs L (v3 + 1)) fun v21 =>
    xw_bd (xl_2 (pg_X2_tell v21)) fun v22 =>
    if v19 = v22 then (
    xw_rt (.inl (v3 + 6)))
    else (
    xw_rt (.inr 0))) else (
    if (v4 &&& 31) = 2 then (xw_bd (xl_ldP xs L (v3 + 1)) fun v23 =>
    xw_bd (xl_ldP xs L (v3 + 2)) fun v24 =>
    xw_bd (xl_1 (xw_cv 0 (some x) (fun v26 => pg_X0_more v26 v23 v24))) fun v25 =>
    xw_bd (xl_ldP xs L (v3 + 1)) fun v27 =>
    xw_bd (xl_ldP xs L (v3 + 2)) fun v28 =>
    xw_bd (xl_2 (pg_X2_more v27 v28)) fun v29 =>
    if v25 = v29 then (
    xw_rt (.inl (v3 + 6)))
    else (
    xw_rt (.inr 0))) else (
    if (v4 &&& 31) = 3 then (xw_bd (xl_ldP xs L (v3 + 1)) fun v30 =>
    xw_bd (xl_1 (xw_cv 0 (some x) (fun v32 => pg_X0_law v32 v30))) fun v31 =>
    xw_bd (xl_ldP xs L (v3 + 1)) fun v33 =>
    xw_bd (xl_2 (pg_X2_law v33)) fun v34 =>
    if v31 = v34 then (
    xw_rt (.inl (v3 + 6)))
    else (
    xw_rt (.inr 0))) else (
    if (v4 &&& 31) = 4 then (xw_bd (xl_ldP xs L (v3 + 1)) fun v35 =>
    xw_bd (xl_1 (xw_cv 0 (some x) (fun v37 => pg_X0_clause v37 v35))) fun v36 =>
    xw_bd (xl_ldP xs L (v3 + 1)) fun v38 =>
    xw_bd (xl_2 (pg_X2_clause v38)) fun v39 =>
    if v36 = v39 then (
    xw_rt (.inl (v3 + 6)))
    else (
    xw_rt (.inr 0))) else (
    if (v4 &&& 31) = 5 then (xw_bd (xl_1 (xw_cv 0 (some x) (fun v41 => pg_X0_fault v41))) fun v40 =>
    xw_bd (xl_2 (pg_X2_fault)) fun v42 =>
    if v40 = v42 then (
    xw_rt (.inl (v3 + 6)))
    else (
    xw_rt (.inr 0))) else (
    if (v4 &&& 31) = 6 then (xw_bd (xl_ldP xs L (v3 + 1)) fun v43 =>
    xw_bd (xl_ldP xs L (v3 + 2)) fun v44 =>
    xw_bd (xl_ldP xs L (v3 + 3)) fun v45 =>
    xw_bd (xl_1 (xw_cv 0 (some x) (fun v47 => pg_X0_saying v47 v43 v44 v45))) fun v46 =>
    xw_bd (xl_ldP xs L (v3 + 1)) fun v48 =>
    xw_bd (xl_ldP xs L (v3 + 2)) fun v49 =>
    xw_bd (xl_ldP xs L (v3 + 3)) fun v50 =>
    xw_bd (xl_2 (pg_X2_saying v48 v49 v50)) fun v51 =>
    if v46 = v51 then (
    xw_rt (.inl (v3 + 6)))
    else (
    xw_rt (.inr 0))) else (
    if (v4 &&& 31) = 7 then (xw_bd (xl_ldP xs L (v3 + 1)) fun v52 =>
    xw_bd (xl_ldP xs L (v3 + 2)) fun v53 =>
    xw_bd (xl_1 (xw_cv 0 (some x) (fun v55 => pg_X0_asked v55 v52 v53))) fun v54 =>
    xw_bd (xl_ldP xs L (v3 + 1)) fun v56 =>
    xw_bd (xl_ldP xs L (v3 + 2)) fun v57 =>
    xw_bd (xl_2 (pg_X2_asked v56 v57)) fun v58 =>
    if v54 = v58 then (
    xw_rt (.inl (v3 + 6)))
    else (
    xw_rt (.inr 0))) else (
    if (v4 &&& 31) = 8 then (xw_bd (xl_ldP xs L (v3 + 1)) fun v59 =>
    xw_bd (xl_ldP xs L (v3 + 2)) fun v60 =>
    xw_bd (xl_ldP xs L (v3 + 3)) fun v61 =>
    xw_bd (xl_ldP xs L (v3 + 4)) fun v62 =>
    xw_bd (xl_1 (xw_cv 0 (some x) (fun v64 => pg_X0_hour v64 v59 v60 v61 v62))) fun v63 =>
    xw_bd (xl_ldP xs L (v3 + 1)) fun v65 =>
    xw_bd (xl_ldP xs L (v3 + 2)) fun v66 =>
    xw_bd (xl_ldP xs L (v3 + 3)) fun v67 =>
    xw_bd (xl_ldP xs L (v3 + 4)) fun v68 =>
    xw_bd (xl_2 (pg_X2_hour v65 v66 v67 v68)) fun v69 =>
    if v63 = v69 then (
    xw_rt (.inl (v3 + 6)))
    else (
    xw_rt (.inr 0))) else (
    if (v4 &&& 31) = 9 then (xw_bd (xl_ldP xs L (v3 + 1)) fun v70 =>
    xw_bd (xl_ldP xs L (v3 + 2)) fun v71 =>
    xw_bd (xl_1 (xw_cv 0 (some x) (fun v73 => pg_X0_rule v73 v70 v71))) fun v72 =>
    xw_bd (xl_ldP xs L (v3 + 1)) fun v74 =>
    xw_bd (xl_ldP xs L (v3 + 2)) fun v75 =>
    xw_bd (xl_2 (pg_X2_rule v74 v75)) fun v76 =>
    if v72 = v76 then (
    xw_rt (.inl (v3 + 6)))
    else (
    xw_rt (.inr 0))) else (
    if (v4 &&& 31) = 10 then (xw_bd (xl_ldP xs L (v3 + 1)) fun v77 =>
    xw_bd (xl_ldP xs L (v3 + 2)) fun v78 =>
    xw_bd (xl_ldP xs L (v3 + 3)) fun v79 =>
    xw_bd (xl_ldP xs L (v3 + 4)) fun v80 =>
    xw_bd (xl_1 (xw_cv 0 (some x) (fun v82 => pg_X0_run v82 v77 v78 v79 v80))) fun v81 =>
    xw_bd (xl_ldP xs L (v3 + 1)) fun v83 =>
    xw_bd (xl_ldP xs L (v3 + 2)) fun v84 =>
    xw_bd (xl_ldP xs L (v3 + 3)) fun v85 =>
    xw_bd (xl_ldP xs L (v3 + 4)) fun v86 =>
    xw_bd (xl_2 (pg_X2_run v83 v84 v85 v86)) fun v87 =>
    if v81 = v87 then (
    xw_rt (.inl (v3 + 6)))
    else (
    xw_rt (.inr 0))) else (
    if (v4 &&& 31) = 11 then (xw_bd (xl_ldP xs L (v3 + 1)) fun v88 =>
    xw_bd (xl_ldP xs L (v3 + 2)) fun v89 =>
    xw_bd (xl_ldP xs L (v3 + 3)) fun v90 =>
    xw_bd (xl_ldP xs L (v3 + 4)) fun v91 =>
    xw_bd (xl_ldP xs L (v3 + 5)) fun v92 =>
    xw_bd (xl_1 (xw_cv 0 (some x) (fun v94 => pg_X0_open v94 v88 v89 v90 v91 v92))) fun v93 =>
    xw_bd (xl_ldP xs L (v3 + 1)) fun v95 =>
    xw_bd (xl_ldP xs L (v3 + 2)) fun v96 =>
    xw_bd (xl_ldP xs L (v3 + 3)) fun v97 =>
    xw_bd (xl_ldP xs L (v3 + 4)) fun v98 =>
    xw_bd (xl_ldP xs L (v3 + 5)) fun v99 =>
    xw_bd (xl_2 (pg_X2_open v95 v96 v97 v98 v99)) fun v100 =>
    if v93 = v100 then (
    xw_rt (.inl (v3 + 6)))
    else (
    xw_rt (.inr 0))) else (
    if (v4 &&& 31) = 12 then (xw_bd (xl_ldP xs L (v3 + 1)) fun v101 =>
    xw_bd (xl_ldP xs L (v3 + 2)) fun v102 =>
    xw_bd (xl_ldP xs L (v3 + 3)) fun v103 =>
    xw_bd (xl_1 (xw_cv 0 (some x) (fun v105 => pg_X0_binds v105 v101 v102 v103))) fun v104 =>
    xw_bd (xl_ldP xs L (v3 + 1)) fun v106 =>
    xw_bd (xl_ldP xs L (v3 + 2)) fun v107 =>
    xw_bd (xl_ldP xs L (v3 + 3)) fun v108 =>
    xw_bd (xl_2 (pg_X2_binds v106 v107 v108)) fun v109 =>
    if v104 = v109 then (
    xw_rt (.inl (v3 + 6)))
    else (
    xw_rt (.inr 0))) else (
    if (v4 &&& 31) = 13 then (xw_bd (xl_ldP xs L (v3 + 1)) fun v110 =>
    xw_bd (xl_ldP xs L (v3 + 2)) fun v111 =>
    xw_bd (xl_ldP xs L (v3 + 3)) fun v112 =>
    xw_bd (xl_1 (xw_cv 0 (some x) (fun v114 => pg_X0_sure v114 v110 v111 v112))) fun v113 =>
    xw_bd (xl_ldP xs L (v3 + 1)) fun v115 =>
    xw_bd (xl_ldP xs L (v3 + 2)) fun v116 =>
    xw_bd (xl_ldP xs L (v3 + 3)) fun v117 =>
    xw_bd (xl_2 (pg_X2_sure v115 v116 v117)) fun v118 =>
    if v113 = v118 then (
    xw_rt (.inl (v3 + 6)))
    else (
    xw_rt (.inr 0))) else (
    if (v4 &&& 31) = 14 then (xw_bd (xl_ldP xs L (v3 + 1)) fun v119 =>
    xw_bd (xl_ldP xs L (v3 + 2)) fun v120 =>
    xw_bd (xl_1 (xw_cv 0 (some x) (fun v122 => pg_X0_hang v122 v119 v120))) fun v121 =>
    xw_bd (xl_ldP xs L (v3 + 1)) fun v123 =>
    xw_bd (xl_ldP xs L (v3 + 2)) fun v124 =>
    xw_bd (xl_2 (pg_X2_hang v123 v124)) fun v125 =>
    if v121 = v125 then (
    xw_rt (.inl (v3 + 6)))
    else (
    xw_rt (.inr 0))) else (
    if (v4 &&& 31) = 15 then (xw_bd (xl_ldP xs L (v3 + 1)) fun v126 =>
    xw_bd (xl_ldP xs L (v3 + 2)) fun v127 =>
    xw_bd (xl_ldP xs L (v3 + 3)) fun v128 =>
    xw_bd (xl_ldP xs L (v3 + 4)) fun v129 =>
    xw_bd (xl_1 (xw_cv 0 (some x) (fun v131 => pg_X0_bears v131 v126 v127 v128 v129))) fun v130 =>
    xw_bd (xl_ldP xs L (v3 + 1)) fun v132 =>
    xw_bd (xl_ldP xs L (v3 + 2)) fun v133 =>
    xw_bd (xl_ldP xs L (v3 + 3)) fun v134 =>
    xw_bd (xl_ldP xs L (v3 + 4)) fun v135 =>
    xw_bd (xl_2 (pg_X2_bears v132 v133 v134 v135)) fun v136 =>
    if v130 = v136 then (
    xw_rt (.inl (v3 + 6)))
    else (
    xw_rt (.inr 0))) else (
    if (v4 &&& 31) = 16 then (xw_bd (xl_ldP xs L (v3 + 1)) fun v137 =>
    xw_bd (xl_ldP xs L (v3 + 2)) fun v138 =>
    xw_bd (xl_ldP xs L (v3 + 3)) fun v139 =>
    xw_bd (xl_ldP xs L (v3 + 4)) fun v140 =>
    xw_bd (xl_ldP xs L (v3 + 5)) fun v141 =>
    xw_bd (xl_1 (xw_cv 0 (some x) (fun v143 => pg_X0_judge v143 v137 v138 v139 v140 v141))) fun v142 =>
    xw_bd (xl_ldP xs L (v3 + 1)) fun v144 =>
    xw_bd (xl_ldP xs L (v3 + 2)) fun v145 =>
    xw_bd (xl_ldP xs L (v3 + 3)) fun v146 =>
    xw_bd (xl_ldP xs L (v3 + 4)) fun v147 =>
    xw_bd (xl_ldP xs L (v3 + 5)) fun v148 =>
    xw_bd (xl_2 (pg_X2_judge v144 v145 v146 v147 v148)) fun v149 =>
    if v142 = v149 then (
    xw_rt (.inl (v3 + 6)))
    else (
    xw_rt (.inr 0))) else (
    if (v4 &&& 31) = 17 then (xw_bd (xl_ldP xs L (v3 + 1)) fun v150 =>
    xw_bd (xl_ldP xs L (v3 + 2)) fun v151 =>
    xw_bd (xl_ldP xs L (v3 + 3)) fun v152 =>
    xw_bd (xl_ldP xs L (v3 + 4)) fun v153 =>
    xw_bd (xl_1 (xw_cv 0 (some x) (fun v155 => pg_X0_apart v155 v150 v151 v152 v153))) fun v154 =>
    xw_bd (xl_ldP xs L (v3 + 1)) fun v156 =>
    xw_bd (xl_ldP xs L (v3 + 2)) fun v157 =>
    xw_bd (xl_ldP xs L (v3 + 3)) fun v158 =>
    xw_bd (xl_ldP xs L (v3 + 4)) fun v159 =>
    xw_bd (xl_2 (pg_X2_apart v156 v157 v158 v159)) fun v160 =>
    if v154 = v160 then (
    xw_rt (.inl (v3 + 6)))
    else (
    xw_rt (.inr 0))) else (
    if (v4 &&& 31) = 18 then (xw_bd (xl_ldP xs L (v3 + 1)) fun v161 =>
    xw_bd (xl_ldP xs L (v3 + 2)) fun v162 =>
    xw_bd (xl_1 (xw_cv 0 (some x) (fun v164 => pg_X0_part v164 v161 v162))) fun v163 =>
    xw_bd (xl_ldP xs L (v3 + 1)) fun v165 =>
    xw_bd (xl_ldP xs L (v3 + 2)) fun v166 =>
    xw_bd (xl_2 (pg_X2_part v165 v166)) fun v167 =>
    if v163 = v167 then (
    xw_rt (.inl (v3 + 6)))
    else (
    xw_rt (.inr 0))) else (
    if (v4 &&& 31) = 19 then (xw_bd (xl_ldP xs L (v3 + 1)) fun v168 =>
    xw_bd (xl_1 (xw_cv 0 (some x) (fun v170 => pg_X0_write v170 v168))) fun v169 =>
    xw_bd (xl_ldP xs L (v3 + 1)) fun v171 =>
    xw_bd (xl_2 (pg_X2_write v171)) fun v172 =>
    if v169 = v172 then (
    xw_rt (.inl (v3 + 6)))
    else (
    xw_rt (.inr 0))) else (
    if (v4 &&& 31) = 20 then (xw_bd (xl_ldP xs L (v3 + 1)) fun v173 =>
    xw_bd (xl_ldP xs L (v3 + 2)) fun v174 =>
    xw_bd (xl_ldP xs L (v3 + 3)) fun v175 =>
    xw_bd (xl_ldP xs L (v3 + 4)) fun v176 =>
    xw_bd (xl_1 (xw_cv 0 (some x) (fun v178 => pg_X0_does v178 v173 v174 v175 v176))) fun v177 =>
    xw_bd (xl_ldP xs L (v3 + 1)) fun v179 =>
    xw_bd (xl_ldP xs L (v3 + 2)) fun v180 =>
    xw_bd (xl_ldP xs L (v3 + 3)) fun v181 =>
    xw_bd (xl_ldP xs L (v3 + 4)) fun v182 =>
    xw_bd (xl_2 (pg_X2_does v179 v180 v181 v182)) fun v183 =>
    if v177 = v183 then (
    xw_rt (.inl (v3 + 6)))
    else (
    xw_rt (.inr 0))) else (
    if (v4 &&& 31) = 21 then (xw_bd (xl_ldP xs L (v3 + 1)) fun v184 =>
    xw_bd (xl_ldP xs L (v3 + 2)) fun v185 =>
    xw_bd (xl_ldP xs L (v3 + 3)) fun v186 =>
    xw_bd (xl_ldP xs L (v3 + 4)) fun v187 =>
    xw_bd (xl_ldP xs L (v3 + 5)) fun v188 =>
    xw_bd (xl_1 (xw_cv 0 (some x) (fun v190 => pg_X0_can v190 v184 v185 v186 v187 v188))) fun v189 =>
    xw_bd (xl_ldP xs L (v3 + 1)) fun v191 =>
    xw_bd (xl_ldP xs L (v3 + 2)) fun v192 =>
    xw_bd (xl_ldP xs L (v3 + 3)) fun v193 =>
    xw_bd (xl_ldP xs L (v3 + 4)) fun v194 =>
    xw_bd (xl_ldP xs L (v3 + 5)) fun v195 =>
    xw_bd (xl_2 (pg_X2_can v191 v192 v193 v194 v195)) fun v196 =>
    if v189 = v196 then (
    xw_rt (.inl (v3 + 6)))
    else (
    xw_rt (.inr 0))) else (
    if (v4 &&& 31) = 22 then (xw_bd (xl_ldP xs L (v3 + 1)) fun v197 =>
    xw_bd (xl_ldP xs L (v3 + 2)) fun v198 =>
    xw_bd (xl_ldP xs L (v3 + 3)) fun v199 =>
    xw_bd (xl_ldP xs L (v3 + 4)) fun v200 =>
    xw_bd (xl_ldP xs L (v3 + 5)) fun v201 =>
    xw_bd (xl_1 (xw_cv 0 (some x) (fun v203 => pg_X0_until v203 v197 v198 v199 v200 v201))) fun v202 =>
    xw_bd (xl_ldP xs L (v3 + 1)) fun v204 =>
    xw_bd (xl_ldP xs L (v3 + 2)) fun v205 =>
    xw_bd (xl_ldP xs L (v3 + 3)) fun v206 =>
    xw_bd (xl_ldP xs L (v3 + 4)) fun v207 =>
    xw_bd (xl_ldP xs L (v3 + 5)) fun v208 =>
    xw_bd (xl_2 (pg_X2_until v204 v205 v206 v207 v208)) fun v209 =>
    if v202 = v209 then (
    xw_rt (.inl (v3 + 6)))
    else (
    xw_rt (.inr 0))) else (
    if (v4 &&& 31) = 23 then (xw_bd (xl_ldP xs L (v3 + 1)) fun v210 =>
    xw_bd (xl_ldP xs L (v3 + 2)) fun v211 =>
    xw_bd (xl_ldP xs L (v3 + 3)) fun v212 =>
    xw_bd (xl_1 (xw_cv 0 (some x) (fun v214 => pg_X0_lost v214 v210 v211 v212))) fun v213 =>
    xw_bd (xl_ldP xs L (v3 + 1)) fun v215 =>
    xw_bd (xl_ldP xs L (v3 + 2)) fun v216 =>
    xw_bd (xl_ldP xs L (v3 + 3)) fun v217 =>
    xw_bd (xl_2 (pg_X2_lost v215 v216 v217)) fun v218 =>
    if v213 = v218 then (
    xw_rt (.inl (v3 + 6)))
    else (
    xw_rt (.inr 0))) else (
    if (v4 &&& 31) = 24 then (xw_bd (xl_ldP xs L (v3 + 1)) fun v219 =>
    xw_bd (xl_ldP xs L (v3 + 2)) fun v220 =>
    xw_bd (xl_ldP xs L (v3 + 3)) fun v221 =>
    xw_bd (xl_1 (xw_cv 0 (some x) (fun v223 => pg_X0_wired v223 v219 v220 v221))) fun v222 =>
    xw_bd (xl_ldP xs L (v3 + 1)) fun v224 =>
    xw_bd (xl_ldP xs L (v3 + 2)) fun v225 =>
    xw_bd (xl_ldP xs L (v3 + 3)) fun v226 =>
    xw_bd (xl_2 (pg_X2_wired v224 v225 v226)) fun v227 =>
    if v222 = v227 then (
    xw_rt (.inl (v3 + 6)))
    else (
    xw_rt (.inr 0))) else (
    if (v4 &&& 31) = 25 then (xw_bd (xl_1 (xw_cv 0 (some x) (fun v229 => pg_X0_image v229))) fun v228 =>
    xw_bd (xl_2 (pg_X2_image)) fun v230 =>
    if v228 = v230 then (
    xw_rt (.inl (v3 + 6)))
    else (
    xw_rt (.inr 0))) else (
    if (v4 &&& 31) = 26 then (xw_bd (xl_ldP xs L (v3 + 1)) fun v231 =>
    xw_bd (xl_1 (xw_cv 0 (some x) (fun v233 => pg_X0_back v233 v231))) fun v232 =>
    xw_bd (xl_ldP xs L (v3 + 1)) fun v234 =>
    xw_bd (xl_2 (pg_X2_back v234)) fun v235 =>
    if v232 = v235 then (
    xw_rt (.inl (v3 + 6)))
    else (
    xw_rt (.inr 0))) else (
    if (v4 &&& 31) = 27 then (xw_bd (xl_ldP xs L (v3 + 1)) fun v236 =>
    xw_bd (xl_1 (xw_cv 0 (some x) (fun v238 => pg_X0_count v238 v236))) fun v237 =>
    xw_bd (xl_ldP xs L (v3 + 1)) fun v239 =>
    xw_bd (xl_2 (pg_X2_count v239)) fun v240 =>
    if v237 = v240 then (
    xw_rt (.inl (v3 + 6)))
    else (
    xw_rt (.inr 0))) else (
    xw_rt (.inl (v3 + 6)))))))))))))))))))))))))))))))) xw_FU 0

set_option maxRecDepth 100000
set_option maxHeartbeats 4000000 in
theorem xl_walk0 {E : xw_E} {μ : xw_Mu} {Q : Nat × Nat → xw_St → Nat → Nat → State → Prop} (hE : xw_ok E "CrossingWordsLaw" cL_law 4 (some .boolean) 97) (b : Nat) (hcut : ∀ x m, xw_X E 4 (xw_hc (xe_G E) μ) Q 16 [(0, va_rf (some b)), (1, va_rf (some x)), (2, va_rf (some m))] [] (xw_rt (x, m)) xw_rt) : xw_X E 4 (xw_hc (xe_G E) μ) Q 0 [(0, va_rf (some b))] [] pg_law0 xw_rt := by
  unfold pg_law0
  refine x_new (c := 0) 3 hE (by decide) q120 q121 q95 dL_law_0 rfl (fun v1 => ?_)
  refine x_dup 4 hE dL_law_3 rfl rfl ?_
  refine x_callv 7 (xw_goI hE (b := v1) (ct_X0_init v1) xd_X0_init q122 q123 q95 q124 rfl rfl ⟨Nat.le_of_ble_eq_true rfl, Nat.le_of_ble_eq_true rfl⟩ rfl (Nat.le_trans (xw_sm1 rfl xw_sm0) (by decide)) dL_law_4) rfl ?_
  refine x_astore_n 8 [(1, va_rf (some v1)), (0, va_rf (some b))] hE dL_law_7 rfl rfl (Nat.le_of_ble_eq_true rfl) rfl ?_
  refine x_new (c := 2) 11 hE (by decide) q1334 q1335 q97 dL_law_8 rfl (fun v2 => ?_)
  refine x_dup 12 hE dL_law_11 rfl rfl ?_
  refine x_callv 15 (xw_goI hE (b := v2) (ct_X2_init v2) xd_X2_init q1336 q1337 q97 q1338 rfl rfl ⟨Nat.le_of_ble_eq_true rfl, Nat.le_of_ble_eq_true rfl⟩ rfl (Nat.le_trans (xw_sm1 rfl xw_sm0) (by decide)) dL_law_12) rfl ?_
  refine x_astore_n 16 [(2, va_rf (some v2)), (1, va_rf (some v1)), (0, va_rf (some b))] hE dL_law_15 rfl rfl (Nat.le_of_ble_eq_true rfl) rfl ?_
  refine x_sub [(0, va_rf (some b)), (1, va_rf (some v1)), (2, va_rf (some v2))] [2, 1, 0] rfl ?_
  exact hcut v1 v2
set_option maxHeartbeats 4000000 in
theorem xl_walk2 {E : xw_E} {Q : Int32 → xl_S → Nat → Nat → State → Prop} (hE : xw_ok E "CrossingWordsLaw" cL_law 4 (some .boolean) 97) (hac : xw_ac (xe_G E) = true) {b x L : Nat} {xs : Nat → Int32} (hX : va_X b L xs (xe_s E) (xw_hb (xe_G E))) (hbl : b < (xw_hb (xe_G E)).size) (hret : ∀ (pc : Nat) (lv : List (Nat × Value)) (v : Int32), decode cL_law pc = .ok (.ireturn, 1) → xw_X E 4 (xl_w (xe_G E)) Q pc lv [.int v] (xw_rt v) xw_rt) : xw_X E 4 (xl_w (xe_G E)) Q 16 [(0, va_rf (some b)), (1, va_rf (some x)), (2, va_rf (some (xw_hm (xe_G E))))] [] (pg_law2 x xs L) xw_rt := by
  unfold pg_law2
  refine x_iconst 17 hE dL_law_16 rfl xc_i_0 ?_
  refine x_istore_n 18 [(3, .int 0), (0, va_rf (some b)), (1, va_rf (some x)), (2, va_rf (some (xw_hm (xe_G E))))] hE dL_law_17 rfl rfl (Nat.le_of_ble_eq_true rfl) rfl ?_
  refine x_sub [(0, va_rf (some b)), (1, va_rf (some x)), (2, va_rf (some (xw_hm (xe_G E)))), (3, .int 0)] [1, 2, 3, 0] rfl ?_
  refine x_loop (fun (v3 : Int32) => [(0, va_rf (some b)), (1, va_rf (some x)), (2, va_rf (some (xw_hm (xe_G E)))), (3, .int v3)]) (fun JL1 hc1 hx1 v3 => ?_) _ _
  refine x_iload_n 19 hE dL_law_18 rfl 3 rfl ?_
  refine x_aload_n 20 hE dL_law_19 rfl 0 rfl ?_
  refine xl_len 21 hE hX hbl dL_law_20 rfl ?_
  refine x_bipush 23 hE dL_law_21 rfl xc_b_6 ?_
  refine x_isub 24 hE dL_law_23 rfl ?_
  refine x_icmp_gt 1290 27 hE dL_law_24 (by decide) rfl ?_ ?_
  · refine x_iconst 1291 hE dL_law_1290 rfl xc_i_1 ?_
    refine hx1 _ _ _ _ ?_
    exact hret _ _ _ dL_law_1291
  · refine x_aload_n 28 hE dL_law_27 rfl 0 rfl ?_
    refine x_iload_n 29 hE dL_law_28 rfl 3 rfl ?_
    refine xl_ld 30 hE hX hbl dL_law_29 rfl (fun v4 => ?_)
    refine x_bipush 32 hE dL_law_30 rfl xc_b_31 ?_
    refine x_iand 33 hE dL_law_32 rfl ?_
    refine x_sw (fun hs2 => ?_) (fun hs2 => ?_)
    · refine x_swIn 160 hE dL_law_33 hs2 ⟨by decide, by decide, rfl⟩ (by decide) ?_
      refine x_aload_n 161 hE dL_law_160 rfl 1 rfl ?_
      refine x_aload_n 162 hE dL_law_161 rfl 0 rfl ?_
      refine x_iload_n 163 hE dL_law_162 rfl 3 rfl ?_
      refine x_iconst 164 hE dL_law_163 rfl xc_i_1 ?_
      refine x_iadd 165 hE dL_law_164 rfl ?_
      refine xl_ld 166 hE hX hbl dL_law_165 rfl (fun v5 => ?_)
      refine x_aload_n 167 hE dL_law_166 rfl 0 rfl ?_
      refine x_iload_n 168 hE dL_law_167 rfl 3 rfl ?_
      refine x_iconst 169 hE dL_law_168 rfl xc_i_2 ?_
      refine x_iadd 170 hE dL_law_169 rfl ?_
      refine xl_ld 171 hE hX hbl dL_law_170 rfl (fun v6 => ?_)
      refine x_aload_n 172 hE dL_law_171 rfl 0 rfl ?_
      refine x_iload_n 173 hE dL_law_172 rfl 3 rfl ?_
      refine x_iconst 174 hE dL_law_173 rfl xc_i_3 ?_
      refine x_iadd 175 hE dL_law_174 rfl ?_
      refine xl_ld 176 hE hX hbl dL_law_175 rfl (fun v7 => ?_)
      refine x_aload_n 177 hE dL_law_176 rfl 0 rfl ?_
      refine x_iload_n 178 hE dL_law_177 rfl 3 rfl ?_
      refine x_iconst 179 hE dL_law_178 rfl xc_i_4 ?_
      refine x_iadd 180 hE dL_law_179 rfl ?_
      refine xl_ld 181 hE hX hbl dL_law_180 rfl (fun v8 => ?_)
      refine x_aload_n 182 hE dL_law_181 rfl 0 rfl ?_
      refine x_iload_n 183 hE dL_law_182 rfl 3 rfl ?_
      refine x_iconst 184 hE dL_law_183 rfl xc_i_5 ?_
      refine x_iadd 185 hE dL_law_184 rfl ?_
      refine xl_ld 186 hE hX hbl dL_law_185 rfl (fun v9 => ?_)
      refine x_calli 189 (xl_go1 (fun _ => xw_goV hE (c := 0) (by decide) (fun v11 hq => xw_rV hE (ct_X0_feed v11 v5 v6 v7 v8 v9) xd_X0_feed rfl q236 q237 q238 q95 q239 rfl ⟨Nat.le_of_ble_eq_true rfl, Nat.le_of_ble_eq_true rfl⟩ (congrArg va_rf hq) rfl (by decide) dL_law_186))) rfl (fun v10 => ?_)
      refine x_aload_n 190 hE dL_law_189 rfl 2 rfl ?_
      refine x_aload_n 191 hE dL_law_190 rfl 0 rfl ?_
      refine x_iload_n 192 hE dL_law_191 rfl 3 rfl ?_
      refine x_iconst 193 hE dL_law_192 rfl xc_i_1 ?_
      refine x_iadd 194 hE dL_law_193 rfl ?_
      refine xl_ld 195 hE hX hbl dL_law_194 rfl (fun v12 => ?_)
      refine x_aload_n 196 hE dL_law_195 rfl 0 rfl ?_
      refine x_iload_n 197 hE dL_law_196 rfl 3 rfl ?_
      refine x_iconst 198 hE dL_law_197 rfl xc_i_2 ?_
      refine x_iadd 199 hE dL_law_198 rfl ?_
      refine xl_ld 200 hE hX hbl dL_law_199 rfl (fun v13 => ?_)
      refine x_aload_n 201 hE dL_law_200 rfl 0 rfl ?_
      refine x_iload_n 202 hE dL_law_201 rfl 3 rfl ?_
      refine x_iconst 203 hE dL_law_202 rfl xc_i_3 ?_
      refine x_iadd 204 hE dL_law_203 rfl ?_
      refine xl_ld 205 hE hX hbl dL_law_204 rfl (fun v14 => ?_)
      refine x_aload_n 206 hE dL_law_205 rfl 0 rfl ?_
      refine x_iload_n 207 hE dL_law_206 rfl 3 rfl ?_
      refine x_iconst 208 hE dL_law_207 rfl xc_i_4 ?_
      refine x_iadd 209 hE dL_law_208 rfl ?_
      refine xl_ld 210 hE hX hbl dL_law_209 rfl (fun v15 => ?_)
      refine x_aload_n 211 hE dL_law_210 rfl 0 rfl ?_
      refine x_iload_n 212 hE dL_law_211 rfl 3 rfl ?_
      refine x_iconst 213 hE dL_law_212 rfl xc_i_5 ?_
      refine x_iadd 214 hE dL_law_213 rfl ?_
      refine xl_ld 215 hE hX hbl dL_law_214 rfl (fun v16 => ?_)
      refine x_calli 218 (xl_go2 (fun _ => xw_goM hE hac (xw_rV hE (ct_X2_feed hac v12 v13 v14 v15 v16) xd_X2_feed rfl q1530 q1531 q1532 q97 q1533 rfl ⟨Nat.le_of_ble_eq_true rfl, Nat.le_of_ble_eq_true rfl⟩ rfl rfl (Nat.le_trans (xw_sm1 rfl xw_sm0) (by decide)) dL_law_215))) rfl (fun v17 => ?_)
      refine x_icmp_eq 1284 221 hE dL_law_218 (by decide) rfl ?_ ?_
      · refine x_iinc 1287 [(3, .int (v3 + 6)), (0, va_rf (some b)), (1, va_rf (some x)), (2, va_rf (some (xw_hm (xe_G E))))] hE dL_law_1284 rfl 3 rfl xc_i_6 (Nat.le_of_ble_eq_true rfl) rfl ?_
        refine x_goto 18 hE dL_law_1287 (by decide) ?_
        refine x_sub [(0, va_rf (some b)), (1, va_rf (some x)), (2, va_rf (some (xw_hm (xe_G E)))), (3, .int (v3 + 6))] [1, 2, 3, 0] rfl ?_
        exact hc1 (v3 + 6)
      · refine x_iconst 222 hE dL_law_221 rfl xc_i_0 ?_
        refine hx1 _ _ _ _ ?_
        exact hret _ _ _ dL_law_222
    · refine x_sw (fun hs3 => ?_) (fun hs3 => ?_)
      · refine x_swIn 223 hE dL_law_33 hs3 ⟨by decide, by decide, rfl⟩ (by decide) ?_
        refine x_aload_n 224 hE dL_law_223 rfl 1 rfl ?_
        refine x_aload_n 225 hE dL_law_224 rfl 0 rfl ?_
        refine x_iload_n 226 hE dL_law_225 rfl 3 rfl ?_
        refine x_iconst 227 hE dL_law_226 rfl xc_i_1 ?_
        refine x_iadd 228 hE dL_law_227 rfl ?_
        refine xl_ld 229 hE hX hbl dL_law_228 rfl (fun v18 => ?_)
        refine x_calli 232 (xl_go1 (fun _ => xw_goV hE (c := 0) (by decide) (fun v20 hq => xw_rV hE (ct_X0_tell v20 v18) xd_X0_tell rfl q240 q241 q242 q95 q243 rfl ⟨Nat.le_of_ble_eq_true rfl, Nat.le_of_ble_eq_true rfl⟩ (congrArg va_rf hq) rfl (by decide) dL_law_229))) rfl (fun v19 => ?_)
        refine x_aload_n 233 hE dL_law_232 rfl 2 rfl ?_
        refine x_aload_n 234 hE dL_law_233 rfl 0 rfl ?_
        refine x_iload_n 235 hE dL_law_234 rfl 3 rfl ?_
        refine x_iconst 236 hE dL_law_235 rfl xc_i_1 ?_
        refine x_iadd 237 hE dL_law_236 rfl ?_
        refine xl_ld 238 hE hX hbl dL_law_237 rfl (fun v21 => ?_)
        refine x_calli 241 (xl_go2 (fun _ => xw_goM hE hac (xw_rV hE (ct_X2_tell hac v21) xd_X2_tell rfl q1534 q1535 q1536 q97 q1537 rfl ⟨Nat.le_of_ble_eq_true rfl, Nat.le_of_ble_eq_true rfl⟩ rfl rfl (Nat.le_trans (xw_sm1 rfl xw_sm0) (by decide)) dL_law_238))) rfl (fun v22 => ?_)
        refine x_icmp_eq 1284 244 hE dL_law_241 (by decide) rfl ?_ ?_
        · refine x_iinc 1287 [(3, .int (v3 + 6)), (0, va_rf (some b)), (1, va_rf (some x)), (2, va_rf (some (xw_hm (xe_G E))))] hE dL_law_1284 rfl 3 rfl xc_i_6 (Nat.le_of_ble_eq_true rfl) rfl ?_
          refine x_goto 18 hE dL_law_1287 (by decide) ?_
          refine x_sub [(0, va_rf (some b)), (1, va_rf (some x)), (2, va_rf (some (xw_hm (xe_G E)))), (3, .int (v3 + 6))] [1, 2, 3, 0] rfl ?_
          exact hc1 (v3 + 6)
        · refine x_iconst 245 hE dL_law_244 rfl xc_i_0 ?_
          refine hx1 _ _ _ _ ?_
          exact hret _ _ _ dL_law_245
      · refine x_sw (fun hs4 => ?_) (fun hs4 => ?_)
        · refine x_swIn 246 hE dL_law_33 hs4 ⟨by decide, by decide, rfl⟩ (by decide) ?_
          refine x_aload_n 247 hE dL_law_246 rfl 1 rfl ?_
          refine x_aload_n 248 hE dL_law_247 rfl 0 rfl ?_
          refine x_iload_n 249 hE dL_law_248 rfl 3 rfl ?_
          refine x_iconst 250 hE dL_law_249 rfl xc_i_1 ?_
          refine x_iadd 251 hE dL_law_250 rfl ?_
          refine xl_ld 252 hE hX hbl dL_law_251 rfl (fun v23 => ?_)
          refine x_aload_n 253 hE dL_law_252 rfl 0 rfl ?_
          refine x_iload_n 254 hE dL_law_253 rfl 3 rfl ?_
          refine x_iconst 255 hE dL_law_254 rfl xc_i_2 ?_
          refine x_iadd 256 hE dL_law_255 rfl ?_
          refine xl_ld 257 hE hX hbl dL_law_256 rfl (fun v24 => ?_)
          refine x_calli 260 (xl_go1 (fun _ => xw_goV hE (c := 0) (by decide) (fun v26 hq => xw_rV hE (ct_X0_more v26 v23 v24) xd_X0_more rfl q799 q800 q801 q95 q802 rfl ⟨Nat.le_of_ble_eq_true rfl, Nat.le_of_ble_eq_true rfl⟩ (congrArg va_rf hq) rfl (by decide) dL_law_257))) rfl (fun v25 => ?_)
          refine x_aload_n 261 hE dL_law_260 rfl 2 rfl ?_
          refine x_aload_n 262 hE dL_law_261 rfl 0 rfl ?_
          refine x_iload_n 263 hE dL_law_262 rfl 3 rfl ?_
          refine x_iconst 264 hE dL_law_263 rfl xc_i_1 ?_
          refine x_iadd 265 hE dL_law_264 rfl ?_
          refine xl_ld 266 hE hX hbl dL_law_265 rfl (fun v27 => ?_)
          refine x_aload_n 267 hE dL_law_266 rfl 0 rfl ?_
          refine x_iload_n 268 hE dL_law_267 rfl 3 rfl ?_
          refine x_iconst 269 hE dL_law_268 rfl xc_i_2 ?_
          refine x_iadd 270 hE dL_law_269 rfl ?_
          refine xl_ld 271 hE hX hbl dL_law_270 rfl (fun v28 => ?_)
          refine x_calli 274 (xl_go2 (fun _ => xw_goM hE hac (xw_rV hE (ct_X2_more hac v27 v28) xd_X2_more rfl q1644 q1645 q1646 q97 q1647 rfl ⟨Nat.le_of_ble_eq_true rfl, Nat.le_of_ble_eq_true rfl⟩ rfl rfl (Nat.le_trans (xw_sm1 rfl xw_sm0) (by decide)) dL_law_271))) rfl (fun v29 => ?_)
          refine x_icmp_eq 1284 277 hE dL_law_274 (by decide) rfl ?_ ?_
          · refine x_iinc 1287 [(3, .int (v3 + 6)), (0, va_rf (some b)), (1, va_rf (some x)), (2, va_rf (some (xw_hm (xe_G E))))] hE dL_law_1284 rfl 3 rfl xc_i_6 (Nat.le_of_ble_eq_true rfl) rfl ?_
            refine x_goto 18 hE dL_law_1287 (by decide) ?_
            refine x_sub [(0, va_rf (some b)), (1, va_rf (some x)), (2, va_rf (some (xw_hm (xe_G E)))), (3, .int (v3 + 6))] [1, 2, 3, 0] rfl ?_
            exact hc1 (v3 + 6)
          · refine x_iconst 278 hE dL_law_277 rfl xc_i_0 ?_
            refine hx1 _ _ _ _ ?_
            exact hret _ _ _ dL_law_278
        · refine x_sw (fun hs5 => ?_) (fun hs5 => ?_)
          · refine x_swIn 279 hE dL_law_33 hs5 ⟨by decide, by decide, rfl⟩ (by decide) ?_
            refine x_aload_n 280 hE dL_law_279 rfl 1 rfl ?_
            refine x_aload_n 281 hE dL_law_280 rfl 0 rfl ?_
            refine x_iload_n 282 hE dL_law_281 rfl 3 rfl ?_
            refine x_iconst 283 hE dL_law_282 rfl xc_i_1 ?_
            refine x_iadd 284 hE dL_law_283 rfl ?_
            refine xl_ld 285 hE hX hbl dL_law_284 rfl (fun v30 => ?_)
            refine x_calli 288 (xl_go1 (fun _ => xw_goV hE (c := 0) (by decide) (fun v32 hq => xw_rV hE (ct_X0_law v32 v30) xd_X0_law rfl q807 q808 q809 q95 q810 rfl ⟨Nat.le_of_ble_eq_true rfl, Nat.le_of_ble_eq_true rfl⟩ (congrArg va_rf hq) rfl (by decide) dL_law_285))) rfl (fun v31 => ?_)
            refine x_aload_n 289 hE dL_law_288 rfl 2 rfl ?_
            refine x_aload_n 290 hE dL_law_289 rfl 0 rfl ?_
            refine x_iload_n 291 hE dL_law_290 rfl 3 rfl ?_
            refine x_iconst 292 hE dL_law_291 rfl xc_i_1 ?_
            refine x_iadd 293 hE dL_law_292 rfl ?_
            refine xl_ld 294 hE hX hbl dL_law_293 rfl (fun v33 => ?_)
            refine x_calli 297 (xl_go2 (fun _ => xw_goM hE hac (xw_rV hE (ct_X2_law hac v33) xd_X2_law rfl q1652 q1653 q1654 q97 q1655 rfl ⟨Nat.le_of_ble_eq_true rfl, Nat.le_of_ble_eq_true rfl⟩ rfl rfl (Nat.le_trans (xw_sm1 rfl xw_sm0) (by decide)) dL_law_294))) rfl (fun v34 => ?_)
            refine x_icmp_eq 1284 300 hE dL_law_297 (by decide) rfl ?_ ?_
            · refine x_iinc 1287 [(3, .int (v3 + 6)), (0, va_rf (some b)), (1, va_rf (some x)), (2, va_rf (some (xw_hm (xe_G E))))] hE dL_law_1284 rfl 3 rfl xc_i_6 (Nat.le_of_ble_eq_true rfl) rfl ?_
              refine x_goto 18 hE dL_law_1287 (by decide) ?_
              refine x_sub [(0, va_rf (some b)), (1, va_rf (some x)), (2, va_rf (some (xw_hm (xe_G E)))), (3, .int (v3 + 6))] [1, 2, 3, 0] rfl ?_
              exact hc1 (v3 + 6)
            · refine x_iconst 301 hE dL_law_300 rfl xc_i_0 ?_
              refine hx1 _ _ _ _ ?_
              exact hret _ _ _ dL_law_301
          · refine x_sw (fun hs6 => ?_) (fun hs6 => ?_)
            · refine x_swIn 302 hE dL_law_33 hs6 ⟨by decide, by decide, rfl⟩ (by decide) ?_
              refine x_aload_n 303 hE dL_law_302 rfl 1 rfl ?_
              refine x_aload_n 304 hE dL_law_303 rfl 0 rfl ?_
              refine x_iload_n 305 hE dL_law_304 rfl 3 rfl ?_
              refine x_iconst 306 hE dL_law_305 rfl xc_i_1 ?_
              refine x_iadd 307 hE dL_law_306 rfl ?_
              refine xl_ld 308 hE hX hbl dL_law_307 rfl (fun v35 => ?_)
              refine x_calli 311 (xl_go1 (fun _ => xw_goV hE (c := 0) (by decide) (fun v37 hq => xw_rV hE (ct_X0_clause v37 v35) xd_X0_clause rfl q854 q855 q856 q95 q857 rfl ⟨Nat.le_of_ble_eq_true rfl, Nat.le_of_ble_eq_true rfl⟩ (congrArg va_rf hq) rfl (by decide) dL_law_308))) rfl (fun v36 => ?_)
              refine x_aload_n 312 hE dL_law_311 rfl 2 rfl ?_
              refine x_aload_n 313 hE dL_law_312 rfl 0 rfl ?_
              refine x_iload_n 314 hE dL_law_313 rfl 3 rfl ?_
              refine x_iconst 315 hE dL_law_314 rfl xc_i_1 ?_
              refine x_iadd 316 hE dL_law_315 rfl ?_
              refine xl_ld 317 hE hX hbl dL_law_316 rfl (fun v38 => ?_)
              refine x_calli 320 (xl_go2 (fun _ => xw_goM hE hac (xw_rV hE (ct_X2_clause hac v38) xd_X2_clause rfl q1687 q1688 q1689 q97 q1690 rfl ⟨Nat.le_of_ble_eq_true rfl, Nat.le_of_ble_eq_true rfl⟩ rfl rfl (Nat.le_trans (xw_sm1 rfl xw_sm0) (by decide)) dL_law_317))) rfl (fun v39 => ?_)
              refine x_icmp_eq 1284 323 hE dL_law_320 (by decide) rfl ?_ ?_
              · refine x_iinc 1287 [(3, .int (v3 + 6)), (0, va_rf (some b)), (1, va_rf (some x)), (2, va_rf (some (xw_hm (xe_G E))))] hE dL_law_1284 rfl 3 rfl xc_i_6 (Nat.le_of_ble_eq_true rfl) rfl ?_
                refine x_goto 18 hE dL_law_1287 (by decide) ?_
                refine x_sub [(0, va_rf (some b)), (1, va_rf (some x)), (2, va_rf (some (xw_hm (xe_G E)))), (3, .int (v3 + 6))] [1, 2, 3, 0] rfl ?_
                exact hc1 (v3 + 6)
              · refine x_iconst 324 hE dL_law_323 rfl xc_i_0 ?_
                refine hx1 _ _ _ _ ?_
                exact hret _ _ _ dL_law_324
            · refine x_sw (fun hs7 => ?_) (fun hs7 => ?_)
              · refine x_swIn 325 hE dL_law_33 hs7 ⟨by decide, by decide, rfl⟩ (by decide) ?_
                refine x_aload_n 326 hE dL_law_325 rfl 1 rfl ?_
                refine x_calli 329 (xl_go1 (fun _ => xw_goV hE (c := 0) (by decide) (fun v41 hq => xw_rV hE (ct_X0_fault v41) xd_X0_fault rfl q858 q859 q860 q95 q861 rfl ⟨Nat.le_of_ble_eq_true rfl, Nat.le_of_ble_eq_true rfl⟩ (congrArg va_rf hq) rfl (by decide) dL_law_326))) rfl (fun v40 => ?_)
                refine x_aload_n 330 hE dL_law_329 rfl 2 rfl ?_
                refine x_calli 333 (xl_go2 (fun _ => xw_goM hE hac (xw_rV hE (ct_X2_fault hac ) xd_X2_fault rfl q1691 q1692 q1693 q97 q1694 rfl ⟨Nat.le_of_ble_eq_true rfl, Nat.le_of_ble_eq_true rfl⟩ rfl rfl (Nat.le_trans (xw_sm1 rfl xw_sm0) (by decide)) dL_law_330))) rfl (fun v42 => ?_)
                refine x_icmp_eq 1284 336 hE dL_law_333 (by decide) rfl ?_ ?_
                · refine x_iinc 1287 [(3, .int (v3 + 6)), (0, va_rf (some b)), (1, va_rf (some x)), (2, va_rf (some (xw_hm (xe_G E))))] hE dL_law_1284 rfl 3 rfl xc_i_6 (Nat.le_of_ble_eq_true rfl) rfl ?_
                  refine x_goto 18 hE dL_law_1287 (by decide) ?_
                  refine x_sub [(0, va_rf (some b)), (1, va_rf (some x)), (2, va_rf (some (xw_hm (xe_G E)))), (3, .int (v3 + 6))] [1, 2, 3, 0] rfl ?_
                  exact hc1 (v3 + 6)
                · refine x_iconst 337 hE dL_law_336 rfl xc_i_0 ?_
                  refine hx1 _ _ _ _ ?_
                  exact hret _ _ _ dL_law_337
              · refine x_sw (fun hs8 => ?_) (fun hs8 => ?_)
                · refine x_swIn 338 hE dL_law_33 hs8 ⟨by decide, by decide, rfl⟩ (by decide) ?_
                  refine x_aload_n 339 hE dL_law_338 rfl 1 rfl ?_
                  refine x_aload_n 340 hE dL_law_339 rfl 0 rfl ?_
                  refine x_iload_n 341 hE dL_law_340 rfl 3 rfl ?_
                  refine x_iconst 342 hE dL_law_341 rfl xc_i_1 ?_
                  refine x_iadd 343 hE dL_law_342 rfl ?_
                  refine xl_ld 344 hE hX hbl dL_law_343 rfl (fun v43 => ?_)
                  refine x_aload_n 345 hE dL_law_344 rfl 0 rfl ?_
                  refine x_iload_n 346 hE dL_law_345 rfl 3 rfl ?_
                  refine x_iconst 347 hE dL_law_346 rfl xc_i_2 ?_
                  refine x_iadd 348 hE dL_law_347 rfl ?_
                  refine xl_ld 349 hE hX hbl dL_law_348 rfl (fun v44 => ?_)
                  refine x_aload_n 350 hE dL_law_349 rfl 0 rfl ?_
                  refine x_iload_n 351 hE dL_law_350 rfl 3 rfl ?_
                  refine x_iconst 352 hE dL_law_351 rfl xc_i_3 ?_
                  refine x_iadd 353 hE dL_law_352 rfl ?_
                  refine xl_ld 354 hE hX hbl dL_law_353 rfl (fun v45 => ?_)
                  refine x_calli 357 (xl_go1 (fun _ => xw_goV hE (c := 0) (by decide) (fun v47 hq => xw_rV hE (ct_X0_saying v47 v43 v44 v45) xd_X0_saying rfl q862 q863 q864 q95 q865 rfl ⟨Nat.le_of_ble_eq_true rfl, Nat.le_of_ble_eq_true rfl⟩ (congrArg va_rf hq) rfl (by decide) dL_law_354))) rfl (fun v46 => ?_)
                  refine x_aload_n 358 hE dL_law_357 rfl 2 rfl ?_
                  refine x_aload_n 359 hE dL_law_358 rfl 0 rfl ?_
                  refine x_iload_n 360 hE dL_law_359 rfl 3 rfl ?_
                  refine x_iconst 361 hE dL_law_360 rfl xc_i_1 ?_
                  refine x_iadd 362 hE dL_law_361 rfl ?_
                  refine xl_ld 363 hE hX hbl dL_law_362 rfl (fun v48 => ?_)
                  refine x_aload_n 364 hE dL_law_363 rfl 0 rfl ?_
                  refine x_iload_n 365 hE dL_law_364 rfl 3 rfl ?_
                  refine x_iconst 366 hE dL_law_365 rfl xc_i_2 ?_
                  refine x_iadd 367 hE dL_law_366 rfl ?_
                  refine xl_ld 368 hE hX hbl dL_law_367 rfl (fun v49 => ?_)
                  refine x_aload_n 369 hE dL_law_368 rfl 0 rfl ?_
                  refine x_iload_n 370 hE dL_law_369 rfl 3 rfl ?_
                  refine x_iconst 371 hE dL_law_370 rfl xc_i_3 ?_
                  refine x_iadd 372 hE dL_law_371 rfl ?_
                  refine xl_ld 373 hE hX hbl dL_law_372 rfl (fun v50 => ?_)
                  refine x_calli 376 (xl_go2 (fun _ => xw_goM hE hac (xw_rV hE (ct_X2_saying hac v48 v49 v50) xd_X2_saying rfl q1707 q1708 q1709 q97 q1710 rfl ⟨Nat.le_of_ble_eq_true rfl, Nat.le_of_ble_eq_true rfl⟩ rfl rfl (Nat.le_trans (xw_sm1 rfl xw_sm0) (by decide)) dL_law_373))) rfl (fun v51 => ?_)
                  refine x_icmp_eq 1284 379 hE dL_law_376 (by decide) rfl ?_ ?_
                  · refine x_iinc 1287 [(3, .int (v3 + 6)), (0, va_rf (some b)), (1, va_rf (some x)), (2, va_rf (some (xw_hm (xe_G E))))] hE dL_law_1284 rfl 3 rfl xc_i_6 (Nat.le_of_ble_eq_true rfl) rfl ?_
                    refine x_goto 18 hE dL_law_1287 (by decide) ?_
                    refine x_sub [(0, va_rf (some b)), (1, va_rf (some x)), (2, va_rf (some (xw_hm (xe_G E)))), (3, .int (v3 + 6))] [1, 2, 3, 0] rfl ?_
                    exact hc1 (v3 + 6)
                  · refine x_iconst 380 hE dL_law_379 rfl xc_i_0 ?_
                    refine hx1 _ _ _ _ ?_
                    exact hret _ _ _ dL_law_380
                · refine x_sw (fun hs9 => ?_) (fun hs9 => ?_)
                  · refine x_swIn 381 hE dL_law_33 hs9 ⟨by decide, by decide, rfl⟩ (by decide) ?_
                    refine x_aload_n 382 hE dL_law_381 rfl 1 rfl ?_
                    refine x_aload_n 383 hE dL_law_382 rfl 0 rfl ?_
                    refine x_iload_n 384 hE dL_law_383 rfl 3 rfl ?_
                    refine x_iconst 385 hE dL_law_384 rfl xc_i_1 ?_
                    refine x_iadd 386 hE dL_law_385 rfl ?_
                    refine xl_ld 387 hE hX hbl dL_law_386 rfl (fun v52 => ?_)
                    refine x_aload_n 388 hE dL_law_387 rfl 0 rfl ?_
                    refine x_iload_n 389 hE dL_law_388 rfl 3 rfl ?_
                    refine x_iconst 390 hE dL_law_389 rfl xc_i_2 ?_
                    refine x_iadd 391 hE dL_law_390 rfl ?_
                    refine xl_ld 392 hE hX hbl dL_law_391 rfl (fun v53 => ?_)
                    refine x_calli 395 (xl_go1 (fun _ => xw_goV hE (c := 0) (by decide) (fun v55 hq => xw_rV hE (ct_X0_asked v55 v52 v53) xd_X0_asked rfl q924 q925 q926 q95 q927 rfl ⟨Nat.le_of_ble_eq_true rfl, Nat.le_of_ble_eq_true rfl⟩ (congrArg va_rf hq) rfl (by decide) dL_law_392))) rfl (fun v54 => ?_)
                    refine x_aload_n 396 hE dL_law_395 rfl 2 rfl ?_
                    refine x_aload_n 397 hE dL_law_396 rfl 0 rfl ?_
                    refine x_iload_n 398 hE dL_law_397 rfl 3 rfl ?_
                    refine x_iconst 399 hE dL_law_398 rfl xc_i_1 ?_
                    refine x_iadd 400 hE dL_law_399 rfl ?_
                    refine xl_ld 401 hE hX hbl dL_law_400 rfl (fun v56 => ?_)
                    refine x_aload_n 402 hE dL_law_401 rfl 0 rfl ?_
                    refine x_iload_n 403 hE dL_law_402 rfl 3 rfl ?_
                    refine x_iconst 404 hE dL_law_403 rfl xc_i_2 ?_
                    refine x_iadd 405 hE dL_law_404 rfl ?_
                    refine xl_ld 406 hE hX hbl dL_law_405 rfl (fun v57 => ?_)
                    refine x_calli 409 (xl_go2 (fun _ => xw_goM hE hac (xw_rV hE (ct_X2_asked hac v56 v57) xd_X2_asked rfl q1711 q1712 q1713 q97 q1714 rfl ⟨Nat.le_of_ble_eq_true rfl, Nat.le_of_ble_eq_true rfl⟩ rfl rfl (Nat.le_trans (xw_sm1 rfl xw_sm0) (by decide)) dL_law_406))) rfl (fun v58 => ?_)
                    refine x_icmp_eq 1284 412 hE dL_law_409 (by decide) rfl ?_ ?_
                    · refine x_iinc 1287 [(3, .int (v3 + 6)), (0, va_rf (some b)), (1, va_rf (some x)), (2, va_rf (some (xw_hm (xe_G E))))] hE dL_law_1284 rfl 3 rfl xc_i_6 (Nat.le_of_ble_eq_true rfl) rfl ?_
                      refine x_goto 18 hE dL_law_1287 (by decide) ?_
                      refine x_sub [(0, va_rf (some b)), (1, va_rf (some x)), (2, va_rf (some (xw_hm (xe_G E)))), (3, .int (v3 + 6))] [1, 2, 3, 0] rfl ?_
                      exact hc1 (v3 + 6)
                    · refine x_iconst 413 hE dL_law_412 rfl xc_i_0 ?_
                      refine hx1 _ _ _ _ ?_
                      exact hret _ _ _ dL_law_413
                  · refine x_sw (fun hs10 => ?_) (fun hs10 => ?_)
                    · refine x_swIn 414 hE dL_law_33 hs10 ⟨by decide, by decide, rfl⟩ (by decide) ?_
                      refine x_aload_n 415 hE dL_law_414 rfl 1 rfl ?_
                      refine x_aload_n 416 hE dL_law_415 rfl 0 rfl ?_
                      refine x_iload_n 417 hE dL_law_416 rfl 3 rfl ?_
                      refine x_iconst 418 hE dL_law_417 rfl xc_i_1 ?_
                      refine x_iadd 419 hE dL_law_418 rfl ?_
                      refine xl_ld 420 hE hX hbl dL_law_419 rfl (fun v59 => ?_)
                      refine x_aload_n 421 hE dL_law_420 rfl 0 rfl ?_
                      refine x_iload_n 422 hE dL_law_421 rfl 3 rfl ?_
                      refine x_iconst 423 hE dL_law_422 rfl xc_i_2 ?_
                      refine x_iadd 424 hE dL_law_423 rfl ?_
                      refine xl_ld 425 hE hX hbl dL_law_424 rfl (fun v60 => ?_)
                      refine x_aload_n 426 hE dL_law_425 rfl 0 rfl ?_
                      refine x_iload_n 427 hE dL_law_426 rfl 3 rfl ?_
                      refine x_iconst 428 hE dL_law_427 rfl xc_i_3 ?_
                      refine x_iadd 429 hE dL_law_428 rfl ?_
                      refine xl_ld 430 hE hX hbl dL_law_429 rfl (fun v61 => ?_)
                      refine x_aload_n 431 hE dL_law_430 rfl 0 rfl ?_
                      refine x_iload_n 432 hE dL_law_431 rfl 3 rfl ?_
                      refine x_iconst 433 hE dL_law_432 rfl xc_i_4 ?_
                      refine x_iadd 434 hE dL_law_433 rfl ?_
                      refine xl_ld 435 hE hX hbl dL_law_434 rfl (fun v62 => ?_)
                      refine x_calli 438 (xl_go1 (fun _ => xw_goV hE (c := 0) (by decide) (fun v64 hq => xw_rV hE (ct_X0_hour v64 v59 v60 v61 v62) xd_X0_hour rfl q937 q938 q939 q95 q940 rfl ⟨Nat.le_of_ble_eq_true rfl, Nat.le_of_ble_eq_true rfl⟩ (congrArg va_rf hq) rfl (by decide) dL_law_435))) rfl (fun v63 => ?_)
                      refine x_aload_n 439 hE dL_law_438 rfl 2 rfl ?_
                      refine x_aload_n 440 hE dL_law_439 rfl 0 rfl ?_
                      refine x_iload_n 441 hE dL_law_440 rfl 3 rfl ?_
                      refine x_iconst 442 hE dL_law_441 rfl xc_i_1 ?_
                      refine x_iadd 443 hE dL_law_442 rfl ?_
                      refine xl_ld 444 hE hX hbl dL_law_443 rfl (fun v65 => ?_)
                      refine x_aload_n 445 hE dL_law_444 rfl 0 rfl ?_
                      refine x_iload_n 446 hE dL_law_445 rfl 3 rfl ?_
                      refine x_iconst 447 hE dL_law_446 rfl xc_i_2 ?_
                      refine x_iadd 448 hE dL_law_447 rfl ?_
                      refine xl_ld 449 hE hX hbl dL_law_448 rfl (fun v66 => ?_)
                      refine x_aload_n 450 hE dL_law_449 rfl 0 rfl ?_
                      refine x_iload_n 451 hE dL_law_450 rfl 3 rfl ?_
                      refine x_iconst 452 hE dL_law_451 rfl xc_i_3 ?_
                      refine x_iadd 453 hE dL_law_452 rfl ?_
                      refine xl_ld 454 hE hX hbl dL_law_453 rfl (fun v67 => ?_)
                      refine x_aload_n 455 hE dL_law_454 rfl 0 rfl ?_
                      refine x_iload_n 456 hE dL_law_455 rfl 3 rfl ?_
                      refine x_iconst 457 hE dL_law_456 rfl xc_i_4 ?_
                      refine x_iadd 458 hE dL_law_457 rfl ?_
                      refine xl_ld 459 hE hX hbl dL_law_458 rfl (fun v68 => ?_)
                      refine x_calli 462 (xl_go2 (fun _ => xw_goM hE hac (xw_rV hE (ct_X2_hour hac v65 v66 v67 v68) xd_X2_hour rfl q1731 q1732 q1733 q97 q1734 rfl ⟨Nat.le_of_ble_eq_true rfl, Nat.le_of_ble_eq_true rfl⟩ rfl rfl (Nat.le_trans (xw_sm1 rfl xw_sm0) (by decide)) dL_law_459))) rfl (fun v69 => ?_)
                      refine x_icmp_eq 1284 465 hE dL_law_462 (by decide) rfl ?_ ?_
                      · refine x_iinc 1287 [(3, .int (v3 + 6)), (0, va_rf (some b)), (1, va_rf (some x)), (2, va_rf (some (xw_hm (xe_G E))))] hE dL_law_1284 rfl 3 rfl xc_i_6 (Nat.le_of_ble_eq_true rfl) rfl ?_
                        refine x_goto 18 hE dL_law_1287 (by decide) ?_
                        refine x_sub [(0, va_rf (some b)), (1, va_rf (some x)), (2, va_rf (some (xw_hm (xe_G E)))), (3, .int (v3 + 6))] [1, 2, 3, 0] rfl ?_
                        exact hc1 (v3 + 6)
                      · refine x_iconst 466 hE dL_law_465 rfl xc_i_0 ?_
                        refine hx1 _ _ _ _ ?_
                        exact hret _ _ _ dL_law_466
                    · refine x_sw (fun hs11 => ?_) (fun hs11 => ?_)
                      · refine x_swIn 467 hE dL_law_33 hs11 ⟨by decide, by decide, rfl⟩ (by decide) ?_
                        refine x_aload_n 468 hE dL_law_467 rfl 1 rfl ?_
                        refine x_aload_n 469 hE dL_law_468 rfl 0 rfl ?_
                        refine x_iload_n 470 hE dL_law_469 rfl 3 rfl ?_
                        refine x_iconst 471 hE dL_law_470 rfl xc_i_1 ?_
                        refine x_iadd 472 hE dL_law_471 rfl ?_
                        refine xl_ld 473 hE hX hbl dL_law_472 rfl (fun v70 => ?_)
                        refine x_aload_n 474 hE dL_law_473 rfl 0 rfl ?_
                        refine x_iload_n 475 hE dL_law_474 rfl 3 rfl ?_
                        refine x_iconst 476 hE dL_law_475 rfl xc_i_2 ?_
                        refine x_iadd 477 hE dL_law_476 rfl ?_
                        refine xl_ld 478 hE hX hbl dL_law_477 rfl (fun v71 => ?_)
                        refine x_calli 481 (xl_go1 (fun _ => xw_goV hE (c := 0) (by decide) (fun v73 hq => xw_rV hE (ct_X0_rule v73 v70 v71) xd_X0_rule rfl q957 q958 q959 q95 q960 rfl ⟨Nat.le_of_ble_eq_true rfl, Nat.le_of_ble_eq_true rfl⟩ (congrArg va_rf hq) rfl (by decide) dL_law_478))) rfl (fun v72 => ?_)
                        refine x_aload_n 482 hE dL_law_481 rfl 2 rfl ?_
                        refine x_aload_n 483 hE dL_law_482 rfl 0 rfl ?_
                        refine x_iload_n 484 hE dL_law_483 rfl 3 rfl ?_
                        refine x_iconst 485 hE dL_law_484 rfl xc_i_1 ?_
                        refine x_iadd 486 hE dL_law_485 rfl ?_
                        refine xl_ld 487 hE hX hbl dL_law_486 rfl (fun v74 => ?_)
                        refine x_aload_n 488 hE dL_law_487 rfl 0 rfl ?_
                        refine x_iload_n 489 hE dL_law_488 rfl 3 rfl ?_
                        refine x_iconst 490 hE dL_law_489 rfl xc_i_2 ?_
                        refine x_iadd 491 hE dL_law_490 rfl ?_
                        refine xl_ld 492 hE hX hbl dL_law_491 rfl (fun v75 => ?_)
                        refine x_calli 495 (xl_go2 (fun _ => xw_goM hE hac (xw_rV hE (ct_X2_rule hac v74 v75) xd_X2_rule rfl q1695 q1696 q1697 q97 q1698 rfl ⟨Nat.le_of_ble_eq_true rfl, Nat.le_of_ble_eq_true rfl⟩ rfl rfl (Nat.le_trans (xw_sm1 rfl xw_sm0) (by decide)) dL_law_492))) rfl (fun v76 => ?_)
                        refine x_icmp_eq 1284 498 hE dL_law_495 (by decide) rfl ?_ ?_
                        · refine x_iinc 1287 [(3, .int (v3 + 6)), (0, va_rf (some b)), (1, va_rf (some x)), (2, va_rf (some (xw_hm (xe_G E))))] hE dL_law_1284 rfl 3 rfl xc_i_6 (Nat.le_of_ble_eq_true rfl) rfl ?_
                          refine x_goto 18 hE dL_law_1287 (by decide) ?_
                          refine x_sub [(0, va_rf (some b)), (1, va_rf (some x)), (2, va_rf (some (xw_hm (xe_G E)))), (3, .int (v3 + 6))] [1, 2, 3, 0] rfl ?_
                          exact hc1 (v3 + 6)
                        · refine x_iconst 499 hE dL_law_498 rfl xc_i_0 ?_
                          refine hx1 _ _ _ _ ?_
                          exact hret _ _ _ dL_law_499
                      · refine x_sw (fun hs12 => ?_) (fun hs12 => ?_)
                        · refine x_swIn 500 hE dL_law_33 hs12 ⟨by decide, by decide, rfl⟩ (by decide) ?_
                          refine x_aload_n 501 hE dL_law_500 rfl 1 rfl ?_
                          refine x_aload_n 502 hE dL_law_501 rfl 0 rfl ?_
                          refine x_iload_n 503 hE dL_law_502 rfl 3 rfl ?_
                          refine x_iconst 504 hE dL_law_503 rfl xc_i_1 ?_
                          refine x_iadd 505 hE dL_law_504 rfl ?_
                          refine xl_ld 506 hE hX hbl dL_law_505 rfl (fun v77 => ?_)
                          refine x_aload_n 507 hE dL_law_506 rfl 0 rfl ?_
                          refine x_iload_n 508 hE dL_law_507 rfl 3 rfl ?_
                          refine x_iconst 509 hE dL_law_508 rfl xc_i_2 ?_
                          refine x_iadd 510 hE dL_law_509 rfl ?_
                          refine xl_ld 511 hE hX hbl dL_law_510 rfl (fun v78 => ?_)
                          refine x_aload_n 512 hE dL_law_511 rfl 0 rfl ?_
                          refine x_iload_n 513 hE dL_law_512 rfl 3 rfl ?_
                          refine x_iconst 514 hE dL_law_513 rfl xc_i_3 ?_
                          refine x_iadd 515 hE dL_law_514 rfl ?_
                          refine xl_ld 516 hE hX hbl dL_law_515 rfl (fun v79 => ?_)
                          refine x_aload_n 517 hE dL_law_516 rfl 0 rfl ?_
                          refine x_iload_n 518 hE dL_law_517 rfl 3 rfl ?_
                          refine x_iconst 519 hE dL_law_518 rfl xc_i_4 ?_
                          refine x_iadd 520 hE dL_law_519 rfl ?_
                          refine xl_ld 521 hE hX hbl dL_law_520 rfl (fun v80 => ?_)
                          refine x_calli 524 (xl_go1 (fun _ => xw_goV hE (c := 0) (by decide) (fun v82 hq => xw_rV hE (ct_X0_run v82 v77 v78 v79 v80) xd_X0_run rfl q991 q992 q993 q95 q994 rfl ⟨Nat.le_of_ble_eq_true rfl, Nat.le_of_ble_eq_true rfl⟩ (congrArg va_rf hq) rfl (by decide) dL_law_521))) rfl (fun v81 => ?_)
                          refine x_aload_n 525 hE dL_law_524 rfl 2 rfl ?_
                          refine x_aload_n 526 hE dL_law_525 rfl 0 rfl ?_
                          refine x_iload_n 527 hE dL_law_526 rfl 3 rfl ?_
                          refine x_iconst 528 hE dL_law_527 rfl xc_i_1 ?_
                          refine x_iadd 529 hE dL_law_528 rfl ?_
                          refine xl_ld 530 hE hX hbl dL_law_529 rfl (fun v83 => ?_)
                          refine x_aload_n 531 hE dL_law_530 rfl 0 rfl ?_
                          refine x_iload_n 532 hE dL_law_531 rfl 3 rfl ?_
                          refine x_iconst 533 hE dL_law_532 rfl xc_i_2 ?_
                          refine x_iadd 534 hE dL_law_533 rfl ?_
                          refine xl_ld 535 hE hX hbl dL_law_534 rfl (fun v84 => ?_)
                          refine x_aload_n 536 hE dL_law_535 rfl 0 rfl ?_
                          refine x_iload_n 537 hE dL_law_536 rfl 3 rfl ?_
                          refine x_iconst 538 hE dL_law_537 rfl xc_i_3 ?_
                          refine x_iadd 539 hE dL_law_538 rfl ?_
                          refine xl_ld 540 hE hX hbl dL_law_539 rfl (fun v85 => ?_)
                          refine x_aload_n 541 hE dL_law_540 rfl 0 rfl ?_
                          refine x_iload_n 542 hE dL_law_541 rfl 3 rfl ?_
                          refine x_iconst 543 hE dL_law_542 rfl xc_i_4 ?_
                          refine x_iadd 544 hE dL_law_543 rfl ?_
                          refine xl_ld 545 hE hX hbl dL_law_544 rfl (fun v86 => ?_)
                          refine x_calli 548 (xl_go2 (fun _ => xw_goM hE hac (xw_rV hE (ct_X2_run hac v83 v84 v85 v86) xd_X2_run rfl q1743 q1744 q1745 q97 q1746 rfl ⟨Nat.le_of_ble_eq_true rfl, Nat.le_of_ble_eq_true rfl⟩ rfl rfl (Nat.le_trans (xw_sm1 rfl xw_sm0) (by decide)) dL_law_545))) rfl (fun v87 => ?_)
                          refine x_icmp_eq 1284 551 hE dL_law_548 (by decide) rfl ?_ ?_
                          · refine x_iinc 1287 [(3, .int (v3 + 6)), (0, va_rf (some b)), (1, va_rf (some x)), (2, va_rf (some (xw_hm (xe_G E))))] hE dL_law_1284 rfl 3 rfl xc_i_6 (Nat.le_of_ble_eq_true rfl) rfl ?_
                            refine x_goto 18 hE dL_law_1287 (by decide) ?_
                            refine x_sub [(0, va_rf (some b)), (1, va_rf (some x)), (2, va_rf (some (xw_hm (xe_G E)))), (3, .int (v3 + 6))] [1, 2, 3, 0] rfl ?_
                            exact hc1 (v3 + 6)
                          · refine x_iconst 552 hE dL_law_551 rfl xc_i_0 ?_
                            refine hx1 _ _ _ _ ?_
                            exact hret _ _ _ dL_law_552
                        · refine x_sw (fun hs13 => ?_) (fun hs13 => ?_)
                          · refine x_swIn 553 hE dL_law_33 hs13 ⟨by decide, by decide, rfl⟩ (by decide) ?_
                            refine x_aload_n 554 hE dL_law_553 rfl 1 rfl ?_
                            refine x_aload_n 555 hE dL_law_554 rfl 0 rfl ?_
                            refine x_iload_n 556 hE dL_law_555 rfl 3 rfl ?_
                            refine x_iconst 557 hE dL_law_556 rfl xc_i_1 ?_
                            refine x_iadd 558 hE dL_law_557 rfl ?_
                            refine xl_ld 559 hE hX hbl dL_law_558 rfl (fun v88 => ?_)
                            refine x_aload_n 560 hE dL_law_559 rfl 0 rfl ?_
                            refine x_iload_n 561 hE dL_law_560 rfl 3 rfl ?_
                            refine x_iconst 562 hE dL_law_561 rfl xc_i_2 ?_
                            refine x_iadd 563 hE dL_law_562 rfl ?_
                            refine xl_ld 564 hE hX hbl dL_law_563 rfl (fun v89 => ?_)
                            refine x_aload_n 565 hE dL_law_564 rfl 0 rfl ?_
                            refine x_iload_n 566 hE dL_law_565 rfl 3 rfl ?_
                            refine x_iconst 567 hE dL_law_566 rfl xc_i_3 ?_
                            refine x_iadd 568 hE dL_law_567 rfl ?_
                            refine xl_ld 569 hE hX hbl dL_law_568 rfl (fun v90 => ?_)
                            refine x_aload_n 570 hE dL_law_569 rfl 0 rfl ?_
                            refine x_iload_n 571 hE dL_law_570 rfl 3 rfl ?_
                            refine x_iconst 572 hE dL_law_571 rfl xc_i_4 ?_
                            refine x_iadd 573 hE dL_law_572 rfl ?_
                            refine xl_ld 574 hE hX hbl dL_law_573 rfl (fun v91 => ?_)
                            refine x_aload_n 575 hE dL_law_574 rfl 0 rfl ?_
                            refine x_iload_n 576 hE dL_law_575 rfl 3 rfl ?_
                            refine x_iconst 577 hE dL_law_576 rfl xc_i_5 ?_
                            refine x_iadd 578 hE dL_law_577 rfl ?_
                            refine xl_ld 579 hE hX hbl dL_law_578 rfl (fun v92 => ?_)
                            refine x_calli 582 (xl_go1 (fun _ => xw_goV hE (c := 0) (by decide) (fun v94 hq => xw_rV hE (ct_X0_open v94 v88 v89 v90 v91 v92) xd_X0_open rfl q1164 q1165 q1166 q95 q1167 rfl ⟨Nat.le_of_ble_eq_true rfl, Nat.le_of_ble_eq_true rfl⟩ (congrArg va_rf hq) rfl (by decide) dL_law_579))) rfl (fun v93 => ?_)
                            refine x_aload_n 583 hE dL_law_582 rfl 2 rfl ?_
                            refine x_aload_n 584 hE dL_law_583 rfl 0 rfl ?_
                            refine x_iload_n 585 hE dL_law_584 rfl 3 rfl ?_
                            refine x_iconst 586 hE dL_law_585 rfl xc_i_1 ?_
                            refine x_iadd 587 hE dL_law_586 rfl ?_
                            refine xl_ld 588 hE hX hbl dL_law_587 rfl (fun v95 => ?_)
                            refine x_aload_n 589 hE dL_law_588 rfl 0 rfl ?_
                            refine x_iload_n 590 hE dL_law_589 rfl 3 rfl ?_
                            refine x_iconst 591 hE dL_law_590 rfl xc_i_2 ?_
                            refine x_iadd 592 hE dL_law_591 rfl ?_
                            refine xl_ld 593 hE hX hbl dL_law_592 rfl (fun v96 => ?_)
                            refine x_aload_n 594 hE dL_law_593 rfl 0 rfl ?_
                            refine x_iload_n 595 hE dL_law_594 rfl 3 rfl ?_
                            refine x_iconst 596 hE dL_law_595 rfl xc_i_3 ?_
                            refine x_iadd 597 hE dL_law_596 rfl ?_
                            refine xl_ld 598 hE hX hbl dL_law_597 rfl (fun v97 => ?_)
                            refine x_aload_n 599 hE dL_law_598 rfl 0 rfl ?_
                            refine x_iload_n 600 hE dL_law_599 rfl 3 rfl ?_
                            refine x_iconst 601 hE dL_law_600 rfl xc_i_4 ?_
                            refine x_iadd 602 hE dL_law_601 rfl ?_
                            refine xl_ld 603 hE hX hbl dL_law_602 rfl (fun v98 => ?_)
                            refine x_aload_n 604 hE dL_law_603 rfl 0 rfl ?_
                            refine x_iload_n 605 hE dL_law_604 rfl 3 rfl ?_
                            refine x_iconst 606 hE dL_law_605 rfl xc_i_5 ?_
                            refine x_iadd 607 hE dL_law_606 rfl ?_
                            refine xl_ld 608 hE hX hbl dL_law_607 rfl (fun v99 => ?_)
                            refine x_calli 611 (xl_go2 (fun _ => xw_goM hE hac (xw_rV hE (ct_X2_open hac v95 v96 v97 v98 v99) xd_X2_open rfl q1827 q1828 q1829 q97 q1830 rfl ⟨Nat.le_of_ble_eq_true rfl, Nat.le_of_ble_eq_true rfl⟩ rfl rfl (Nat.le_trans (xw_sm1 rfl xw_sm0) (by decide)) dL_law_608))) rfl (fun v100 => ?_)
                            refine x_icmp_eq 1284 614 hE dL_law_611 (by decide) rfl ?_ ?_
                            · refine x_iinc 1287 [(3, .int (v3 + 6)), (0, va_rf (some b)), (1, va_rf (some x)), (2, va_rf (some (xw_hm (xe_G E))))] hE dL_law_1284 rfl 3 rfl xc_i_6 (Nat.le_of_ble_eq_true rfl) rfl ?_
                              refine x_goto 18 hE dL_law_1287 (by decide) ?_
                              refine x_sub [(0, va_rf (some b)), (1, va_rf (some x)), (2, va_rf (some (xw_hm (xe_G E)))), (3, .int (v3 + 6))] [1, 2, 3, 0] rfl ?_
                              exact hc1 (v3 + 6)
                            · refine x_iconst 615 hE dL_law_614 rfl xc_i_0 ?_
                              refine hx1 _ _ _ _ ?_
                              exact hret _ _ _ dL_law_615
                          · refine x_sw (fun hs14 => ?_) (fun hs14 => ?_)
                            · refine x_swIn 616 hE dL_law_33 hs14 ⟨by decide, by decide, rfl⟩ (by decide) ?_
                              refine x_aload_n 617 hE dL_law_616 rfl 1 rfl ?_
                              refine x_aload_n 618 hE dL_law_617 rfl 0 rfl ?_
                              refine x_iload_n 619 hE dL_law_618 rfl 3 rfl ?_
                              refine x_iconst 620 hE dL_law_619 rfl xc_i_1 ?_
                              refine x_iadd 621 hE dL_law_620 rfl ?_
                              refine xl_ld 622 hE hX hbl dL_law_621 rfl (fun v101 => ?_)
                              refine x_aload_n 623 hE dL_law_622 rfl 0 rfl ?_
                              refine x_iload_n 624 hE dL_law_623 rfl 3 rfl ?_
                              refine x_iconst 625 hE dL_law_624 rfl xc_i_2 ?_
                              refine x_iadd 626 hE dL_law_625 rfl ?_
                              refine xl_ld 627 hE hX hbl dL_law_626 rfl (fun v102 => ?_)
                              refine x_aload_n 628 hE dL_law_627 rfl 0 rfl ?_
                              refine x_iload_n 629 hE dL_law_628 rfl 3 rfl ?_
                              refine x_iconst 630 hE dL_law_629 rfl xc_i_3 ?_
                              refine x_iadd 631 hE dL_law_630 rfl ?_
                              refine xl_ld 632 hE hX hbl dL_law_631 rfl (fun v103 => ?_)
                              refine x_calli 635 (xl_go1 (fun _ => xw_goV hE (c := 0) (by decide) (fun v105 hq => xw_rV hE (ct_X0_binds v105 v101 v102 v103) xd_X0_binds rfl q1169 q1170 q1171 q95 q1172 rfl ⟨Nat.le_of_ble_eq_true rfl, Nat.le_of_ble_eq_true rfl⟩ (congrArg va_rf hq) rfl (by decide) dL_law_632))) rfl (fun v104 => ?_)
                              refine x_aload_n 636 hE dL_law_635 rfl 2 rfl ?_
                              refine x_aload_n 637 hE dL_law_636 rfl 0 rfl ?_
                              refine x_iload_n 638 hE dL_law_637 rfl 3 rfl ?_
                              refine x_iconst 639 hE dL_law_638 rfl xc_i_1 ?_
                              refine x_iadd 640 hE dL_law_639 rfl ?_
                              refine xl_ld 641 hE hX hbl dL_law_640 rfl (fun v106 => ?_)
                              refine x_aload_n 642 hE dL_law_641 rfl 0 rfl ?_
                              refine x_iload_n 643 hE dL_law_642 rfl 3 rfl ?_
                              refine x_iconst 644 hE dL_law_643 rfl xc_i_2 ?_
                              refine x_iadd 645 hE dL_law_644 rfl ?_
                              refine xl_ld 646 hE hX hbl dL_law_645 rfl (fun v107 => ?_)
                              refine x_aload_n 647 hE dL_law_646 rfl 0 rfl ?_
                              refine x_iload_n 648 hE dL_law_647 rfl 3 rfl ?_
                              refine x_iconst 649 hE dL_law_648 rfl xc_i_3 ?_
                              refine x_iadd 650 hE dL_law_649 rfl ?_
                              refine xl_ld 651 hE hX hbl dL_law_650 rfl (fun v108 => ?_)
                              refine x_calli 654 (xl_go2 (fun _ => xw_goM hE hac (xw_rV hE (ct_X2_binds hac v106 v107 v108) xd_X2_binds rfl q1831 q1832 q1833 q97 q1834 rfl ⟨Nat.le_of_ble_eq_true rfl, Nat.le_of_ble_eq_true rfl⟩ rfl rfl (Nat.le_trans (xw_sm1 rfl xw_sm0) (by decide)) dL_law_651))) rfl (fun v109 => ?_)
                              refine x_icmp_eq 1284 657 hE dL_law_654 (by decide) rfl ?_ ?_
                              · refine x_iinc 1287 [(3, .int (v3 + 6)), (0, va_rf (some b)), (1, va_rf (some x)), (2, va_rf (some (xw_hm (xe_G E))))] hE dL_law_1284 rfl 3 rfl xc_i_6 (Nat.le_of_ble_eq_true rfl) rfl ?_
                                refine x_goto 18 hE dL_law_1287 (by decide) ?_
                                refine x_sub [(0, va_rf (some b)), (1, va_rf (some x)), (2, va_rf (some (xw_hm (xe_G E)))), (3, .int (v3 + 6))] [1, 2, 3, 0] rfl ?_
                                exact hc1 (v3 + 6)
                              · refine x_iconst 658 hE dL_law_657 rfl xc_i_0 ?_
                                refine hx1 _ _ _ _ ?_
                                exact hret _ _ _ dL_law_658
                            · refine x_sw (fun hs15 => ?_) (fun hs15 => ?_)
                              · refine x_swIn 659 hE dL_law_33 hs15 ⟨by decide, by decide, rfl⟩ (by decide) ?_
                                refine x_aload_n 660 hE dL_law_659 rfl 1 rfl ?_
                                refine x_aload_n 661 hE dL_law_660 rfl 0 rfl ?_
                                refine x_iload_n 662 hE dL_law_661 rfl 3 rfl ?_
                                refine x_iconst 663 hE dL_law_662 rfl xc_i_1 ?_
                                refine x_iadd 664 hE dL_law_663 rfl ?_
                                refine xl_ld 665 hE hX hbl dL_law_664 rfl (fun v110 => ?_)
                                refine x_aload_n 666 hE dL_law_665 rfl 0 rfl ?_
                                refine x_iload_n 667 hE dL_law_666 rfl 3 rfl ?_
                                refine x_iconst 668 hE dL_law_667 rfl xc_i_2 ?_
                                refine x_iadd 669 hE dL_law_668 rfl ?_
                                refine xl_ld 670 hE hX hbl dL_law_669 rfl (fun v111 => ?_)
                                refine x_aload_n 671 hE dL_law_670 rfl 0 rfl ?_
                                refine x_iload_n 672 hE dL_law_671 rfl 3 rfl ?_
                                refine x_iconst 673 hE dL_law_672 rfl xc_i_3 ?_
                                refine x_iadd 674 hE dL_law_673 rfl ?_
                                refine xl_ld 675 hE hX hbl dL_law_674 rfl (fun v112 => ?_)
                                refine x_calli 678 (xl_go1 (fun _ => xw_goV hE (c := 0) (by decide) (fun v114 hq => xw_rV hE (ct_X0_sure v114 v110 v111 v112) xd_X0_sure rfl q1173 q1174 q1175 q95 q1176 rfl ⟨Nat.le_of_ble_eq_true rfl, Nat.le_of_ble_eq_true rfl⟩ (congrArg va_rf hq) rfl (by decide) dL_law_675))) rfl (fun v113 => ?_)
                                refine x_aload_n 679 hE dL_law_678 rfl 2 rfl ?_
                                refine x_aload_n 680 hE dL_law_679 rfl 0 rfl ?_
                                refine x_iload_n 681 hE dL_law_680 rfl 3 rfl ?_
                                refine x_iconst 682 hE dL_law_681 rfl xc_i_1 ?_
                                refine x_iadd 683 hE dL_law_682 rfl ?_
                                refine xl_ld 684 hE hX hbl dL_law_683 rfl (fun v115 => ?_)
                                refine x_aload_n 685 hE dL_law_684 rfl 0 rfl ?_
                                refine x_iload_n 686 hE dL_law_685 rfl 3 rfl ?_
                                refine x_iconst 687 hE dL_law_686 rfl xc_i_2 ?_
                                refine x_iadd 688 hE dL_law_687 rfl ?_
                                refine xl_ld 689 hE hX hbl dL_law_688 rfl (fun v116 => ?_)
                                refine x_aload_n 690 hE dL_law_689 rfl 0 rfl ?_
                                refine x_iload_n 691 hE dL_law_690 rfl 3 rfl ?_
                                refine x_iconst 692 hE dL_law_691 rfl xc_i_3 ?_
                                refine x_iadd 693 hE dL_law_692 rfl ?_
                                refine xl_ld 694 hE hX hbl dL_law_693 rfl (fun v117 => ?_)
                                refine x_calli 697 (xl_go2 (fun _ => xw_goM hE hac (xw_rV hE (ct_X2_sure hac v115 v116 v117) xd_X2_sure rfl q1835 q1836 q1837 q97 q1838 rfl ⟨Nat.le_of_ble_eq_true rfl, Nat.le_of_ble_eq_true rfl⟩ rfl rfl (Nat.le_trans (xw_sm1 rfl xw_sm0) (by decide)) dL_law_694))) rfl (fun v118 => ?_)
                                refine x_icmp_eq 1284 700 hE dL_law_697 (by decide) rfl ?_ ?_
                                · refine x_iinc 1287 [(3, .int (v3 + 6)), (0, va_rf (some b)), (1, va_rf (some x)), (2, va_rf (some (xw_hm (xe_G E))))] hE dL_law_1284 rfl 3 rfl xc_i_6 (Nat.le_of_ble_eq_true rfl) rfl ?_
                                  refine x_goto 18 hE dL_law_1287 (by decide) ?_
                                  refine x_sub [(0, va_rf (some b)), (1, va_rf (some x)), (2, va_rf (some (xw_hm (xe_G E)))), (3, .int (v3 + 6))] [1, 2, 3, 0] rfl ?_
                                  exact hc1 (v3 + 6)
                                · refine x_iconst 701 hE dL_law_700 rfl xc_i_0 ?_
                                  refine hx1 _ _ _ _ ?_
                                  exact hret _ _ _ dL_law_701
                              · refine x_sw (fun hs16 => ?_) (fun hs16 => ?_)
                                · refine x_swIn 702 hE dL_law_33 hs16 ⟨by decide, by decide, rfl⟩ (by decide) ?_
                                  refine x_aload_n 703 hE dL_law_702 rfl 1 rfl ?_
                                  refine x_aload_n 704 hE dL_law_703 rfl 0 rfl ?_
                                  refine x_iload_n 705 hE dL_law_704 rfl 3 rfl ?_
                                  refine x_iconst 706 hE dL_law_705 rfl xc_i_1 ?_
                                  refine x_iadd 707 hE dL_law_706 rfl ?_
                                  refine xl_ld 708 hE hX hbl dL_law_707 rfl (fun v119 => ?_)
                                  refine x_aload_n 709 hE dL_law_708 rfl 0 rfl ?_
                                  refine x_iload_n 710 hE dL_law_709 rfl 3 rfl ?_
                                  refine x_iconst 711 hE dL_law_710 rfl xc_i_2 ?_
                                  refine x_iadd 712 hE dL_law_711 rfl ?_
                                  refine xl_ld 713 hE hX hbl dL_law_712 rfl (fun v120 => ?_)
                                  refine x_calli 716 (xl_go1 (fun _ => xw_goV hE (c := 0) (by decide) (fun v122 hq => xw_rV hE (ct_X0_hang v122 v119 v120) xd_X0_hang rfl q1277 q1278 q1279 q95 q1280 rfl ⟨Nat.le_of_ble_eq_true rfl, Nat.le_of_ble_eq_true rfl⟩ (congrArg va_rf hq) rfl (by decide) dL_law_713))) rfl (fun v121 => ?_)
                                  refine x_aload_n 717 hE dL_law_716 rfl 2 rfl ?_
                                  refine x_aload_n 718 hE dL_law_717 rfl 0 rfl ?_
                                  refine x_iload_n 719 hE dL_law_718 rfl 3 rfl ?_
                                  refine x_iconst 720 hE dL_law_719 rfl xc_i_1 ?_
                                  refine x_iadd 721 hE dL_law_720 rfl ?_
                                  refine xl_ld 722 hE hX hbl dL_law_721 rfl (fun v123 => ?_)
                                  refine x_aload_n 723 hE dL_law_722 rfl 0 rfl ?_
                                  refine x_iload_n 724 hE dL_law_723 rfl 3 rfl ?_
                                  refine x_iconst 725 hE dL_law_724 rfl xc_i_2 ?_
                                  refine x_iadd 726 hE dL_law_725 rfl ?_
                                  refine xl_ld 727 hE hX hbl dL_law_726 rfl (fun v124 => ?_)
                                  refine x_calli 730 (xl_go2 (fun _ => xw_goM hE hac (xw_rV hE (ct_X2_hang hac v123 v124) xd_X2_hang rfl q1839 q1840 q1841 q97 q1842 rfl ⟨Nat.le_of_ble_eq_true rfl, Nat.le_of_ble_eq_true rfl⟩ rfl rfl (Nat.le_trans (xw_sm1 rfl xw_sm0) (by decide)) dL_law_727))) rfl (fun v125 => ?_)
                                  refine x_icmp_eq 1284 733 hE dL_law_730 (by decide) rfl ?_ ?_
                                  · refine x_iinc 1287 [(3, .int (v3 + 6)), (0, va_rf (some b)), (1, va_rf (some x)), (2, va_rf (some (xw_hm (xe_G E))))] hE dL_law_1284 rfl 3 rfl xc_i_6 (Nat.le_of_ble_eq_true rfl) rfl ?_
                                    refine x_goto 18 hE dL_law_1287 (by decide) ?_
                                    refine x_sub [(0, va_rf (some b)), (1, va_rf (some x)), (2, va_rf (some (xw_hm (xe_G E)))), (3, .int (v3 + 6))] [1, 2, 3, 0] rfl ?_
                                    exact hc1 (v3 + 6)
                                  · refine x_iconst 734 hE dL_law_733 rfl xc_i_0 ?_
                                    refine hx1 _ _ _ _ ?_
                                    exact hret _ _ _ dL_law_734
                                · refine x_sw (fun hs17 => ?_) (fun hs17 => ?_)
                                  · refine x_swIn 735 hE dL_law_33 hs17 ⟨by decide, by decide, rfl⟩ (by decide) ?_
                                    refine x_aload_n 736 hE dL_law_735 rfl 1 rfl ?_
                                    refine x_aload_n 737 hE dL_law_736 rfl 0 rfl ?_
                                    refine x_iload_n 738 hE dL_law_737 rfl 3 rfl ?_
                                    refine x_iconst 739 hE dL_law_738 rfl xc_i_1 ?_
                                    refine x_iadd 740 hE dL_law_739 rfl ?_
                                    refine xl_ld 741 hE hX hbl dL_law_740 rfl (fun v126 => ?_)
                                    refine x_aload_n 742 hE dL_law_741 rfl 0 rfl ?_
                                    refine x_iload_n 743 hE dL_law_742 rfl 3 rfl ?_
                                    refine x_iconst 744 hE dL_law_743 rfl xc_i_2 ?_
                                    refine x_iadd 745 hE dL_law_744 rfl ?_
                                    refine xl_ld 746 hE hX hbl dL_law_745 rfl (fun v127 => ?_)
                                    refine x_aload_n 747 hE dL_law_746 rfl 0 rfl ?_
                                    refine x_iload_n 748 hE dL_law_747 rfl 3 rfl ?_
                                    refine x_iconst 749 hE dL_law_748 rfl xc_i_3 ?_
                                    refine x_iadd 750 hE dL_law_749 rfl ?_
                                    refine xl_ld 751 hE hX hbl dL_law_750 rfl (fun v128 => ?_)
                                    refine x_aload_n 752 hE dL_law_751 rfl 0 rfl ?_
                                    refine x_iload_n 753 hE dL_law_752 rfl 3 rfl ?_
                                    refine x_iconst 754 hE dL_law_753 rfl xc_i_4 ?_
                                    refine x_iadd 755 hE dL_law_754 rfl ?_
                                    refine xl_ld 756 hE hX hbl dL_law_755 rfl (fun v129 => ?_)
                                    refine x_calli 759 (xl_go1 (fun _ => xw_goV hE (c := 0) (by decide) (fun v131 hq => xw_rV hE (ct_X0_bears v131 v126 v127 v128 v129) xd_X0_bears rfl q1291 q1292 q1293 q95 q1294 rfl ⟨Nat.le_of_ble_eq_true rfl, Nat.le_of_ble_eq_true rfl⟩ (congrArg va_rf hq) rfl (by decide) dL_law_756))) rfl (fun v130 => ?_)
                                    refine x_aload_n 760 hE dL_law_759 rfl 2 rfl ?_
                                    refine x_aload_n 761 hE dL_law_760 rfl 0 rfl ?_
                                    refine x_iload_n 762 hE dL_law_761 rfl 3 rfl ?_
                                    refine x_iconst 763 hE dL_law_762 rfl xc_i_1 ?_
                                    refine x_iadd 764 hE dL_law_763 rfl ?_
                                    refine xl_ld 765 hE hX hbl dL_law_764 rfl (fun v132 => ?_)
                                    refine x_aload_n 766 hE dL_law_765 rfl 0 rfl ?_
                                    refine x_iload_n 767 hE dL_law_766 rfl 3 rfl ?_
                                    refine x_iconst 768 hE dL_law_767 rfl xc_i_2 ?_
                                    refine x_iadd 769 hE dL_law_768 rfl ?_
                                    refine xl_ld 770 hE hX hbl dL_law_769 rfl (fun v133 => ?_)
                                    refine x_aload_n 771 hE dL_law_770 rfl 0 rfl ?_
                                    refine x_iload_n 772 hE dL_law_771 rfl 3 rfl ?_
                                    refine x_iconst 773 hE dL_law_772 rfl xc_i_3 ?_
                                    refine x_iadd 774 hE dL_law_773 rfl ?_
                                    refine xl_ld 775 hE hX hbl dL_law_774 rfl (fun v134 => ?_)
                                    refine x_aload_n 776 hE dL_law_775 rfl 0 rfl ?_
                                    refine x_iload_n 777 hE dL_law_776 rfl 3 rfl ?_
                                    refine x_iconst 778 hE dL_law_777 rfl xc_i_4 ?_
                                    refine x_iadd 779 hE dL_law_778 rfl ?_
                                    refine xl_ld 780 hE hX hbl dL_law_779 rfl (fun v135 => ?_)
                                    refine x_calli 783 (xl_go2 (fun _ => xw_goM hE hac (xw_rV hE (ct_X2_bears hac v132 v133 v134 v135) xd_X2_bears rfl q1854 q1855 q1856 q97 q1857 rfl ⟨Nat.le_of_ble_eq_true rfl, Nat.le_of_ble_eq_true rfl⟩ rfl rfl (Nat.le_trans (xw_sm1 rfl xw_sm0) (by decide)) dL_law_780))) rfl (fun v136 => ?_)
                                    refine x_icmp_eq 1284 786 hE dL_law_783 (by decide) rfl ?_ ?_
                                    · refine x_iinc 1287 [(3, .int (v3 + 6)), (0, va_rf (some b)), (1, va_rf (some x)), (2, va_rf (some (xw_hm (xe_G E))))] hE dL_law_1284 rfl 3 rfl xc_i_6 (Nat.le_of_ble_eq_true rfl) rfl ?_
                                      refine x_goto 18 hE dL_law_1287 (by decide) ?_
                                      refine x_sub [(0, va_rf (some b)), (1, va_rf (some x)), (2, va_rf (some (xw_hm (xe_G E)))), (3, .int (v3 + 6))] [1, 2, 3, 0] rfl ?_
                                      exact hc1 (v3 + 6)
                                    · refine x_iconst 787 hE dL_law_786 rfl xc_i_0 ?_
                                      refine hx1 _ _ _ _ ?_
                                      exact hret _ _ _ dL_law_787
                                  · refine x_sw (fun hs18 => ?_) (fun hs18 => ?_)
                                    · refine x_swIn 788 hE dL_law_33 hs18 ⟨by decide, by decide, rfl⟩ (by decide) ?_
                                      refine x_aload_n 789 hE dL_law_788 rfl 1 rfl ?_
                                      refine x_aload_n 790 hE dL_law_789 rfl 0 rfl ?_
                                      refine x_iload_n 791 hE dL_law_790 rfl 3 rfl ?_
                                      refine x_iconst 792 hE dL_law_791 rfl xc_i_1 ?_
                                      refine x_iadd 793 hE dL_law_792 rfl ?_
                                      refine xl_ld 794 hE hX hbl dL_law_793 rfl (fun v137 => ?_)
                                      refine x_aload_n 795 hE dL_law_794 rfl 0 rfl ?_
                                      refine x_iload_n 796 hE dL_law_795 rfl 3 rfl ?_
                                      refine x_iconst 797 hE dL_law_796 rfl xc_i_2 ?_
                                      refine x_iadd 798 hE dL_law_797 rfl ?_
                                      refine xl_ld 799 hE hX hbl dL_law_798 rfl (fun v138 => ?_)
                                      refine x_aload_n 800 hE dL_law_799 rfl 0 rfl ?_
                                      refine x_iload_n 801 hE dL_law_800 rfl 3 rfl ?_
                                      refine x_iconst 802 hE dL_law_801 rfl xc_i_3 ?_
                                      refine x_iadd 803 hE dL_law_802 rfl ?_
                                      refine xl_ld 804 hE hX hbl dL_law_803 rfl (fun v139 => ?_)
                                      refine x_aload_n 805 hE dL_law_804 rfl 0 rfl ?_
                                      refine x_iload_n 806 hE dL_law_805 rfl 3 rfl ?_
                                      refine x_iconst 807 hE dL_law_806 rfl xc_i_4 ?_
                                      refine x_iadd 808 hE dL_law_807 rfl ?_
                                      refine xl_ld 809 hE hX hbl dL_law_808 rfl (fun v140 => ?_)
                                      refine x_aload_n 810 hE dL_law_809 rfl 0 rfl ?_
                                      refine x_iload_n 811 hE dL_law_810 rfl 3 rfl ?_
                                      refine x_iconst 812 hE dL_law_811 rfl xc_i_5 ?_
                                      refine x_iadd 813 hE dL_law_812 rfl ?_
                                      refine xl_ld 814 hE hX hbl dL_law_813 rfl (fun v141 => ?_)
                                      refine x_calli 817 (xl_go1 (fun _ => xw_goV hE (c := 0) (by decide) (fun v143 hq => xw_rV hE (ct_X0_judge v143 v137 v138 v139 v140 v141) xd_X0_judge rfl q1306 q1307 q1308 q95 q1309 rfl ⟨Nat.le_of_ble_eq_true rfl, Nat.le_of_ble_eq_true rfl⟩ (congrArg va_rf hq) rfl (by decide) dL_law_814))) rfl (fun v142 => ?_)
                                      refine x_aload_n 818 hE dL_law_817 rfl 2 rfl ?_
                                      refine x_aload_n 819 hE dL_law_818 rfl 0 rfl ?_
                                      refine x_iload_n 820 hE dL_law_819 rfl 3 rfl ?_
                                      refine x_iconst 821 hE dL_law_820 rfl xc_i_1 ?_
                                      refine x_iadd 822 hE dL_law_821 rfl ?_
                                      refine xl_ld 823 hE hX hbl dL_law_822 rfl (fun v144 => ?_)
                                      refine x_aload_n 824 hE dL_law_823 rfl 0 rfl ?_
                                      refine x_iload_n 825 hE dL_law_824 rfl 3 rfl ?_
                                      refine x_iconst 826 hE dL_law_825 rfl xc_i_2 ?_
                                      refine x_iadd 827 hE dL_law_826 rfl ?_
                                      refine xl_ld 828 hE hX hbl dL_law_827 rfl (fun v145 => ?_)
                                      refine x_aload_n 829 hE dL_law_828 rfl 0 rfl ?_
                                      refine x_iload_n 830 hE dL_law_829 rfl 3 rfl ?_
                                      refine x_iconst 831 hE dL_law_830 rfl xc_i_3 ?_
                                      refine x_iadd 832 hE dL_law_831 rfl ?_
                                      refine xl_ld 833 hE hX hbl dL_law_832 rfl (fun v146 => ?_)
                                      refine x_aload_n 834 hE dL_law_833 rfl 0 rfl ?_
                                      refine x_iload_n 835 hE dL_law_834 rfl 3 rfl ?_
                                      refine x_iconst 836 hE dL_law_835 rfl xc_i_4 ?_
                                      refine x_iadd 837 hE dL_law_836 rfl ?_
                                      refine xl_ld 838 hE hX hbl dL_law_837 rfl (fun v147 => ?_)
                                      refine x_aload_n 839 hE dL_law_838 rfl 0 rfl ?_
                                      refine x_iload_n 840 hE dL_law_839 rfl 3 rfl ?_
                                      refine x_iconst 841 hE dL_law_840 rfl xc_i_5 ?_
                                      refine x_iadd 842 hE dL_law_841 rfl ?_
                                      refine xl_ld 843 hE hX hbl dL_law_842 rfl (fun v148 => ?_)
                                      refine x_calli 846 (xl_go2 (fun _ => xw_goM hE hac (xw_rV hE (ct_X2_judge hac v144 v145 v146 v147 v148) xd_X2_judge rfl q1858 q1859 q1860 q97 q1861 rfl ⟨Nat.le_of_ble_eq_true rfl, Nat.le_of_ble_eq_true rfl⟩ rfl rfl (Nat.le_trans (xw_sm1 rfl xw_sm0) (by decide)) dL_law_843))) rfl (fun v149 => ?_)
                                      refine x_icmp_eq 1284 849 hE dL_law_846 (by decide) rfl ?_ ?_
                                      · refine x_iinc 1287 [(3, .int (v3 + 6)), (0, va_rf (some b)), (1, va_rf (some x)), (2, va_rf (some (xw_hm (xe_G E))))] hE dL_law_1284 rfl 3 rfl xc_i_6 (Nat.le_of_ble_eq_true rfl) rfl ?_
                                        refine x_goto 18 hE dL_law_1287 (by decide) ?_
                                        refine x_sub [(0, va_rf (some b)), (1, va_rf (some x)), (2, va_rf (some (xw_hm (xe_G E)))), (3, .int (v3 + 6))] [1, 2, 3, 0] rfl ?_
                                        exact hc1 (v3 + 6)
                                      · refine x_iconst 850 hE dL_law_849 rfl xc_i_0 ?_
                                        refine hx1 _ _ _ _ ?_
                                        exact hret _ _ _ dL_law_850
                                    · refine x_sw (fun hs19 => ?_) (fun hs19 => ?_)
                                      · refine x_swIn 851 hE dL_law_33 hs19 ⟨by decide, by decide, rfl⟩ (by decide) ?_
                                        refine x_aload_n 852 hE dL_law_851 rfl 1 rfl ?_
                                        refine x_aload_n 853 hE dL_law_852 rfl 0 rfl ?_
                                        refine x_iload_n 854 hE dL_law_853 rfl 3 rfl ?_
                                        refine x_iconst 855 hE dL_law_854 rfl xc_i_1 ?_
                                        refine x_iadd 856 hE dL_law_855 rfl ?_
                                        refine xl_ld 857 hE hX hbl dL_law_856 rfl (fun v150 => ?_)
                                        refine x_aload_n 858 hE dL_law_857 rfl 0 rfl ?_
                                        refine x_iload_n 859 hE dL_law_858 rfl 3 rfl ?_
                                        refine x_iconst 860 hE dL_law_859 rfl xc_i_2 ?_
                                        refine x_iadd 861 hE dL_law_860 rfl ?_
                                        refine xl_ld 862 hE hX hbl dL_law_861 rfl (fun v151 => ?_)
                                        refine x_aload_n 863 hE dL_law_862 rfl 0 rfl ?_
                                        refine x_iload_n 864 hE dL_law_863 rfl 3 rfl ?_
                                        refine x_iconst 865 hE dL_law_864 rfl xc_i_3 ?_
                                        refine x_iadd 866 hE dL_law_865 rfl ?_
                                        refine xl_ld 867 hE hX hbl dL_law_866 rfl (fun v152 => ?_)
                                        refine x_aload_n 868 hE dL_law_867 rfl 0 rfl ?_
                                        refine x_iload_n 869 hE dL_law_868 rfl 3 rfl ?_
                                        refine x_iconst 870 hE dL_law_869 rfl xc_i_4 ?_
                                        refine x_iadd 871 hE dL_law_870 rfl ?_
                                        refine xl_ld 872 hE hX hbl dL_law_871 rfl (fun v153 => ?_)
                                        refine x_calli 875 (xl_go1 (fun _ => xw_goV hE (c := 0) (by decide) (fun v155 hq => xw_rV hE (ct_X0_apart v155 v150 v151 v152 v153) xd_X0_apart rfl q1310 q1311 q1312 q95 q1313 rfl ⟨Nat.le_of_ble_eq_true rfl, Nat.le_of_ble_eq_true rfl⟩ (congrArg va_rf hq) rfl (by decide) dL_law_872))) rfl (fun v154 => ?_)
                                        refine x_aload_n 876 hE dL_law_875 rfl 2 rfl ?_
                                        refine x_aload_n 877 hE dL_law_876 rfl 0 rfl ?_
                                        refine x_iload_n 878 hE dL_law_877 rfl 3 rfl ?_
                                        refine x_iconst 879 hE dL_law_878 rfl xc_i_1 ?_
                                        refine x_iadd 880 hE dL_law_879 rfl ?_
                                        refine xl_ld 881 hE hX hbl dL_law_880 rfl (fun v156 => ?_)
                                        refine x_aload_n 882 hE dL_law_881 rfl 0 rfl ?_
                                        refine x_iload_n 883 hE dL_law_882 rfl 3 rfl ?_
                                        refine x_iconst 884 hE dL_law_883 rfl xc_i_2 ?_
                                        refine x_iadd 885 hE dL_law_884 rfl ?_
                                        refine xl_ld 886 hE hX hbl dL_law_885 rfl (fun v157 => ?_)
                                        refine x_aload_n 887 hE dL_law_886 rfl 0 rfl ?_
                                        refine x_iload_n 888 hE dL_law_887 rfl 3 rfl ?_
                                        refine x_iconst 889 hE dL_law_888 rfl xc_i_3 ?_
                                        refine x_iadd 890 hE dL_law_889 rfl ?_
                                        refine xl_ld 891 hE hX hbl dL_law_890 rfl (fun v158 => ?_)
                                        refine x_aload_n 892 hE dL_law_891 rfl 0 rfl ?_
                                        refine x_iload_n 893 hE dL_law_892 rfl 3 rfl ?_
                                        refine x_iconst 894 hE dL_law_893 rfl xc_i_4 ?_
                                        refine x_iadd 895 hE dL_law_894 rfl ?_
                                        refine xl_ld 896 hE hX hbl dL_law_895 rfl (fun v159 => ?_)
                                        refine x_calli 899 (xl_go2 (fun _ => xw_goM hE hac (xw_rV hE (ct_X2_apart hac v156 v157 v158 v159) xd_X2_apart rfl q1862 q1863 q1864 q97 q1865 rfl ⟨Nat.le_of_ble_eq_true rfl, Nat.le_of_ble_eq_true rfl⟩ rfl rfl (Nat.le_trans (xw_sm1 rfl xw_sm0) (by decide)) dL_law_896))) rfl (fun v160 => ?_)
                                        refine x_icmp_eq 1284 902 hE dL_law_899 (by decide) rfl ?_ ?_
                                        · refine x_iinc 1287 [(3, .int (v3 + 6)), (0, va_rf (some b)), (1, va_rf (some x)), (2, va_rf (some (xw_hm (xe_G E))))] hE dL_law_1284 rfl 3 rfl xc_i_6 (Nat.le_of_ble_eq_true rfl) rfl ?_
                                          refine x_goto 18 hE dL_law_1287 (by decide) ?_
                                          refine x_sub [(0, va_rf (some b)), (1, va_rf (some x)), (2, va_rf (some (xw_hm (xe_G E)))), (3, .int (v3 + 6))] [1, 2, 3, 0] rfl ?_
                                          exact hc1 (v3 + 6)
                                        · refine x_iconst 903 hE dL_law_902 rfl xc_i_0 ?_
                                          refine hx1 _ _ _ _ ?_
                                          exact hret _ _ _ dL_law_903
                                      · refine x_sw (fun hs20 => ?_) (fun hs20 => ?_)
                                        · refine x_swIn 904 hE dL_law_33 hs20 ⟨by decide, by decide, rfl⟩ (by decide) ?_
                                          refine x_aload_n 905 hE dL_law_904 rfl 1 rfl ?_
                                          refine x_aload_n 906 hE dL_law_905 rfl 0 rfl ?_
                                          refine x_iload_n 907 hE dL_law_906 rfl 3 rfl ?_
                                          refine x_iconst 908 hE dL_law_907 rfl xc_i_1 ?_
                                          refine x_iadd 909 hE dL_law_908 rfl ?_
                                          refine xl_ld 910 hE hX hbl dL_law_909 rfl (fun v161 => ?_)
                                          refine x_aload_n 911 hE dL_law_910 rfl 0 rfl ?_
                                          refine x_iload_n 912 hE dL_law_911 rfl 3 rfl ?_
                                          refine x_iconst 913 hE dL_law_912 rfl xc_i_2 ?_
                                          refine x_iadd 914 hE dL_law_913 rfl ?_
                                          refine xl_ld 915 hE hX hbl dL_law_914 rfl (fun v162 => ?_)
                                          refine x_calli 918 (xl_go1 (fun _ => xw_goV hE (c := 0) (by decide) (fun v164 hq => xw_rV hE (ct_X0_part v164 v161 v162) xd_X0_part rfl q1318 q1319 q1320 q95 q1321 rfl ⟨Nat.le_of_ble_eq_true rfl, Nat.le_of_ble_eq_true rfl⟩ (congrArg va_rf hq) rfl (by decide) dL_law_915))) rfl (fun v163 => ?_)
                                          refine x_aload_n 919 hE dL_law_918 rfl 2 rfl ?_
                                          refine x_aload_n 920 hE dL_law_919 rfl 0 rfl ?_
                                          refine x_iload_n 921 hE dL_law_920 rfl 3 rfl ?_
                                          refine x_iconst 922 hE dL_law_921 rfl xc_i_1 ?_
                                          refine x_iadd 923 hE dL_law_922 rfl ?_
                                          refine xl_ld 924 hE hX hbl dL_law_923 rfl (fun v165 => ?_)
                                          refine x_aload_n 925 hE dL_law_924 rfl 0 rfl ?_
                                          refine x_iload_n 926 hE dL_law_925 rfl 3 rfl ?_
                                          refine x_iconst 927 hE dL_law_926 rfl xc_i_2 ?_
                                          refine x_iadd 928 hE dL_law_927 rfl ?_
                                          refine xl_ld 929 hE hX hbl dL_law_928 rfl (fun v166 => ?_)
                                          refine x_calli 932 (xl_go2 (fun _ => xw_goM hE hac (xw_rV hE (ct_X2_part hac v165 v166) xd_X2_part rfl q1870 q1871 q1872 q97 q1873 rfl ⟨Nat.le_of_ble_eq_true rfl, Nat.le_of_ble_eq_true rfl⟩ rfl rfl (Nat.le_trans (xw_sm1 rfl xw_sm0) (by decide)) dL_law_929))) rfl (fun v167 => ?_)
                                          refine x_icmp_eq 1284 935 hE dL_law_932 (by decide) rfl ?_ ?_
                                          · refine x_iinc 1287 [(3, .int (v3 + 6)), (0, va_rf (some b)), (1, va_rf (some x)), (2, va_rf (some (xw_hm (xe_G E))))] hE dL_law_1284 rfl 3 rfl xc_i_6 (Nat.le_of_ble_eq_true rfl) rfl ?_
                                            refine x_goto 18 hE dL_law_1287 (by decide) ?_
                                            refine x_sub [(0, va_rf (some b)), (1, va_rf (some x)), (2, va_rf (some (xw_hm (xe_G E)))), (3, .int (v3 + 6))] [1, 2, 3, 0] rfl ?_
                                            exact hc1 (v3 + 6)
                                          · refine x_iconst 936 hE dL_law_935 rfl xc_i_0 ?_
                                            refine hx1 _ _ _ _ ?_
                                            exact hret _ _ _ dL_law_936
                                        · refine x_sw (fun hs21 => ?_) (fun hs21 => ?_)
                                          · refine x_swIn 937 hE dL_law_33 hs21 ⟨by decide, by decide, rfl⟩ (by decide) ?_
                                            refine x_aload_n 938 hE dL_law_937 rfl 1 rfl ?_
                                            refine x_aload_n 939 hE dL_law_938 rfl 0 rfl ?_
                                            refine x_iload_n 940 hE dL_law_939 rfl 3 rfl ?_
                                            refine x_iconst 941 hE dL_law_940 rfl xc_i_1 ?_
                                            refine x_iadd 942 hE dL_law_941 rfl ?_
                                            refine xl_ld 943 hE hX hbl dL_law_942 rfl (fun v168 => ?_)
                                            refine x_calli 946 (xl_go1 (fun _ => xw_goV hE (c := 0) (by decide) (fun v170 hq => xw_rV hE (ct_X0_write v170 v168) xd_X0_write rfl q1322 q1323 q1324 q95 q1325 rfl ⟨Nat.le_of_ble_eq_true rfl, Nat.le_of_ble_eq_true rfl⟩ (congrArg va_rf hq) rfl (by decide) dL_law_943))) rfl (fun v169 => ?_)
                                            refine x_aload_n 947 hE dL_law_946 rfl 2 rfl ?_
                                            refine x_aload_n 948 hE dL_law_947 rfl 0 rfl ?_
                                            refine x_iload_n 949 hE dL_law_948 rfl 3 rfl ?_
                                            refine x_iconst 950 hE dL_law_949 rfl xc_i_1 ?_
                                            refine x_iadd 951 hE dL_law_950 rfl ?_
                                            refine xl_ld 952 hE hX hbl dL_law_951 rfl (fun v171 => ?_)
                                            refine x_calli 955 (xl_go2 (fun _ => xw_goM hE hac (xw_rV hE (ct_X2_write hac v171) xd_X2_write rfl q1874 q1875 q1876 q97 q1877 rfl ⟨Nat.le_of_ble_eq_true rfl, Nat.le_of_ble_eq_true rfl⟩ rfl rfl (Nat.le_trans (xw_sm1 rfl xw_sm0) (by decide)) dL_law_952))) rfl (fun v172 => ?_)
                                            refine x_icmp_eq 1284 958 hE dL_law_955 (by decide) rfl ?_ ?_
                                            · refine x_iinc 1287 [(3, .int (v3 + 6)), (0, va_rf (some b)), (1, va_rf (some x)), (2, va_rf (some (xw_hm (xe_G E))))] hE dL_law_1284 rfl 3 rfl xc_i_6 (Nat.le_of_ble_eq_true rfl) rfl ?_
                                              refine x_goto 18 hE dL_law_1287 (by decide) ?_
                                              refine x_sub [(0, va_rf (some b)), (1, va_rf (some x)), (2, va_rf (some (xw_hm (xe_G E)))), (3, .int (v3 + 6))] [1, 2, 3, 0] rfl ?_
                                              exact hc1 (v3 + 6)
                                            · refine x_iconst 959 hE dL_law_958 rfl xc_i_0 ?_
                                              refine hx1 _ _ _ _ ?_
                                              exact hret _ _ _ dL_law_959
                                          · refine x_sw (fun hs22 => ?_) (fun hs22 => ?_)
                                            · refine x_swIn 960 hE dL_law_33 hs22 ⟨by decide, by decide, rfl⟩ (by decide) ?_
                                              refine x_aload_n 961 hE dL_law_960 rfl 1 rfl ?_
                                              refine x_aload_n 962 hE dL_law_961 rfl 0 rfl ?_
                                              refine x_iload_n 963 hE dL_law_962 rfl 3 rfl ?_
                                              refine x_iconst 964 hE dL_law_963 rfl xc_i_1 ?_
                                              refine x_iadd 965 hE dL_law_964 rfl ?_
                                              refine xl_ld 966 hE hX hbl dL_law_965 rfl (fun v173 => ?_)
                                              refine x_aload_n 967 hE dL_law_966 rfl 0 rfl ?_
                                              refine x_iload_n 968 hE dL_law_967 rfl 3 rfl ?_
                                              refine x_iconst 969 hE dL_law_968 rfl xc_i_2 ?_
                                              refine x_iadd 970 hE dL_law_969 rfl ?_
                                              refine xl_ld 971 hE hX hbl dL_law_970 rfl (fun v174 => ?_)
                                              refine x_aload_n 972 hE dL_law_971 rfl 0 rfl ?_
                                              refine x_iload_n 973 hE dL_law_972 rfl 3 rfl ?_
                                              refine x_iconst 974 hE dL_law_973 rfl xc_i_3 ?_
                                              refine x_iadd 975 hE dL_law_974 rfl ?_
                                              refine xl_ld 976 hE hX hbl dL_law_975 rfl (fun v175 => ?_)
                                              refine x_aload_n 977 hE dL_law_976 rfl 0 rfl ?_
                                              refine x_iload_n 978 hE dL_law_977 rfl 3 rfl ?_
                                              refine x_iconst 979 hE dL_law_978 rfl xc_i_4 ?_
                                              refine x_iadd 980 hE dL_law_979 rfl ?_
                                              refine xl_ld 981 hE hX hbl dL_law_980 rfl (fun v176 => ?_)
                                              refine x_calli 984 (xl_go1 (fun _ => xw_goV hE (c := 0) (by decide) (fun v178 hq => xw_rV hE (ct_X0_does v178 v173 v174 v175 v176) xd_X0_does rfl q1178 q1179 q1180 q95 q1181 rfl ⟨Nat.le_of_ble_eq_true rfl, Nat.le_of_ble_eq_true rfl⟩ (congrArg va_rf hq) rfl (by decide) dL_law_981))) rfl (fun v177 => ?_)
                                              refine x_aload_n 985 hE dL_law_984 rfl 2 rfl ?_
                                              refine x_aload_n 986 hE dL_law_985 rfl 0 rfl ?_
                                              refine x_iload_n 987 hE dL_law_986 rfl 3 rfl ?_
                                              refine x_iconst 988 hE dL_law_987 rfl xc_i_1 ?_
                                              refine x_iadd 989 hE dL_law_988 rfl ?_
                                              refine xl_ld 990 hE hX hbl dL_law_989 rfl (fun v179 => ?_)
                                              refine x_aload_n 991 hE dL_law_990 rfl 0 rfl ?_
                                              refine x_iload_n 992 hE dL_law_991 rfl 3 rfl ?_
                                              refine x_iconst 993 hE dL_law_992 rfl xc_i_2 ?_
                                              refine x_iadd 994 hE dL_law_993 rfl ?_
                                              refine xl_ld 995 hE hX hbl dL_law_994 rfl (fun v180 => ?_)
                                              refine x_aload_n 996 hE dL_law_995 rfl 0 rfl ?_
                                              refine x_iload_n 997 hE dL_law_996 rfl 3 rfl ?_
                                              refine x_iconst 998 hE dL_law_997 rfl xc_i_3 ?_
                                              refine x_iadd 999 hE dL_law_998 rfl ?_
                                              refine xl_ld 1000 hE hX hbl dL_law_999 rfl (fun v181 => ?_)
                                              refine x_aload_n 1001 hE dL_law_1000 rfl 0 rfl ?_
                                              refine x_iload_n 1002 hE dL_law_1001 rfl 3 rfl ?_
                                              refine x_iconst 1003 hE dL_law_1002 rfl xc_i_4 ?_
                                              refine x_iadd 1004 hE dL_law_1003 rfl ?_
                                              refine xl_ld 1005 hE hX hbl dL_law_1004 rfl (fun v182 => ?_)
                                              refine x_calli 1008 (xl_go2 (fun _ => xw_goM hE hac (xw_rV hE (ct_X2_does hac v179 v180 v181 v182) xd_X2_does rfl q1882 q1883 q1884 q97 q1885 rfl ⟨Nat.le_of_ble_eq_true rfl, Nat.le_of_ble_eq_true rfl⟩ rfl rfl (Nat.le_trans (xw_sm1 rfl xw_sm0) (by decide)) dL_law_1005))) rfl (fun v183 => ?_)
                                              refine x_icmp_eq 1284 1011 hE dL_law_1008 (by decide) rfl ?_ ?_
                                              · refine x_iinc 1287 [(3, .int (v3 + 6)), (0, va_rf (some b)), (1, va_rf (some x)), (2, va_rf (some (xw_hm (xe_G E))))] hE dL_law_1284 rfl 3 rfl xc_i_6 (Nat.le_of_ble_eq_true rfl) rfl ?_
                                                refine x_goto 18 hE dL_law_1287 (by decide) ?_
                                                refine x_sub [(0, va_rf (some b)), (1, va_rf (some x)), (2, va_rf (some (xw_hm (xe_G E)))), (3, .int (v3 + 6))] [1, 2, 3, 0] rfl ?_
                                                exact hc1 (v3 + 6)
                                              · refine x_iconst 1012 hE dL_law_1011 rfl xc_i_0 ?_
                                                refine hx1 _ _ _ _ ?_
                                                exact hret _ _ _ dL_law_1012
                                            · refine x_sw (fun hs23 => ?_) (fun hs23 => ?_)
                                              · refine x_swIn 1013 hE dL_law_33 hs23 ⟨by decide, by decide, rfl⟩ (by decide) ?_
                                                refine x_aload_n 1014 hE dL_law_1013 rfl 1 rfl ?_
                                                refine x_aload_n 1015 hE dL_law_1014 rfl 0 rfl ?_
                                                refine x_iload_n 1016 hE dL_law_1015 rfl 3 rfl ?_
                                                refine x_iconst 1017 hE dL_law_1016 rfl xc_i_1 ?_
                                                refine x_iadd 1018 hE dL_law_1017 rfl ?_
                                                refine xl_ld 1019 hE hX hbl dL_law_1018 rfl (fun v184 => ?_)
                                                refine x_aload_n 1020 hE dL_law_1019 rfl 0 rfl ?_
                                                refine x_iload_n 1021 hE dL_law_1020 rfl 3 rfl ?_
                                                refine x_iconst 1022 hE dL_law_1021 rfl xc_i_2 ?_
                                                refine x_iadd 1023 hE dL_law_1022 rfl ?_
                                                refine xl_ld 1024 hE hX hbl dL_law_1023 rfl (fun v185 => ?_)
                                                refine x_aload_n 1025 hE dL_law_1024 rfl 0 rfl ?_
                                                refine x_iload_n 1026 hE dL_law_1025 rfl 3 rfl ?_
                                                refine x_iconst 1027 hE dL_law_1026 rfl xc_i_3 ?_
                                                refine x_iadd 1028 hE dL_law_1027 rfl ?_
                                                refine xl_ld 1029 hE hX hbl dL_law_1028 rfl (fun v186 => ?_)
                                                refine x_aload_n 1030 hE dL_law_1029 rfl 0 rfl ?_
                                                refine x_iload_n 1031 hE dL_law_1030 rfl 3 rfl ?_
                                                refine x_iconst 1032 hE dL_law_1031 rfl xc_i_4 ?_
                                                refine x_iadd 1033 hE dL_law_1032 rfl ?_
                                                refine xl_ld 1034 hE hX hbl dL_law_1033 rfl (fun v187 => ?_)
                                                refine x_aload_n 1035 hE dL_law_1034 rfl 0 rfl ?_
                                                refine x_iload_n 1036 hE dL_law_1035 rfl 3 rfl ?_
                                                refine x_iconst 1037 hE dL_law_1036 rfl xc_i_5 ?_
                                                refine x_iadd 1038 hE dL_law_1037 rfl ?_
                                                refine xl_ld 1039 hE hX hbl dL_law_1038 rfl (fun v188 => ?_)
                                                refine x_calli 1042 (xl_go1 (fun _ => xw_goV hE (c := 0) (by decide) (fun v190 hq => xw_rV hE (ct_X0_can v190 v184 v185 v186 v187 v188) xd_X0_can rfl q1191 q1192 q1193 q95 q1194 rfl ⟨Nat.le_of_ble_eq_true rfl, Nat.le_of_ble_eq_true rfl⟩ (congrArg va_rf hq) rfl (by decide) dL_law_1039))) rfl (fun v189 => ?_)
                                                refine x_aload_n 1043 hE dL_law_1042 rfl 2 rfl ?_
                                                refine x_aload_n 1044 hE dL_law_1043 rfl 0 rfl ?_
                                                refine x_iload_n 1045 hE dL_law_1044 rfl 3 rfl ?_
                                                refine x_iconst 1046 hE dL_law_1045 rfl xc_i_1 ?_
                                                refine x_iadd 1047 hE dL_law_1046 rfl ?_
                                                refine xl_ld 1048 hE hX hbl dL_law_1047 rfl (fun v191 => ?_)
                                                refine x_aload_n 1049 hE dL_law_1048 rfl 0 rfl ?_
                                                refine x_iload_n 1050 hE dL_law_1049 rfl 3 rfl ?_
                                                refine x_iconst 1051 hE dL_law_1050 rfl xc_i_2 ?_
                                                refine x_iadd 1052 hE dL_law_1051 rfl ?_
                                                refine xl_ld 1053 hE hX hbl dL_law_1052 rfl (fun v192 => ?_)
                                                refine x_aload_n 1054 hE dL_law_1053 rfl 0 rfl ?_
                                                refine x_iload_n 1055 hE dL_law_1054 rfl 3 rfl ?_
                                                refine x_iconst 1056 hE dL_law_1055 rfl xc_i_3 ?_
                                                refine x_iadd 1057 hE dL_law_1056 rfl ?_
                                                refine xl_ld 1058 hE hX hbl dL_law_1057 rfl (fun v193 => ?_)
                                                refine x_aload_n 1059 hE dL_law_1058 rfl 0 rfl ?_
                                                refine x_iload_n 1060 hE dL_law_1059 rfl 3 rfl ?_
                                                refine x_iconst 1061 hE dL_law_1060 rfl xc_i_4 ?_
                                                refine x_iadd 1062 hE dL_law_1061 rfl ?_
                                                refine xl_ld 1063 hE hX hbl dL_law_1062 rfl (fun v194 => ?_)
                                                refine x_aload_n 1064 hE dL_law_1063 rfl 0 rfl ?_
                                                refine x_iload_n 1065 hE dL_law_1064 rfl 3 rfl ?_
                                                refine x_iconst 1066 hE dL_law_1065 rfl xc_i_5 ?_
                                                refine x_iadd 1067 hE dL_law_1066 rfl ?_
                                                refine xl_ld 1068 hE hX hbl dL_law_1067 rfl (fun v195 => ?_)
                                                refine x_calli 1071 (xl_go2 (fun _ => xw_goM hE hac (xw_rV hE (ct_X2_can hac v191 v192 v193 v194 v195) xd_X2_can rfl q1886 q1887 q1888 q97 q1889 rfl ⟨Nat.le_of_ble_eq_true rfl, Nat.le_of_ble_eq_true rfl⟩ rfl rfl (Nat.le_trans (xw_sm1 rfl xw_sm0) (by decide)) dL_law_1068))) rfl (fun v196 => ?_)
                                                refine x_icmp_eq 1284 1074 hE dL_law_1071 (by decide) rfl ?_ ?_
                                                · refine x_iinc 1287 [(3, .int (v3 + 6)), (0, va_rf (some b)), (1, va_rf (some x)), (2, va_rf (some (xw_hm (xe_G E))))] hE dL_law_1284 rfl 3 rfl xc_i_6 (Nat.le_of_ble_eq_true rfl) rfl ?_
                                                  refine x_goto 18 hE dL_law_1287 (by decide) ?_
                                                  refine x_sub [(0, va_rf (some b)), (1, va_rf (some x)), (2, va_rf (some (xw_hm (xe_G E)))), (3, .int (v3 + 6))] [1, 2, 3, 0] rfl ?_
                                                  exact hc1 (v3 + 6)
                                                · refine x_iconst 1075 hE dL_law_1074 rfl xc_i_0 ?_
                                                  refine hx1 _ _ _ _ ?_
                                                  exact hret _ _ _ dL_law_1075
                                              · refine x_sw (fun hs24 => ?_) (fun hs24 => ?_)
                                                · refine x_swIn 1076 hE dL_law_33 hs24 ⟨by decide, by decide, rfl⟩ (by decide) ?_
                                                  refine x_aload_n 1077 hE dL_law_1076 rfl 1 rfl ?_
                                                  refine x_aload_n 1078 hE dL_law_1077 rfl 0 rfl ?_
                                                  refine x_iload_n 1079 hE dL_law_1078 rfl 3 rfl ?_
                                                  refine x_iconst 1080 hE dL_law_1079 rfl xc_i_1 ?_
                                                  refine x_iadd 1081 hE dL_law_1080 rfl ?_
                                                  refine xl_ld 1082 hE hX hbl dL_law_1081 rfl (fun v197 => ?_)
                                                  refine x_aload_n 1083 hE dL_law_1082 rfl 0 rfl ?_
                                                  refine x_iload_n 1084 hE dL_law_1083 rfl 3 rfl ?_
                                                  refine x_iconst 1085 hE dL_law_1084 rfl xc_i_2 ?_
                                                  refine x_iadd 1086 hE dL_law_1085 rfl ?_
                                                  refine xl_ld 1087 hE hX hbl dL_law_1086 rfl (fun v198 => ?_)
                                                  refine x_aload_n 1088 hE dL_law_1087 rfl 0 rfl ?_
                                                  refine x_iload_n 1089 hE dL_law_1088 rfl 3 rfl ?_
                                                  refine x_iconst 1090 hE dL_law_1089 rfl xc_i_3 ?_
                                                  refine x_iadd 1091 hE dL_law_1090 rfl ?_
                                                  refine xl_ld 1092 hE hX hbl dL_law_1091 rfl (fun v199 => ?_)
                                                  refine x_aload_n 1093 hE dL_law_1092 rfl 0 rfl ?_
                                                  refine x_iload_n 1094 hE dL_law_1093 rfl 3 rfl ?_
                                                  refine x_iconst 1095 hE dL_law_1094 rfl xc_i_4 ?_
                                                  refine x_iadd 1096 hE dL_law_1095 rfl ?_
                                                  refine xl_ld 1097 hE hX hbl dL_law_1096 rfl (fun v200 => ?_)
                                                  refine x_aload_n 1098 hE dL_law_1097 rfl 0 rfl ?_
                                                  refine x_iload_n 1099 hE dL_law_1098 rfl 3 rfl ?_
                                                  refine x_iconst 1100 hE dL_law_1099 rfl xc_i_5 ?_
                                                  refine x_iadd 1101 hE dL_law_1100 rfl ?_
                                                  refine xl_ld 1102 hE hX hbl dL_law_1101 rfl (fun v201 => ?_)
                                                  refine x_calli 1105 (xl_go1 (fun _ => xw_goV hE (c := 0) (by decide) (fun v203 hq => xw_rV hE (ct_X0_until v203 v197 v198 v199 v200 v201) xd_X0_until rfl q1203 q1204 q1205 q95 q1206 rfl ⟨Nat.le_of_ble_eq_true rfl, Nat.le_of_ble_eq_true rfl⟩ (congrArg va_rf hq) rfl (by decide) dL_law_1102))) rfl (fun v202 => ?_)
                                                  refine x_aload_n 1106 hE dL_law_1105 rfl 2 rfl ?_
                                                  refine x_aload_n 1107 hE dL_law_1106 rfl 0 rfl ?_
                                                  refine x_iload_n 1108 hE dL_law_1107 rfl 3 rfl ?_
                                                  refine x_iconst 1109 hE dL_law_1108 rfl xc_i_1 ?_
                                                  refine x_iadd 1110 hE dL_law_1109 rfl ?_
                                                  refine xl_ld 1111 hE hX hbl dL_law_1110 rfl (fun v204 => ?_)
                                                  refine x_aload_n 1112 hE dL_law_1111 rfl 0 rfl ?_
                                                  refine x_iload_n 1113 hE dL_law_1112 rfl 3 rfl ?_
                                                  refine x_iconst 1114 hE dL_law_1113 rfl xc_i_2 ?_
                                                  refine x_iadd 1115 hE dL_law_1114 rfl ?_
                                                  refine xl_ld 1116 hE hX hbl dL_law_1115 rfl (fun v205 => ?_)
                                                  refine x_aload_n 1117 hE dL_law_1116 rfl 0 rfl ?_
                                                  refine x_iload_n 1118 hE dL_law_1117 rfl 3 rfl ?_
                                                  refine x_iconst 1119 hE dL_law_1118 rfl xc_i_3 ?_
                                                  refine x_iadd 1120 hE dL_law_1119 rfl ?_
                                                  refine xl_ld 1121 hE hX hbl dL_law_1120 rfl (fun v206 => ?_)
                                                  refine x_aload_n 1122 hE dL_law_1121 rfl 0 rfl ?_
                                                  refine x_iload_n 1123 hE dL_law_1122 rfl 3 rfl ?_
                                                  refine x_iconst 1124 hE dL_law_1123 rfl xc_i_4 ?_
                                                  refine x_iadd 1125 hE dL_law_1124 rfl ?_
                                                  refine xl_ld 1126 hE hX hbl dL_law_1125 rfl (fun v207 => ?_)
                                                  refine x_aload_n 1127 hE dL_law_1126 rfl 0 rfl ?_
                                                  refine x_iload_n 1128 hE dL_law_1127 rfl 3 rfl ?_
                                                  refine x_iconst 1129 hE dL_law_1128 rfl xc_i_5 ?_
                                                  refine x_iadd 1130 hE dL_law_1129 rfl ?_
                                                  refine xl_ld 1131 hE hX hbl dL_law_1130 rfl (fun v208 => ?_)
                                                  refine x_calli 1134 (xl_go2 (fun _ => xw_goM hE hac (xw_rV hE (ct_X2_until hac v204 v205 v206 v207 v208) xd_X2_until rfl q1894 q1895 q1896 q97 q1897 rfl ⟨Nat.le_of_ble_eq_true rfl, Nat.le_of_ble_eq_true rfl⟩ rfl rfl (Nat.le_trans (xw_sm1 rfl xw_sm0) (by decide)) dL_law_1131))) rfl (fun v209 => ?_)
                                                  refine x_icmp_eq 1284 1137 hE dL_law_1134 (by decide) rfl ?_ ?_
                                                  · refine x_iinc 1287 [(3, .int (v3 + 6)), (0, va_rf (some b)), (1, va_rf (some x)), (2, va_rf (some (xw_hm (xe_G E))))] hE dL_law_1284 rfl 3 rfl xc_i_6 (Nat.le_of_ble_eq_true rfl) rfl ?_
                                                    refine x_goto 18 hE dL_law_1287 (by decide) ?_
                                                    refine x_sub [(0, va_rf (some b)), (1, va_rf (some x)), (2, va_rf (some (xw_hm (xe_G E)))), (3, .int (v3 + 6))] [1, 2, 3, 0] rfl ?_
                                                    exact hc1 (v3 + 6)
                                                  · refine x_iconst 1138 hE dL_law_1137 rfl xc_i_0 ?_
                                                    refine hx1 _ _ _ _ ?_
                                                    exact hret _ _ _ dL_law_1138
                                                · refine x_sw (fun hs25 => ?_) (fun hs25 => ?_)
                                                  · refine x_swIn 1139 hE dL_law_33 hs25 ⟨by decide, by decide, rfl⟩ (by decide) ?_
                                                    refine x_aload_n 1140 hE dL_law_1139 rfl 1 rfl ?_
                                                    refine x_aload_n 1141 hE dL_law_1140 rfl 0 rfl ?_
                                                    refine x_iload_n 1142 hE dL_law_1141 rfl 3 rfl ?_
                                                    refine x_iconst 1143 hE dL_law_1142 rfl xc_i_1 ?_
                                                    refine x_iadd 1144 hE dL_law_1143 rfl ?_
                                                    refine xl_ld 1145 hE hX hbl dL_law_1144 rfl (fun v210 => ?_)
                                                    refine x_aload_n 1146 hE dL_law_1145 rfl 0 rfl ?_
                                                    refine x_iload_n 1147 hE dL_law_1146 rfl 3 rfl ?_
                                                    refine x_iconst 1148 hE dL_law_1147 rfl xc_i_2 ?_
                                                    refine x_iadd 1149 hE dL_law_1148 rfl ?_
                                                    refine xl_ld 1150 hE hX hbl dL_law_1149 rfl (fun v211 => ?_)
                                                    refine x_aload_n 1151 hE dL_law_1150 rfl 0 rfl ?_
                                                    refine x_iload_n 1152 hE dL_law_1151 rfl 3 rfl ?_
                                                    refine x_iconst 1153 hE dL_law_1152 rfl xc_i_3 ?_
                                                    refine x_iadd 1154 hE dL_law_1153 rfl ?_
                                                    refine xl_ld 1155 hE hX hbl dL_law_1154 rfl (fun v212 => ?_)
                                                    refine x_calli 1158 (xl_go1 (fun _ => xw_goV hE (c := 0) (by decide) (fun v214 hq => xw_rV hE (ct_X0_lost v214 v210 v211 v212) xd_X0_lost rfl q1207 q1208 q1209 q95 q1210 rfl ⟨Nat.le_of_ble_eq_true rfl, Nat.le_of_ble_eq_true rfl⟩ (congrArg va_rf hq) rfl (by decide) dL_law_1155))) rfl (fun v213 => ?_)
                                                    refine x_aload_n 1159 hE dL_law_1158 rfl 2 rfl ?_
                                                    refine x_aload_n 1160 hE dL_law_1159 rfl 0 rfl ?_
                                                    refine x_iload_n 1161 hE dL_law_1160 rfl 3 rfl ?_
                                                    refine x_iconst 1162 hE dL_law_1161 rfl xc_i_1 ?_
                                                    refine x_iadd 1163 hE dL_law_1162 rfl ?_
                                                    refine xl_ld 1164 hE hX hbl dL_law_1163 rfl (fun v215 => ?_)
                                                    refine x_aload_n 1165 hE dL_law_1164 rfl 0 rfl ?_
                                                    refine x_iload_n 1166 hE dL_law_1165 rfl 3 rfl ?_
                                                    refine x_iconst 1167 hE dL_law_1166 rfl xc_i_2 ?_
                                                    refine x_iadd 1168 hE dL_law_1167 rfl ?_
                                                    refine xl_ld 1169 hE hX hbl dL_law_1168 rfl (fun v216 => ?_)
                                                    refine x_aload_n 1170 hE dL_law_1169 rfl 0 rfl ?_
                                                    refine x_iload_n 1171 hE dL_law_1170 rfl 3 rfl ?_
                                                    refine x_iconst 1172 hE dL_law_1171 rfl xc_i_3 ?_
                                                    refine x_iadd 1173 hE dL_law_1172 rfl ?_
                                                    refine xl_ld 1174 hE hX hbl dL_law_1173 rfl (fun v217 => ?_)
                                                    refine x_calli 1177 (xl_go2 (fun _ => xw_goM hE hac (xw_rV hE (ct_X2_lost hac v215 v216 v217) xd_X2_lost rfl q1898 q1899 q1900 q97 q1901 rfl ⟨Nat.le_of_ble_eq_true rfl, Nat.le_of_ble_eq_true rfl⟩ rfl rfl (Nat.le_trans (xw_sm1 rfl xw_sm0) (by decide)) dL_law_1174))) rfl (fun v218 => ?_)
                                                    refine x_icmp_eq 1284 1180 hE dL_law_1177 (by decide) rfl ?_ ?_
                                                    · refine x_iinc 1287 [(3, .int (v3 + 6)), (0, va_rf (some b)), (1, va_rf (some x)), (2, va_rf (some (xw_hm (xe_G E))))] hE dL_law_1284 rfl 3 rfl xc_i_6 (Nat.le_of_ble_eq_true rfl) rfl ?_
                                                      refine x_goto 18 hE dL_law_1287 (by decide) ?_
                                                      refine x_sub [(0, va_rf (some b)), (1, va_rf (some x)), (2, va_rf (some (xw_hm (xe_G E)))), (3, .int (v3 + 6))] [1, 2, 3, 0] rfl ?_
                                                      exact hc1 (v3 + 6)
                                                    · refine x_iconst 1181 hE dL_law_1180 rfl xc_i_0 ?_
                                                      refine hx1 _ _ _ _ ?_
                                                      exact hret _ _ _ dL_law_1181
                                                  · refine x_sw (fun hs26 => ?_) (fun hs26 => ?_)
                                                    · refine x_swIn 1182 hE dL_law_33 hs26 ⟨by decide, by decide, rfl⟩ (by decide) ?_
                                                      refine x_aload_n 1183 hE dL_law_1182 rfl 1 rfl ?_
                                                      refine x_aload_n 1184 hE dL_law_1183 rfl 0 rfl ?_
                                                      refine x_iload_n 1185 hE dL_law_1184 rfl 3 rfl ?_
                                                      refine x_iconst 1186 hE dL_law_1185 rfl xc_i_1 ?_
                                                      refine x_iadd 1187 hE dL_law_1186 rfl ?_
                                                      refine xl_ld 1188 hE hX hbl dL_law_1187 rfl (fun v219 => ?_)
                                                      refine x_aload_n 1189 hE dL_law_1188 rfl 0 rfl ?_
                                                      refine x_iload_n 1190 hE dL_law_1189 rfl 3 rfl ?_
                                                      refine x_iconst 1191 hE dL_law_1190 rfl xc_i_2 ?_
                                                      refine x_iadd 1192 hE dL_law_1191 rfl ?_
                                                      refine xl_ld 1193 hE hX hbl dL_law_1192 rfl (fun v220 => ?_)
                                                      refine x_aload_n 1194 hE dL_law_1193 rfl 0 rfl ?_
                                                      refine x_iload_n 1195 hE dL_law_1194 rfl 3 rfl ?_
                                                      refine x_iconst 1196 hE dL_law_1195 rfl xc_i_3 ?_
                                                      refine x_iadd 1197 hE dL_law_1196 rfl ?_
                                                      refine xl_ld 1198 hE hX hbl dL_law_1197 rfl (fun v221 => ?_)
                                                      refine x_calli 1201 (xl_go1 (fun _ => xw_goV hE (c := 0) (by decide) (fun v223 hq => xw_rV hE (ct_X0_wired v223 v219 v220 v221) xd_X0_wired rfl q1227 q1228 q1229 q95 q1230 rfl ⟨Nat.le_of_ble_eq_true rfl, Nat.le_of_ble_eq_true rfl⟩ (congrArg va_rf hq) rfl (by decide) dL_law_1198))) rfl (fun v222 => ?_)
                                                      refine x_aload_n 1202 hE dL_law_1201 rfl 2 rfl ?_
                                                      refine x_aload_n 1203 hE dL_law_1202 rfl 0 rfl ?_
                                                      refine x_iload_n 1204 hE dL_law_1203 rfl 3 rfl ?_
                                                      refine x_iconst 1205 hE dL_law_1204 rfl xc_i_1 ?_
                                                      refine x_iadd 1206 hE dL_law_1205 rfl ?_
                                                      refine xl_ld 1207 hE hX hbl dL_law_1206 rfl (fun v224 => ?_)
                                                      refine x_aload_n 1208 hE dL_law_1207 rfl 0 rfl ?_
                                                      refine x_iload_n 1209 hE dL_law_1208 rfl 3 rfl ?_
                                                      refine x_iconst 1210 hE dL_law_1209 rfl xc_i_2 ?_
                                                      refine x_iadd 1211 hE dL_law_1210 rfl ?_
                                                      refine xl_ld 1212 hE hX hbl dL_law_1211 rfl (fun v225 => ?_)
                                                      refine x_aload_n 1213 hE dL_law_1212 rfl 0 rfl ?_
                                                      refine x_iload_n 1214 hE dL_law_1213 rfl 3 rfl ?_
                                                      refine x_iconst 1215 hE dL_law_1214 rfl xc_i_3 ?_
                                                      refine x_iadd 1216 hE dL_law_1215 rfl ?_
                                                      refine xl_ld 1217 hE hX hbl dL_law_1216 rfl (fun v226 => ?_)
                                                      refine x_calli 1220 (xl_go2 (fun _ => xw_goM hE hac (xw_rV hE (ct_X2_wired hac v224 v225 v226) xd_X2_wired rfl q1910 q1911 q1912 q97 q1913 rfl ⟨Nat.le_of_ble_eq_true rfl, Nat.le_of_ble_eq_true rfl⟩ rfl rfl (Nat.le_trans (xw_sm1 rfl xw_sm0) (by decide)) dL_law_1217))) rfl (fun v227 => ?_)
                                                      refine x_icmp_eq 1284 1223 hE dL_law_1220 (by decide) rfl ?_ ?_
                                                      · refine x_iinc 1287 [(3, .int (v3 + 6)), (0, va_rf (some b)), (1, va_rf (some x)), (2, va_rf (some (xw_hm (xe_G E))))] hE dL_law_1284 rfl 3 rfl xc_i_6 (Nat.le_of_ble_eq_true rfl) rfl ?_
                                                        refine x_goto 18 hE dL_law_1287 (by decide) ?_
                                                        refine x_sub [(0, va_rf (some b)), (1, va_rf (some x)), (2, va_rf (some (xw_hm (xe_G E)))), (3, .int (v3 + 6))] [1, 2, 3, 0] rfl ?_
                                                        exact hc1 (v3 + 6)
                                                      · refine x_iconst 1224 hE dL_law_1223 rfl xc_i_0 ?_
                                                        refine hx1 _ _ _ _ ?_
                                                        exact hret _ _ _ dL_law_1224
                                                    · refine x_sw (fun hs27 => ?_) (fun hs27 => ?_)
                                                      · refine x_swIn 1225 hE dL_law_33 hs27 ⟨by decide, by decide, rfl⟩ (by decide) ?_
                                                        refine x_aload_n 1226 hE dL_law_1225 rfl 1 rfl ?_
                                                        refine x_calli 1229 (xl_go1 (fun _ => xw_goV hE (c := 0) (by decide) (fun v229 hq => xw_rV hE (ct_X0_image v229) xd_X0_image rfl q1236 q1237 q1238 q95 q1239 rfl ⟨Nat.le_of_ble_eq_true rfl, Nat.le_of_ble_eq_true rfl⟩ (congrArg va_rf hq) rfl (by decide) dL_law_1226))) rfl (fun v228 => ?_)
                                                        refine x_aload_n 1230 hE dL_law_1229 rfl 2 rfl ?_
                                                        refine x_calli 1233 (xl_go2 (fun _ => xw_goM hE hac (xw_rV hE (ct_X2_image hac ) xd_X2_image rfl q1914 q1915 q1916 q97 q1917 rfl ⟨Nat.le_of_ble_eq_true rfl, Nat.le_of_ble_eq_true rfl⟩ rfl rfl (Nat.le_trans (xw_sm1 rfl xw_sm0) (by decide)) dL_law_1230))) rfl (fun v230 => ?_)
                                                        refine x_icmp_eq 1284 1236 hE dL_law_1233 (by decide) rfl ?_ ?_
                                                        · refine x_iinc 1287 [(3, .int (v3 + 6)), (0, va_rf (some b)), (1, va_rf (some x)), (2, va_rf (some (xw_hm (xe_G E))))] hE dL_law_1284 rfl 3 rfl xc_i_6 (Nat.le_of_ble_eq_true rfl) rfl ?_
                                                          refine x_goto 18 hE dL_law_1287 (by decide) ?_
                                                          refine x_sub [(0, va_rf (some b)), (1, va_rf (some x)), (2, va_rf (some (xw_hm (xe_G E)))), (3, .int (v3 + 6))] [1, 2, 3, 0] rfl ?_
                                                          exact hc1 (v3 + 6)
                                                        · refine x_iconst 1237 hE dL_law_1236 rfl xc_i_0 ?_
                                                          refine hx1 _ _ _ _ ?_
                                                          exact hret _ _ _ dL_law_1237
                                                      · refine x_sw (fun hs28 => ?_) (fun hs28 => ?_)
                                                        · refine x_swIn 1238 hE dL_law_33 hs28 ⟨by decide, by decide, rfl⟩ (by decide) ?_
                                                          refine x_aload_n 1239 hE dL_law_1238 rfl 1 rfl ?_
                                                          refine x_aload_n 1240 hE dL_law_1239 rfl 0 rfl ?_
                                                          refine x_iload_n 1241 hE dL_law_1240 rfl 3 rfl ?_
                                                          refine x_iconst 1242 hE dL_law_1241 rfl xc_i_1 ?_
                                                          refine x_iadd 1243 hE dL_law_1242 rfl ?_
                                                          refine xl_ld 1244 hE hX hbl dL_law_1243 rfl (fun v231 => ?_)
                                                          refine x_calli 1247 (xl_go1 (fun _ => xw_goV hE (c := 0) (by decide) (fun v233 hq => xw_rV hE (ct_X0_back v233 v231) xd_X0_back rfl q1269 q1270 q1271 q95 q1272 rfl ⟨Nat.le_of_ble_eq_true rfl, Nat.le_of_ble_eq_true rfl⟩ (congrArg va_rf hq) rfl (by decide) dL_law_1244))) rfl (fun v232 => ?_)
                                                          refine x_aload_n 1248 hE dL_law_1247 rfl 2 rfl ?_
                                                          refine x_aload_n 1249 hE dL_law_1248 rfl 0 rfl ?_
                                                          refine x_iload_n 1250 hE dL_law_1249 rfl 3 rfl ?_
                                                          refine x_iconst 1251 hE dL_law_1250 rfl xc_i_1 ?_
                                                          refine x_iadd 1252 hE dL_law_1251 rfl ?_
                                                          refine xl_ld 1253 hE hX hbl dL_law_1252 rfl (fun v234 => ?_)
                                                          refine x_calli 1256 (xl_go2 (fun _ => xw_goM hE hac (xw_rV hE (ct_X2_back hac v234) xd_X2_back rfl q1922 q1923 q1924 q97 q1925 rfl ⟨Nat.le_of_ble_eq_true rfl, Nat.le_of_ble_eq_true rfl⟩ rfl rfl (Nat.le_trans (xw_sm1 rfl xw_sm0) (by decide)) dL_law_1253))) rfl (fun v235 => ?_)
                                                          refine x_icmp_eq 1284 1259 hE dL_law_1256 (by decide) rfl ?_ ?_
                                                          · refine x_iinc 1287 [(3, .int (v3 + 6)), (0, va_rf (some b)), (1, va_rf (some x)), (2, va_rf (some (xw_hm (xe_G E))))] hE dL_law_1284 rfl 3 rfl xc_i_6 (Nat.le_of_ble_eq_true rfl) rfl ?_
                                                            refine x_goto 18 hE dL_law_1287 (by decide) ?_
                                                            refine x_sub [(0, va_rf (some b)), (1, va_rf (some x)), (2, va_rf (some (xw_hm (xe_G E)))), (3, .int (v3 + 6))] [1, 2, 3, 0] rfl ?_
                                                            exact hc1 (v3 + 6)
                                                          · refine x_iconst 1260 hE dL_law_1259 rfl xc_i_0 ?_
                                                            refine hx1 _ _ _ _ ?_
                                                            exact hret _ _ _ dL_law_1260
                                                        · refine x_sw (fun hs29 => ?_) (fun hs29 => ?_)
                                                          · refine x_swIn 1261 hE dL_law_33 hs29 ⟨by decide, by decide, rfl⟩ (by decide) ?_
                                                            refine x_aload_n 1262 hE dL_law_1261 rfl 1 rfl ?_
                                                            refine x_aload_n 1263 hE dL_law_1262 rfl 0 rfl ?_
                                                            refine x_iload_n 1264 hE dL_law_1263 rfl 3 rfl ?_
                                                            refine x_iconst 1265 hE dL_law_1264 rfl xc_i_1 ?_
                                                            refine x_iadd 1266 hE dL_law_1265 rfl ?_
                                                            refine xl_ld 1267 hE hX hbl dL_law_1266 rfl (fun v236 => ?_)
                                                            refine x_calli 1270 (xl_go1 (fun _ => xw_goV hE (c := 0) (by decide) (fun v238 hq => xw_rV hE (ct_X0_count v238 v236) xd_X0_count rfl q1330 q1331 q1332 q95 q1333 rfl ⟨Nat.le_of_ble_eq_true rfl, Nat.le_of_ble_eq_true rfl⟩ (congrArg va_rf hq) rfl (by decide) dL_law_1267))) rfl (fun v237 => ?_)
                                                            refine x_aload_n 1271 hE dL_law_1270 rfl 2 rfl ?_
                                                            refine x_aload_n 1272 hE dL_law_1271 rfl 0 rfl ?_
                                                            refine x_iload_n 1273 hE dL_law_1272 rfl 3 rfl ?_
                                                            refine x_iconst 1274 hE dL_law_1273 rfl xc_i_1 ?_
                                                            refine x_iadd 1275 hE dL_law_1274 rfl ?_
                                                            refine xl_ld 1276 hE hX hbl dL_law_1275 rfl (fun v239 => ?_)
                                                            refine x_calli 1279 (xl_go2 (fun _ => xw_goM hE hac (xw_rV hE (ct_X2_count hac v239) xd_X2_count rfl q1926 q1927 q1928 q97 q1929 rfl ⟨Nat.le_of_ble_eq_true rfl, Nat.le_of_ble_eq_true rfl⟩ rfl rfl (Nat.le_trans (xw_sm1 rfl xw_sm0) (by decide)) dL_law_1276))) rfl (fun v240 => ?_)
                                                            refine x_icmp_eq 1284 1282 hE dL_law_1279 (by decide) rfl ?_ ?_
                                                            · refine x_iinc 1287 [(3, .int (v3 + 6)), (0, va_rf (some b)), (1, va_rf (some x)), (2, va_rf (some (xw_hm (xe_G E))))] hE dL_law_1284 rfl 3 rfl xc_i_6 (Nat.le_of_ble_eq_true rfl) rfl ?_
                                                              refine x_goto 18 hE dL_law_1287 (by decide) ?_
                                                              refine x_sub [(0, va_rf (some b)), (1, va_rf (some x)), (2, va_rf (some (xw_hm (xe_G E)))), (3, .int (v3 + 6))] [1, 2, 3, 0] rfl ?_
                                                              exact hc1 (v3 + 6)
                                                            · refine x_iconst 1283 hE dL_law_1282 rfl xc_i_0 ?_
                                                              refine hx1 _ _ _ _ ?_
                                                              exact hret _ _ _ dL_law_1283
                                                          · refine x_swOut 1284 hE dL_law_33 (xw_out0_27 hs2 hs3 hs4 hs5 hs6 hs7 hs8 hs9 hs10 hs11 hs12 hs13 hs14 hs15 hs16 hs17 hs18 hs19 hs20 hs21 hs22 hs23 hs24 hs25 hs26 hs27 hs28 hs29) (by decide) ?_
                                                            refine x_iinc 1287 [(3, .int (v3 + 6)), (0, va_rf (some b)), (1, va_rf (some x)), (2, va_rf (some (xw_hm (xe_G E))))] hE dL_law_1284 rfl 3 rfl xc_i_6 (Nat.le_of_ble_eq_true rfl) rfl ?_
                                                            refine x_goto 18 hE dL_law_1287 (by decide) ?_
                                                            refine x_sub [(0, va_rf (some b)), (1, va_rf (some x)), (2, va_rf (some (xw_hm (xe_G E)))), (3, .int (v3 + 6))] [1, 2, 3, 0] rfl ?_
                                                            exact hc1 (v3 + 6)
