/-! the reference: a combo looked at; what is asked -/
set_option maxRecDepth 100000
theorem sp_hH (n : Nat) (D : Nat → Nat → Int32) (pk : Nat → Nat) : hH n (sp_H D pk) := by
  intro k _
  refine ⟨?_, ?_, ?_⟩
  · show sp_h0 D pk k ≤ 2100
    unfold sp_h0; omega
  · show sp_h1 D pk k ≤ 3100 ∨ sp_h1 D pk k = 9999
    unfold sp_h1; split
    · exact Or.inr rfl
    · left; omega
  · show sp_h2 D pk k ≤ 4100 ∨ sp_h2 D pk k = 9999
    unfold sp_h2; split
    · exact Or.inr rfl
    · left; omega
/-- a combo looked at: hours, offers, the bargain -/
def yL (μ : xw_Mu) (n : Nat) (D : Nat → Nat → Int32) (R : Nat → Int32) (bar : Nat → Bool) (H : Nat → Nat → Nat) : Prop :=
  yH μ n H ∧ (∀ o, o < n → sp_off D R o = true → yO μ n D R bar H o) ∧ yB μ (sp_B n D R bar H)
theorem y_looks {μ : xw_Mu} {n : Nat} {D : Nat → Nat → Int32} {R : Nat → Int32} {bar : Nat → Bool} (h : yE μ n D R bar) (hR : sp_okR R) {c : Nat} (hD : sp_ok c n D) {m : Nat} {asl ard : Nat → Nat} (hA : okA m asl ard) (hK : yK μ m asl ard) {combo : Nat} (hc : combo < 2147483648) :
    xq_w (pg_X2_looks (qn combo)) μ fun _ μ' => yfr [50, 51, 52, 53] [43, 44, 45, 46, 47, 48, 49] μ μ' ∧ yL μ' n D R bar (sp_H D (sp_pk asl ard combo m)) := by
  have hH0 := sp_hH n D (sp_pk asl ard combo m)
  unfold pg_X2_looks
  rw [xq_bd]
  refine xq_mono (y_hours h hD hA hK hc) ?_
  rintro _ μ1 ⟨f1, hH1⟩
  have E1 := yE_fr f1 h (by decide) (by decide)
  rw [xq_bd]
  refine xq_mono (y_findOffers E1 hR hD hH0 hH1) ?_
  rintro _ μ2 ⟨f2, hO2⟩
  have E2 := yE_fr f2 E1 (by decide) (by decide)
  have H2 := yH_fr f2 hH1 (by decide)
  rw [xq_bd]
  refine xq_mono (y_findBargain E2 hR hD hH0 H2 hO2) ?_
  rintro _ μ3 ⟨f3, hB3⟩
  rw [xq_rt]
  refine ⟨yfr_trans (yfr_mono f1 (by decide) (by decide)) (yfr_trans (yfr_mono f2 (by decide) (by decide)) (yfr_mono f3 (by decide) (by decide))), yH_fr f3 H2 (by decide), fun o ho hoo => ?_, hB3⟩
  have := hO2 o ho hoo
  unfold yO at this ⊢
  rw [f3.2 47 (by decide), f3.2 48 (by decide), f3.2 49 (by decide)]
  exact this
/-! what is asked of a case: the r-th of its 4n places may be sp_rx r -/
def sp_rx (D : Nat → Nat → Int32) (r : Nat) : Nat := if r % 4 < 3 then dn (D (r / 4) (16 + r % 4)) - dn (D (r / 4) (13 + r % 4)) + 1 else if D (r / 4) 7 = 1 then 2 else 1
/-- how many are asked of the first r places -/
def sp_am (D : Nat → Nat → Int32) : Nat → Nat
  | 0 => 0
  | r + 1 => if sp_rx D r < 2 then sp_am D r else sp_am D r + 1
/-- the place of the a-th that is asked -/
def sp_as (D : Nat → Nat → Int32) : Nat → Nat → Nat
  | 0 => fun _ => 0
  | r + 1 => fun a => if sp_rx D r < 2 then sp_as D r a else if a = sp_am D r then r else sp_as D r a
/-- how many combos, at most 1025 -/
def sp_cm (D : Nat → Nat → Int32) : Nat → Nat
  | 0 => 1
  | r + 1 => if sp_rx D r < 2 then sp_cm D r else min 1025 (sp_cm D r * sp_rx D r)
theorem sp_am_s (D : Nat → Nat → Int32) (r : Nat) : sp_am D (r + 1) = if sp_rx D r < 2 then sp_am D r else sp_am D r + 1 := rfl
theorem sp_as_s (D : Nat → Nat → Int32) (r a : Nat) : sp_as D (r + 1) a = if sp_rx D r < 2 then sp_as D r a else if a = sp_am D r then r else sp_as D r a := rfl
theorem sp_cm_s (D : Nat → Nat → Int32) (r : Nat) : sp_cm D (r + 1) = if sp_rx D r < 2 then sp_cm D r else min 1025 (sp_cm D r * sp_rx D r) := rfl
theorem sp_am_le (D : Nat → Nat → Int32) (r : Nat) : sp_am D r ≤ r := by
  induction r with
  | zero => exact Nat.le_refl _
  | succ r ih => unfold sp_am; split <;> omega
theorem sp_as_lt (D : Nat → Nat → Int32) (r a : Nat) (h : a < sp_am D r) : sp_as D r a < r ∧ 2 ≤ sp_rx D (sp_as D r a) := by
  induction r with
  | zero => exact absurd h (by unfold sp_am; omega)
  | succ r ih =>
    unfold sp_am at h
    unfold sp_as
    split at h
    · rename_i h2
      simp only [h2, if_true]
      have := ih h
      omega
    · rename_i h2
      simp only [h2, if_false]
      split
      · omega
      · have := ih (by omega)
        omega
theorem sp_cm_pos (D : Nat → Nat → Int32) (r : Nat) : 1 ≤ sp_cm D r ∧ sp_cm D r ≤ 1025 := by
  induction r with
  | zero => exact ⟨Nat.le_refl _, by unfold sp_cm; omega⟩
  | succ r ih =>
    unfold sp_cm
    split
    · exact ih
    · rename_i h
      have : sp_cm D r * 1 ≤ sp_cm D r * sp_rx D r := Nat.mul_le_mul_left _ (by omega)
      omega
theorem sp_rx_j {c n : Nat} {D : Nat → Nat → Int32} (hD : sp_ok c n D) {k j : Nat} (hk : k < n) (hj : j < 4) : sp_rx D (4 * k + j) = (if j < 3 then dn (D k (16 + j)) - dn (D k (13 + j)) + 1 else if D k 7 = 1 then 2 else 1) := by
  unfold sp_rx
  rw [show (4 * k + j) % 4 = j by omega, show (4 * k + j) / 4 = k by omega]
theorem sp_rx_le {c n : Nat} {D : Nat → Nat → Int32} (hD : sp_ok c n D) {r : Nat} (hr : r < 4 * n) : sp_rx D r ≤ 16 ∧ 1 ≤ sp_rx D r := by
  unfold sp_rx
  split
  · rename_i h
    have := ((hD.2 (r / 4) (by omega)).2.2.2.2.2.2.2.2.1 (r % 4) h).2.2
    omega
  · split <;> omega
theorem sp_okA {c n : Nat} {D : Nat → Nat → Int32} (hD : sp_ok c n D) : okA (sp_am D (4 * n)) (sp_as D (4 * n)) (fun a => sp_rx D (sp_as D (4 * n) a)) := by
  have hn := hD.1
  have := sp_am_le D (4 * n)
  refine ⟨by omega, fun a ha => ?_⟩
  have h1 := sp_as_lt D (4 * n) a ha
  have h2 := sp_rx_le hD h1.1
  refine ⟨by omega, h1.2, h2.1⟩
/-- what is asked, after the first r places -/
def yQ (μ : xw_Mu) (D : Nat → Nat → Int32) (r : Nat) : Prop := yK μ (sp_am D r) (sp_as D r) (fun a => sp_rx D (sp_as D r a)) ∧ yI μ 29 = qn (sp_cm D r)
theorem y_findAsked {μ : xw_Mu} {n : Nat} {D : Nat → Nat → Int32} {R : Nat → Int32} {bar : Nat → Bool} (h : yE μ n D R bar) {c : Nat} (hD : sp_ok c n D) :
    xq_w pg_X2_findAsked μ fun _ μ' => yfr [28, 29] [41, 42] μ μ' ∧ yQ μ' D (4 * n) := by
  generalize hP : (fun (_ : Unit) (μ' : xw_Mu) => yfr [28, 29] [41, 42] μ μ' ∧ yQ μ' D (4 * n)) = P
  have hn := hD.1
  unfold pg_X2_findAsked
  rw [xq_bd, xq_p 28 _ _ _ rfl, xq_bd, xq_p 29 _ _ _ rfl, xq_bd]
  refine xq_loop (I := fun k a s => a = qn k ∧ k ≤ n ∧ yfr [28, 29] [41, 42] μ s ∧ yQ s D (4 * k)) (N := n) ⟨rfl, by omega, yfr_sI (yfr_sI (yfr_refl _ _ _) (by decide)) (by decide), ⟨⟨?_, fun a ha => absurd ha (by unfold sp_am; omega)⟩, ?_⟩⟩ (by omega) ?_
  · simp only [yI_sI]; rfl
  · simp only [yI_sI]; rfl
  rintro k a s hk ⟨rfl, hkn, hf, hQ⟩
  have hE := yE_fr hf h (by decide) (by decide)
  by_cases hlt : k < n
  · rw [xq_g, hE.1, xq_ite, if_neg (by rw [qn_le (by omega) (by omega)]; omega), xq_bd]
    refine xq_loop (I := fun j a t => a = qn j ∧ j ≤ 4 ∧ yfr [28, 29] [41, 42] μ t ∧ yQ t D (4 * k + j)) (N := 4) ⟨rfl, by omega, hf, hQ⟩ (by omega) ?_
    rintro j a t hj ⟨rfl, hj4, hft, hQt⟩
    obtain ⟨e27, e30, e31, e32, e33, e34, e35, e36, e37, e38, e39, e40, e26⟩ := yE_fr hft h (by decide) (by decide)
    by_cases hlj : j < 4
    · rw [xq_ite, if_neg (by rw [qn_lel.2.2.2.2.1 _ (by omega)]; omega)]
      have hr := sp_rx_le hD (show 4 * k + j < 4 * n by omega)
      have hv : ∀ P, xq_w (if 3 ≤ qn j then xw_bd (ym_ld 32 (qn k)) fun v13 => if v13 = 1 then xw_rt 2 else xw_rt (1 : Int32) else xw_bd (ym_ld 40 ((3 * qn k) + qn j)) fun v14 => xw_bd (ym_ld 39 ((3 * qn k) + qn j)) fun v15 => xw_rt ((v14 - v15) + 1)) t P = P (qn (sp_rx D (4 * k + j))) t := by
        intro P
        rw [sp_rx_j hD hlt hlj]
        by_cases h3 : j < 3
        · have hs := ((hD.2 k hlt).2.2.2.2.2.2.2.2.1 j h3)
          have e40' := e40 k j hlt h3
          have e39' := e39 k j hlt h3
          rw [hs.2.1.1] at e40'
          rw [hs.1.1] at e39'
          simp (disch := first | omega | assumption | decide | exact qb_or _) only [xq_bd, xq_rt, xq_lt, xq_jn, xq_ite, xq_g, xq_gJ, xq_pJ, xq_lds, xq_ldls, xq_sts, xq_stls, xq_stZs, xq_ps, xq_pbs, qn_add, qn_addl, qn_addr, qn_mul, qn_mull, qn_lel, qn_ler, qn_ltl, qn_ltr, qn_eql, qn_eqr, qn_le, qn_lt, qn_inj, qn_ne1, xq_elim_l, xq_elim_r, yI_sI, yI_sJ, yI_sA, yJ_sI, yJ_sJ, yJ_sA, yA_sI, yA_sJ, yA_sA, e40', e39', if_neg (show ¬ 3 ≤ j by omega), if_pos h3]
          rw [qn_sub hs.2.2.1, qn_addl.2.1]
        · simp (disch := first | omega | assumption | decide | exact qb_or _) only [xq_bd, xq_rt, xq_lt, xq_jn, xq_ite, xq_g, xq_gJ, xq_pJ, xq_lds, xq_ldls, xq_sts, xq_stls, xq_stZs, xq_ps, xq_pbs, qn_add, qn_addl, qn_addr, qn_mul, qn_mull, qn_lel, qn_ler, qn_ltl, qn_ltr, qn_eql, qn_eqr, qn_le, qn_lt, qn_inj, qn_ne1, xq_elim_l, xq_elim_r, yI_sI, yI_sJ, yI_sA, yJ_sI, yJ_sJ, yJ_sA, yA_sI, yA_sJ, yA_sA, e32, if_pos (show 3 ≤ j by omega), if_neg h3]
          by_cases h7 : D k 7 = 1
          · rw [if_pos h7, if_pos h7]; rfl
          · rw [if_neg h7, if_neg h7]; rfl
      rw [xq_bd, hv]
      have ham := sp_am_le D (4 * k + j)
      have hcm := sp_cm_pos D (4 * k + j)
      obtain ⟨⟨q28, q41⟩, q29⟩ := hQt
      by_cases h2 : sp_rx D (4 * k + j) < 2
      · simp (disch := first | omega | assumption | decide | exact qb_or _) only [xq_bd, xq_rt, xq_lt, xq_jn, xq_ite, xq_g, xq_gJ, xq_pJ, xq_lds, xq_ldls, xq_sts, xq_stls, xq_stZs, xq_ps, xq_pbs, qn_add, qn_addl, qn_addr, qn_mul, qn_mull, qn_lel, qn_ler, qn_ltl, qn_ltr, qn_eql, qn_eqr, qn_le, qn_lt, qn_inj, qn_ne1, xq_elim_l, xq_elim_r, yI_sI, yI_sJ, yI_sA, yJ_sI, yJ_sJ, yJ_sA, yA_sI, yA_sJ, yA_sA]
        rw [if_neg (by omega)]
        refine ⟨hlj, trivial, by omega, hft, ⟨⟨?_, ?_⟩, ?_⟩⟩
        · show yI t 28 = qn (sp_am D (4 * k + j + 1))
          rw [sp_am_s, if_pos h2]; exact q28
        · show ∀ a, a < sp_am D (4 * k + j + 1) → yA t 41 a = qn (sp_as D (4 * k + j + 1) a) ∧ yA t 42 a = qn (sp_rx D (sp_as D (4 * k + j + 1) a))
          simp only [sp_am_s, sp_as_s, h2, if_true]
          exact q41
        · show yI t 29 = qn (sp_cm D (4 * k + j + 1))
          rw [sp_cm_s, if_pos h2]; exact q29
      · have hmul : sp_cm D (4 * k + j) * sp_rx D (4 * k + j) ≤ 1025 * 16 := Nat.mul_le_mul hcm.2 hr.1
        have hmin : ∀ P s', yI s' 29 = qn (sp_cm D (4 * k + j)) → xq_w (if qn (sp_cm D (4 * k + j)) * qn (sp_rx D (4 * k + j)) ≤ 1024 then ym_g 29 fun v12 => xw_rt (v12 * qn (sp_rx D (4 * k + j))) else xw_rt 1025) s' P = P (qn (min 1025 (sp_cm D (4 * k + j) * sp_rx D (4 * k + j)))) s' := by
          intro P s' h29
          simp (disch := first | omega | assumption | decide | exact qb_or _) only [xq_bd, xq_rt, xq_lt, xq_jn, xq_ite, xq_g, xq_gJ, xq_pJ, xq_lds, xq_ldls, xq_sts, xq_stls, xq_stZs, xq_ps, xq_pbs, qn_add, qn_addl, qn_addr, qn_mul, qn_mull, qn_lel, qn_ler, qn_ltl, qn_ltr, qn_eql, qn_eqr, qn_le, qn_lt, qn_inj, qn_ne1, xq_elim_l, xq_elim_r, yI_sI, yI_sJ, yI_sA, yJ_sI, yJ_sJ, yJ_sA, yA_sI, yA_sJ, yA_sA, h29]
          by_cases hl : sp_cm D (4 * k + j) * sp_rx D (4 * k + j) ≤ 1024
          · rw [if_pos hl, Nat.min_eq_right (by omega)]
          · rw [if_neg hl, Nat.min_eq_left (by omega)]; rfl
        generalize hcr : sp_cm D (4 * k + j) * sp_rx D (4 * k + j) = cr at *
        rw [xq_ite, if_pos (show 2 ≤ qn (sp_rx D (4 * k + j)) by rw [qn_lel.2.2.1 _ (by omega)]; omega), xq_g, q28, xq_bd, qn_mull.2.2.2.2.1, qn_add, xq_st 41 _ _ _ _ (by show _ < 48; omega), xq_g, yI_sA, q28, xq_bd, xq_st 42 _ _ _ _ (by show _ < 48; omega), xq_g, yI_sA, yI_sA, q28, xq_bd, xq_p 28 _ _ _ rfl, xq_g, yI_sI, if_neg (show ¬ (29 : Nat) = 28 by decide), yI_sA, yI_sA, q29, xq_bd, hmin _ _ (by rw [yI_sI, if_neg (show ¬ (29 : Nat) = 28 by decide), yI_sA, yI_sA, q29]), xq_bd, xq_p 29 _ _ _ rfl, xq_rt, xq_elim_l, qn_addl.2.1, qn_addl.2.1]
        refine ⟨hlj, rfl, by omega, yfr_sI (yfr_sI (yfr_sA (yfr_sA hft (by decide)) (by decide)) (by decide)) (by decide), ⟨⟨?_, ?_⟩, ?_⟩⟩
        · show _ = qn (sp_am D (4 * k + j + 1))
          rw [sp_am_s, if_neg h2, yI_sI, if_neg (by decide), yI_sI, if_pos rfl]
        · show ∀ a, a < sp_am D (4 * k + j + 1) → _ = qn (sp_as D (4 * k + j + 1) a) ∧ _ = qn (sp_rx D (sp_as D (4 * k + j + 1) a))
          simp only [sp_am_s, sp_as_s, h2, if_false, yA_sI, yA_sA, if_true, Nat.reduceEqDiff]
          intro a ha
          by_cases h3 : a = sp_am D (4 * k + j)
          · simp only [h3, if_true, and_self]
          · simp only [h3, if_false]
            exact q41 a (by omega)
        · show _ = qn (sp_cm D (4 * k + j + 1))
          rw [sp_cm_s, if_neg h2, yI_sI, if_pos rfl, hcr]
    · have hj' : j = 4 := by omega
      subst hj'
      rw [xq_ite, if_pos (by rw [qn_lel.2.2.2.2.1 _ (by omega)]; omega), xq_rt, xq_elim_r, xq_rt, xq_elim_l, qn_addl.2.1]
      exact ⟨hlt, rfl, by omega, hft, hQt⟩
  · have hin' : k = n := by omega
    subst hin'
    rw [xq_g, hE.1, xq_ite, if_pos (by rw [qn_le (by omega) (by omega)]; omega), xq_rt, xq_elim_r, xq_rt, ← hP]
    exact ⟨hf, hQ⟩
