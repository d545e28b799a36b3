/-! the reference: hours of a combo, all of a combo -/
set_option maxRecDepth 100000
theorem qn_div {a b : Nat} (ha : a < 2147483648) (hb : b < 2147483648) : qn a / qn b = qn (a / b) := by
  apply Int32.toInt_inj.mp
  have h1 : a / b ≤ a := Nat.div_le_self a b
  rw [Int32.toInt_div, qn_toInt ha, qn_toInt hb, ← Int.ofNat_tdiv]
  generalize a / b = q at *
  rw [qn_toInt (by omega)]
  have hq : (q : Int) < 2147483648 := by omega
  have hq0 : (0 : Int) ≤ (q : Int) := by omega
  clear h1 ha hb
  exact Int.bmod_eq_of_le (by omega) (by omega)
theorem qn_sub {a b : Nat} (h : b ≤ a) : qn a - qn b = qn (a - b) := by
  have : qn a = qn (a - b) + qn b := by rw [qn_add, Nat.sub_add_cancel h]
  rw [this, Int32.add_sub_cancel]
theorem xq_div {S : Type} {a b : Nat} (ha : a < 2147483648) (hb : b < 2147483648) (h0 : b ≠ 0) (s : S) (P : Int32 → S → Prop) : xq_w (xw_div (qn a) (qn b)) s P = P (qn (a / b)) s := by
  refine xq_mk ?_
  unfold xw_div
  rw [if_neg (by rw [show (0 : Int32) = qn 0 from rfl, qn_inj hb (by omega)]; exact h0), qn_div ha hb]
theorem xq_rem {S : Type} {a b : Nat} (ha : a < 2147483648) (hb : b < 2147483648) (h0 : b ≠ 0) (s : S) (P : Int32 → S → Prop) : xq_w (xw_rem (qn a) (qn b)) s P = P (qn (a % b)) s := by
  refine xq_mk ?_
  unfold xw_rem
  have h1 : a / b * b ≤ a := Nat.div_mul_le_self a b
  rw [if_neg (by rw [show (0 : Int32) = qn 0 from rfl, qn_inj hb (by omega)]; exact h0), qn_div ha hb, qn_mul, qn_sub h1]
  have h2 := Nat.div_add_mod a b
  rw [Nat.mul_comm] at h2
  rw [show a - a / b * b = a % b by omega]
/-! what is asked: m questions, asl their places (4 times the saying and which), ard how many each may be -/
def sp_lf (ard : Nat → Nat) (combo : Nat) : Nat → Nat
  | 0 => combo
  | a + 1 => sp_lf ard combo a / ard a
/-- the digits of a combo, by place -/
def sp_pk (asl ard : Nat → Nat) (combo : Nat) : Nat → Nat → Nat
  | 0 => fun _ => 0
  | a + 1 => fun s => if s = asl a then sp_lf ard combo a % ard a else sp_pk asl ard combo a s
def okA (m : Nat) (asl ard : Nat → Nat) : Prop := m ≤ 48 ∧ ∀ a, a < m → asl a < 48 ∧ 2 ≤ ard a ∧ ard a ≤ 16
theorem sp_lf_le (ard : Nat → Nat) (combo a : Nat) : sp_lf ard combo a ≤ combo := by
  induction a with
  | zero => exact Nat.le_refl _
  | succ a ih => exact Nat.le_trans (Nat.div_le_self _ _) ih
theorem sp_pk_le {m : Nat} {asl ard : Nat → Nat} (h : okA m asl ard) (combo a : Nat) (ha : a ≤ m) (s : Nat) : sp_pk asl ard combo a s ≤ 15 := by
  induction a with
  | zero => exact Nat.zero_le _
  | succ a ih =>
    unfold sp_pk
    split
    · have := h.2 a (by omega)
      have := Nat.mod_lt (sp_lf ard combo a) (show 0 < ard a by omega)
      omega
    · exact ih (by omega)
def yK (μ : xw_Mu) (m : Nat) (asl ard : Nat → Nat) : Prop := yI μ 28 = qn m ∧ ∀ a, a < m → yA μ 41 a = qn (asl a) ∧ yA μ 42 a = qn (ard a)
theorem yK_fr {I A : List Nat} {μ μ' : xw_Mu} (hf : yfr I A μ μ') {m : Nat} {asl ard : Nat → Nat} (h : yK μ m asl ard) (hI : 28 ∉ I) (h1 : 41 ∉ A) (h2 : 42 ∉ A) : yK μ' m asl ard := by
  refine ⟨(hf.1 28 hI).trans h.1, fun a ha => ?_⟩
  rw [hf.2 41 h1, hf.2 42 h2]
  exact h.2 a ha
theorem y_hours {μ : xw_Mu} {n : Nat} {D : Nat → Nat → Int32} {R : Nat → Int32} {bar : Nat → Bool} (h : yE μ n D R bar) {c : Nat} (hD : sp_ok c n D) {m : Nat} {asl ard : Nat → Nat} (hA : okA m asl ard) (hK : yK μ m asl ard) {combo : Nat} (hc : combo < 2147483648) :
    xq_w (pg_X2_hours (qn combo)) μ fun _ μ' => yfr [] [43, 44, 45, 46] μ μ' ∧ yH μ' n (sp_H D (sp_pk asl ard combo m)) := by
  generalize hP : (fun (_ : Unit) (μ' : xw_Mu) => yfr [] [43, 44, 45, 46] μ μ' ∧ yH μ' n (sp_H D (sp_pk asl ard combo m))) = P
  have hn := hD.1
  have hm := hA.1
  unfold pg_X2_hours
  rw [xq_bd]
  refine xq_loop (I := fun i a s => a = qn i ∧ i ≤ 48 ∧ yfr [] [43, 44, 45, 46] μ s ∧ ∀ j, j < i → yA s 46 j = qn 0) (N := 48) ⟨rfl, by omega, yfr_refl _ _ _, fun j hj => absurd hj (by omega)⟩ (by omega) ?_
  rintro i a s hi ⟨rfl, hin, hf, hz⟩
  by_cases hlt : i < 48
  · rw [xq_ite, if_neg (by rw [qn_lel.2.2.2.2.2.2.2.2.2.2.2.2.2.2.2.2.2.2.1 _ (by omega)]; omega), xq_bd, xq_st 46 i _ _ _ hlt, xq_rt, xq_elim_l, qn_addl.2.1]
    refine ⟨hlt, rfl, by omega, yfr_sA hf (by decide), fun j hj => ?_⟩
    rw [yA_sA, if_pos rfl]
    by_cases hji : j = i
    · rw [if_pos hji]; rfl
    · rw [if_neg hji]; exact hz j (by omega)
  · have hin' : i = 48 := by omega
    subst hin'
    rw [xq_ite, if_pos (by rw [qn_lel.2.2.2.2.2.2.2.2.2.2.2.2.2.2.2.2.2.2.1 _ (by omega)]; omega), xq_rt, xq_elim_r, xq_bd]
    refine xq_loop (I := fun i a s => a = (qn (sp_lf ard combo i), qn i) ∧ i ≤ m ∧ yfr [] [43, 44, 45, 46] μ s ∧ ∀ j, j < 48 → yA s 46 j = qn (sp_pk asl ard combo i j)) (N := m) ⟨rfl, by omega, hf, fun j hj => hz j hj⟩ (by omega) ?_
    rintro i a s hi ⟨rfl, hin, hf, hz⟩
    have hKs := yK_fr hf hK (by decide) (by decide) (by decide)
    by_cases hlt : i < m
    · obtain ⟨k1, k2⟩ := hKs.2 i hlt
      obtain ⟨a1, a2, a3⟩ := hA.2 i hlt
      have hl := sp_lf_le ard combo i
      dsimp only
      rw [xq_g, hKs.1, xq_ite, if_neg (by rw [qn_le (by omega) (by omega)]; omega), xq_bd, xq_ld 41 i _ _ (by show i < 48; omega), k1, xq_bd, xq_ld 42 i _ _ (by show i < 48; omega), k2, xq_bd, xq_rem (by omega) (by omega) (by omega), xq_bd, xq_st 46 _ _ _ _ a1, xq_bd, xq_ld 42 i _ _ (by show i < 48; omega), yA_sA, if_neg (by decide), k2, xq_bd, xq_div (by omega) (by omega) (by omega), xq_rt, xq_elim_l, qn_addl.2.1]
      refine ⟨hlt, rfl, by omega, yfr_sA hf (by decide), fun j hj => ?_⟩
      rw [yA_sA, if_pos rfl]
      unfold sp_pk
      by_cases hji : j = asl i
      · rw [if_pos hji, if_pos hji]
      · rw [if_neg hji, if_neg hji]; exact hz j hj
    · have hin' : i = m := by omega
      subst hin'
      dsimp only
      rw [xq_g, hKs.1, xq_ite, if_pos (by rw [qn_le (by omega) (by omega)]; omega), xq_rt, xq_elim_r, xq_bd]
      have hp15 := sp_pk_le hA combo i (Nat.le_refl _)
      generalize sp_pk asl ard combo i = pk at *
      refine xq_loop (I := fun k a t => a = qn k ∧ k ≤ n ∧ yfr [] [43, 44, 45, 46] μ t ∧ (∀ j, j < 48 → yA t 46 j = qn (pk j)) ∧ yH t k (sp_H D pk)) (N := n) ⟨rfl, by omega, hf, hz, fun k hk => absurd hk (by omega)⟩ (by omega) ?_
      rintro k a t hk ⟨rfl, hkn, hft, hzt, hH⟩
      have hEt := yE_fr hft h (by decide) (by decide)
      by_cases hlt2 : k < n
      · obtain ⟨e27, e30, e31, e32, e33, e34, e35, e36, e37, e38, e39, e40, e26⟩ := hEt
        have z0 := hzt (4 * k) (by omega)
        have z1 := hzt (4 * k + 1) (by omega)
        have z2 := hzt (4 * k + 2) (by omega)
        have z3 := hzt (4 * k + 3) (by omega)
        have l0 := e39 k 0 hlt2 (by omega)
        have l1 := e39 k 1 hlt2 (by omega)
        have l2 := e39 k 2 hlt2 (by omega)
        simp only [Nat.add_zero, Nat.reduceAdd] at l0 l1 l2
        have hok := hD.2 k hlt2
        obtain ⟨_, _, _, _, _, _, _, _, hsp, _, _, _, _, b14, b15⟩ := hok
        have b13 := (hsp 0 (by omega)).1
        have c14 := (hsp 1 (by omega)).1
        have c15 := (hsp 2 (by omega)).1
        simp only [Nat.add_zero, Nat.reduceAdd] at b13 c14 c15
        have p0 := hp15 (4 * k)
        have p1 := hp15 (4 * k + 1)
        have p2 := hp15 (4 * k + 2)
        have p3 := hp15 (4 * k + 3)
        have hlost : ∀ P, xq_w (if D k 7 = 2 then xw_rt 1 else xw_bd (ym_ld 46 ((4 * qn k) + 3)) fun v21 => if v21 = 1 then xw_rt (1 : Int32) else xw_rt 0) t P = P (qb (sp_lost D pk k)) t := by
          intro P
          unfold sp_lost
          simp (disch := first | omega | assumption | decide | exact qb_or _) only [xq_bd, xq_rt, xq_lt, xq_jn, xq_ite, xq_g, xq_gJ, xq_pJ, xq_lds, xq_ldls, xq_sts, xq_stls, xq_stZs, xq_ps, xq_pbs, qn_add, qn_addl, qn_addr, qn_mul, qn_mull, qn_lel, qn_ler, qn_ltl, qn_ltr, qn_eql, qn_eqr, qn_le, qn_lt, qn_inj, qn_ne1, xq_elim_l, xq_elim_r, yI_sI, yI_sJ, yI_sA, yJ_sI, yJ_sJ, yJ_sA, yA_sI, yA_sJ, yA_sA, z3]
          by_cases c7 : D k 7 = 2 <;> by_cases cp : pk (4 * k + 3) = 1 <;> simp [c7, cp, qb]
        rw [xq_g, e27, xq_ite, if_neg (by rw [qn_le (by omega) (by omega)]; omega), xq_bd, xq_ld 32 k _ _ (by show k < 12; omega), e32 k hlt2, xq_bd, hlost]
        obtain ⟨q13, r13⟩ := b13
        obtain ⟨q14, _⟩ := c14
        obtain ⟨q15, _⟩ := c15
        have hh0 : sp_h0 D pk k = dn (D k 13) + pk (4 * k) := by unfold sp_h0; omega
        cases hl : sp_lost D pk k with
        | true =>
          have hh1 : sp_h1 D pk k = 9999 := by unfold sp_h1; rw [hl]; rfl
          have hh2 : sp_h2 D pk k = 9999 := by unfold sp_h2; rw [hl]; rfl
          generalize dn (D k 13) = d13 at *
          simp (disch := first | omega | assumption | decide | exact qb_or _) only [xq_bd, xq_rt, xq_lt, xq_jn, xq_ite, xq_g, xq_gJ, xq_pJ, xq_lds, xq_ldls, xq_sts, xq_stls, xq_stZs, xq_ps, xq_pbs, qn_add, qn_addl, qn_addr, qn_mul, qn_mull, qn_lel, qn_ler, qn_ltl, qn_ltr, qn_eql, qn_eqr, qn_le, qn_lt, qn_inj, qn_ne1, xq_elim_l, xq_elim_r, yI_sI, yI_sJ, yI_sA, yJ_sI, yJ_sJ, yJ_sA, yA_sI, yA_sJ, yA_sA, qb_0, Bool.true_eq_false, if_true, if_false, l0, z0, q13]
          refine ⟨hlt2, trivial, by omega, yfr_sA (yfr_sA (yfr_sA hft (by decide)) (by decide)) (by decide), fun j hj => ?_, fun j hj => ?_⟩
          · (try simp only [yA_sA, Nat.reduceEqDiff, if_false])
            exact hzt j hj
          · (try simp only [yA_sA, Nat.reduceEqDiff, if_true, if_false])
            by_cases hjk : j = k
            · rw [hjk]
              simp only [if_true]
              refine ⟨?_, ?_, ?_⟩
              · show _ = qn (sp_h0 D pk k)
                rw [hh0]
              · show _ = rv (sp_h1 D pk k)
                rw [hh1]; rfl
              · show _ = rv (sp_h2 D pk k)
                rw [hh2]; rfl
            · simp only [hjk, if_false]
              exact hH j (by omega)
        | false =>
          have hh1 : sp_h1 D pk k = dn (D k 13) + pk (4 * k) + dn (D k 14) + pk (4 * k + 1) := by unfold sp_h1; rw [hl, hh0]; simp only [Bool.false_eq_true, if_false]; omega
          have hh2 : sp_h2 D pk k = dn (D k 13) + pk (4 * k) + dn (D k 14) + pk (4 * k + 1) + dn (D k 15) + pk (4 * k + 2) := by unfold sp_h2; rw [hl, hh1]; simp only [Bool.false_eq_true, if_false]; omega
          generalize dn (D k 13) = d13 at *
          generalize dn (D k 14) = d14 at *
          generalize dn (D k 15) = d15 at *
          simp (disch := first | omega | assumption | decide | exact qb_or _) only [xq_bd, xq_rt, xq_lt, xq_jn, xq_ite, xq_g, xq_gJ, xq_pJ, xq_lds, xq_ldls, xq_sts, xq_stls, xq_stZs, xq_ps, xq_pbs, qn_add, qn_addl, qn_addr, qn_mul, qn_mull, qn_lel, qn_ler, qn_ltl, qn_ltr, qn_eql, qn_eqr, qn_le, qn_lt, qn_inj, qn_ne1, xq_elim_l, xq_elim_r, yI_sI, yI_sJ, yI_sA, yJ_sI, yJ_sJ, yJ_sA, yA_sI, yA_sJ, yA_sA, qb_0, if_true, if_false, l0, l1, l2, z0, z1, z2, q13, q14, q15, Nat.reduceEqDiff]
          refine ⟨hlt2, trivial, by omega, yfr_sA (yfr_sA (yfr_sA hft (by decide)) (by decide)) (by decide), fun j hj => ?_, fun j hj => ?_⟩
          · (try simp only [yA_sA, Nat.reduceEqDiff, if_false])
            exact hzt j hj
          · (try simp only [yA_sA, Nat.reduceEqDiff, if_true, if_false])
            by_cases hjk : j = k
            · rw [hjk]
              simp only [if_true]
              refine ⟨?_, ?_, ?_⟩
              · show _ = qn (sp_h0 D pk k)
                rw [hh0]
              · show _ = rv (sp_h1 D pk k)
                rw [hh1, rv_qn (by omega)]
              · show _ = rv (sp_h2 D pk k)
                rw [hh2, rv_qn (by omega)]
            · simp only [hjk, if_false]
              exact hH j (by omega)
      · have hkn' : k = n := by omega
        subst hkn'
        rw [xq_g, hEt.1, xq_ite, if_pos (by rw [qn_le (by omega) (by omega)]; omega), xq_rt, xq_elim_r, xq_rt, ← hP]
        exact ⟨hft, hH⟩
