/-! the reference: who makes the bargain -/
set_option maxRecDepth 100000
theorem any_f {n : Nat} {p : Nat → Bool} (h : ∀ j, j < n → p j = false) : (List.range n).any p = false := by
  rw [List.any_eq_false]
  intro j hj
  rw [h j (List.mem_range.mp hj)]
  decide
theorem any_t {n j : Nat} {p : Nat → Bool} (hj : j < n) (h : p j = true) : (List.range n).any p = true := List.any_eq_true.mpr ⟨j, List.mem_range.mpr hj, h⟩
theorem y_isOpenAt {μ : xw_Mu} {o h : Nat} {F E : Nat → Nat} (ho : o < 12) (hh : h < 9999) (hE : E o ≤ 9999) (h47 : yA μ 47 o = rv (F o)) (h48 : yA μ 48 o = qn (E o)) (P : Int32 → xw_Mu → Prop) : xq_w (pg_X2_isOpenAt (qn o) (qn h)) μ P = P (qb (sp_open F E o h)) μ := by
  unfold pg_X2_isOpenAt sp_open
  simp (disch := first | omega | assumption | decide | exact qb_or _) only [xq_bd, xq_rt, xq_lt, xq_jn, xq_ite, xq_g, xq_gJ, xq_pJ, xq_lds, xq_ldls, xq_sts, xq_stls, xq_stZs, xq_ps, xq_pbs, qn_add, qn_addl, qn_addr, qn_mul, qn_mull, qn_lel, qn_ler, qn_ltl, qn_ltr, qn_eql, qn_eqr, qn_le, qn_lt, qn_inj, qn_ne1, xq_elim_l, xq_elim_r, yI_sI, yI_sJ, yI_sA, yJ_sI, yJ_sJ, yJ_sA, yA_sI, yA_sJ, yA_sA, h47, h48, rv_lt0]
  by_cases h1 : 9999 ≤ F o
  · rw [if_pos h1]
    have : ¬ F o ≤ h := by omega
    simp [this, qb]
  · rw [if_neg h1, rv_qn (by omega)]
    simp (disch := first | omega | assumption | decide | exact qb_or _) only [xq_bd, xq_rt, xq_lt, xq_jn, xq_ite, xq_g, xq_gJ, xq_pJ, xq_lds, xq_ldls, xq_sts, xq_stls, xq_stZs, xq_ps, xq_pbs, qn_add, qn_addl, qn_addr, qn_mul, qn_mull, qn_lel, qn_ler, qn_ltl, qn_ltr, qn_eql, qn_eqr, qn_le, qn_lt, qn_inj, qn_ne1, xq_elim_l, xq_elim_r, yI_sI, yI_sJ, yI_sA, yJ_sI, yJ_sJ, yJ_sA, yA_sI, yA_sJ, yA_sA]
    by_cases h2 : h < F o
    · have : ¬ F o ≤ h := by omega
      simp [h2, this, qb]
    · rw [if_neg h2]
      have h3 : F o ≤ h := by omega
      by_cases h4 : E o ≤ h
      · have : ¬ h < E o := by omega
        simp [h4, this, qb]
      · have : h < E o := by omega
        simp [h4, this, hh, h3, qb]
theorem sp_way {c n : Nat} {D : Nat → Nat → Int32} (hD : sp_ok c n D) {k : Nat} (hk : k < n) : qr 3 (D k 4) := (hD.2 k hk).2.2.2.1
theorem y_yesHour {μ : xw_Mu} {n : Nat} {D : Nat → Nat → Int32} {R : Nat → Int32} {bar : Nat → Bool} {H : Nat → Nat → Nat} (h : yE μ n D R bar) (hR : sp_okR R) {c : Nat} (hD : sp_ok c n D) (hH0 : hH n H) (hH1 : yH μ n H) {k : Nat} (hk : k < n) (P : Int32 → xw_Mu → Prop) : xq_w (pg_X2_yesHour (qn k)) μ P = P (rv (sp_yh D R H k)) μ := by
  obtain ⟨e27, e30, e31, e32, e33, e34, e35, e36, e37, e38, e39, e40, e26⟩ := h
  have hn := hD.1
  have hw : ∀ (w : Int32) P, qr 2 w → xq_w (pg_X2_when (qn k) w) μ P = P (rv (H k (dn w))) μ := fun w P hw => y_when hH1 hH0 hn hk hw P
  obtain ⟨h4, h4'⟩ := sp_way hD hk
  have hb := (hH0 k hk).1
  unfold pg_X2_yesHour sp_yh
  by_cases h6 : D k 0 = 6
  · simp (disch := first | omega | assumption | decide | exact qb_or _) only [xq_bd, xq_rt, xq_lt, xq_jn, xq_ite, xq_g, xq_gJ, xq_pJ, xq_lds, xq_ldls, xq_sts, xq_stls, xq_stZs, xq_ps, xq_pbs, qn_add, qn_addl, qn_addr, qn_mul, qn_mull, qn_lel, qn_ler, qn_ltl, qn_ltr, qn_eql, qn_eqr, qn_le, qn_lt, qn_inj, qn_ne1, xq_elim_l, xq_elim_r, yI_sI, yI_sJ, yI_sA, yJ_sI, yJ_sJ, yJ_sA, yA_sI, yA_sJ, yA_sA, e30, h6, if_true, (hH1 k hk).1, rv_qn (show H k 0 < 9999 by omega)]
  · obtain ⟨w, hw4, hw3⟩ : ∃ w, D k 4 = qn w ∧ w ≤ 3 := ⟨_, h4, h4'⟩
    have hw' : ∀ (w : Nat) P, w ≤ 2 → xq_w (pg_X2_when (qn k) (R w)) μ P = P (rv (H k (dn (R w)))) μ := fun w P h2 => hw _ P (hR.1 w (by omega))
    simp (disch := first | omega | assumption | decide | exact qb_or _) only [xq_bd, xq_rt, xq_lt, xq_jn, xq_ite, xq_g, xq_gJ, xq_pJ, xq_lds, xq_ldls, xq_sts, xq_stls, xq_stZs, xq_ps, xq_pbs, qn_add, qn_addl, qn_addr, qn_mul, qn_mull, qn_lel, qn_ler, qn_ltl, qn_ltr, qn_eql, qn_eqr, qn_le, qn_lt, qn_inj, qn_ne1, xq_elim_l, xq_elim_r, yI_sI, yI_sJ, yI_sA, yJ_sI, yJ_sJ, yJ_sA, yA_sI, yA_sJ, yA_sA, e30, h6, if_false, e31, hw4, dn_qn, e26, hw']
    by_cases h2 : w ≤ 2
    · rw [if_pos h2, Nat.min_eq_right h2]
    · rw [if_neg h2, Nat.min_eq_left (by omega)]
theorem y_isTakenBack {μ : xw_Mu} {n : Nat} {D : Nat → Nat → Int32} {R : Nat → Int32} {bar : Nat → Bool} {H : Nat → Nat → Nat} (h : yE μ n D R bar) (hR : sp_okR R) {c : Nat} (hD : sp_ok c n D) (hH0 : hH n H) (hH1 : yH μ n H) {k h9 : Nat} (hk : k < n) (hh : h9 < 9999) (P : Int32 → xw_Mu → Prop) (hp : P (qb (sp_tb n D R H k h9)) μ) : xq_w (pg_X2_isTakenBack (qn k) (qn h9)) μ P := by
  obtain ⟨e27, e30, e31, e32, e33, e34, e35, e36, e37, e38, e39, e40, e26⟩ := h
  have hn := hD.1
  have r4 := hR.1 4 (by omega)
  unfold pg_X2_isTakenBack
  rw [xq_lt, qn_addl.2.1]
  refine xq_loop (I := fun i a s => a = qn (k + 1 + i) ∧ k + 1 + i ≤ n ∧ s = μ ∧ ∀ j, j < k + 1 + i → (D j 0 = 5 && D j 3 = qn k && H j (dn (R 4)) < h9) = false) (N := n - (k + 1)) ⟨rfl, by omega, rfl, fun j hj => ?_⟩ (by omega) ?_
  · have h3 : D j 3 ≠ qn k := fun h3 => by have := sp_said_eq hD (show j < n by omega) hk h3; omega
    simp [h3]
  · rintro i a s hi ⟨rfl, hin, rfl, hj⟩
    by_cases hlt : k + 1 + i < n
    · have hw := fun P => y_when hH1 hH0 hn hlt r4 P
      have hb := hH_le hH0 hlt r4.2
      rw [xq_g, e27, xq_ite, if_neg (by rw [qn_le (by omega) (by omega)]; omega)]
      simp (disch := first | omega | assumption | decide | exact qb_or _) only [xq_bd, xq_rt, xq_lt, xq_jn, xq_ite, xq_g, xq_gJ, xq_pJ, xq_lds, xq_ldls, xq_sts, xq_stls, xq_stZs, xq_ps, xq_pbs, qn_add, qn_addl, qn_addr, qn_mul, qn_mull, qn_lel, qn_ler, qn_ltl, qn_ltr, qn_eql, qn_eqr, qn_le, qn_lt, qn_inj, qn_ne1, xq_elim_l, xq_elim_r, yI_sI, yI_sJ, yI_sA, yJ_sI, yJ_sJ, yJ_sA, yA_sI, yA_sJ, yA_sA, e30, e34, e26, hw]
      have next : (D (k + 1 + i) 0 = 5 && D (k + 1 + i) 3 = qn k && H (k + 1 + i) (dn (R 4)) < h9) = false → i < n - (k + 1) ∧ k + 1 + i + 1 = k + 1 + (i + 1) ∧ k + 1 + (i + 1) ≤ n ∧ True ∧ ∀ j, j < k + 1 + (i + 1) → (D j 0 = 5 && D j 3 = qn k && H j (dn (R 4)) < h9) = false := by
        intro hf
        refine ⟨by omega, by omega, by omega, trivial, fun j hj2 => ?_⟩
        rcases (by omega : j < k + 1 + i ∨ j = k + 1 + i) with h1 | h1
        · exact hj j h1
        · rw [h1]; exact hf
      by_cases h5 : D (k + 1 + i) 0 = 5
      · rw [if_pos h5]
        by_cases h3 : D (k + 1 + i) 3 = qn k
        · rw [if_pos h3]
          by_cases hv : 9999 ≤ H (k + 1 + i) (dn (R 4))
          · rw [if_pos (show rv (H (k + 1 + i) (dn (R 4))) < 0 by rw [rv_lt0]; exact hv)]
            exact next (by simp [show ¬ H (k + 1 + i) (dn (R 4)) < h9 by omega])
          · rw [if_neg (show ¬ rv (H (k + 1 + i) (dn (R 4))) < 0 by rw [rv_lt0]; exact hv), rv_qn (h := H (k + 1 + i) (dn (R 4))) (by omega)]
            by_cases hl : h9 ≤ H (k + 1 + i) (dn (R 4))
            · rw [if_pos (show qn h9 ≤ qn (H (k + 1 + i) (dn (R 4))) by rw [qn_le (by omega) (by omega)]; exact hl)]
              exact next (by simp [show ¬ H (k + 1 + i) (dn (R 4)) < h9 by omega])
            · rw [if_neg (show ¬ qn h9 ≤ qn (H (k + 1 + i) (dn (R 4))) by rw [qn_le (by omega) (by omega)]; exact hl)]
              have : sp_tb n D R H k h9 = true := any_t hlt (by simp [h5, h3]; omega)
              rw [this] at hp
              exact hp
        · rw [if_neg h3, if_pos (by decide)]
          exact next (by simp [h3])
      · rw [if_neg h5, if_pos (by decide)]
        exact next (by simp [h5])
    · have hin' : k + 1 + i = n := by omega
      rw [xq_g, e27, xq_ite, if_pos (by rw [qn_le (by omega) (by omega)]; omega), xq_rt, xq_elim_r]
      have : sp_tb n D R H k h9 = false := any_f (fun j hj2 => hj j (by omega))
      rw [this] at hp
      exact hp

theorem y_isAnswered {μ : xw_Mu} {n : Nat} {D : Nat → Nat → Int32} {R : Nat → Int32} {bar : Nat → Bool} {H : Nat → Nat → Nat} (h : yE μ n D R bar) {c : Nat} (hD : sp_ok c n D) (hH0 : hH n H) (hH1 : yH μ n H) {k h9 : Nat} (hk : k < n) (hh : h9 < 9999) (P : Int32 → xw_Mu → Prop) (hp : P (qb (sp_ans n D H k h9)) μ) : xq_w (pg_X2_isAnswered (qn k) (qn h9)) μ P := by
  obtain ⟨e27, e30, e31, e32, e33, e34, e35, e36, e37, e38, e39, e40, e26⟩ := h
  have hn := hD.1
  unfold pg_X2_isAnswered
  rw [xq_lt, qn_addl.2.1]
  refine xq_loop (I := fun i a s => a = qn (k + 1 + i) ∧ k + 1 + i ≤ n ∧ s = μ ∧ ∀ j, j < k + 1 + i → (sp_answ D j && D j 3 = qn k && H j 0 ≤ h9) = false) (N := n - (k + 1)) ⟨rfl, by omega, rfl, fun j hj => ?_⟩ (by omega) ?_
  · have h3 : D j 3 ≠ qn k := fun h3 => by have := sp_said_eq hD (show j < n by omega) hk h3; omega
    simp [h3]
  · rintro i a s hi ⟨rfl, hin, rfl, hj⟩
    by_cases hlt : k + 1 + i < n
    · have hb := (hH0 _ hlt).1
      rw [xq_g, e27, xq_ite, if_neg (by rw [qn_le (by omega) (by omega)]; omega)]
      have hwf : ∀ P, xq_w (xw_bd (ym_ld 30 (qn (k + 1 + i))) fun v6 => if v6 = 2 then xw_rt 1 else xw_bd (ym_ld 30 (qn (k + 1 + i))) fun v10 => if v10 = 3 then xw_rt 1 else xw_bd (ym_ld 30 (qn (k + 1 + i))) fun v11 => if v11 = 4 then xw_rt 1 else xw_bd (ym_ld 30 (qn (k + 1 + i))) fun v12 => if v12 = 6 then xw_rt (1 : Int32) else xw_rt 0) s P = P (qb (sp_answ D (k + 1 + i))) s := by
        intro P
        unfold sp_answ
        simp (disch := first | omega | assumption | decide | exact qb_or _) only [xq_bd, xq_rt, xq_lt, xq_jn, xq_ite, xq_g, xq_gJ, xq_pJ, xq_lds, xq_ldls, xq_sts, xq_stls, xq_stZs, xq_ps, xq_pbs, qn_add, qn_addl, qn_addr, qn_mul, qn_mull, qn_lel, qn_ler, qn_ltl, qn_ltr, qn_eql, qn_eqr, qn_le, qn_lt, qn_inj, qn_ne1, xq_elim_l, xq_elim_r, yI_sI, yI_sJ, yI_sA, yJ_sI, yJ_sJ, yJ_sA, yA_sI, yA_sJ, yA_sA, e30]
        by_cases c2 : D (k + 1 + i) 0 = 2 <;> by_cases c3 : D (k + 1 + i) 0 = 3 <;> by_cases c4 : D (k + 1 + i) 0 = 4 <;> by_cases c6 : D (k + 1 + i) 0 = 6 <;> simp [c2, c3, c4, c6, qb]
      rw [← xw_bd_bd, xq_bd, hwf]
      simp (disch := first | omega | assumption | decide | exact qb_or _) only [xq_bd, xq_rt, xq_lt, xq_jn, xq_ite, xq_g, xq_gJ, xq_pJ, xq_lds, xq_ldls, xq_sts, xq_stls, xq_stZs, xq_ps, xq_pbs, qn_add, qn_addl, qn_addr, qn_mul, qn_mull, qn_lel, qn_ler, qn_ltl, qn_ltr, qn_eql, qn_eqr, qn_le, qn_lt, qn_inj, qn_ne1, xq_elim_l, xq_elim_r, yI_sI, yI_sJ, yI_sA, yJ_sI, yJ_sJ, yJ_sA, yA_sI, yA_sJ, yA_sA, e34, qb_0, (hH1 _ hlt).1]
      have next : (sp_answ D (k + 1 + i) && D (k + 1 + i) 3 = qn k && H (k + 1 + i) 0 ≤ h9) = false → i < n - (k + 1) ∧ k + 1 + i + 1 = k + 1 + (i + 1) ∧ k + 1 + (i + 1) ≤ n ∧ True ∧ ∀ j, j < k + 1 + (i + 1) → (sp_answ D j && D j 3 = qn k && H j 0 ≤ h9) = false := by
        intro hf
        refine ⟨by omega, by omega, by omega, trivial, fun j hj2 => ?_⟩
        rcases (by omega : j < k + 1 + i ∨ j = k + 1 + i) with h1 | h1
        · exact hj j h1
        · rw [h1]; exact hf
      cases hx : sp_answ D (k + 1 + i) with
      | false =>
        rw [if_pos rfl]
        exact next (by rw [hx]; rfl)
      | true =>
        rw [if_neg (by decide)]
        by_cases h3 : D (k + 1 + i) 3 = qn k
        · rw [if_pos h3]
          by_cases hl : h9 < H (k + 1 + i) 0
          · rw [if_pos hl]
            exact next (by simp [show ¬ H (k + 1 + i) 0 ≤ h9 by omega])
          · rw [if_neg hl]
            have : sp_ans n D H k h9 = true := any_t hlt (by simp [hx, h3]; omega)
            rw [this] at hp
            exact hp
        · rw [if_neg h3]
          exact next (by simp [h3])
    · have hin' : k + 1 + i = n := by omega
      rw [xq_g, e27, xq_ite, if_pos (by rw [qn_le (by omega) (by omega)]; omega), xq_rt, xq_elim_r]
      have : sp_ans n D H k h9 = false := any_f (fun j hj2 => hj j (by omega))
      rw [this] at hp
      exact hp
/-- the bargain as the reference keeps it -/
def yB (μ : xw_Mu) (b : Nat × Int32 × Nat) : Prop := (b.1 < 9999 → yI μ 50 = 1 ∧ yI μ 51 = b.2.1 ∧ yI μ 52 = qn b.2.2 ∧ yI μ 53 = qn b.1) ∧ (9999 ≤ b.1 → yI μ 50 = 0)
theorem y_offersTo_go {μ : xw_Mu} (y : Int32) (o h : Nat) (hh : h < 9999) : yfr [50, 51, 52, 53] [] μ (ysI (ysI (ysI (ysI μ 50 1) 51 y) 52 (qn o)) 53 (qn h)) ∧ yB (ysI (ysI (ysI (ysI μ 50 1) 51 y) 52 (qn o)) 53 (qn h)) (h, y, o) := by
  refine ⟨yfr_sI (yfr_sI (yfr_sI (yfr_sI (yfr_refl _ _ _) (by decide)) (by decide)) (by decide)) (by decide), fun _ => ⟨?_, ?_, ?_, ?_⟩, fun hx => ?_⟩
  · simp only [yI_sI]; rfl
  · simp only [yI_sI]; rfl
  · simp only [yI_sI]; rfl
  · simp only [yI_sI]; rfl
  · exact absurd hh (Nat.not_lt.mpr hx)
theorem y_offersTo {μ : xw_Mu} {b : Nat × Int32 × Nat} (hb : yB μ b) (y : Int32) (o h : Nat) (hh : h < 9999) (P : Unit → xw_Mu → Prop) (hP : ∀ μ', yfr [50, 51, 52, 53] [] μ μ' → yB μ' (sp_tk h y o b) → P () μ') : xq_w (pg_X2_offersTo y (qn o) (qn h)) μ P := by
  have go := y_offersTo_go (μ := μ) y o h hh
  unfold pg_X2_offersTo
  simp only [xq_g, xq_jn, xq_ite]
  by_cases h1 : b.1 < 9999
  · obtain ⟨h50, h51, h52, h53⟩ := hb.1 h1
    rw [h50, if_neg (by decide), h53]
    by_cases h2 : h < b.1
    · rw [if_pos (by rw [qn_lt (by omega) (by omega)]; exact h2)]
      simp (disch := first | omega | assumption | decide | exact qb_or _) only [xq_bd, xq_rt, xq_lt, xq_jn, xq_ite, xq_g, xq_gJ, xq_pJ, xq_lds, xq_ldls, xq_sts, xq_stls, xq_stZs, xq_ps, xq_pbs, qn_add, qn_addl, qn_addr, qn_mul, qn_mull, qn_lel, qn_ler, qn_ltl, qn_ltr, qn_eql, qn_eqr, qn_le, qn_lt, qn_inj, qn_ne1, xq_elim_l, xq_elim_r, yI_sI, yI_sJ, yI_sA, yJ_sI, yJ_sJ, yJ_sA, yA_sI, yA_sJ, yA_sA]
      exact hP _ go.1 (by unfold sp_tk; rw [if_pos h2]; exact go.2)
    · rw [if_neg (by rw [qn_lt (by omega) (by omega)]; exact h2), xq_rt]
      exact hP _ (yfr_refl _ _ _) (by unfold sp_tk; rw [if_neg h2]; exact hb)
  · rw [hb.2 (Nat.not_lt.mp h1), if_pos rfl]
    simp (disch := first | omega | assumption | decide | exact qb_or _) only [xq_bd, xq_rt, xq_lt, xq_jn, xq_ite, xq_g, xq_gJ, xq_pJ, xq_lds, xq_ldls, xq_sts, xq_stls, xq_stZs, xq_ps, xq_pbs, qn_add, qn_addl, qn_addr, qn_mul, qn_mull, qn_lel, qn_ler, qn_ltl, qn_ltr, qn_eql, qn_eqr, qn_le, qn_lt, qn_inj, qn_ne1, xq_elim_l, xq_elim_r, yI_sI, yI_sJ, yI_sA, yJ_sI, yJ_sJ, yJ_sA, yA_sI, yA_sJ, yA_sA]
    exact hP _ go.1 (by unfold sp_tk; rw [if_pos (by omega)]; exact go.2)
