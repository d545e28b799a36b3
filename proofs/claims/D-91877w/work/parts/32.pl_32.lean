/-! the reference runs a case at hand -/
set_option maxRecDepth 100000
/-- the case at hand: its n sayings' words D, the rules at hand R, which offers are barred -/
def yE (μ : xw_Mu) (n : Nat) (D : Nat → Nat → Int32) (R : Nat → Int32) (bar : Nat → Bool) : Prop :=
  yI μ 27 = qn n ∧ (∀ k, k < n → yA μ 30 k = D k 0) ∧ (∀ k, k < n → yA μ 31 k = D k 4) ∧ (∀ k, k < n → yA μ 32 k = D k 7) ∧ (∀ k, k < n → yA μ 33 k = D k 5) ∧ (∀ k, k < n → yA μ 34 k = D k 3) ∧
  (∀ k, k < n → yA μ 35 k = D k 1) ∧ (∀ k, k < n → yA μ 36 k = D k 2) ∧ (∀ k, k < n → yA μ 37 k = qb (bar k)) ∧ (∀ k j, k < n → j < 5 → yA μ 38 (5 * k + j) = D k (8 + j)) ∧
  (∀ k j, k < n → j < 3 → yA μ 39 (3 * k + j) = D k (13 + j)) ∧ (∀ k j, k < n → j < 3 → yA μ 40 (3 * k + j) = D k (16 + j)) ∧ (∀ f, f < 13 → yA μ 26 f = R f)
/-- its hours -/
def yH (μ : xw_Mu) (n : Nat) (H : Nat → Nat → Nat) : Prop := ∀ k, k < n → yA μ 43 k = qn (H k 0) ∧ yA μ 44 k = rv (H k 1) ∧ yA μ 45 k = rv (H k 2)
def hH (n : Nat) (H : Nat → Nat → Nat) : Prop := ∀ k, k < n → H k 0 ≤ 2100 ∧ (H k 1 ≤ 3100 ∨ H k 1 = 9999) ∧ (H k 2 ≤ 4100 ∨ H k 2 = 9999)
theorem y_when {μ : xw_Mu} {n : Nat} {H : Nat → Nat → Nat} (h : yH μ n H) (hH0 : hH n H) (hn : n ≤ 12) {k : Nat} {w : Int32} (hk : k < n) (hw : qr 2 w) (P : Int32 → xw_Mu → Prop) : xq_w (pg_X2_when (qn k) w) μ P = P (rv (H k (dn w))) μ := by
  obtain ⟨h1, h2⟩ := hw
  obtain ⟨h43, h44, h45⟩ := h k hk
  unfold pg_X2_when
  have := (hH0 k hk).1
  rcases (by omega : dn w = 0 ∨ dn w = 1 ∨ dn w = 2) with h3 | h3 | h3 <;> rw [h1, h3] <;> simp (disch := first | omega | assumption | decide | exact qb_or _) only [xq_bd, xq_rt, xq_lt, xq_jn, xq_ite, xq_g, xq_gJ, xq_pJ, xq_lds, xq_ldls, xq_sts, xq_stls, xq_stZs, xq_ps, xq_pbs, qn_add, qn_addl, qn_addr, qn_mul, qn_mull, qn_lel, qn_ler, qn_ltl, qn_ltr, qn_eql, qn_eqr, qn_le, qn_lt, qn_inj, qn_ne1, xq_elim_l, xq_elim_r, yI_sI, yI_sJ, yI_sA, yJ_sI, yJ_sJ, yJ_sA, yA_sI, yA_sJ, yA_sA, h43, h44, h45, dn_qn, rv_qn, Nat.reduceEqDiff, if_true, if_false]
theorem y_isSmall {μ : xw_Mu} {n : Nat} {D : Nat → Nat → Int32} {R : Nat → Int32} {bar : Nat → Bool} (h : yE μ n D R bar) (hR : sp_okR R) {c : Nat} (hD : sp_ok c n D) {k : Nat} (hk : k < n) (P : Int32 → xw_Mu → Prop) : xq_w (pg_X2_isSmall (qn k)) μ P = P (qb (sp_small D R k)) μ := by
  obtain ⟨e27, e30, e31, e32, e33, e34, e35, e36, e37, e38, e39, e40, e26⟩ := h
  obtain ⟨hn, hD⟩ := hD
  have w0 := e38 k 0 hk (by omega)
  have w1 := e38 k 1 hk (by omega)
  have w2 := e38 k 2 hk (by omega)
  obtain ⟨_, _, _, _, _, _, _, hw, _⟩ := hD k hk
  have v0 := qo_ge0 (hw 0 (by omega))
  have v1 := qo_ge0 (hw 1 (by omega))
  have v2 := qo_ge0 (hw 2 (by omega))
  obtain ⟨_, _, _, _, r9, _⟩ := hR
  have r9' : R 9 = 0 ∨ R 9 = 1 := by
    obtain ⟨r1, r2⟩ := r9
    rcases (by omega : dn (R 9) = 0 ∨ dn (R 9) = 1) with h3 | h3 <;> rw [r1, h3]
    · left; rfl
    · right; rfl
  simp only [Nat.add_zero, Nat.reduceAdd] at w0 w1 w2 v0 v1 v2
  unfold pg_X2_isSmall sp_small
  simp (disch := first | omega | assumption | decide | exact qb_or _) only [xq_bd, xq_rt, xq_lt, xq_jn, xq_ite, xq_g, xq_gJ, xq_pJ, xq_lds, xq_ldls, xq_sts, xq_stls, xq_stZs, xq_ps, xq_pbs, qn_add, qn_addl, qn_addr, qn_mul, qn_mull, qn_lel, qn_ler, qn_ltl, qn_ltr, qn_eql, qn_eqr, qn_le, qn_lt, qn_inj, qn_ne1, xq_elim_l, xq_elim_r, yI_sI, yI_sJ, yI_sA, yJ_sI, yJ_sJ, yJ_sA, yA_sI, yA_sJ, yA_sA, e30, e26, w0, w1, w2, v0, v1, v2]
  by_cases h3 : D k 0 = 3
  · rcases r9' with h9 | h9
    · simp [h3, h9, qb]
    · by_cases a0 : D k 8 = -1 <;> by_cases a1 : D k 9 = -1 <;> by_cases a2 : D k 10 = -1 <;> simp [h3, h9, a0, a1, a2, qb]
  · simp [h3, qb]
theorem y_isOffering {μ : xw_Mu} {n : Nat} {D : Nat → Nat → Int32} {R : Nat → Int32} {bar : Nat → Bool} (h : yE μ n D R bar) (hR : sp_okR R) {c : Nat} (hD : sp_ok c n D) {k : Nat} (hk : k < n) (P : Int32 → xw_Mu → Prop) : xq_w (pg_X2_isOffering (qn k)) μ P = P (qb (sp_off D R k)) μ := by
  have e30 := h.2.1
  have hn := hD.1
  have hs := fun P => y_isSmall h hR hD hk P
  unfold pg_X2_isOffering sp_off
  simp (disch := first | omega | assumption | decide | exact qb_or _) only [xq_bd, xq_rt, xq_lt, xq_jn, xq_ite, xq_g, xq_gJ, xq_pJ, xq_lds, xq_ldls, xq_sts, xq_stls, xq_stZs, xq_ps, xq_pbs, qn_add, qn_addl, qn_addr, qn_mul, qn_mull, qn_lel, qn_ler, qn_ltl, qn_ltr, qn_eql, qn_eqr, qn_le, qn_lt, qn_inj, qn_ne1, xq_elim_l, xq_elim_r, yI_sI, yI_sJ, yI_sA, yJ_sI, yJ_sJ, yJ_sA, yA_sI, yA_sJ, yA_sA, e30, hs, qb_0]
  by_cases h3 : D k 0 = 3 <;> by_cases h0 : D k 0 = 0 <;> cases hs : sp_small D R k <;> simp [h3, h0, hs, qb]
theorem y_isNo {μ : xw_Mu} {n : Nat} {D : Nat → Nat → Int32} {R : Nat → Int32} {bar : Nat → Bool} (h : yE μ n D R bar) (hR : sp_okR R) {c : Nat} (hD : sp_ok c n D) {k : Nat} (hk : k < n) (P : Int32 → xw_Mu → Prop) : xq_w (pg_X2_isNo (qn k)) μ P = P (qb (sp_isno D R k)) μ := by
  have e30 := h.2.1
  have hn := hD.1
  have hs := fun P => y_isSmall h hR hD hk P
  unfold pg_X2_isNo sp_isno
  simp (disch := first | omega | assumption | decide | exact qb_or _) only [xq_bd, xq_rt, xq_lt, xq_jn, xq_ite, xq_g, xq_gJ, xq_pJ, xq_lds, xq_ldls, xq_sts, xq_stls, xq_stZs, xq_ps, xq_pbs, qn_add, qn_addl, qn_addr, qn_mul, qn_mull, qn_lel, qn_ler, qn_ltl, qn_ltr, qn_eql, qn_eqr, qn_le, qn_lt, qn_inj, qn_ne1, xq_elim_l, xq_elim_r, yI_sI, yI_sJ, yI_sA, yJ_sI, yJ_sJ, yJ_sA, yA_sI, yA_sJ, yA_sA, e30, hs, qb_0]
  by_cases h3 : D k 0 = 3 <;> by_cases h0 : D k 0 = 4 <;> cases hs : sp_small D R k <;> simp [h3, h0, hs, qb]
theorem y_isYes {μ : xw_Mu} {n : Nat} {D : Nat → Nat → Int32} {R : Nat → Int32} {bar : Nat → Bool} (h : yE μ n D R bar) (hR : sp_okR R) {c : Nat} (hD : sp_ok c n D) {k : Nat} (hk : k < n) (P : Int32 → xw_Mu → Prop) : xq_w (pg_X2_isYes (qn k)) μ P = P (qb (sp_isyes D R k)) μ := by
  have e30 := h.2.1
  have hn := hD.1
  have hs := fun P => y_isSmall h hR hD hk P
  obtain ⟨_, _, _, _, _, _, _, _, _, _, _, _, e26⟩ := h
  unfold pg_X2_isYes sp_isyes
  simp (disch := first | omega | assumption | decide | exact qb_or _) only [xq_bd, xq_rt, xq_lt, xq_jn, xq_ite, xq_g, xq_gJ, xq_pJ, xq_lds, xq_ldls, xq_sts, xq_stls, xq_stZs, xq_ps, xq_pbs, qn_add, qn_addl, qn_addr, qn_mul, qn_mull, qn_lel, qn_ler, qn_ltl, qn_ltr, qn_eql, qn_eqr, qn_le, qn_lt, qn_inj, qn_ne1, xq_elim_l, xq_elim_r, yI_sI, yI_sJ, yI_sA, yJ_sI, yJ_sJ, yJ_sA, yA_sI, yA_sJ, yA_sA, e30, e26, hs, qb_0]
  by_cases h2 : D k 0 = 2 <;> by_cases h6 : D k 0 = 6 <;> cases hs : sp_small D R k <;> by_cases h11 : R 11 = 1 <;> simp [h2, h6, h11, hs, qb]
/-- what a saying answers: a place ahead of it, or none -/
theorem sp_said {c n : Nat} {D : Nat → Nat → Int32} (hD : sp_ok c n D) {k : Nat} (hk : k < n) : D k 3 = -1 ∨ (D k 3 = qn (dn (D k 3)) ∧ dn (D k 3) < k) := by
  obtain ⟨hn, hD⟩ := hD
  obtain ⟨_, _, _, _, _, _, _, _, _, hs, _⟩ := hD k hk
  split at hs
  · exact Or.inl hs.1
  · obtain ⟨s, hs, h3, _⟩ := hs
    right
    rw [h3, dn_qn (by omega)]
    exact ⟨rfl, hs⟩
theorem sp_said_eq {c n : Nat} {D : Nat → Nat → Int32} (hD : sp_ok c n D) {k o : Nat} (hk : k < n) (ho : o < n) (h : D k 3 = qn o) : o < k := by
  have hn := hD.1
  rcases sp_said hD hk with h1 | ⟨h1, h2⟩
  · rw [h] at h1
    rw [qn_ne1 (by omega)] at h1
    exact h1.elim
  · rw [h, dn_qn (by omega)] at h2
    exact h2
theorem y_backHour {μ : xw_Mu} {n : Nat} {D : Nat → Nat → Int32} {R : Nat → Int32} {bar : Nat → Bool} {H : Nat → Nat → Nat} (h : yE μ n D R bar) (hR : sp_okR R) {c : Nat} (hD : sp_ok c n D) (hH0 : hH n H) (hH1 : yH μ n H) {k o : Nat} (hk : k < n) (ho : o < n) (P : Int32 → xw_Mu → Prop) : xq_w (pg_X2_backHour (qn k) (qn o)) μ P = P (rv (sp_back D R H o k)) μ := by
  obtain ⟨e27, e30, e31, e32, e33, e34, e35, e36, e37, e38, e39, e40, e26⟩ := h
  have hn := hD.1
  have r4 := hR.1 4 (by omega)
  have hw := fun P => y_when hH1 hH0 hn hk r4 P
  obtain ⟨_, _, _, _, hh, _⟩ := hD.2 o ho
  have v0 := qo_lt0 hh
  have hb : H k (dn (R 4)) ≤ 9999 := by
    have := hH0 k hk
    obtain ⟨_, h4⟩ := r4
    rcases (by omega : dn (R 4) = 0 ∨ dn (R 4) = 1 ∨ dn (R 4) = 2) with h | h | h <;> rw [h] <;> omega
  unfold pg_X2_backHour sp_back
  simp (disch := first | omega | assumption | decide | exact qb_or _) only [xq_bd, xq_rt, xq_lt, xq_jn, xq_ite, xq_g, xq_gJ, xq_pJ, xq_lds, xq_ldls, xq_sts, xq_stls, xq_stZs, xq_ps, xq_pbs, qn_add, qn_addl, qn_addr, qn_mul, qn_mull, qn_lel, qn_ler, qn_ltl, qn_ltr, qn_eql, qn_eqr, qn_le, qn_lt, qn_inj, qn_ne1, xq_elim_l, xq_elim_r, yI_sI, yI_sJ, yI_sA, yJ_sI, yJ_sJ, yJ_sA, yA_sI, yA_sJ, yA_sA, e30, e34, e33, e26, hw, v0]
  by_cases h5 : D k 0 = 5 <;> by_cases h3 : D k 3 = qn o <;> by_cases hm : D o 5 = -1 <;> by_cases h6 : R 6 = 1 <;> simp only [h5, h3, hm, h6, if_true, if_false, true_and, false_and, and_true, and_false, ne_eq, not_true_eq_false, not_false_eq_true, rv_m1 (Nat.le_refl 9999)]
  rcases hh with hh | ⟨h8, h9⟩
  · exact absurd hh hm
  · rw [h8, dn_qn (by omega)]
    unfold rv
    by_cases h10 : H k (dn (R 4)) < 9999
    · simp only [h10, if_true, qn_lt (show dn (D o 5) < 2147483648 by omega) (show H k (dn (R 4)) < 2147483648 by omega)]
      by_cases h11 : dn (D o 5) < H k (dn (R 4))
      · simp only [h11, if_true, show ¬ H k (dn (R 4)) ≤ dn (D o 5) by omega, if_false, h10]
      · simp only [h11, if_false, show H k (dn (R 4)) ≤ dn (D o 5) by omega, if_true, Nat.lt_irrefl]
    · have h12 : H k (dn (R 4)) = 9999 := by omega
      have h13 : ¬ qn (dn (D o 5)) < -1 := by
        rw [Int32.lt_iff_toInt_lt, qn_toInt (by omega)]
        show ¬ ((dn (D o 5) : Int) < -1)
        omega
      simp only [h12, h13, Nat.lt_irrefl, if_false, show ¬ 9999 ≤ dn (D o 5) by omega]
theorem y_noHour {μ : xw_Mu} {n : Nat} {D : Nat → Nat → Int32} {R : Nat → Int32} {bar : Nat → Bool} {H : Nat → Nat → Nat} (h : yE μ n D R bar) (hR : sp_okR R) {c : Nat} (hD : sp_ok c n D) (hH0 : hH n H) (hH1 : yH μ n H) {k o : Nat} (hk : k < n) (P : Int32 → xw_Mu → Prop) : xq_w (pg_X2_noHour (qn k) (qn o)) μ P = P (rv (sp_no D R H o k)) μ := by
  have hs := fun P => y_isNo h hR hD hk P
  obtain ⟨e27, e30, e31, e32, e33, e34, e35, e36, e37, e38, e39, e40, e26⟩ := h
  have hn := hD.1
  have hw := fun P => y_when hH1 hH0 hn hk (hR.1 5 (by omega)) P
  unfold pg_X2_noHour sp_no
  simp (disch := first | omega | assumption | decide | exact qb_or _) only [xq_bd, xq_rt, xq_lt, xq_jn, xq_ite, xq_g, xq_gJ, xq_pJ, xq_lds, xq_ldls, xq_sts, xq_stls, xq_stZs, xq_ps, xq_pbs, qn_add, qn_addl, qn_addr, qn_mul, qn_mull, qn_lel, qn_ler, qn_ltl, qn_ltr, qn_eql, qn_eqr, qn_le, qn_lt, qn_inj, qn_ne1, xq_elim_l, xq_elim_r, yI_sI, yI_sJ, yI_sA, yJ_sI, yJ_sJ, yJ_sA, yA_sI, yA_sJ, yA_sA, e34, e26, hw, hs, qb_0]
  cases h5 : sp_isno D R k <;> by_cases h3 : D k 3 = qn o <;> simp only [h3, if_true, if_false, Bool.false_eq_true, Bool.true_eq_false, true_and, false_and, and_true, and_false, and_self, rv_m1 (Nat.le_refl 9999)]
/-! frames: which ints and which arrays may have been written -/
def yfr (I A : List Nat) (μ μ' : xw_Mu) : Prop := (∀ k, k ∉ I → yI μ' k = yI μ k) ∧ (∀ j, j ∉ A → ∀ i, yA μ' j i = yA μ j i)
theorem yfr_refl (I A : List Nat) (μ : xw_Mu) : yfr I A μ μ := ⟨fun _ _ => rfl, fun _ _ _ => rfl⟩
theorem yfr_trans {I A : List Nat} {μ μ' μ'' : xw_Mu} (h : yfr I A μ μ') (h2 : yfr I A μ' μ'') : yfr I A μ μ'' := ⟨fun k hk => (h2.1 k hk).trans (h.1 k hk), fun j hj i => (h2.2 j hj i).trans (h.2 j hj i)⟩
theorem yfr_mono {I A I' A' : List Nat} {μ μ' : xw_Mu} (h : yfr I A μ μ') (hI : ∀ k, k ∈ I → k ∈ I') (hA : ∀ k, k ∈ A → k ∈ A') : yfr I' A' μ μ' := ⟨fun k hk => h.1 k (fun hx => hk (hI k hx)), fun j hj => h.2 j (fun hx => hj (hA j hx))⟩
theorem yfr_sA {I A : List Nat} {μ μ' : xw_Mu} (h : yfr I A μ μ') {j i : Nat} {v : Int32} (hj : j ∈ A) : yfr I A μ (ysA μ' j i v) := ⟨fun k hk => h.1 k hk, fun j' hj' i' => by
  rw [yA_sA, if_neg (fun hx : j' = j => hj' (hx ▸ hj))]
  exact h.2 j' hj' i'⟩
theorem yfr_sI {I A : List Nat} {μ μ' : xw_Mu} (h : yfr I A μ μ') {k : Nat} {v : Int32} (hk : k ∈ I) : yfr I A μ (ysI μ' k v) := ⟨fun k' hk' => by
  rw [yI_sI, if_neg (fun hx : k' = k => hk' (hx ▸ hk))]
  exact h.1 k' hk', fun j' hj' i' => h.2 j' hj' i'⟩
theorem yE_fr {I A : List Nat} {μ μ' : xw_Mu} (hf : yfr I A μ μ') {n : Nat} {D : Nat → Nat → Int32} {R : Nat → Int32} {bar : Nat → Bool} (h : yE μ n D R bar) (hI : 27 ∉ I) (hA : ∀ j, j ∈ A → j ∉ [26, 30, 31, 32, 33, 34, 35, 36, 37, 38, 39, 40]) : yE μ' n D R bar := by
  have g : ∀ j, j ∈ [26, 30, 31, 32, 33, 34, 35, 36, 37, 38, 39, 40] → ∀ i, yA μ' j i = yA μ j i := fun j hj i => hf.2 j (fun hx => hA j hx hj) i
  obtain ⟨e27, e30, e31, e32, e33, e34, e35, e36, e37, e38, e39, e40, e26⟩ := h
  refine ⟨(hf.1 27 hI).trans e27, fun k hk => ?_, fun k hk => ?_, fun k hk => ?_, fun k hk => ?_, fun k hk => ?_, fun k hk => ?_, fun k hk => ?_, fun k hk => ?_, fun k j hk hj => ?_, fun k j hk hj => ?_, fun k j hk hj => ?_, fun k hk => ?_⟩
  · rw [g 30 (by decide)]; exact e30 k hk
  · rw [g 31 (by decide)]; exact e31 k hk
  · rw [g 32 (by decide)]; exact e32 k hk
  · rw [g 33 (by decide)]; exact e33 k hk
  · rw [g 34 (by decide)]; exact e34 k hk
  · rw [g 35 (by decide)]; exact e35 k hk
  · rw [g 36 (by decide)]; exact e36 k hk
  · rw [g 37 (by decide)]; exact e37 k hk
  · rw [g 38 (by decide)]; exact e38 k j hk hj
  · rw [g 39 (by decide)]; exact e39 k j hk hj
  · rw [g 40 (by decide)]; exact e40 k j hk hj
  · rw [g 26 (by decide)]; exact e26 k hk
theorem yH_fr {I A : List Nat} {μ μ' : xw_Mu} (hf : yfr I A μ μ') {n : Nat} {H : Nat → Nat → Nat} (h : yH μ n H) (hA : ∀ j, j ∈ A → j ∉ [43, 44, 45]) : yH μ' n H := by
  have g : ∀ j, j ∈ [43, 44, 45] → ∀ i, yA μ' j i = yA μ j i := fun j hj i => hf.2 j (fun hx => hA j hx hj) i
  intro k hk
  rw [g 43 (by decide), g 44 (by decide), g 45 (by decide)]
  exact h k hk
/-- an offer's end, told by a number: 8 times the hour and the cause -/
theorem y_endsBy {μ : xw_Mu} {o h c E : Nat} (ho : o < 12) (hh : h ≤ 9999) (hc : 1 ≤ c) (hc2 : c ≤ 4) (hE : E ≤ 79992) (hE0 : 1 ≤ E % 8 ∨ E = 79992) (h48 : yA μ 48 o = qn (E / 8)) (h49 : yA μ 49 o = qn (E % 8)) :
    xq_w (pg_X2_endsBy (qn o) (rv h) (qn c)) μ fun _ μ' => yfr [] [48, 49] μ μ' ∧ (∀ o', o' ≠ o → yA μ' 48 o' = yA μ 48 o' ∧ yA μ' 49 o' = yA μ 49 o') ∧ yA μ' 48 o = qn (min E (8 * h + c) / 8) ∧ yA μ' 49 o = qn (min E (8 * h + c) % 8) := by
  generalize hP : (fun (_ : Unit) (μ' : xw_Mu) => yfr [] [48, 49] μ μ' ∧ (∀ o', o' ≠ o → yA μ' 48 o' = yA μ 48 o' ∧ yA μ' 49 o' = yA μ 49 o') ∧ yA μ' 48 o = qn (min E (8 * h + c) / 8) ∧ yA μ' 49 o = qn (min E (8 * h + c) % 8)) = P
  unfold pg_X2_endsBy
  by_cases h1 : 9999 ≤ h
  · rw [xq_ite, if_pos (show rv h < 0 by rw [rv_lt0]; exact h1), xq_rt, ← hP, Nat.min_eq_left (by omega)]
    exact ⟨yfr_refl _ _ _, fun _ _ => ⟨rfl, rfl⟩, h48, h49⟩
  · rw [xq_ite, if_neg (show ¬ rv h < 0 by rw [rv_lt0]; exact h1), rv_qn (by omega)]
    simp (disch := first | omega | assumption | decide | exact qb_or _) only [xq_bd, xq_rt, xq_lt, xq_jn, xq_ite, xq_g, xq_gJ, xq_pJ, xq_lds, xq_ldls, xq_sts, xq_stls, xq_stZs, xq_ps, xq_pbs, qn_add, qn_addl, qn_addr, qn_mul, qn_mull, qn_lel, qn_ler, qn_ltl, qn_ltr, qn_eql, qn_eqr, qn_le, qn_lt, qn_inj, qn_ne1, xq_elim_l, xq_elim_r, yI_sI, yI_sJ, yI_sA, yJ_sI, yJ_sJ, yJ_sA, yA_sI, yA_sJ, yA_sA, h48, h49]
    rw [← hP]
    dsimp only
    have stay : E ≤ 8 * h + c → yfr [] [48, 49] μ μ ∧ (∀ o', o' ≠ o → yA μ 48 o' = yA μ 48 o' ∧ yA μ 49 o' = yA μ 49 o') ∧ yA μ 48 o = qn (min E (8 * h + c) / 8) ∧ yA μ 49 o = qn (min E (8 * h + c) % 8) := by
      intro hle
      rw [Nat.min_eq_left hle]
      exact ⟨yfr_refl _ _ _, fun _ _ => ⟨rfl, rfl⟩, h48, h49⟩
    have move : 8 * h + c < E → yfr [] [48, 49] μ (ysA (ysA μ 48 o (qn h)) 49 o (qn c)) ∧ (∀ o', o' ≠ o → yA (ysA (ysA μ 48 o (qn h)) 49 o (qn c)) 48 o' = yA μ 48 o' ∧ yA (ysA (ysA μ 48 o (qn h)) 49 o (qn c)) 49 o' = yA μ 49 o') ∧ yA (ysA (ysA μ 48 o (qn h)) 49 o (qn c)) 48 o = qn (min E (8 * h + c) / 8) ∧ yA (ysA (ysA μ 48 o (qn h)) 49 o (qn c)) 49 o = qn (min E (8 * h + c) % 8) := by
      intro hlt
      rw [Nat.min_eq_right (by omega), show (8 * h + c) / 8 = h by omega, show (8 * h + c) % 8 = c by omega]
      refine ⟨yfr_sA (yfr_sA (yfr_refl _ _ _) (by decide)) (by decide), fun o' ho' => ?_, ?_, ?_⟩
      · simp [yA_sA, ho']
      · simp [yA_sA]
      · simp [yA_sA]
    by_cases h2 : E / 8 < h
    · rw [if_pos h2]
      exact stay (by omega)
    · rw [if_neg h2]
      by_cases h3 : h = E / 8
      · rw [if_pos h3]
        by_cases h4 : E % 8 ≤ 0
        · exfalso
          omega
        · rw [if_neg h4]
          by_cases h5 : c < E % 8
          · rw [if_pos h5]
            exact move (by omega)
          · rw [if_neg h5]
            exact stay (by omega)
      · rw [if_neg h3]
        exact move (by omega)
