/-! the reference: when offers are open, when they end and why -/
set_option maxRecDepth 100000
def yO (μ : xw_Mu) (n : Nat) (D : Nat → Nat → Int32) (R : Nat → Int32) (bar : Nat → Bool) (H : Nat → Nat → Nat) (o : Nat) : Prop :=
  yA μ 47 o = rv (sp_from R bar H o) ∧ yA μ 48 o = qn (sp_E n D R H o / 8) ∧ yA μ 49 o = qn (sp_E n D R H o % 8)
/-- what can be at hand: hours bounded -/
theorem hH_le {n : Nat} {H : Nat → Nat → Nat} (h : hH n H) {k : Nat} (hk : k < n) {w : Nat} (hw : w ≤ 2) : H k w ≤ 9999 := by
  have := h k hk
  rcases (by omega : w = 0 ∨ w = 1 ∨ w = 2) with h | h | h <;> subst h <;> omega
theorem sp_back_le {n : Nat} {D : Nat → Nat → Int32} {R : Nat → Int32} {H : Nat → Nat → Nat} (hR : sp_okR R) (h : hH n H) {o j : Nat} (hj : j < n) : sp_back D R H o j ≤ 9999 := by
  have h1 := hH_le h hj (hR.1 4 (by omega)).2
  unfold sp_back
  split
  · split <;> omega
  · omega
theorem sp_no_le {n : Nat} {D : Nat → Nat → Int32} {R : Nat → Int32} {H : Nat → Nat → Nat} (hR : sp_okR R) (h : hH n H) {o j : Nat} (hj : j < n) : sp_no D R H o j ≤ 9999 := by
  have h1 := hH_le h hj (hR.1 5 (by omega)).2
  unfold sp_no
  split <;> omega
theorem sp_back_hi {c n : Nat} {D : Nat → Nat → Int32} {R : Nat → Int32} {H : Nat → Nat → Nat} (hD : sp_ok c n D) {o j : Nat} (ho : o < n) (hj : j < n) (h : j ≤ o) : sp_back D R H o j = 9999 := by
  unfold sp_back
  rw [if_neg]
  rintro ⟨_, h3⟩
  have := sp_said_eq hD hj ho h3
  omega
theorem sp_no_hi {c n : Nat} {D : Nat → Nat → Int32} {R : Nat → Int32} {H : Nat → Nat → Nat} (hD : sp_ok c n D) {o j : Nat} (ho : o < n) (hj : j < n) (h : j ≤ o) : sp_no D R H o j = 9999 := by
  unfold sp_no
  rw [if_neg]
  rintro ⟨_, h3⟩
  have := sp_said_eq hD hj ho h3
  omega
theorem y_findOffers {μ : xw_Mu} {n : Nat} {D : Nat → Nat → Int32} {R : Nat → Int32} {bar : Nat → Bool} {H : Nat → Nat → Nat} (h : yE μ n D R bar) (hR : sp_okR R) {c : Nat} (hD : sp_ok c n D) (hH0 : hH n H) (hH1 : yH μ n H) :
    xq_w pg_X2_findOffers μ fun _ μ' => yfr [] [47, 48, 49] μ μ' ∧ ∀ o, o < n → sp_off D R o = true → yO μ' n D R bar H o := by
  generalize hP : (fun (_ : Unit) (μ' : xw_Mu) => yfr [] [47, 48, 49] μ μ' ∧ ∀ o, o < n → sp_off D R o = true → yO μ' n D R bar H o) = P
  have hn := hD.1
  unfold pg_X2_findOffers
  rw [xq_bd]
  refine xq_loop (I := fun i a s => a = qn i ∧ i ≤ n ∧ yfr [] [47, 48, 49] μ s ∧ ∀ o, o < i → sp_off D R o = true → yO s n D R bar H o) (N := n) ⟨rfl, by omega, yfr_refl _ _ _, fun o h => absurd h (by omega)⟩ (by omega) ?_
  rintro i a s hi ⟨rfl, hin, hf, hO⟩
  have hE := yE_fr hf h (by decide) (by decide)
  have hH' := yH_fr hf hH1 (by decide)
  by_cases hlt : i < n
  · have hio := fun P => y_isOffering hE hR hD hlt P
    have e27 := hE.1
    rw [xq_g, e27, xq_ite, if_neg (by rw [qn_le (by omega) (by omega)]; omega), xq_bd, hio, xq_ite]
    cases hof : sp_off D R i with
    | false =>
      rw [if_pos (show qb false = 0 from rfl)]
      simp (disch := first | omega | assumption | decide | exact qb_or _) only [xq_bd, xq_rt, xq_lt, xq_jn, xq_ite, xq_g, xq_gJ, xq_pJ, xq_lds, xq_ldls, xq_sts, xq_stls, xq_stZs, xq_ps, xq_pbs, qn_add, qn_addl, qn_addr, qn_mul, qn_mull, qn_lel, qn_ler, qn_ltl, qn_ltr, qn_eql, qn_eqr, qn_le, qn_lt, qn_inj, qn_ne1, xq_elim_l, xq_elim_r, yI_sI, yI_sJ, yI_sA, yJ_sI, yJ_sJ, yJ_sA, yA_sI, yA_sJ, yA_sA]
      refine ⟨hlt, trivial, by omega, hf, fun o ho hoo => ?_⟩
      rcases (by omega : o < i ∨ o = i) with h1 | h1
      · exact hO o h1 hoo
      · rw [h1, hof] at hoo; exact absurd hoo (by decide)
    | true =>
      rw [if_neg (show ¬ qb true = 0 by decide)]
      obtain ⟨_, e30, _, _, e33, _, _, _, e37, _, _, _, e26⟩ := hE
      have hwh := fun P => y_when hH' hH0 hn hlt (hR.1 3 (by omega)) P
      have hwf : xq_w (if qb (bar i) = 0 then xw_bd (ym_ld 26 3) (fun v19 => xw_bd (pg_X2_when (qn i) v19) fun v20 => xw_rt v20) else xw_rt (-1)) s = fun P => P (rv (sp_from R bar H i)) s := by
        funext P
        unfold sp_from
        simp (disch := first | omega | assumption | decide | exact qb_or _) only [xq_bd, xq_rt, xq_lt, xq_jn, xq_ite, xq_g, xq_gJ, xq_pJ, xq_lds, xq_ldls, xq_sts, xq_stls, xq_stZs, xq_ps, xq_pbs, qn_add, qn_addl, qn_addr, qn_mul, qn_mull, qn_lel, qn_ler, qn_ltl, qn_ltr, qn_eql, qn_eqr, qn_le, qn_lt, qn_inj, qn_ne1, xq_elim_l, xq_elim_r, yI_sI, yI_sJ, yI_sA, yJ_sI, yJ_sJ, yJ_sA, yA_sI, yA_sJ, yA_sA, e26, hwh, qb_0]
        cases bar i <;> simp [rv_m1]
      simp (disch := first | omega | assumption | decide | exact qb_or _) only [xq_bd, xq_lds, e37, hwf, xq_sts, xq_lt, qn_addl]
      refine xq_loop (I := fun j a t => a = qn (i + 1 + j) ∧ i + 1 + j ≤ n ∧ yfr [] [47, 48, 49] μ t ∧ (∀ o, o < i → sp_off D R o = true → yO t n D R bar H o) ∧ yA t 47 i = rv (sp_from R bar H i) ∧
        yA t 48 i = qn (sp_M (fun j => min (8 * sp_back D R H i j + 1) (8 * sp_no D R H i j + 2)) (i + 1 + j) / 8) ∧ yA t 49 i = qn (sp_M (fun j => min (8 * sp_back D R H i j + 1) (8 * sp_no D R H i j + 2)) (i + 1 + j) % 8)) (N := n - (i + 1)) ?_ (by omega) ?_
      · refine ⟨rfl, by omega, yfr_sA (yfr_sA (yfr_sA hf (by decide)) (by decide)) (by decide), fun o ho hoo => ?_, ?_, ?_, ?_⟩
        · have := hO o ho hoo
          have hne : o ≠ i := by omega
          unfold yO
          simp only [yA_sA, hne, if_false]
          exact this
        · simp [yA_sA]
        all_goals
          rw [sp_M_start _ (i + 1 + 0) (fun j hj => by
            show 79992 ≤ min (8 * sp_back D R H i j + 1) (8 * sp_no D R H i j + 2)
            rw [sp_back_hi hD hlt (show j < n by omega) (by omega), sp_no_hi hD hlt (show j < n by omega) (by omega)]
            decide)]
          simp [yA_sA]
          rfl
      · rintro j a t hj ⟨rfl, hjn, hft, hOt, h47, h48, h49⟩
        have hEt := yE_fr hft h (by decide) (by decide)
        have hHt := yH_fr hft hH1 (by decide)
        by_cases hjl : i + 1 + j < n
        · have hbh := fun P => y_backHour hEt hR hD hH0 hHt hjl hlt P
          rw [xq_g, hEt.1, xq_ite, if_neg (by rw [qn_le (by omega) (by omega)]; omega), xq_bd, hbh, xq_bd]
          have hb9 := sp_back_le (D := D) hR hH0 (o := i) hjl
          have hn9 := sp_no_le (D := D) hR hH0 (o := i) hjl
          have hmd := sp_M_md (fun j => min (8 * sp_back D R H i j + 1) (8 * sp_no D R H i j + 2)) (i + 1 + j) (fun j _ => by
            show 1 ≤ min (8 * sp_back D R H i j + 1) (8 * sp_no D R H i j + 2) % 8
            rcases Nat.le_total (8 * sp_back D R H i j + 1) (8 * sp_no D R H i j + 2) with h3 | h3
            · rw [Nat.min_eq_left h3]; omega
            · rw [Nat.min_eq_right h3]; omega)
          have hle := sp_M_le (fun j => min (8 * sp_back D R H i j + 1) (8 * sp_no D R H i j + 2)) (i + 1 + j)
          refine xq_mono (y_endsBy (c := 1) (by omega) hb9 (by omega) (by omega) hle hmd h48 h49) ?_
          rintro _ t1 ⟨hf1, ho1, k48, k49⟩
          have hft1 : yfr [] [47, 48, 49] μ t1 := yfr_trans hft (yfr_mono hf1 (by decide) (by decide))
          have hEt1 := yE_fr hft1 h (by decide) (by decide)
          have hHt1 := yH_fr hft1 hH1 (by decide)
          have hnh := fun P => y_noHour hEt1 hR hD hH0 hHt1 (o := i) hjl P
          rw [xq_bd, hnh, xq_bd]
          refine xq_mono (y_endsBy (c := 2) (by omega) hn9 (by omega) (by omega) (by omega) (by omega) k48 k49) ?_
          rintro _ t2 ⟨hf2, ho2, l48, l49⟩
          rw [xq_rt, qn_addl.2.1, xq_elim_l]
          refine ⟨by omega, rfl, by omega, yfr_trans hft1 (yfr_mono hf2 (by decide) (by decide)), fun o ho hoo => ?_, ?_, ?_, ?_⟩
          · have h3 := hOt o ho hoo
            have h4 := ho1 o (by omega)
            have h5 := ho2 o (by omega)
            unfold yO at h3 ⊢
            rw [h5.1, h5.2, h4.1, h4.2, hf2.2 47 (by decide), hf1.2 47 (by decide)]
            exact h3
          · rw [hf2.2 47 (by decide), hf1.2 47 (by decide)]; exact h47
          all_goals
            rw [show i + 1 + (j + 1) = (i + 1 + j) + 1 by omega]
            unfold sp_M
            rw [← Nat.min_assoc]
            assumption
        · have hjn' : i + 1 + j = n := by omega
          rw [hjn'] at h48 h49 ⊢
          rw [xq_g, hEt.1, xq_ite, if_pos (by rw [qn_le (by omega) (by omega)]; omega), xq_rt, xq_elim_r]
          obtain ⟨_, _, _, _, f33, _, _, _, _, _, _, _, f26⟩ := hEt
          have h44 := (hHt i hlt).2.1
          have v5 := qo_lt0 (hD.2 i hlt).2.2.2.2.1
          have v7 := qo_lt0 hR.2.2.1
          have g5 := (hD.2 i hlt).2.2.2.2.1
          have g7 := hR.2.2.1
          have fin : sp_tail D R H i = 79992 → i < n ∧ True ∧ i + 1 ≤ n ∧ yfr [] [47, 48, 49] μ t ∧ ∀ o, o < i + 1 → sp_off D R o = true → yO t n D R bar H o := by
            intro ht
            refine ⟨hlt, trivial, by omega, hft, fun o ho hoo => ?_⟩
            rcases (by omega : o < i ∨ o = i) with h1 | h1
            · exact hOt o h1 hoo
            · rw [h1]
              have hle := sp_M_le (fun j => min (8 * sp_back D R H i j + 1) (8 * sp_no D R H i j + 2)) n
              refine ⟨h47, ?_, ?_⟩
              · unfold sp_E; rw [ht, Nat.min_eq_left hle]; exact h48
              · unfold sp_E; rw [ht, Nat.min_eq_left hle]; exact h49
          have hle := sp_M_le (fun j => min (8 * sp_back D R H i j + 1) (8 * sp_no D R H i j + 2)) n
          have hmd := sp_M_md (fun j => min (8 * sp_back D R H i j + 1) (8 * sp_no D R H i j + 2)) n (fun j _ => by
            show 1 ≤ min (8 * sp_back D R H i j + 1) (8 * sp_no D R H i j + 2) % 8
            rcases Nat.le_total (8 * sp_back D R H i j + 1) (8 * sp_no D R H i j + 2) with h3 | h3
            · rw [Nat.min_eq_left h3]; omega
            · rw [Nat.min_eq_right h3]; omega)
          have step : ∀ (h c : Nat), h ≤ 9999 → 1 ≤ c → c ≤ 4 → sp_tail D R H i = 8 * h + c → xq_w (pg_X2_endsBy (qn i) (rv h) (qn c)) t fun _ s' => i < n ∧ True ∧ i + 1 ≤ n ∧ yfr [] [47, 48, 49] μ s' ∧ ∀ o, o < i + 1 → sp_off D R o = true → yO s' n D R bar H o := by
            intro h c hh hc hc2 ht
            refine xq_mono (y_endsBy (c := c) (by omega) hh hc hc2 hle hmd h48 h49) ?_
            rintro _ t1 ⟨hf1, ho1, k48, k49⟩
            refine ⟨hlt, trivial, by omega, yfr_trans hft (yfr_mono hf1 (by decide) (by decide)), fun o ho hoo => ?_⟩
            rcases (by omega : o < i ∨ o = i) with h1 | h1
            · have h3 := hOt o h1 hoo
              have h4 := ho1 o (by omega)
              unfold yO at h3 ⊢
              rw [h4.1, h4.2, hf1.2 47 (by decide)]
              exact h3
            · rw [h1]
              refine ⟨by rw [hf1.2 47 (by decide)]; exact h47, ?_, ?_⟩
              · unfold sp_E; rw [ht]; exact k48
              · unfold sp_E; rw [ht]; exact k49
          simp (disch := first | omega | assumption | decide | exact qb_or _) only [xq_bd, xq_rt, xq_lt, xq_jn, xq_ite, xq_g, xq_gJ, xq_pJ, xq_lds, xq_ldls, xq_sts, xq_stls, xq_stZs, xq_ps, xq_pbs, qn_add, qn_addl, qn_addr, qn_mul, qn_mull, qn_lel, qn_ler, qn_ltl, qn_ltr, qn_eql, qn_eqr, qn_le, qn_lt, qn_inj, qn_ne1, xq_elim_l, xq_elim_r, yI_sI, yI_sJ, yI_sA, yJ_sI, yJ_sJ, yJ_sA, yA_sI, yA_sJ, yA_sA, f33, v5, v7, f26, h44, rv_lt0]
          by_cases c5 : D i 5 = -1
          · rw [if_pos c5]
            by_cases c7 : R 7 = -1
            · rw [if_pos c7]
              exact fin (by unfold sp_tail; rw [if_neg (fun hx => hx c5), if_neg (fun hx => hx.1 c7)])
            · rw [if_neg c7]
              by_cases c1 : 9999 ≤ H i 1
              · rw [if_pos c1]
                exact fin (by unfold sp_tail; rw [if_neg (fun hx => hx c5), if_neg (fun hx => by omega)])
              · rw [if_neg c1]
                rcases g7 with g7 | ⟨g7, g7'⟩
                · exact absurd g7 c7
                · have hb := (hH0 i hlt).2.1
                  rw [g7, rv_qn (h := H i 1) (by omega), qn_add, qn_addl.2.1, ← rv_qn (h := H i 1 + dn (R 7) + 1) (by omega), show (4 : Int32) = qn 4 from rfl]
                  have := step (H i 1 + dn (R 7) + 1) 4 (by omega) (by omega) (by omega) (by unfold sp_tail; rw [if_neg (fun hx => hx c5), if_pos ⟨c7, by omega⟩, Nat.min_eq_right (by omega)])
                  exact this
          · rw [if_neg c5]
            rcases g5 with g5 | ⟨g5, g5'⟩
            · exact absurd g5 c5
            · rw [g5, qn_addl.2.1, ← rv_qn (h := dn (D i 5) + 1) (by omega), show (3 : Int32) = qn 3 from rfl]
              exact step (dn (D i 5) + 1) 3 (by omega) (by omega) (by omega) (by unfold sp_tail; rw [if_pos c5])
  · have hin' : i = n := by omega
    subst hin'
    rw [xq_g, hE.1, xq_ite, if_pos (by rw [qn_le (by omega) (by omega)]; omega), xq_rt, xq_elim_r, xq_rt, ← hP]
    exact ⟨hf, hO⟩
