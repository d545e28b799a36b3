/-! the reference: the bargain of a combo -/
set_option maxRecDepth 100000
theorem sp_E8_le (n : Nat) (D : Nat → Nat → Int32) (R : Nat → Int32) (H : Nat → Nat → Nat) (o : Nat) : sp_E n D R H o / 8 ≤ 9999 := by
  have := sp_E_le n D R H o
  omega
def sp_F (R : Nat → Int32) (bar : Nat → Bool) (H : Nat → Nat → Nat) : Nat → Nat := sp_from R bar H
def sp_e (n : Nat) (D : Nat → Nat → Int32) (R : Nat → Int32) (H : Nat → Nat → Nat) : Nat → Nat := fun o => sp_E n D R H o / 8
/-- the bargain by rules R in a combo of hours H -/
def sp_B (n : Nat) (D : Nat → Nat → Int32) (R : Nat → Int32) (bar : Nat → Bool) (H : Nat → Nat → Nat) : Nat × Int32 × Nat := sp_B2 n D R H (sp_F R bar H) (sp_e n D R H) n
theorem sp_off_of {D : Nat → Nat → Int32} {R : Nat → Int32} {k : Nat} (h : sp_isOf (D k 0) = false) : sp_off D R k = false := by
  unfold sp_isOf at h
  unfold sp_off
  simp only [Bool.or_eq_false_iff] at h
  rw [h.1, h.2]
  rfl
/-- a yes answers something -/
theorem sp_yes_said {c n : Nat} {D : Nat → Nat → Int32} {R : Nat → Int32} (hD : sp_ok c n D) {k : Nat} (hk : k < n) (hy : sp_isyes D R k = true) : D k 3 = qn (dn (D k 3)) ∧ dn (D k 3) < k := by
  obtain ⟨hn, hD⟩ := hD
  obtain ⟨_, _, _, _, _, _, _, _, _, hs, _⟩ := hD k hk
  rw [if_neg] at hs
  · obtain ⟨s, hs, h3, _⟩ := hs
    rw [h3, dn_qn (by omega)]
    exact ⟨rfl, hs⟩
  · intro h
    unfold sp_isyes sp_small at hy
    rcases h with h | h <;> rw [h] at hy <;> simp at hy
theorem sp_yh_le {c n : Nat} {D : Nat → Nat → Int32} {R : Nat → Int32} {H : Nat → Nat → Nat} (hR : sp_okR R) (hH0 : hH n H) {k : Nat} (hk : k < n) : sp_yh D R H k ≤ 9999 := by
  unfold sp_yh
  split
  · exact hH_le hH0 hk (by omega)
  · exact hH_le hH0 hk (hR.1 _ (by omega)).2
theorem sp_tk_le {h : Nat} {y : Int32} {o : Nat} {b : Nat × Int32 × Nat} (hb : b.1 ≤ 9999) : (sp_tk h y o b).1 ≤ 9999 := by
  unfold sp_tk
  split
  · show h ≤ 9999
    omega
  · exact hb
theorem sp_tk_no {h : Nat} {y : Int32} {o : Nat} {b : Nat × Int32 × Nat} (hb : b.1 ≤ 9999) (hh : 9999 ≤ h) : sp_tk h y o b = b := by
  unfold sp_tk
  rw [if_neg (by omega)]
theorem sp_B1_le (n : Nat) (D : Nat → Nat → Int32) (R : Nat → Int32) (H : Nat → Nat → Nat) (F E : Nat → Nat) (k : Nat) : (sp_B1 n D R H F E k).1 ≤ 9999 := by
  induction k with
  | zero => exact Nat.le_refl _
  | succ k ih =>
    unfold sp_B1
    split
    · exact sp_tk_le ih
    · exact ih
theorem sp_B2_le (n : Nat) (D : Nat → Nat → Int32) (R : Nat → Int32) (H : Nat → Nat → Nat) (F E : Nat → Nat) (k : Nat) : (sp_B2 n D R H F E k).1 ≤ 9999 := by
  induction k with
  | zero => exact sp_B1_le n D R H F E n
  | succ k ih =>
    unfold sp_B2
    split
    · exact sp_tk_le ih
    · exact ih
theorem sp_B2_none {n : Nat} {D : Nat → Nat → Int32} {R : Nat → Int32} {H : Nat → Nat → Nat} {F E : Nat → Nat} (h8 : R 8 = -1) (k : Nat) : sp_B2 n D R H F E k = sp_B1 n D R H F E n := by
  induction k with
  | zero => rfl
  | succ k ih =>
    unfold sp_B2
    have : sp_si n D R H F E k = 9999 := by
      unfold sp_si
      rw [if_neg (fun hx => hx.1 h8)]
    rw [this, ih, sp_tk_no (sp_B1_le n D R H F E n) (Nat.le_refl _), ite_self]
theorem y_findBargain {μ : xw_Mu} {n : Nat} {D : Nat → Nat → Int32} {R : Nat → Int32} {bar : Nat → Bool} {H : Nat → Nat → Nat} (h : yE μ n D R bar) (hR : sp_okR R) {c : Nat} (hD : sp_ok c n D) (hH0 : hH n H) (hH1 : yH μ n H) (hO : ∀ o, o < n → sp_off D R o = true → yO μ n D R bar H o) :
    xq_w pg_X2_findBargain μ fun _ μ' => yfr [50, 51, 52, 53] [] μ μ' ∧ yB μ' (sp_B n D R bar H) := by
  generalize hP : (fun (_ : Unit) (μ' : xw_Mu) => yfr [50, 51, 52, 53] [] μ μ' ∧ yB μ' (sp_B n D R bar H)) = P
  have hn := hD.1
  have key : ∀ s, yfr [50, 51, 52, 53] [] μ s → yE s n D R bar ∧ yH s n H ∧ (∀ o, o < n → sp_off D R o = true → yO s n D R bar H o) := by
    intro s hf
    refine ⟨yE_fr hf h (by decide) (by decide), yH_fr hf hH1 (by decide), fun o ho hoo => ?_⟩
    have := hO o ho hoo
    unfold yO at this ⊢
    rw [hf.2 47 (by decide), hf.2 48 (by decide), hf.2 49 (by decide)]
    exact this
  unfold pg_X2_findBargain
  rw [xq_bd, xq_pb 50 0 _ _ rfl (Or.inl rfl), xq_bd]
  refine xq_loop (I := fun i a s => a = qn i ∧ i ≤ n ∧ yfr [50, 51, 52, 53] [] μ s ∧ yB s (sp_B1 n D R H (sp_F R bar H) (sp_e n D R H) i)) (N := n) ⟨rfl, by omega, yfr_sI (yfr_refl _ _ _) (by decide), ?_⟩ (by omega) ?_
  · refine ⟨fun hx => ?_, fun _ => ?_⟩
    · unfold sp_B1 at hx
      exact absurd hx (by decide)
    · simp only [yI_sI]; rfl
  rintro i a s hi ⟨rfl, hin, hf, hB⟩
  obtain ⟨hE, hH', hO'⟩ := key s hf
  by_cases hlt : i < n
  · have skip : ∀ (G : Unit → xw_Mu → Prop) s', yfr [50, 51, 52, 53] [] μ s' → yB s' (sp_B1 n D R H (sp_F R bar H) (sp_e n D R H) (i + 1)) → xq_w (xw_rt (.inl (qn i + 1))) s' (fun r s' => Sum.elim (fun a' => i < n ∧ a' = qn (i + 1) ∧ i + 1 ≤ n ∧ yfr [50, 51, 52, 53] [] μ s' ∧ yB s' (sp_B1 n D R H (sp_F R bar H) (sp_e n D R H) (i + 1))) (fun (b : Unit) => G b s') r) := by
      intro G s' hf' hB'
      rw [xq_rt, xq_elim_l, qn_addl.2.1]
      exact ⟨hlt, rfl, by omega, hf', hB'⟩
    have e34 := hE.2.2.2.2.2.1 i hlt
    rw [xq_g, hE.1, xq_ite, if_neg (by rw [qn_le (by omega) (by omega)]; omega), xq_bd, xq_ld 34 i _ _ (by show i < 12; omega), e34, xq_bd, y_isYes hE hR hD hlt, xq_ite]
    have hB1 := sp_B1_le n D R H (sp_F R bar H) (sp_e n D R H) i
    cases hy : sp_isyes D R i with
    | false =>
      rw [if_pos (show qb false = 0 from rfl)]
      refine skip _ s hf ?_
      unfold sp_B1
      rw [hy]
      exact hB
    | true =>
      rw [if_neg (show ¬ qb true = 0 by decide)]
      obtain ⟨hs3, hs4⟩ := sp_yes_said hD hlt hy
      have hB1s : sp_B1 n D R H (sp_F R bar H) (sp_e n D R H) (i + 1) = sp_tk (sp_mk n D R H (sp_F R bar H) (sp_e n D R H) i) (qn i) (dn (D i 3)) (sp_B1 n D R H (sp_F R bar H) (sp_e n D R H) i) := by
        show (if sp_isyes D R i then _ else _) = _
        rw [hy]
        rfl
      have no : sp_mk n D R H (sp_F R bar H) (sp_e n D R H) i = 9999 → yB s (sp_B1 n D R H (sp_F R bar H) (sp_e n D R H) (i + 1)) := by
        intro h9
        rw [hB1s, h9, sp_tk_no hB1 (Nat.le_refl _)]
        exact hB
      generalize ho : dn (D i 3) = o at hs3 hs4 hB1s
      rw [hs3, xq_bd, y_isOffering hE hR hD (show o < n by omega), xq_ite]
      cases hof : sp_off D R o with
      | false =>
        rw [if_pos (show qb false = 0 from rfl)]
        refine skip _ s hf (no ?_)
        unfold sp_mk
        rw [ho, if_neg (fun hx => by rw [hof] at hx; exact absurd hx.1 (by decide))]
      | true =>
        rw [if_neg (show ¬ qb true = 0 by decide), xq_bd, y_yesHour hE hR hD hH0 hH' hlt, xq_ite]
        by_cases hv : 9999 ≤ sp_yh D R H i
        · rw [if_pos (show rv (sp_yh D R H i) < 0 by rw [rv_lt0]; exact hv)]
          refine skip _ s hf (no ?_)
          unfold sp_mk
          rw [ho, if_neg (fun hx => by have := hx.2.2.1; unfold sp_open at this; simp at this; omega)]
        · rw [if_neg (show ¬ rv (sp_yh D R H i) < 0 by rw [rv_lt0]; exact hv), rv_qn (h := sp_yh D R H i) (by omega), xq_bd, xq_ld 44 o _ _ (by show o < 12; omega), (hH' o (by omega)).2.1, xq_ite]
          have hb0 := (hH0 i hlt).1
          by_cases hv1 : 9999 ≤ H o 1
          · rw [if_pos (show rv (H o 1) < 0 by rw [rv_lt0]; exact hv1)]
            refine skip _ s hf (no ?_)
            unfold sp_mk
            rw [ho, if_neg (fun hx => by omega)]
          · rw [if_neg (show ¬ rv (H o 1) < 0 by rw [rv_lt0]; exact hv1), xq_bd, xq_ld 44 o _ _ (by show o < 12; omega), (hH' o (by omega)).2.1, rv_qn (h := H o 1) (by omega), xq_bd, xq_ld 43 i _ _ (by show i < 12; omega), (hH' i hlt).1, xq_ite]
            by_cases hv2 : H i 0 < H o 1
            · rw [if_pos (show qn (H i 0) < qn (H o 1) by rw [qn_lt (by omega) (by omega)]; exact hv2)]
              refine skip _ s hf (no ?_)
              unfold sp_mk
              rw [ho, if_neg (fun hx => by omega)]
            · rw [if_neg (show ¬ qn (H i 0) < qn (H o 1) by rw [qn_lt (by omega) (by omega)]; exact hv2), xq_bd]
              refine y_isTakenBack hE hR hD hH0 hH' hlt (by omega) _ ?_
              rw [xq_ite]
              cases htb : sp_tb n D R H i (sp_yh D R H i) with
              | true =>
                rw [if_neg (show ¬ qb true = 0 by decide)]
                refine skip _ s hf (no ?_)
                unfold sp_mk
                rw [ho, if_neg (fun hx => by rw [htb] at hx; exact absurd hx.2.2.2 (by decide))]
              | false =>
                have hOo := hO' o (by omega) hof
                rw [if_pos (show qb false = 0 from rfl), xq_bd, y_isOpenAt (F := sp_F R bar H) (E := sp_e n D R H) (show o < 12 by omega) (show sp_yh D R H i < 9999 by omega) (sp_E8_le n D R H o) hOo.1 hOo.2.1, xq_ite]
                cases hop : sp_open (sp_F R bar H) (sp_e n D R H) o (sp_yh D R H i) with
                | false =>
                  rw [if_pos (show qb false = 0 from rfl)]
                  refine skip _ s hf (no ?_)
                  unfold sp_mk
                  rw [ho, if_neg (fun hx => by rw [hop] at hx; exact absurd hx.2.2.1 (by decide))]
                | true =>
                  rw [if_neg (show ¬ qb true = 0 by decide), xq_bd]
                  refine y_offersTo hB (qn i) o _ (by omega) _ (fun μ' hf' hB' => ?_)
                  refine skip _ μ' (yfr_trans hf hf') ?_
                  have hm : sp_mk n D R H (sp_F R bar H) (sp_e n D R H) i = sp_yh D R H i := by
                    unfold sp_mk
                    rw [ho, if_pos ⟨hof, by omega, hop, htb⟩]
                  rw [hB1s, hm]
                  exact hB'
  · have hin' : i = n := by omega
    subst hin'
    rw [xq_g, hE.1, xq_ite, if_pos (by rw [qn_le (by omega) (by omega)]; omega), xq_rt, xq_elim_r]
    have v8 := qo_ge0 hR.2.2.2.1
    have e26 := hE.2.2.2.2.2.2.2.2.2.2.2.2
    rw [xq_bd, xq_ldls.2.2.2.2.2.2.2.2.1, e26 8 (by omega), xq_ite]
    by_cases c8 : R 8 = -1
    · rw [if_neg (show ¬ 0 ≤ R 8 by rw [v8]; exact fun hx => hx c8), xq_rt, ← hP]
      refine ⟨hf, ?_⟩
      unfold sp_B
      rw [sp_B2_none c8]
      exact hB
    · rw [if_pos (show 0 ≤ R 8 by rw [v8]; exact c8), xq_bd]
      rcases hR.2.2.2.1 with g8 | ⟨g8, g8'⟩
      · exact absurd g8 c8
      refine xq_loop (I := fun j a t => a = qn j ∧ j ≤ i ∧ yfr [50, 51, 52, 53] [] μ t ∧ yB t (sp_B2 i D R H (sp_F R bar H) (sp_e i D R H) j)) (N := i) ⟨rfl, by omega, hf, hB⟩ (by omega) ?_
      rintro j a t hj ⟨rfl, hjn, hft, hBt⟩
      obtain ⟨hEt, hHt, hOt⟩ := key t hft
      by_cases hjl : j < i
      · have skip : ∀ (G : Unit → xw_Mu → Prop) s', yfr [50, 51, 52, 53] [] μ s' → yB s' (sp_B2 i D R H (sp_F R bar H) (sp_e i D R H) (j + 1)) → xq_w (xw_rt (.inl (qn j + 1))) s' (fun r s' => Sum.elim (fun a' => j < i ∧ a' = qn (j + 1) ∧ j + 1 ≤ i ∧ yfr [50, 51, 52, 53] [] μ s' ∧ yB s' (sp_B2 i D R H (sp_F R bar H) (sp_e i D R H) (j + 1))) (fun (b : Unit) => G b s') r) := by
          intro G s' hf' hB'
          rw [xq_rt, xq_elim_l, qn_addl.2.1]
          exact ⟨hjl, rfl, by omega, hf', hB'⟩
        have hB2 := sp_B2_le i D R H (sp_F R bar H) (sp_e i D R H) j
        rw [xq_g, hEt.1, xq_ite, if_neg (by rw [qn_le (by omega) (by omega)]; omega), xq_bd, y_isOffering hEt hR hD hjl, xq_ite]
        cases hof : sp_off D R j with
        | false =>
          rw [if_pos (show qb false = 0 from rfl)]
          refine skip _ t hft ?_
          unfold sp_B2
          rw [hof]
          exact hBt
        | true =>
          have hB2s : sp_B2 i D R H (sp_F R bar H) (sp_e i D R H) (j + 1) = sp_tk (sp_si i D R H (sp_F R bar H) (sp_e i D R H) j) (-1) j (sp_B2 i D R H (sp_F R bar H) (sp_e i D R H) j) := by
            show (if sp_off D R j then _ else _) = _
            rw [hof]
            rfl
          have no : sp_si i D R H (sp_F R bar H) (sp_e i D R H) j = 9999 → yB t (sp_B2 i D R H (sp_F R bar H) (sp_e i D R H) (j + 1)) := by
            intro h9
            rw [hB2s, h9, sp_tk_no hB2 (Nat.le_refl _)]
            exact hBt
          have h45 := (hHt j hjl).2.2
          rw [if_neg (show ¬ qb true = 0 by decide), xq_bd, xq_ld 45 j _ _ (by show j < 12; omega), h45, xq_ite]
          by_cases hv : H j 2 < 9999
          · have e26t := hEt.2.2.2.2.2.2.2.2.2.2.2.2
            have hb2 := (hH0 j hjl).2.2
            rw [if_pos (show 0 ≤ rv (H j 2) by rw [rv_ge0]; exact hv), xq_bd, xq_ld 45 j _ _ (by show j < 12; omega), h45, xq_bd, xq_ldls.2.2.2.2.2.2.2.2.1, e26t 8 (by omega), xq_lt, g8, rv_qn (h := H j 2) (by omega), qn_add, xq_bd]
            have hOo := hOt j hjl hof
            rw [y_isOpenAt (F := sp_F R bar H) (E := sp_e i D R H) (show j < 12 by omega) (show H j 2 + dn (R 8) < 9999 by omega) (sp_E8_le i D R H j) hOo.1 hOo.2.1, xq_ite]
            cases hop : sp_open (sp_F R bar H) (sp_e i D R H) j (H j 2 + dn (R 8)) with
            | false =>
              rw [if_pos (show qb false = 0 from rfl)]
              refine skip _ t hft (no ?_)
              unfold sp_si
              rw [if_neg (fun hx => by rw [hop] at hx; exact absurd hx.2.2.1 (by decide))]
            | true =>
              rw [if_neg (show ¬ qb true = 0 by decide), xq_bd]
              refine y_isAnswered hEt hD hH0 hHt hjl (by omega) _ ?_
              rw [xq_ite]
              cases han : sp_ans i D H j (H j 2 + dn (R 8)) with
              | true =>
                rw [if_neg (show ¬ qb true = 0 by decide)]
                refine skip _ t hft (no ?_)
                unfold sp_si
                rw [if_neg (fun hx => by rw [han] at hx; exact absurd hx.2.2.2 (by decide))]
              | false =>
                rw [if_pos (show qb false = 0 from rfl), xq_bd]
                refine y_offersTo hBt (-1) j _ (by omega) _ (fun μ' hf' hB' => ?_)
                refine skip _ μ' (yfr_trans hft hf') ?_
                have hm : sp_si i D R H (sp_F R bar H) (sp_e i D R H) j = H j 2 + dn (R 8) := by
                  unfold sp_si
                  rw [if_pos ⟨c8, hv, hop, han⟩]
                rw [hB2s, hm]
                exact hB'
          · rw [if_neg (show ¬ 0 ≤ rv (H j 2) by rw [rv_ge0]; exact hv)]
            refine skip _ t hft (no ?_)
            unfold sp_si
            rw [if_neg (fun hx => hv hx.2.1)]
      · have hjn' : j = i := by omega
        subst hjn'
        rw [xq_g, hEt.1, xq_ite, if_pos (by rw [qn_le (by omega) (by omega)]; omega), xq_rt, xq_elim_r, xq_rt, ← hP]
        exact ⟨hft, hBt⟩
