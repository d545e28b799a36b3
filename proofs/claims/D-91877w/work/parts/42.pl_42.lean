/-! the reference: a case comes to hand with what it hangs on -/
set_option maxRecDepth 100000
theorem sp_given {c n : Nat} {D : Nat → Nat → Int32} (hD : sp_ok c n D) (hc : c ≤ 16) {k : Nat} (hk : k < n) (h : D k 6 ≠ -1) : D k 6 = qn (dn (D k 6)) ∧ dn (D k 6) < c := by
  rcases (hD.2 k hk).2.2.2.2.2.1 with h1 | ⟨g, hg, h1⟩
  · exact absurd h1 h
  · rw [h1, dn_qn (by omega)]; exact ⟨rfl, hg⟩
theorem y_needs {μ : xw_Mu} (hM : yM μ) {c : Nat} (hc : c < y_nC μ) (P : Unit → xw_Mu → Prop) (rest : Unit → xw_M xw_Mu Unit)
    (hP : ∀ μ' (nd : Nat → Bool), yfr [] [55] μ μ' → (∀ j, j < 16 → yA μ' 55 j = qb (nd j)) → nd c = true → (∀ c', c' ≤ c → nd c' = true → ∀ k, k < y_n μ c' → yD μ c' k 6 ≠ -1 → nd (dn (yD μ c' k 6)) = true) → xq_w (rest ()) μ' P) :
    xq_w (xw_bd (xw_loop (α := Int32) (β := Unit) (fun v2 =>
    if 16 ≤ v2 then (
    xw_rt (.inr ()))
    else (
    xw_bd (if v2 = qn c then (
    xw_rt 1)
    else (
    xw_rt 0))
    (fun (v16 : Int32) =>
    xw_bd (ym_stZ 55 v2 v16) fun _ =>
    xw_rt (.inl (v2 + 1))))) xw_FU 0)
    (fun (v3 : Unit) =>
    xw_bd (xw_loop (α := Int32) (β := Unit) (fun v4 =>
    if v4 < 0 then (
    xw_rt (.inr ()))
    else (
    xw_bd (xw_loop (α := Int32) (β := Unit) (fun v10 =>
    xw_bd (ym_ld 3 v4) fun v12 =>
    if v12 ≤ v10 then (
    xw_rt (.inr ()))
    else (
    xw_bd (ym_ld 55 v4) fun v13 =>
    if v13 = 0 then (
    xw_rt (.inr ()))
    else (
    xw_bd (ym_ld 10 ((12 * v4) + v10)) fun v14 =>
    if v14 < 0 then (
    xw_rt (.inl (v10 + 1)))
    else (
    xw_bd (ym_ld 10 ((12 * v4) + v10)) fun v15 =>
    xw_bd (ym_stZ 55 v15 1) fun _ =>
    xw_rt (.inl (v10 + 1)))))) xw_FU 0)
    (fun (v11 : Unit) =>
    xw_rt (.inl (v4 + (-1)))))) xw_FU (qn c)) rest)) μ P := by
  have hC := hM.1.2
  rw [xq_bd]
  refine xq_for (I := fun i s => yfr [] [55] μ s ∧ ∀ j, j < i → yA s 55 j = qb (decide (j = c))) 0 16 rfl ⟨yfr_refl _ _ _, fun j hj => absurd hj (by omega)⟩ (by omega) (by omega) ?_ ?_
  · rintro i s - hi ⟨hf, hz⟩
    have hv : ∀ (t : xw_Mu) (P : Int32 → xw_Mu → Prop), xq_w (if qn i = qn c then xw_rt (1 : Int32) else xw_rt 0) t P = P (qb (decide (i = c))) t := by
      intro t P
      simp (disch := first | omega | assumption | decide | exact qb_or _) only [qn_inj]
      by_cases h : i = c
      · simp only [h, if_true, xq_rt]; simp [qb]
      · simp only [h, if_false, xq_rt]; simp [qb]
    rw [xq_ite, if_neg (by simp (disch := first | omega | assumption | decide | exact qb_or _) only [xq_bd, xq_rt, xq_lt, xq_jn, xq_ite, xq_g, xq_gJ, xq_pJ, xq_lds, xq_ldls, xq_sts, xq_stls, xq_stZs, xq_ps, xq_pbs, qn_add, qn_addl, qn_addr, qn_mul, qn_mull, qn_lel, qn_ler, qn_ltl, qn_ltr, qn_eql, qn_eqr, qn_le, qn_lt, qn_inj, qn_ne1, xq_elim_l, xq_elim_r, yI_sI, yI_sJ, yI_sA, yJ_sI, yJ_sJ, yJ_sA, yA_sI, yA_sJ, yA_sA]; omega), xq_bd, hv, xq_bd, xq_stZ 55 _ _ _ _ (by show _ < 16; omega) (qb_or _), xq_rt, xq_elim_l, qn_addl.2.1]
    refine ⟨rfl, yfr_sA hf (by decide), fun j hj => ?_⟩
    rw [yA_sA, if_pos rfl]
    by_cases h : j = i
    · rw [if_pos h, h]
    · rw [if_neg h]; exact hz j (by omega)
  · rintro s ⟨hf, hz⟩
    rw [xq_ite, if_pos (by simp (disch := first | omega | assumption | decide | exact qb_or _) only [xq_bd, xq_rt, xq_lt, xq_jn, xq_ite, xq_g, xq_gJ, xq_pJ, xq_lds, xq_ldls, xq_sts, xq_stls, xq_stZs, xq_ps, xq_pbs, qn_add, qn_addl, qn_addr, qn_mul, qn_mull, qn_lel, qn_ler, qn_ltl, qn_ltr, qn_eql, qn_eqr, qn_le, qn_lt, qn_inj, qn_ne1, xq_elim_l, xq_elim_r, yI_sI, yI_sJ, yI_sA, yJ_sI, yJ_sJ, yJ_sA, yA_sI, yA_sJ, yA_sA]; omega), xq_rt, xq_elim_r, xq_bd]
    refine xq_down (I := fun i s => yfr [] [55] μ s ∧ ∃ nd : Nat → Bool, (∀ j, j < 16 → yA s 55 j = qb (nd j)) ∧ nd c = true ∧ ∀ c', i ≤ c' → c' ≤ c → nd c' = true → ∀ k, k < y_n μ c' → yD μ c' k 6 ≠ -1 → nd (dn (yD μ c' k 6)) = true) c rfl ⟨hf, fun j => decide (j = c), hz, by simp, fun c' h1 h2 => by omega⟩ (by omega) ?_ ?_
    · rintro i s hi ⟨hf, nd, hz, hc1, hcl⟩
      obtain ⟨hm1, hm2, hm3⟩ := hM.2.2.2.1 i (by omega)
      have hn := hm3.1
      rw [xq_ite, if_neg (qn_ge0 (by omega)), xq_bd]
      refine xq_for (I := fun k s => yfr [] [55] μ s ∧ ∃ nd : Nat → Bool, (∀ j, j < 16 → yA s 55 j = qb (nd j)) ∧ nd c = true ∧ (∀ c', i + 1 ≤ c' → c' ≤ c → nd c' = true → ∀ k, k < y_n μ c' → yD μ c' k 6 ≠ -1 → nd (dn (yD μ c' k 6)) = true) ∧ (nd i = true → ∀ k', k' < k → yD μ i k' 6 ≠ -1 → nd (dn (yD μ i k' 6)) = true)) 0 (y_n μ i) rfl ⟨hf, nd, hz, hc1, hcl, fun _ k' hk => absurd hk (by omega)⟩ (by omega) (by omega) ?_ ?_
      · rintro k s - hk ⟨hf, nd, hz, hc1, hcl, hi2⟩
        have g := hf.2
        rw [xq_bd, xq_ld 3 _ _ _ (by show _ < 80; omega), g 3 (by decide), hm1, xq_ite, if_neg (by rw [qn_le (by omega) (by omega)]; omega), xq_bd, xq_ld 55 _ _ _ (by show _ < 16; omega), hz i (by omega), xq_ite]
        cases hni : nd i with
        | false =>
          rw [if_pos (show qb false = 0 from rfl), xq_rt, xq_elim_r, xq_rt, xq_elim_l]
          refine ⟨rfl, hf, nd, hz, hc1, fun c' h1 h2 h3 => ?_⟩
          by_cases hci : c' = i
          · rw [hci, hni] at h3; exact absurd h3 (by decide)
          · exact hcl c' (by omega) h2 h3
        | true =>
          have h10 : yA s 10 (12 * i + k) = yD μ i k 6 := g 10 (by decide) _
          rw [if_neg (show ¬ qb true = 0 by decide), qn_mull.2.2.2.2.2.2.2.2.2.2.2.2.1, qn_add, xq_bd, xq_ld 10 _ _ _ (by show _ < 960; omega), h10, xq_ite]
          by_cases h6 : yD μ i k 6 = -1
          · rw [h6, if_pos (by decide), xq_rt, xq_elim_l, qn_addl.2.1]
            refine ⟨rfl, hf, nd, hz, hc1, hcl, fun _ k' hk' hk6 => ?_⟩
            by_cases hkk : k' = k
            · rw [hkk] at hk6; exact absurd h6 hk6
            · exact hi2 hni k' (by omega) hk6
          · obtain ⟨hg1, hg2⟩ := sp_given hm3 (by omega) hk h6
            rw [hg1, if_neg (qn_ge0 (by omega)), xq_bd, xq_ld 10 _ _ _ (by show _ < 960; omega), h10, hg1, xq_bd, xq_stZ 55 _ _ _ _ (by show _ < 16; omega) (Or.inr rfl), xq_rt, xq_elim_l, qn_addl.2.1]
            generalize hgd : dn (yD μ i k 6) = gd at *
            refine ⟨rfl, yfr_sA hf (by decide), fun j => j = gd || nd j, fun j hj => ?_, by simp [hc1], fun c' h1 h2 h3 k' hk' hk6 => ?_, fun h3 k' hk' hk6 => ?_⟩
            · rw [yA_sA, if_pos rfl]
              by_cases h : j = gd
              · rw [if_pos h]; simp [h, qb]
              · rw [if_neg h, hz j hj]; simp [h]
            · have h4 : nd c' = true := by simpa [show c' ≠ gd by omega] using h3
              simp [hcl c' h1 h2 h4 k' hk' hk6]
            · by_cases hkk : k' = k
              · rw [hkk, hgd]; simp
              · simp [hi2 hni k' (by omega) hk6]
      · rintro s ⟨hf, nd, hz, hc1, hcl, hi2⟩
        have g := hf.2
        rw [xq_bd, xq_ld 3 _ _ _ (by show _ < 80; omega), g 3 (by decide), hm1, xq_ite, if_pos (by rw [qn_le (by omega) (by omega)]; omega), xq_rt, xq_elim_r, xq_rt, xq_elim_l]
        refine ⟨rfl, hf, nd, hz, hc1, fun c' h1 h2 h3 => ?_⟩
        by_cases hci : c' = i
        · rw [hci] at h3 ⊢
          exact hi2 h3
        · exact hcl c' (by omega) h2 h3
    · rintro s ⟨hf, nd, hz, hc1, hcl⟩
      rw [xq_ite, if_pos (by decide), xq_rt, xq_elim_r]
      exact hP s nd hf hz hc1 (fun c' h2 => hcl c' (by omega) h2)
