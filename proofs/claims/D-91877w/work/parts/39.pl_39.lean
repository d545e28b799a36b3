/-! the reference: rules at hand -/
set_option maxRecDepth 100000
/-- a text of rules over others: -2 is not told -/
def sp_ov (t v : Nat → Int32) : Nat → Int32 := fun f => if t f = -2 then v f else t f
def sp_R0 : Nat → Int32 := fun f => if f < 6 then 1 else if f = 7 ∨ f = 8 then -1 else 0
/-- a law's rules, of clauses 0 .. n-1 those in a set behind it -/
def sp_lays (law : Nat → Int32) (cl : Nat → Nat → Int32) (bits : Int32) : Nat → Nat → Int32
  | 0 => sp_ov law sp_R0
  | c + 1 => if ((bits >>> (qn c &&& 31)) &&& 1) = 1 then sp_ov (cl c) (sp_lays law cl bits c) else sp_lays law cl bits c
theorem sp_lays_s (law : Nat → Int32) (cl : Nat → Nat → Int32) (bits : Int32) (c : Nat) : sp_lays law cl bits (c + 1) = if ((bits >>> (qn c &&& 31)) &&& 1) = 1 then sp_ov (cl c) (sp_lays law cl bits c) else sp_lays law cl bits c := rfl
def y_law (μ : xw_Mu) (l f : Nat) : Int32 := yA μ 15 (14 * l + f)
def y_cl (μ : xw_Mu) (c f : Nat) : Int32 := yA μ 15 (112 + 14 * c + f)
theorem y_lays {μ : xw_Mu} {l cn : Nat} {bits : Int32} (hl : l < 8) (hc : yA μ 2 0 = qn cn) (hcn : cn ≤ 6) :
    xq_w (pg_X2_lays (qn l) bits) μ fun _ μ' => yfr [] [26] μ μ' ∧ ∀ f, f < 13 → yA μ' 26 f = sp_lays (y_law μ l) (y_cl μ) bits cn f := by
  generalize hP : (fun (_ : Unit) (μ' : xw_Mu) => yfr [] [26] μ μ' ∧ ∀ f, f < 13 → yA μ' 26 f = sp_lays (y_law μ l) (y_cl μ) bits cn f) = P
  unfold pg_X2_lays
  rw [xq_bd]
  refine xq_loop (I := fun i a s => a = qn i ∧ i ≤ 13 ∧ yfr [] [26] μ s ∧ ∀ f, f < i → yA s 26 f = sp_R0 f) (N := 13) ⟨rfl, by omega, yfr_refl _ _ _, fun j hj => absurd hj (by omega)⟩ (by omega) ?_
  rintro i a s hi ⟨rfl, hin, hf, hz⟩
  by_cases hlt : i < 13
  · have hv : ∀ P, xq_w (if 6 ≤ qn i then xw_bd (pg_X2_within (qn i) 7 8) fun v17 => if v17 = 0 then xw_rt 0 else xw_rt (-1) else xw_rt (1 : Int32)) s P = P (sp_R0 i) s := by
      intro P
      unfold pg_X2_within sp_R0
      simp (disch := first | omega | assumption | decide | exact qb_or _) only [xq_bd, xq_rt, xq_lt, xq_jn, xq_ite, xq_g, xq_gJ, xq_pJ, xq_lds, xq_ldls, xq_sts, xq_stls, xq_stZs, xq_ps, xq_pbs, qn_add, qn_addl, qn_addr, qn_mul, qn_mull, qn_lel, qn_ler, qn_ltl, qn_ltr, qn_eql, qn_eqr, qn_le, qn_lt, qn_inj, qn_ne1, xq_elim_l, xq_elim_r, yI_sI, yI_sJ, yI_sA, yJ_sI, yJ_sJ, yJ_sA, yA_sI, yA_sJ, yA_sA]
      by_cases h6 : i < 6
      · rw [if_neg (by omega), if_pos h6]
      · rw [if_pos (by omega), if_neg h6]
        by_cases h7 : i < 7
        · simp [h7, show ¬ (i = 7 ∨ i = 8) by omega]
        · by_cases h8 : 8 < i
          · simp [h7, h8, show ¬ (i = 7 ∨ i = 8) by omega]
          · simp [h7, h8, show (i = 7 ∨ i = 8) by omega]
    rw [xq_ite, if_neg (by rw [qn_lel.2.2.2.2.2.2.2.2.2.2.2.2.2.1 _ (by omega)]; omega), xq_bd, hv, xq_bd, xq_st 26 i _ _ _ (by show i < 13; omega), xq_rt, xq_elim_l, qn_addl.2.1]
    refine ⟨hlt, rfl, by omega, yfr_sA hf (by decide), fun f hf2 => ?_⟩
    rw [yA_sA, if_pos rfl]
    by_cases hfi : f = i
    · rw [if_pos hfi, hfi]
    · rw [if_neg hfi]; exact hz f (by omega)
  · have hin' : i = 13 := by omega
    subst hin'
    rw [xq_ite, if_pos (by rw [qn_lel.2.2.2.2.2.2.2.2.2.2.2.2.2.1 _ (by omega)]; omega), xq_rt, xq_elim_r, xq_bd]
    refine xq_loop (I := fun i a s => a = qn i ∧ i ≤ 13 ∧ yfr [] [26] μ s ∧ ∀ f, f < 13 → yA s 26 f = if f < i then sp_ov (y_law μ l) sp_R0 f else sp_R0 f) (N := 13) ⟨rfl, by omega, hf, fun j hj => by rw [if_neg (by omega)]; exact hz j hj⟩ (by omega) ?_
    rintro i a s hi ⟨rfl, hin, hf, hz⟩
    by_cases hlt : i < 13
    · have h15 : yA s 15 (14 * l + i) = y_law μ l i := hf.2 15 (by decide) _
      have hzi := hz i hlt
      rw [if_neg (by omega)] at hzi
      rw [xq_ite, if_neg (by rw [qn_lel.2.2.2.2.2.2.2.2.2.2.2.2.2.1 _ (by omega)]; omega), xq_bd, qn_mull.2.2.2.2.2.2.2.2.2.2.2.2.2.2.1, qn_add, xq_ld 15 _ _ _ (by show 14 * l + i < 980; omega), h15, xq_ite]
      by_cases h2 : y_law μ l i = -2
      · rw [if_pos h2, xq_rt, xq_elim_l, qn_addl.2.1]
        refine ⟨hlt, rfl, by omega, hf, fun f hf2 => ?_⟩
        by_cases hfi : f = i
        · rw [hfi, if_pos (by omega), hzi]
          unfold sp_ov
          rw [if_pos h2]
        · rw [hz f hf2]
          by_cases h3 : f < i
          · rw [if_pos h3, if_pos (by omega)]
          · rw [if_neg h3, if_neg (by omega)]
      · rw [if_neg h2, xq_bd, xq_ld 15 _ _ _ (by show 14 * l + i < 980; omega), h15, xq_bd, xq_st 26 i _ _ _ (by show i < 13; omega), xq_rt, xq_elim_l, qn_addl.2.1]
        refine ⟨hlt, rfl, by omega, yfr_sA hf (by decide), fun f hf2 => ?_⟩
        rw [yA_sA, if_pos rfl]
        by_cases hfi : f = i
        · rw [if_pos hfi, hfi, if_pos (by omega)]
          unfold sp_ov
          rw [if_neg h2]
        · rw [if_neg hfi, hz f hf2]
          by_cases h3 : f < i
          · rw [if_pos h3, if_pos (by omega)]
          · rw [if_neg h3, if_neg (by omega)]
    · have hin' : i = 13 := by omega
      subst hin'
      rw [xq_ite, if_pos (by rw [qn_lel.2.2.2.2.2.2.2.2.2.2.2.2.2.1 _ (by omega)]; omega), xq_rt, xq_elim_r, xq_bd]
      refine xq_loop (I := fun i a s => a = qn i ∧ i ≤ cn ∧ yfr [] [26] μ s ∧ ∀ f, f < 13 → yA s 26 f = sp_lays (y_law μ l) (y_cl μ) bits i f) (N := cn) ⟨rfl, by omega, hf, fun j hj => by rw [hz j hj, if_pos hj]; rfl⟩ (by omega) ?_
      rintro i a s hi ⟨rfl, hin, hf, hz⟩
      have hcs : yA s 2 0 = qn cn := (hf.2 2 (by decide) 0).trans hc
      by_cases hlt : i < cn
      · rw [xq_bd, xq_ldls.2.2.2.2.2.2.2.2.2.2.2.2.2.2.2, hcs, xq_ite, if_neg (by rw [qn_le (by omega) (by omega)]; omega), xq_bd]
        refine xq_loop (I := fun j a t => a = qn j ∧ j ≤ 13 ∧ yfr [] [26] μ t ∧ ∀ f, f < 13 → yA t 26 f = if f < j then sp_lays (y_law μ l) (y_cl μ) bits (i + 1) f else sp_lays (y_law μ l) (y_cl μ) bits i f) (N := 13) ⟨rfl, by omega, hf, fun j hj => by rw [if_neg (by omega)]; exact hz j hj⟩ (by omega) ?_
        rintro j a t hj ⟨rfl, hj13, hft, hzt⟩
        have go : ∀ (G : Unit → xw_Mu → Prop) t2, j < 13 → yfr [] [26] μ t2 → (∀ f, f < 13 → f ≠ j → yA t2 26 f = yA t 26 f) → yA t2 26 j = sp_lays (y_law μ l) (y_cl μ) bits (i + 1) j → xq_w (xw_rt (.inl (qn j + 1))) t2 (fun r s' => Sum.elim (fun a' => j < 13 ∧ a' = qn (j + 1) ∧ j + 1 ≤ 13 ∧ yfr [] [26] μ s' ∧ ∀ f, f < 13 → yA s' 26 f = if f < j + 1 then sp_lays (y_law μ l) (y_cl μ) bits (i + 1) f else sp_lays (y_law μ l) (y_cl μ) bits i f) (fun (b : Unit) => G b s') r) := by
          intro G t2 hj2 hf2 hne heq
          rw [xq_rt, xq_elim_l, qn_addl.2.1]
          refine ⟨hj2, rfl, by omega, hf2, fun f hf3 => ?_⟩
          by_cases hfj : f = j
          · rw [hfj, if_pos (by omega)]; exact heq
          · rw [hne f hf3 hfj, hzt f hf3]
            by_cases h3 : f < j
            · rw [if_pos h3, if_pos (by omega)]
            · rw [if_neg h3, if_neg (by omega)]
        by_cases hlj : j < 13
        · have hzj := hzt j hlj
          rw [if_neg (by omega)] at hzj
          have h15 : yA t 15 (112 + 14 * i + j) = y_cl μ i j := hft.2 15 (by decide) _
          rw [xq_ite, if_neg (by rw [qn_lel.2.2.2.2.2.2.2.2.2.2.2.2.2.1 _ (by omega)]; omega), xq_ite]
          by_cases hb : ((bits >>> (qn i &&& 31)) &&& 1) = 1
          · have hs : sp_lays (y_law μ l) (y_cl μ) bits (i + 1) j = sp_ov (y_cl μ i) (sp_lays (y_law μ l) (y_cl μ) bits i) j := by
              rw [sp_lays_s, if_pos hb]
            have hix : (112 : Int32) + 14 * qn i + qn j = qn (112 + 14 * i + j) := by
              simp only [qn_mull, qn_addr, qn_add]
            rw [if_pos hb, hix, xq_bd, xq_ld 15 _ _ _ (by show _ < 980; omega), h15, xq_ite]
            by_cases h2 : y_cl μ i j = -2
            · rw [if_pos h2]
              refine go _ t hlj hft (fun _ _ _ => rfl) ?_
              rw [hs, hzj]
              unfold sp_ov
              rw [if_pos h2]
            · rw [if_neg h2, xq_bd, xq_ld 15 _ _ _ (by show _ < 980; omega), h15, xq_bd, xq_st 26 j _ _ _ (by show j < 13; omega)]
              refine go _ _ hlj (yfr_sA hft (by decide)) (fun f _ hfj => by rw [yA_sA, if_pos rfl, if_neg hfj]) ?_
              rw [yA_sA, if_pos rfl, if_pos rfl, hs]
              unfold sp_ov
              rw [if_neg h2]
          · rw [if_neg hb]
            refine go _ t hlj hft (fun _ _ _ => rfl) ?_
            rw [hzj, sp_lays_s, if_neg hb]
        · have hj' : j = 13 := by omega
          subst hj'
          rw [xq_ite, if_pos (by rw [qn_lel.2.2.2.2.2.2.2.2.2.2.2.2.2.1 _ (by omega)]; omega), xq_rt, xq_elim_r, xq_rt, xq_elim_l, qn_addl.2.1]
          exact ⟨hlt, rfl, by omega, hft, fun f hf3 => by rw [hzt f hf3, if_pos hf3]⟩
      · have hin' : i = cn := by omega
        rw [xq_bd, xq_ldls.2.2.2.2.2.2.2.2.2.2.2.2.2.2.2, hcs, xq_ite, if_pos (by rw [qn_le (by omega) (by omega)]; omega), xq_rt, xq_elim_r, xq_rt, ← hP]
        rw [hin'] at hz
        exact ⟨hf, hz⟩
