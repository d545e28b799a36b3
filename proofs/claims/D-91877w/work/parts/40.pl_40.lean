/-! the reference: a case comes to hand -/
set_option maxRecDepth 100000
/-- the words of the k-th saying of the case c, as the reference keeps them -/
def yD (μ : xw_Mu) (c k f : Nat) : Int32 :=
  if f < 8 then yA μ (4 + f) (12 * c + k) else if f < 13 then yA μ 12 (5 * (12 * c + k) + (f - 8)) else if f < 16 then yA μ 13 (3 * (12 * c + k) + (f - 13)) else yA μ 14 (3 * (12 * c + k) + (f - 16))
/-- which of its offers are barred, by what is sure -/
def yBar (μ : xw_Mu) (c : Nat) (sure : Nat → Bool) (k : Nat) : Bool := yA μ 10 (12 * c + k) ≠ -1 && !sure (dn (yA μ 10 (12 * c + k)))
theorem yD_0 (μ : xw_Mu) (c k : Nat) : yD μ c k 0 = yA μ 4 (12 * c + k) := rfl
theorem yD_w (μ : xw_Mu) (c k j : Nat) (hj : j < 5) : yD μ c k (8 + j) = yA μ 12 (5 * (12 * c + k) + j) := by
  unfold yD
  rw [if_neg (by omega), if_pos (by omega), show 8 + j - 8 = j by omega]
theorem yD_l (μ : xw_Mu) (c k j : Nat) (hj : j < 3) : yD μ c k (13 + j) = yA μ 13 (3 * (12 * c + k) + j) := by
  unfold yD
  rw [if_neg (by omega), if_neg (by omega), if_pos (by omega), show 13 + j - 13 = j by omega]
theorem yD_h (μ : xw_Mu) (c k j : Nat) : yD μ c k (16 + j) = yA μ 14 (3 * (12 * c + k) + j) := by
  unfold yD
  rw [if_neg (by omega), if_neg (by omega), if_neg (by omega), show 16 + j - 16 = j by omega]
theorem qn_ne {a : Nat} (ha : a < 2147483648) : qn a ≠ -1 := fun h => by rw [qn_ne1 ha] at h; exact h
theorem qb_ne {b : Bool} : (qb b = 1) = (b = true) := qb_1 b
theorem xq_for {S β : Type} {body : Int32 → xw_M S (Int32 ⊕ β)} {P : β → S → Prop} (I : Nat → S → Prop) (i0 N : Nat) {a : Int32} {s : S} (ha : a = qn i0) (h0 : I i0 s) (hle : i0 ≤ N) (hN : N < 20000)
    (step : ∀ i s, i0 ≤ i → i < N → I i s → xq_w (body (qn i)) s fun r s' => Sum.elim (fun a' => a' = qn (i + 1) ∧ I (i + 1) s') (fun b => P b s') r)
    (last : ∀ s, I N s → xq_w (body (qn N)) s fun r s' => Sum.elim (fun _ => False) (fun b => P b s') r) : xq_w (xw_loop body xw_FU a) s P := by
  refine xq_loop (I := fun k a s => a = qn (i0 + k) ∧ i0 + k ≤ N ∧ I (i0 + k) s) (N := N - i0) ⟨ha, hle, h0⟩ (by omega) ?_
  rintro k a s hk ⟨rfl, hkN, hI⟩
  by_cases hlt : i0 + k < N
  · refine xq_mono (step _ s (by omega) hlt hI) (fun r s' h => ?_)
    cases r with
    | inl a' => exact ⟨by omega, h.1, by omega, h.2⟩
    | inr b => exact h
  · have he : i0 + k = N := by omega
    rw [he] at hI ⊢
    refine xq_mono (last s hI) (fun r s' h => ?_)
    cases r with
    | inl a' => exact absurd h (by simp only [xq_elim_l]; exact fun hx => hx)
    | inr b => exact h
/-- which offers are barred, by what is sure -/
def spBar (D : Nat → Nat → Int32) (sure : Nat → Bool) (k : Nat) : Bool := D k 6 ≠ -1 && !sure (dn (D k 6))
/-- the rows of the case at hand, of the first m sayings -/
def yEa (μ : xw_Mu) (m : Nat) (D : Nat → Nat → Int32) (bar : Nat → Bool) : Prop :=
  (∀ k, k < m → yA μ 30 k = D k 0) ∧ (∀ k, k < m → yA μ 31 k = D k 4) ∧ (∀ k, k < m → yA μ 32 k = D k 7) ∧ (∀ k, k < m → yA μ 33 k = D k 5) ∧ (∀ k, k < m → yA μ 34 k = D k 3) ∧
  (∀ k, k < m → yA μ 35 k = D k 1) ∧ (∀ k, k < m → yA μ 36 k = D k 2) ∧ (∀ k, k < m → yA μ 37 k = qb (bar k)) ∧ (∀ k j, k < m → j < 5 → yA μ 38 (5 * k + j) = D k (8 + j)) ∧
  (∀ k j, k < m → j < 3 → yA μ 39 (3 * k + j) = D k (13 + j)) ∧ (∀ k j, k < m → j < 3 → yA μ 40 (3 * k + j) = D k (16 + j))
theorem y_bring {μ : xw_Mu} {c n : Nat} {R : Nat → Int32} {sure : Nat → Bool} (hc : c < 16) (hn : yA μ 3 c = qn n) (hD : sp_ok c n (yD μ c)) (hR : ∀ f, f < 13 → yA μ 26 f = R f)
    (hs : ∀ k, k < n → yD μ c k 6 ≠ -1 → yA μ 54 (dn (yD μ c k 6)) = qb (sure (dn (yD μ c k 6)))) :
    xq_w (pg_X2_bring (qn c)) μ fun _ μ' => yfr [27] [30, 31, 32, 33, 34, 35, 36, 37, 38, 39, 40] μ μ' ∧ yE μ' n (yD μ c) R (spBar (yD μ c) sure) := by
  generalize hP : (fun (_ : Unit) (μ' : xw_Mu) => yfr [27] [30, 31, 32, 33, 34, 35, 36, 37, 38, 39, 40] μ μ' ∧ yE μ' n (yD μ c) R (spBar (yD μ c) sure)) = P
  have hn12 := hD.1
  unfold pg_X2_bring
  simp (disch := first | omega | assumption | decide | exact qb_or _) only [xq_bd, xq_rt, xq_lt, xq_jn, xq_ite, xq_g, xq_gJ, xq_pJ, xq_lds, xq_ldls, xq_sts, xq_stls, xq_stZs, xq_ps, xq_pbs, qn_add, qn_addl, qn_addr, qn_mul, qn_mull, qn_lel, qn_ler, qn_ltl, qn_ltr, qn_eql, qn_eqr, qn_le, qn_lt, qn_inj, qn_ne1, xq_elim_l, xq_elim_r, yI_sI, yI_sJ, yI_sA, yJ_sI, yJ_sJ, yJ_sA, yA_sI, yA_sJ, yA_sA, hn]
  refine xq_for (I := fun k s => yfr [27] [30, 31, 32, 33, 34, 35, 36, 37, 38, 39, 40] μ s ∧ yI s 27 = qn n ∧ yEa s k (yD μ c) (spBar (yD μ c) sure)) 0 n rfl ?_ (by omega) (by omega) ?_ ?_
  · refine ⟨yfr_sI (yfr_refl _ _ _) (by decide), by rw [yI_sI, if_pos rfl], ?_⟩
    refine ⟨?_, ?_, ?_, ?_, ?_, ?_, ?_, ?_, ?_, ?_, ?_⟩ <;> (intro k; intros; omega)
  · rintro k s - hk ⟨hf, h27, hE⟩
    have g : ∀ j, j ∉ [30, 31, 32, 33, 34, 35, 36, 37, 38, 39, 40] → ∀ i, yA s j i = yA μ j i := fun j hj i => hf.2 j hj i
    have key : (yA μ 10 (12 * c + k) = -1 ∧ spBar (yD μ c) sure k = false) ∨ (∃ g, g < 16 ∧ yA μ 10 (12 * c + k) = qn g ∧ ((yA μ 54 g = 0 ∧ spBar (yD μ c) sure k = true) ∨ (yA μ 54 g = 1 ∧ spBar (yD μ c) sure k = false))) := by
      have h6 : yD μ c k 6 = yA μ 10 (12 * c + k) := rfl
      have hk6 := (hD.2 k hk).2.2.2.2.2.1
      have hsk := hs k hk
      unfold spBar
      rw [h6] at hk6 hsk ⊢
      rcases hk6 with h | ⟨g, hg, h⟩
      · rw [h]; exact Or.inl ⟨rfl, rfl⟩
      · have hx2 := qn_ne (a := g) (by omega)
        have hsk := hsk (by rw [h]; exact hx2)
        rw [h, dn_qn (by omega)] at hsk ⊢
        refine Or.inr ⟨g, by omega, rfl, ?_⟩
        rw [hsk]
        cases sure g <;> simp [qb, hx2]
    obtain ⟨e30, e31, e32, e33, e34, e35, e36, e37, e38, e39, e40⟩ := hE
    rw [xq_g, h27, xq_ite, if_neg (by rw [qn_le (by omega) (by omega)]; omega), xq_lt]
    simp only [qn_mull, qn_add]
    rw [xq_bd, xq_ld 4 _ _ _ (by show _ < 960; omega), g 4 (by decide), xq_bd, xq_st 30 _ _ _ _ (by show _ < 12; omega), xq_bd, xq_ld 8 _ _ _ (by show _ < 960; omega), yA_sA, if_neg (show ¬ (8 : Nat) = 30 by decide), g 8 (by decide), xq_bd, xq_st 31 _ _ _ _ (by show _ < 12; omega), xq_bd, xq_ld 11 _ _ _ (by show _ < 960; omega), yA_sA, if_neg (show ¬ (11 : Nat) = 31 by decide), yA_sA, if_neg (show ¬ (11 : Nat) = 30 by decide), g 11 (by decide), xq_bd, xq_st 32 _ _ _ _ (by show _ < 12; omega), xq_bd, xq_ld 9 _ _ _ (by show _ < 960; omega), yA_sA, if_neg (show ¬ (9 : Nat) = 32 by decide), yA_sA, if_neg (show ¬ (9 : Nat) = 31 by decide), yA_sA, if_neg (show ¬ (9 : Nat) = 30 by decide), g 9 (by decide), xq_bd, xq_st 33 _ _ _ _ (by show _ < 12; omega), xq_bd, xq_ld 7 _ _ _ (by show _ < 960; omega), yA_sA, if_neg (show ¬ (7 : Nat) = 33 by decide), yA_sA, if_neg (show ¬ (7 : Nat) = 32 by decide), yA_sA, if_neg (show ¬ (7 : Nat) = 31 by decide), yA_sA, if_neg (show ¬ (7 : Nat) = 30 by decide), g 7 (by decide), xq_bd, xq_st 34 _ _ _ _ (by show _ < 12; omega), xq_bd, xq_ld 5 _ _ _ (by show _ < 960; omega), yA_sA, if_neg (show ¬ (5 : Nat) = 34 by decide), yA_sA, if_neg (show ¬ (5 : Nat) = 33 by decide), yA_sA, if_neg (show ¬ (5 : Nat) = 32 by decide), yA_sA, if_neg (show ¬ (5 : Nat) = 31 by decide), yA_sA, if_neg (show ¬ (5 : Nat) = 30 by decide), g 5 (by decide), xq_bd, xq_st 35 _ _ _ _ (by show _ < 12; omega), xq_bd, xq_ld 6 _ _ _ (by show _ < 960; omega), yA_sA, if_neg (show ¬ (6 : Nat) = 35 by decide), yA_sA, if_neg (show ¬ (6 : Nat) = 34 by decide), yA_sA, if_neg (show ¬ (6 : Nat) = 33 by decide), yA_sA, if_neg (show ¬ (6 : Nat) = 32 by decide), yA_sA, if_neg (show ¬ (6 : Nat) = 31 by decide), yA_sA, if_neg (show ¬ (6 : Nat) = 30 by decide), g 6 (by decide), xq_bd, xq_st 36 _ _ _ _ (by show _ < 12; omega), xq_bd, xq_ld 10 _ _ _ (by show _ < 960; omega), yA_sA, if_neg (show ¬ (10 : Nat) = 36 by decide), yA_sA, if_neg (show ¬ (10 : Nat) = 35 by decide), yA_sA, if_neg (show ¬ (10 : Nat) = 34 by decide), yA_sA, if_neg (show ¬ (10 : Nat) = 33 by decide), yA_sA, if_neg (show ¬ (10 : Nat) = 32 by decide), yA_sA, if_neg (show ¬ (10 : Nat) = 31 by decide), yA_sA, if_neg (show ¬ (10 : Nat) = 30 by decide), g 10 (by decide)]
    have hbar : ∀ (t : xw_Mu) P, (∀ j, j = 10 ∨ j = 54 → ∀ i, yA t j i = yA s j i) → xq_w (if yA μ 10 (12 * c + k) < 0 then xw_rt (0 : Int32) else xw_bd (ym_ld 10 (qn (12 * c + k))) fun v23 => xw_bd (ym_ld 54 v23) fun v24 => if v24 = 0 then xw_rt 1 else xw_rt 0) t P = P (qb (spBar (yD μ c) sure k)) t := by
      intro t P ht
      rcases key with ⟨h10, hb⟩ | ⟨g0, hg, h10, ⟨h54, hb⟩ | ⟨h54, hb⟩⟩ <;> rw [h10, hb]
      · rw [xq_ite, if_pos (by decide), xq_rt]; rfl
      all_goals
        rw [xq_ite, if_neg (qn_ge0 (by omega)), xq_bd, xq_ld 10 _ _ _ (by show _ < 960; omega), ht 10 (Or.inl rfl), g 10 (by decide), h10, xq_bd, xq_ld 54 _ _ _ (by show _ < 16; omega), ht 54 (Or.inr rfl), g 54 (by decide), h54]
        simp only [xq_ite, xq_rt]
        rfl
    rw [xq_bd, hbar _ _ (fun j hj i => by rcases hj with rfl | rfl <;> simp only [yA_sA, Nat.reduceEqDiff, if_false]), xq_bd, xq_stZ 37 _ _ _ _ (by show _ < 12; omega) (qb_or _)]
    generalize ht0 : ysA (ysA (ysA (ysA (ysA (ysA (ysA (ysA s 30 k (yA μ 4 (12 * c + k))) 31 k (yA μ 8 (12 * c + k))) 32 k (yA μ 11 (12 * c + k))) 33 k (yA μ 9 (12 * c + k))) 34 k (yA μ 7 (12 * c + k))) 35 k (yA μ 5 (12 * c + k))) 36 k (yA μ 6 (12 * c + k))) 37 k (qb (spBar (yD μ c) sure k)) = t0
    have f0 : yfr [27] [30, 31, 32, 33, 34, 35, 36, 37, 38, 39, 40] μ t0 := by
      rw [← ht0]
      refine yfr_sA (yfr_sA (yfr_sA (yfr_sA (yfr_sA (yfr_sA (yfr_sA (yfr_sA hf ?_) ?_) ?_) ?_) ?_) ?_) ?_) ?_ <;> decide
    have i0 : yI t0 27 = qn n := by rw [← ht0]; exact h27
    have own : yA t0 30 k = yD μ c k 0 ∧ yA t0 31 k = yD μ c k 4 ∧ yA t0 32 k = yD μ c k 7 ∧ yA t0 33 k = yD μ c k 5 ∧ yA t0 34 k = yD μ c k 3 ∧ yA t0 35 k = yD μ c k 1 ∧ yA t0 36 k = yD μ c k 2 ∧ yA t0 37 k = qb (spBar (yD μ c) sure k) := by
      rw [← ht0]
      simp only [yA_sA, Nat.reduceEqDiff, if_true, if_false]
      exact ⟨rfl, rfl, rfl, rfl, rfl, rfl, rfl, trivial⟩
    have old : ∀ j, j ∈ [30, 31, 32, 33, 34, 35, 36, 37] → ∀ i, i ≠ k → yA t0 j i = yA s j i := by
      intro j hj i hi
      rw [← ht0]
      simp only [yA_sA, hi, if_false, ite_self]
    have oth : ∀ j, j ∉ [30, 31, 32, 33, 34, 35, 36, 37] → ∀ i, yA t0 j i = yA s j i := by
      intro j hj i
      simp only [List.mem_cons, List.not_mem_nil, or_false, not_or] at hj
      rw [← ht0]
      simp only [yA_sA, hj, if_false]
    rw [xq_bd]
    refine xq_for (I := fun j t => yfr [27] [30, 31, 32, 33, 34, 35, 36, 37, 38, 39, 40] μ t ∧ yI t 27 = qn n ∧ (∀ x, x ≠ 38 → ∀ i, yA t x i = yA t0 x i) ∧ ∀ a b, a ≤ k → b < 5 → (a = k → b < j) → yA t 38 (5 * a + b) = yD μ c a (8 + b)) 0 5 rfl ?_ (by omega) (by omega) ?_ ?_
    · refine ⟨f0, i0, fun x hx i => rfl, fun a b ha hb hab => ?_⟩
      rw [oth 38 (by decide)]
      exact e38 a b (by omega) hb
    · rintro j t - hj ⟨hft, ht27, htx, ht38⟩
      have h12 : yA t 12 (5 * (12 * c + k) + j) = yD μ c k (8 + j) := by rw [hft.2 12 (by decide), yD_w μ c k j hj]
      rw [xq_ite, if_neg (by simp (disch := first | omega | assumption | decide | exact qb_or _) only [xq_bd, xq_rt, xq_lt, xq_jn, xq_ite, xq_g, xq_gJ, xq_pJ, xq_lds, xq_ldls, xq_sts, xq_stls, xq_stZs, xq_ps, xq_pbs, qn_add, qn_addl, qn_addr, qn_mul, qn_mull, qn_lel, qn_ler, qn_ltl, qn_ltr, qn_eql, qn_eqr, qn_le, qn_lt, qn_inj, qn_ne1, xq_elim_l, xq_elim_r, yI_sI, yI_sJ, yI_sA, yJ_sI, yJ_sJ, yJ_sA, yA_sI, yA_sJ, yA_sA]; omega), qn_add, qn_add, xq_bd, xq_ld 12 _ _ _ (by show _ < 4800; omega), h12, xq_bd, xq_st 38 _ _ _ _ (by show _ < 60; omega), xq_rt, xq_elim_l, qn_addl.2.1]
      refine ⟨rfl, yfr_sA hft (by decide), ht27, fun x hx i => by rw [yA_sA, if_neg hx]; exact htx x hx i, fun a b ha hb hab => ?_⟩
      rw [yA_sA, if_pos rfl]
      by_cases he : 5 * a + b = 5 * k + j
      · have : a = k ∧ b = j := by omega
        rw [if_pos he, this.1, this.2]
      · rw [if_neg he]
        exact ht38 a b ha hb (fun h => by have := hab h; rcases (by omega : b < j ∨ b = j) with h2 | h2; exact h2; exfalso; apply he; rw [h, h2])
    · rintro t ⟨hft, ht27, htx, ht38⟩
      rw [xq_ite, if_pos (by simp (disch := first | omega | assumption | decide | exact qb_or _) only [xq_bd, xq_rt, xq_lt, xq_jn, xq_ite, xq_g, xq_gJ, xq_pJ, xq_lds, xq_ldls, xq_sts, xq_stls, xq_stZs, xq_ps, xq_pbs, qn_add, qn_addl, qn_addr, qn_mul, qn_mull, qn_lel, qn_ler, qn_ltl, qn_ltr, qn_eql, qn_eqr, qn_le, qn_lt, qn_inj, qn_ne1, xq_elim_l, xq_elim_r, yI_sI, yI_sJ, yI_sA, yJ_sI, yJ_sJ, yJ_sA, yA_sI, yA_sJ, yA_sA]; omega), xq_rt, xq_elim_r, xq_bd]
      refine xq_for (I := fun j u => yfr [27] [30, 31, 32, 33, 34, 35, 36, 37, 38, 39, 40] μ u ∧ yI u 27 = qn n ∧ (∀ x, x ≠ 39 → x ≠ 40 → ∀ i, yA u x i = yA t x i) ∧ ∀ a b, a ≤ k → b < 3 → (a = k → b < j) → yA u 39 (3 * a + b) = yD μ c a (13 + b) ∧ yA u 40 (3 * a + b) = yD μ c a (16 + b)) 0 3 rfl ?_ (by omega) (by omega) ?_ ?_
      · refine ⟨hft, ht27, fun x _ _ i => rfl, fun a b ha hb hab => ?_⟩
        rw [htx 39 (by decide), oth 39 (by decide), htx 40 (by decide), oth 40 (by decide)]
        exact ⟨e39 a b (by omega) hb, e40 a b (by omega) hb⟩
      · rintro j u - hj ⟨hfu, hu27, hux, hu⟩
        have h13 : yA u 13 (3 * (12 * c + k) + j) = yD μ c k (13 + j) := by rw [hfu.2 13 (by decide), yD_l μ c k j hj]
        have h14 : ∀ v, yA (ysA u 39 (3 * k + j) v) 14 (3 * (12 * c + k) + j) = yD μ c k (16 + j) := by intro v; rw [yA_sA, if_neg (by decide), hfu.2 14 (by decide), yD_h μ c k j]
        rw [xq_ite, if_neg (by simp (disch := first | omega | assumption | decide | exact qb_or _) only [xq_bd, xq_rt, xq_lt, xq_jn, xq_ite, xq_g, xq_gJ, xq_pJ, xq_lds, xq_ldls, xq_sts, xq_stls, xq_stZs, xq_ps, xq_pbs, qn_add, qn_addl, qn_addr, qn_mul, qn_mull, qn_lel, qn_ler, qn_ltl, qn_ltr, qn_eql, qn_eqr, qn_le, qn_lt, qn_inj, qn_ne1, xq_elim_l, xq_elim_r, yI_sI, yI_sJ, yI_sA, yJ_sI, yJ_sJ, yJ_sA, yA_sI, yA_sJ, yA_sA]; omega), qn_add, qn_add, xq_bd, xq_ld 13 _ _ _ (by show _ < 2880; omega), h13, xq_bd, xq_st 39 _ _ _ _ (by show _ < 36; omega), xq_bd, xq_ld 14 _ _ _ (by show _ < 2880; omega), h14, xq_bd, xq_st 40 _ _ _ _ (by show _ < 36; omega), xq_rt, xq_elim_l, qn_addl.2.1]
        refine ⟨rfl, yfr_sA (yfr_sA hfu (by decide)) (by decide), hu27, fun x hx hx2 i => by rw [yA_sA, if_neg hx2, yA_sA, if_neg hx]; exact hux x hx hx2 i, fun a b ha hb hab => ?_⟩
        simp only [yA_sA, Nat.reduceEqDiff, if_true, if_false]
        by_cases he : 3 * a + b = 3 * k + j
        · have : a = k ∧ b = j := by omega
          rw [if_pos he, if_pos he, this.1, this.2]
          exact ⟨rfl, rfl⟩
        · rw [if_neg he, if_neg he]
          exact hu a b ha hb (fun h => by have := hab h; rcases (by omega : b < j ∨ b = j) with h2 | h2; exact h2; exfalso; apply he; rw [h, h2])
      · rintro u ⟨hfu, hu27, hux, hu⟩
        rw [xq_ite, if_pos (by simp (disch := first | omega | assumption | decide | exact qb_or _) only [xq_bd, xq_rt, xq_lt, xq_jn, xq_ite, xq_g, xq_gJ, xq_pJ, xq_lds, xq_ldls, xq_sts, xq_stls, xq_stZs, xq_ps, xq_pbs, qn_add, qn_addl, qn_addr, qn_mul, qn_mull, qn_lel, qn_ler, qn_ltl, qn_ltr, qn_eql, qn_eqr, qn_le, qn_lt, qn_inj, qn_ne1, xq_elim_l, xq_elim_r, yI_sI, yI_sJ, yI_sA, yJ_sI, yJ_sJ, yJ_sA, yA_sI, yA_sJ, yA_sA]; omega), xq_rt, xq_elim_r, xq_rt, xq_elim_l, qn_addl.2.1]
        refine ⟨rfl, hfu, hu27, ?_⟩
        have lt : ∀ j, j ∈ [30, 31, 32, 33, 34, 35, 36, 37] → ∀ i, yA u j i = yA t0 j i := by
          intro j hj i
          have hj2 : j ≠ 38 ∧ j ≠ 39 ∧ j ≠ 40 := by simp only [List.mem_cons, List.not_mem_nil, or_false] at hj; omega
          rw [hux j hj2.2.1 hj2.2.2, htx j hj2.1]
        have row : ∀ (j f : Nat), j ∈ [30, 31, 32, 33, 34, 35, 36] → yA t0 j k = yD μ c k f → (∀ a, a < k → yA s j a = yD μ c a f) → ∀ a, a < k + 1 → yA u j a = yD μ c a f := by
          intro j f hj h1 h2 a ha
          have hj2 : j ∈ [30, 31, 32, 33, 34, 35, 36, 37] := by simp only [List.mem_cons, List.not_mem_nil, or_false] at hj ⊢; omega
          rw [lt j hj2]
          by_cases hak : a = k
          · rw [hak]; exact h1
          · rw [old j hj2 a hak]; exact h2 a (by omega)
        obtain ⟨o0, o1, o2, o3, o4, o5, o6, o7⟩ := own
        refine ⟨row 30 0 (by decide) o0 e30, row 31 4 (by decide) o1 e31, row 32 7 (by decide) o2 e32, row 33 5 (by decide) o3 e33, row 34 3 (by decide) o4 e34, row 35 1 (by decide) o5 e35, row 36 2 (by decide) o6 e36, fun a ha => ?_, fun a b ha hb => ?_, fun a b ha hb => ?_, fun a b ha hb => ?_⟩
        · rw [lt 37 (by decide)]
          by_cases hak : a = k
          · rw [hak]; exact o7
          · rw [old 37 (by decide) a hak]; exact e37 a (by omega)
        · rw [hux 38 (by decide) (by decide)]; exact ht38 a b (by omega) hb (fun _ => hb)
        · exact (hu a b (by omega) hb (fun _ => hb)).1
        · exact (hu a b (by omega) hb (fun _ => hb)).2
  · rintro s ⟨hf, h27, hE⟩
    rw [xq_g, h27, xq_ite, if_pos (by rw [qn_le (by omega) (by omega)]; omega), xq_rt, xq_elim_r, ← hP]
    obtain ⟨e30, e31, e32, e33, e34, e35, e36, e37, e38, e39, e40⟩ := hE
    exact ⟨hf, h27, e30, e31, e32, e33, e34, e35, e36, e37, e38, e39, e40, fun f hf2 => (hf.2 26 (by decide) f).trans (hR f hf2)⟩
