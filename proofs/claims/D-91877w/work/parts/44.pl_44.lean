/-! the reference's operations: asked, hour, run, open, binds, rule, saying -/
set_option maxRecDepth 100000
theorem qbz {α : Type} (b : Bool) (A B : α) : (if qb b = 0 then A else B) = if b = true then B else A := by cases b <;> rfl
def isin (v lo hi : Int32) : Bool := !decide (v < lo) && !decide (hi < v)
theorem y_within (v lo hi : Int32) (μ : xw_Mu) (P : Int32 → xw_Mu → Prop) : xq_w (pg_X2_within v lo hi) μ P = P (qb (isin v lo hi)) μ := by
  unfold pg_X2_within isin
  simp only [xq_ite, xq_rt]
  by_cases h1 : v < lo <;> by_cases h2 : hi < v <;> simp [h1, h2, qb]
theorem isin_0 (v : Int32) (m : Nat) (h1 : 1 ≤ m) (h2 : m < 2147483648) : isin v 0 (qn (m - 1)) = inN v m := by
  unfold isin inN
  rcases i32_cases v with h | ⟨h, h3⟩
  · simp [h]
  · generalize dn v = x at *
    subst h
    simp only [qn_lt (show m - 1 < 2147483648 by omega) h3]
    have := qn_ge0 h3
    simp only [this, decide_false, Bool.not_false, Bool.true_and]
    by_cases h4 : x < m
    · simp [h4, show ¬ (m - 1 < x) by omega]
    · simp [h4, show (m - 1 < x) by omega]
theorem isin_lit (v : Int32) : isin v 0 2 = inN v 3 ∧ isin v 0 13 = inN v 14 ∧ isin v 0 4 = inN v 5 ∧ isin v 0 1 = inN v 2 ∧ isin v 0 9998 = inN v 9999 := ⟨isin_0 v 3 (by omega) (by omega), isin_0 v 14 (by omega) (by omega), isin_0 v 5 (by omega) (by omega), isin_0 v 2 (by omega) (by omega), isin_0 v 9999 (by omega) (by omega)⟩
theorem isin_qn {v : Int32} {a b : Nat} (hb : b < 2147483648) (h : isin v (qn a) (qn b) = true) (ha : a < 2147483648) : v = qn (dn v) ∧ a ≤ dn v ∧ dn v ≤ b := by
  unfold isin at h
  simp only [Bool.and_eq_true, Bool.not_eq_true', decide_eq_false_iff_not] at h
  rcases i32_cases v with h1 | ⟨h1, h3⟩
  · exfalso
    apply h.1
    rw [Int32.lt_iff_toInt_lt] at h1 ⊢
    rw [qn_toInt ha]
    have : (0 : Int32).toInt = 0 := rfl
    omega
  · generalize dn v = x at *
    subst h1
    rw [qn_lt h3 ha, qn_lt hb h3] at h
    exact ⟨rfl, by omega, by omega⟩
theorem inN_if2 {α : Type} (v : Int32) (m : Nat) (hm : m < 2147483648) (A B : α) : (if v < 0 then A else if v < qn m then B else A) = if inN v m = true then B else A := by
  rw [← inN_if v m hm A B]
  by_cases h : v < 0
  · rw [if_pos h, if_pos h]
  · rw [if_neg h, if_neg h]
    by_cases h2 : v < qn m
    · rw [if_pos h2, if_neg (by rw [Int32.lt_iff_toInt_lt] at h2; rw [Int32.le_iff_toInt_le]; omega)]
    · rw [if_neg h2, if_pos (by rw [Int32.lt_iff_toInt_lt] at h2; rw [Int32.le_iff_toInt_le]; omega)]
/-! a word of an offer: its own, else that of what it answers -/
def sp_wd (D : Nat → Nat → Int32) (w : Nat) : Nat → Nat → Int32
  | 0, k => D k (8 + w)
  | f + 1, k => if D k (8 + w) = -1 ∧ D k 0 = 3 then sp_wd D w f (dn (D k 3)) else D k (8 + w)
def sp_word (D : Nat → Nat → Int32) (w k : Nat) : Int32 := sp_wd D w 12 k
theorem sp_but_said {c n : Nat} {D : Nat → Nat → Int32} (hD : sp_ok c n D) {k : Nat} (hk : k < n) (h : D k 0 = 3) : D k 3 = qn (dn (D k 3)) ∧ dn (D k 3) < k ∧ sp_isOf (D (dn (D k 3)) 0) = true := by
  obtain ⟨hn, hD⟩ := hD
  obtain ⟨_, _, _, _, _, _, _, _, _, hs, _⟩ := hD k hk
  rw [h, if_neg (by decide)] at hs
  obtain ⟨s, hs1, h3, h4⟩ := hs
  rw [if_neg (by decide)] at h4
  rw [h3, dn_qn (by omega)]
  exact ⟨rfl, hs1, h4⟩
theorem sp_wd_f {c n : Nat} {D : Nat → Nat → Int32} (hD : sp_ok c n D) (w : Nat) : ∀ f g k, k < n → k ≤ f → k ≤ g → sp_wd D w f k = sp_wd D w g k := by
  intro f
  induction f with
  | zero =>
    intro g k hk h1 h2
    have hk0 : k = 0 := by omega
    subst hk0
    cases g with
    | zero => rfl
    | succ g =>
      show _ = if _ then _ else _
      by_cases h : D 0 (8 + w) = -1 ∧ D 0 0 = 3
      · have := (sp_but_said hD hk h.2).2.1; omega
      · rw [if_neg h]; rfl
  | succ f ih =>
    intro g k hk h1 h2
    cases g with
    | zero =>
      have hk0 : k = 0 := by omega
      subst hk0
      show (if _ then _ else _) = _
      by_cases h : D 0 (8 + w) = -1 ∧ D 0 0 = 3
      · have := (sp_but_said hD hk h.2).2.1; omega
      · rw [if_neg h]; rfl
    | succ g =>
      show (if _ then _ else _) = if _ then _ else _
      by_cases h : D k (8 + w) = -1 ∧ D k 0 = 3
      · have h3 := (sp_but_said hD hk h.2).2.1
        rw [if_pos h, if_pos h]
        exact ih g _ (by omega) (by omega) (by omega)
      · rw [if_neg h, if_neg h]
theorem sp_word_but {c n : Nat} {D : Nat → Nat → Int32} (hD : sp_ok c n D) {w k : Nat} (hk : k < n) (h : D k (8 + w) = -1 ∧ D k 0 = 3) : sp_word D w k = sp_word D w (dn (D k 3)) := by
  have h3 := (sp_but_said hD hk h.2).2.1
  have hn := hD.1
  unfold sp_word
  show (if _ then _ else _) = _
  rw [if_pos h]
  exact sp_wd_f hD w 11 12 _ (by omega) (by omega) (by omega)
theorem sp_word_own {D : Nat → Nat → Int32} {w k : Nat} (h : ¬ (D k (8 + w) = -1 ∧ D k 0 = 3)) : sp_word D w k = D k (8 + w) := by
  unfold sp_word
  show (if _ then _ else _) = _
  rw [if_neg h]
theorem y_wordOf {μ : xw_Mu} {n : Nat} {D : Nat → Nat → Int32} {R : Nat → Int32} {bar : Nat → Bool} (h : yE μ n D R bar) {c : Nat} (hD : sp_ok c n D) {o w : Nat} (ho : o < n) (hw : w < 5) (P : Int32 → xw_Mu → Prop) (hP : P (sp_word D w o) μ) : xq_w (pg_X2_wordOf (qn o) (qn w)) μ P := by
  have hn := hD.1
  obtain ⟨e27, e30, e31, e32, e33, e34, e35, e36, e37, e38, e39, e40, e26⟩ := h
  unfold pg_X2_wordOf
  rw [xq_bd]
  refine xq_loop (I := fun i a s => s = μ ∧ ∃ k, a = qn k ∧ k + i ≤ o ∧ sp_word D w k = sp_word D w o) (N := o) ⟨rfl, o, rfl, by omega, rfl⟩ (by omega) ?_
  rintro i a s hi ⟨rfl, k, rfl, hk, hv⟩
  have hkn : k < n := by omega
  have hqo := (hD.2 k hkn).2.2.2.2.2.2.2.1 w hw
  rw [qn_mull.2.2.2.2.2.1, qn_add, xq_bd, xq_ld 38 _ _ _ (by show _ < 60; omega), e38 k w hkn hw, xq_ite]
  have stop : ¬ (D k (8 + w) = -1 ∧ D k 0 = 3) → xq_w (xw_bd (ym_ld 38 (5 * qn k + qn w)) fun v5 => xw_rt v5) s P := by
    intro h
    rw [qn_mull.2.2.2.2.2.1, qn_add, xq_bd, xq_ld 38 _ _ _ (by show _ < 60; omega), e38 k w hkn hw, xq_rt, ← sp_word_own h, hv]
    exact hP
  by_cases h1 : D k (8 + w) = -1
  · rw [h1, if_neg (by decide), xq_bd, xq_ld 30 _ _ _ (by show _ < 12; omega), e30 k hkn, xq_ite]
    by_cases h3 : D k 0 = 3
    · obtain ⟨a1, a2, a3⟩ := sp_but_said hD hkn h3
      rw [if_pos h3, xq_bd, xq_ld 34 _ _ _ (by show _ < 12; omega), e34 k hkn, xq_rt, xq_elim_l]
      exact ⟨by omega, rfl, _, a1, by omega, by rw [← sp_word_but hD hkn ⟨h1, h3⟩]; exact hv⟩
    · rw [if_neg h3, xq_rt, xq_elim_r]
      exact stop (fun hx => h3 hx.2)
  · rw [if_pos (by rw [qo_ge0 hqo]; exact h1), xq_rt, xq_elim_r]
    exact stop (fun hx => h1 hx.1)
/-- a word of a bargain -/
def sp_bw (D : Nat → Nat → Int32) (R : Nat → Int32) (b : Nat × Int32 × Nat) (w : Nat) : Int32 :=
  if b.2.1 = -1 ∨ D (dn b.2.1) (8 + w) = -1 ∨ R 10 = 0 then sp_word D w b.2.2 else if R 10 = 1 then D (dn b.2.1) (8 + w) else -1
/-! what a bargain's parts are -/
def okB (n : Nat) (D : Nat → Nat → Int32) (R : Nat → Int32) (b : Nat × Int32 × Nat) : Prop := b.1 ≤ 9999 ∧ (b.1 < 9999 → b.2.2 < n ∧ sp_off D R b.2.2 = true ∧ (b.2.1 = -1 ∨ (b.2.1 = qn (dn b.2.1) ∧ dn b.2.1 < n ∧ sp_isyes D R (dn b.2.1) = true ∧ D (dn b.2.1) 3 = qn b.2.2)))
theorem okB_tk {n : Nat} {D : Nat → Nat → Int32} {R : Nat → Int32} {b : Nat × Int32 × Nat} {h : Nat} {y : Int32} {o : Nat} (hb : okB n D R b) (ht : h < 9999 → o < n ∧ sp_off D R o = true ∧ (y = -1 ∨ (y = qn (dn y) ∧ dn y < n ∧ sp_isyes D R (dn y) = true ∧ D (dn y) 3 = qn o))) : okB n D R (sp_tk h y o b) := by
  unfold sp_tk
  split
  · rename_i h1
    have := hb.1
    exact ⟨by show h ≤ 9999; omega, fun h2 => ht h2⟩
  · exact hb
theorem okB_B {c n : Nat} {D : Nat → Nat → Int32} {R : Nat → Int32} {bar : Nat → Bool} {H : Nat → Nat → Nat} (hD : sp_ok c n D) : okB n D R (sp_B n D R bar H) := by
  have hn := hD.1
  have h1 : ∀ k, k ≤ n → okB n D R (sp_B1 n D R H (sp_F R bar H) (sp_e n D R H) k) := by
    intro k
    induction k with
    | zero => exact fun _ => ⟨Nat.le_refl _, fun h => absurd h (by show ¬ 9999 < 9999; omega)⟩
    | succ k ih =>
      intro hk
      unfold sp_B1
      split
      · rename_i hy
        refine okB_tk (ih (by omega)) (fun hh => ?_)
        obtain ⟨s1, s2⟩ := sp_yes_said hD (show k < n by omega) hy
        unfold sp_mk at hh
        split at hh
        · rename_i h3
          refine ⟨by omega, h3.1, Or.inr ?_⟩
          rw [dn_qn (by omega)]
          exact ⟨rfl, by omega, hy, s1⟩
        · omega
      · exact ih (by omega)
  have h2 : ∀ k, k ≤ n → okB n D R (sp_B2 n D R H (sp_F R bar H) (sp_e n D R H) k) := by
    intro k
    induction k with
    | zero => exact fun _ => h1 n (Nat.le_refl _)
    | succ k ih =>
      intro hk
      unfold sp_B2
      split
      · rename_i hy
        exact okB_tk (ih (by omega)) (fun hh => ⟨by omega, hy, Or.inl rfl⟩)
      · exact ih (by omega)
  exact h2 n (Nat.le_refl _)
theorem sp_yes_own {c n : Nat} {D : Nat → Nat → Int32} {R : Nat → Int32} (hD : sp_ok c n D) {k : Nat} (hk : k < n) (hy : sp_isyes D R k = true) (hs : sp_small D R k = false) (w : Nat) (hw : w < 5) : D k (8 + w) = -1 := by
  have h0 : D k 0 = 2 ∨ D k 0 = 6 := by
    unfold sp_isyes at hy
    rw [hs] at hy
    simp only [Bool.or_false, Bool.or_eq_true, Bool.and_eq_true, decide_eq_true_eq] at hy
    rcases hy with h | h
    · exact Or.inl h
    · exact Or.inr h.1
  refine (hD.2 k hk).2.2.2.2.2.2.2.2.2.2.2.2.1 ?_ ?_ w hw
  · rcases h0 with h | h <;> rw [h] <;> decide
  · rcases h0 with h | h <;> rw [h] <;> decide
theorem y_bargainWord {μ : xw_Mu} {n : Nat} {D : Nat → Nat → Int32} {R : Nat → Int32} {bar : Nat → Bool} (h : yE μ n D R bar) (hR : sp_okR R) {c : Nat} (hD : sp_ok c n D) {b : Nat × Int32 × Nat} (hb : yB μ b) (hb1 : b.1 < 9999) (hok : okB n D R b) {w : Nat} (hw : w < 5) (P : Int32 → xw_Mu → Prop) (hP : P (sp_bw D R b w) μ) : xq_w (pg_X2_bargainWord (qn w)) μ P := by
  have hn := hD.1
  obtain ⟨b50, b51, b52, b53⟩ := hb.1 hb1
  obtain ⟨o1, o2, o3⟩ := hok.2 hb1
  have hsm := fun k hk P => y_isSmall (k := k) h hR hD hk P
  obtain ⟨e27, e30, e31, e32, e33, e34, e35, e36, e37, e38, e39, e40, e26⟩ := id h
  unfold pg_X2_bargainWord
  rw [xq_g, b52, xq_bd]
  refine y_wordOf h hD o1 hw _ ?_
  rw [xq_g, b51, xq_ite]
  rcases o3 with o3 | ⟨o3, o4, o5, o6⟩
  · rw [o3, if_pos (by decide), xq_rt]
    unfold sp_bw at hP
    rw [if_pos (Or.inl o3)] at hP
    exact hP
  · rw [o3, if_neg (qn_ge0 (by omega)), xq_g, b51, o3, xq_bd, hsm _ o4, xq_ite, qbz]
    have hqo := (hD.2 _ o4).2.2.2.2.2.2.2.1 w hw
    unfold sp_bw at hP
    simp only [show (b.2.1 = -1) = False from propext ⟨fun hx => by rw [o3] at hx; exact qn_ne (by omega) hx, False.elim⟩, false_or] at hP
    generalize hy : dn b.2.1 = y at *
    cases hs : sp_small D R y with
    | false =>
      rw [if_neg (show ¬ (false = true) by decide), xq_rt]
      rw [if_pos (Or.inl (sp_yes_own hD o4 o5 hs w hw))] at hP
      exact hP
    | true =>
      rw [if_pos rfl, xq_g, b51, o3, qn_mull.2.2.2.2.2.1, qn_add, xq_bd, xq_ld 38 _ _ _ (by show _ < 60; omega), e38 _ w o4 hw, xq_ite]
      by_cases h1 : D y (8 + w) = -1
      · rw [if_pos (Or.inl h1)] at hP
        rw [h1, if_pos (by decide), xq_rt]
        exact hP
      · rw [if_neg (by rw [qo_lt0 hqo]; exact h1), xq_bd, xq_ldls.2.2.2.2.2.2.2.2.2.2.1, e26 10 (by omega), xq_ite]
        by_cases h10 : R 10 = 0
        · rw [if_pos (Or.inr h10)] at hP
          rw [if_pos h10, xq_rt]
          exact hP
        · rw [if_neg (fun hx => hx.elim h1 h10)] at hP
          rw [if_neg h10, xq_bd, xq_ldls.2.2.2.2.2.2.2.2.2.2.1, e26 10 (by omega), xq_ite]
          by_cases h11 : R 10 = 1
          · rw [if_pos h11] at hP
            rw [if_pos h11, xq_g, b51, o3, qn_mull.2.2.2.2.2.1, qn_add, xq_bd, xq_ld 38 _ _ _ (by show _ < 60; omega), e38 _ w o4 hw, xq_rt]
            exact hP
          · rw [if_neg h11] at hP
            rw [if_neg h11, xq_rt]
            exact hP
