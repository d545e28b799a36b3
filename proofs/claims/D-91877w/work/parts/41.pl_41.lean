/-! the reference: what is told (yM), which cases are sure (sT), a case comes to hand (y_takes), a combo is looked at (y_looksAt) -/
set_option maxRecDepth 100000
theorem i32_cases (v : Int32) : v < 0 ∨ (v = qn (dn v) ∧ dn v < 2147483648) := by
  by_cases h : v < 0
  · exact Or.inl h
  · right
    have h0 : (0 : Int) ≤ v.toInt := by
      have := Int32.not_lt.mp h
      simpa using Int32.le_iff_toInt_le.mp this
    have h1 := v.toInt_lt
    have h2 : dn v = v.toInt.toNat := rfl
    have h3 : dn v < 2147483648 := by rw [h2]; omega
    refine ⟨Int32.toInt_inj.mp ?_, h3⟩
    rw [qn_toInt h3, h2]
    omega
/-- a place below m -/
def inN (v : Int32) (m : Nat) : Bool := !decide (v < 0) && decide (dn v < m)
theorem inN_t {v : Int32} {m : Nat} (h : inN v m = true) : v = qn (dn v) ∧ dn v < m := by
  unfold inN at h
  rw [Bool.and_eq_true, Bool.not_eq_true', decide_eq_false_iff_not, decide_eq_true_eq] at h
  rcases i32_cases v with h1 | h1
  · exact absurd h1 h.1
  · exact ⟨h1.1, h.2⟩
theorem inN_f {v : Int32} {m : Nat} (h : inN v m = false) : v < 0 ∨ (v = qn (dn v) ∧ dn v < 2147483648 ∧ m ≤ dn v) := by
  rcases i32_cases v with h1 | h1
  · exact Or.inl h1
  · right
    refine ⟨h1.1, h1.2, ?_⟩
    unfold inN at h
    by_cases h2 : dn v < m
    · have h3 : ¬ v < 0 := by rw [h1.1]; exact qn_ge0 h1.2
      simp [h2, h3] at h
    · omega
theorem inN_qn {i m : Nat} (hm : m < 2147483648) (h : i < m) : inN (qn i) m = true := by
  unfold inN
  rw [dn_qn (by omega)]
  simp [qn_ge0 (show i < 2147483648 by omega), h]
theorem inN_if {α : Type} (v : Int32) (m : Nat) (hm : m < 2147483648) (A B : α) : (if v < 0 then A else if qn m ≤ v then A else B) = if inN v m = true then B else A := by
  cases h : inN v m with
  | true =>
    obtain ⟨h1, h2⟩ := inN_t h
    rw [if_neg (by rw [h1]; exact qn_ge0 (by omega)), if_neg (by rw [h1, qn_le hm (by omega)]; omega), if_pos rfl]
  | false =>
    rw [if_neg (show ¬ (false = true) by decide)]
    rcases inN_f h with h1 | ⟨h1, h2, h3⟩
    · rw [if_pos h1]
    · rw [if_neg (by rw [h1]; exact qn_ge0 h2), if_pos (by rw [h1, qn_le hm h2]; exact h3)]
/-! how many, of the copy at hand -/
def y_nC (μ : xw_Mu) : Nat := dn (yA μ 0 0)
def y_nL (μ : xw_Mu) : Nat := dn (yA μ 1 0)
def y_nK (μ : xw_Mu) : Nat := dn (yA μ 2 0)
def y_n (μ : xw_Mu) (c : Nat) : Nat := dn (yA μ 3 c)
/-- a text of rules: -2 is not told -/
def okT (t : Nat → Int32) : Prop := (∀ f, f < 6 → t f = -2 ∨ qr 2 (t f)) ∧ (t 6 = -2 ∨ qr 1 (t 6)) ∧ (t 7 = -2 ∨ qr 999 (t 7)) ∧ (t 8 = -2 ∨ qr 999 (t 8)) ∧ (t 9 = -2 ∨ qr 1 (t 9)) ∧ (t 10 = -2 ∨ qr 2 (t 10)) ∧ (t 11 = -2 ∨ qr 1 (t 11)) ∧ (t 12 = -2 ∨ qr 2 (t 12))
/-- what is told, in order -/
def yM (μ : xw_Mu) : Prop := (yA μ 0 0 = qn (y_nC μ) ∧ y_nC μ ≤ 16) ∧ (yA μ 1 0 = qn (y_nL μ) ∧ y_nL μ ≤ 8) ∧ (yA μ 2 0 = qn (y_nK μ) ∧ y_nK μ ≤ 6) ∧
  (∀ c, c < y_nC μ → yA μ 3 c = qn (y_n μ c) ∧ 1 ≤ y_n μ c ∧ sp_ok c (y_n μ c) (yD μ c)) ∧ (∀ l, l < y_nL μ → okT (y_law μ l)) ∧ (∀ c, c < y_nK μ → okT (y_cl μ c))
theorem sp_okR_0 : sp_okR sp_R0 := by
  have h1 : ∀ (a m : Nat), a ≤ m → m < 5000 → qr m (qn a) := fun a m h hm => qr_qn h (by omega)
  refine ⟨fun f hf => ?_, h1 0 1 (by omega) (by omega), Or.inl rfl, Or.inl rfl, h1 0 1 (by omega) (by omega), h1 0 2 (by omega) (by omega), h1 0 1 (by omega) (by omega), h1 0 2 (by omega) (by omega)⟩
  unfold sp_R0
  rw [if_pos hf]
  exact h1 1 2 (by omega) (by omega)
theorem sp_okR_ov {t v : Nat → Int32} (ht : okT t) (hv : sp_okR v) : sp_okR (sp_ov t v) := by
  obtain ⟨a0, a6, a7, a8, a9, a10, a11, a12⟩ := ht
  obtain ⟨b0, b6, b7, b8, b9, b10, b11, b12⟩ := hv
  have two : ∀ {P : Int32 → Prop} {f : Nat}, (t f = -2 ∨ P (t f)) → P (v f) → P (sp_ov t v f) := by
    intro P f h1 h2
    unfold sp_ov
    by_cases h : t f = -2
    · rw [if_pos h]; exact h2
    · rw [if_neg h]
      rcases h1 with h1 | h1
      · exact absurd h1 h
      · exact h1
  exact ⟨fun f hf => two (a0 f hf) (b0 f hf), two a6 b6, two (a7.imp id Or.inr) b7, two (a8.imp id Or.inr) b8, two a9 b9, two a10 b10, two a11 b11, two a12 b12⟩
theorem sp_okR_lays {law : Nat → Int32} {cl : Nat → Nat → Int32} {bits : Int32} (hl : okT law) {cn : Nat} (hc : ∀ c, c < cn → okT (cl c)) : sp_okR (sp_lays law cl bits cn) := by
  induction cn with
  | zero => exact sp_okR_ov hl sp_okR_0
  | succ c ih =>
    rw [sp_lays_s]
    split
    · exact sp_okR_ov (hc c (by omega)) (ih (fun c' h => hc c' (by omega)))
    · exact ih (fun c' h => hc c' (by omega))
/-- which cases of those ahead of c are sure -/
def sT (n : Nat → Nat) (D : Nat → Nat → Nat → Int32) (R : Nat → Int32) : Nat → Nat → Bool
  | 0 => fun _ => false
  | c + 1 => fun j => if j = c then sp_sure (n c) (D c) R (spBar (D c) (sT n D R c)) else sT n D R c j
def sBar (n : Nat → Nat) (D : Nat → Nat → Nat → Int32) (R : Nat → Int32) (c : Nat) : Nat → Bool := spBar (D c) (sT n D R c)
def sS (n : Nat → Nat) (D : Nat → Nat → Nat → Int32) (R : Nat → Int32) (c : Nat) : Bool := sp_sure (n c) (D c) R (sBar n D R c)
theorem sT_lt {n : Nat → Nat} {D : Nat → Nat → Nat → Int32} {R : Nat → Int32} {c g : Nat} (h : g < c) : sT n D R c g = sS n D R g := by
  induction c with
  | zero => omega
  | succ c ih =>
    show (if g = c then _ else _) = _
    by_cases hg : g = c
    · rw [if_pos hg, hg]; rfl
    · rw [if_neg hg]; exact ih (by omega)
/-! frames over what is told -/
theorem yD_fr {I A : List Nat} {μ μ' : xw_Mu} (hf : yfr I A μ μ') (hA : ∀ j, j ∈ A → j ∉ [4, 5, 6, 7, 8, 9, 10, 11, 12, 13, 14]) : yD μ' = yD μ := by
  have g : ∀ j, j ∈ [4, 5, 6, 7, 8, 9, 10, 11, 12, 13, 14] → ∀ i, yA μ' j i = yA μ j i := fun j hj i => hf.2 j (fun hx => hA j hx hj) i
  funext c k f
  unfold yD
  by_cases h8 : f < 8
  · rw [if_pos h8, if_pos h8]
    exact g _ (by simp only [List.mem_cons, List.not_mem_nil, or_false]; omega) _
  · rw [if_neg h8, if_neg h8, g 12 (by decide), g 13 (by decide), g 14 (by decide)]
theorem yM_fr {I A : List Nat} {μ μ' : xw_Mu} (hf : yfr I A μ μ') (hA : ∀ j, j ∈ A → 16 ≤ j) : yD μ' = yD μ ∧ y_nC μ' = y_nC μ ∧ y_nL μ' = y_nL μ ∧ y_nK μ' = y_nK μ ∧ y_n μ' = y_n μ ∧ y_law μ' = y_law μ ∧ y_cl μ' = y_cl μ ∧ (yM μ → yM μ') := by
  have g : ∀ j, j < 16 → ∀ i, yA μ' j i = yA μ j i := fun j hj i => hf.2 j (fun hx => by have := hA j hx; omega) i
  have e1 : yD μ' = yD μ := yD_fr hf (fun j hj hx => by
    have := hA j hj
    simp only [List.mem_cons, List.not_mem_nil, or_false] at hx
    omega)
  have e2 : y_nC μ' = y_nC μ := by unfold y_nC; rw [g 0 (by decide)]
  have e3 : y_nL μ' = y_nL μ := by unfold y_nL; rw [g 1 (by decide)]
  have e4 : y_nK μ' = y_nK μ := by unfold y_nK; rw [g 2 (by decide)]
  have e5 : y_n μ' = y_n μ := by funext c; unfold y_n; rw [g 3 (by decide)]
  have e6 : y_law μ' = y_law μ := by funext c f; unfold y_law; rw [g 15 (by decide)]
  have e7 : y_cl μ' = y_cl μ := by funext c f; unfold y_cl; rw [g 15 (by decide)]
  refine ⟨e1, e2, e3, e4, e5, e6, e7, fun h => ?_⟩
  unfold yM at h ⊢
  rw [e1, e2, e3, e4, e5, e6, e7, g 0 (by decide), g 1 (by decide), g 2 (by decide)]
  refine ⟨h.1, h.2.1, h.2.2.1, fun c hc => ?_, h.2.2.2.2⟩
  rw [g 3 (by decide)]
  exact h.2.2.2.1 c hc
theorem y_isCase {μ : xw_Mu} (h : yM μ) (v : Int32) (P : Int32 → xw_Mu → Prop) : xq_w (pg_X2_isCase v) μ P = P (qb (inN v (y_nC μ))) μ := by
  unfold pg_X2_isCase
  have h0 := h.1
  simp (disch := first | omega | assumption | decide | exact qb_or _) only [xq_bd, xq_rt, xq_lt, xq_jn, xq_ite, xq_g, xq_gJ, xq_pJ, xq_lds, xq_ldls, xq_sts, xq_stls, xq_stZs, xq_ps, xq_pbs, qn_add, qn_addl, qn_addr, qn_mul, qn_mull, qn_lel, qn_ler, qn_ltl, qn_ltr, qn_eql, qn_eqr, qn_le, qn_lt, qn_inj, qn_ne1, xq_elim_l, xq_elim_r, yI_sI, yI_sJ, yI_sA, yJ_sI, yJ_sJ, yJ_sA, yA_sI, yA_sJ, yA_sA, h0.1]
  rw [inN_if v _ (by omega)]
  cases inN v (y_nC μ) <;> rfl
theorem y_isLaw {μ : xw_Mu} (h : yM μ) (v : Int32) (P : Int32 → xw_Mu → Prop) : xq_w (pg_X2_isLaw v) μ P = P (qb (inN v (y_nL μ))) μ := by
  unfold pg_X2_isLaw
  have h0 := h.2.1
  simp (disch := first | omega | assumption | decide | exact qb_or _) only [xq_bd, xq_rt, xq_lt, xq_jn, xq_ite, xq_g, xq_gJ, xq_pJ, xq_lds, xq_ldls, xq_sts, xq_stls, xq_stZs, xq_ps, xq_pbs, qn_add, qn_addl, qn_addr, qn_mul, qn_mull, qn_lel, qn_ler, qn_ltl, qn_ltr, qn_eql, qn_eqr, qn_le, qn_lt, qn_inj, qn_ne1, xq_elim_l, xq_elim_r, yI_sI, yI_sJ, yI_sA, yJ_sI, yJ_sJ, yJ_sA, yA_sI, yA_sJ, yA_sA, h0.1]
  rw [inN_if v _ (by omega)]
  cases inN v (y_nL μ) <;> rfl
theorem qn_pred (i : Nat) : qn (i + 1) + (-1) = qn i := by
  rw [← qn_add, show (-1 : Int32) = - qn 1 from rfl, ← Int32.sub_eq_add_neg, Int32.add_sub_cancel]
theorem xq_down {S β : Type} {body : Int32 → xw_M S (Int32 ⊕ β)} {P : β → S → Prop} (I : Nat → S → Prop) (m : Nat) {a : Int32} {s : S} (ha : a = qn m) (h0 : I (m + 1) s) (hN : m < 19000)
    (step : ∀ i s, i ≤ m → I (i + 1) s → xq_w (body (qn i)) s fun r s' => Sum.elim (fun a' => a' = qn i + (-1) ∧ I i s') (fun b => P b s') r)
    (last : ∀ s, I 0 s → xq_w (body (-1)) s fun r s' => Sum.elim (fun _ => False) (fun b => P b s') r) : xq_w (xw_loop body xw_FU a) s P := by
  refine xq_loop (I := fun k a s => k ≤ m + 1 ∧ a = qn (m + 1 - k) + (-1) ∧ I (m + 1 - k) s) (N := m + 1) ⟨by omega, by rw [show m + 1 - 0 = m + 1 by omega, qn_pred]; exact ha, h0⟩ (by omega) ?_
  rintro k a s hk ⟨hk1, rfl, hI⟩
  by_cases hlt : k < m + 1
  · have he : m + 1 - k = (m - k) + 1 := by omega
    rw [he] at hI ⊢
    rw [qn_pred]
    refine xq_mono (step _ s (by omega) hI) (fun r s' h => ?_)
    cases r with
    | inl a' => exact ⟨hlt, by omega, by rw [show m + 1 - (k + 1) = m - k by omega]; exact h.1, by rw [show m + 1 - (k + 1) = m - k by omega]; exact h.2⟩
    | inr b => exact h
  · have he : m + 1 - k = 0 := by omega
    rw [he] at hI ⊢
    rw [show qn 0 + (-1) = (-1 : Int32) by decide]
    refine xq_mono (last s hI) (fun r s' h => ?_)
    cases r with
    | inl a' => exact absurd h (by simp only [xq_elim_l]; exact fun hx => hx)
    | inr b => exact h
