/-! the reference: whether a case is sure -/
set_option maxRecDepth 100000
def sp_pkD (n : Nat) (D : Nat → Nat → Int32) (combo : Nat) : Nat → Nat := sp_pk (sp_as D (4 * n)) (fun a => sp_rx D (sp_as D (4 * n) a)) combo (sp_am D (4 * n))
/-- hours of a case in a combo -/
def sp_HD (n : Nat) (D : Nat → Nat → Int32) (combo : Nat) : Nat → Nat → Nat := sp_H D (sp_pkD n D combo)
/-- the bargain of a case by rules in a combo -/
def sp_at (n : Nat) (D : Nat → Nat → Int32) (R : Nat → Int32) (bar : Nat → Bool) (combo : Nat) : Nat × Int32 × Nat := sp_B n D R bar (sp_HD n D combo)
def sp_looked (n : Nat) (D : Nat → Nat → Int32) : Bool := sp_cm D (4 * n) ≤ 1024
def sp_sure (n : Nat) (D : Nat → Nat → Int32) (R : Nat → Int32) (bar : Nat → Bool) : Bool := sp_looked n D && (List.range (sp_cm D (4 * n))).all fun combo => (sp_at n D R bar combo).1 < 9999
theorem all_t {n : Nat} {p : Nat → Bool} (h : ∀ j, j < n → p j = true) : (List.range n).all p = true := List.all_eq_true.mpr fun j hj => h j (List.mem_range.mp hj)
theorem all_f {n j : Nat} {p : Nat → Bool} (hj : j < n) (h : p j = false) : (List.range n).all p = false := by
  rw [List.all_eq_false]
  exact ⟨j, List.mem_range.mpr hj, by rw [h]; decide⟩
theorem yQ_fr {I A : List Nat} {μ μ' : xw_Mu} (hf : yfr I A μ μ') {D : Nat → Nat → Int32} {r : Nat} (h : yQ μ D r) (hI : 28 ∉ I) (hI2 : 29 ∉ I) (h1 : 41 ∉ A) (h2 : 42 ∉ A) : yQ μ' D r := ⟨yK_fr hf h.1 hI h1 h2, (hf.1 29 hI2).trans h.2⟩
theorem y_isLooked {μ : xw_Mu} {n : Nat} {D : Nat → Nat → Int32} (h : yQ μ D (4 * n)) (P : Int32 → xw_Mu → Prop) : xq_w pg_X2_isLooked μ P = P (qb (sp_looked n D)) μ := by
  have hcm := sp_cm_pos D (4 * n)
  unfold pg_X2_isLooked sp_looked
  rw [xq_g, h.2]
  simp (disch := first | omega | assumption | decide | exact qb_or _) only [xq_bd, xq_rt, xq_lt, xq_jn, xq_ite, xq_g, xq_gJ, xq_pJ, xq_lds, xq_ldls, xq_sts, xq_stls, xq_stZs, xq_ps, xq_pbs, qn_add, qn_addl, qn_addr, qn_mul, qn_mull, qn_lel, qn_ler, qn_ltl, qn_ltr, qn_eql, qn_eqr, qn_le, qn_lt, qn_inj, qn_ne1, xq_elim_l, xq_elim_r, yI_sI, yI_sJ, yI_sA, yJ_sI, yJ_sJ, yJ_sA, yA_sI, yA_sJ, yA_sA]
  by_cases h1 : 1024 < sp_cm D (4 * n)
  · rw [if_pos h1, decide_eq_false (by omega)]; rfl
  · rw [if_neg h1, decide_eq_true (by omega)]; rfl
theorem y_looksD {μ : xw_Mu} {n : Nat} {D : Nat → Nat → Int32} {R : Nat → Int32} {bar : Nat → Bool} (h : yE μ n D R bar) (hR : sp_okR R) {c : Nat} (hD : sp_ok c n D) (hQ : yQ μ D (4 * n)) {combo : Nat} (hc : combo < 2147483648) :
    xq_w (pg_X2_looks (qn combo)) μ fun _ μ' => yfr [50, 51, 52, 53] [43, 44, 45, 46, 47, 48, 49] μ μ' ∧ yL μ' n D R bar (sp_HD n D combo) := y_looks h hR hD (sp_okA hD) hQ.1 hc
theorem y_isSureNow {μ : xw_Mu} {n : Nat} {D : Nat → Nat → Int32} {R : Nat → Int32} {bar : Nat → Bool} (h : yE μ n D R bar) (hR : sp_okR R) {c : Nat} (hD : sp_ok c n D) :
    xq_w pg_X2_isSureNow μ fun r μ' => r = qb (sp_sure n D R bar) ∧ yfr [28, 29, 50, 51, 52, 53] [41, 42, 43, 44, 45, 46, 47, 48, 49] μ μ' := by
  have hcm := sp_cm_pos D (4 * n)
  unfold pg_X2_isSureNow
  rw [xq_bd]
  refine xq_mono (y_findAsked h hD) ?_
  rintro _ μ1 ⟨f1, hQ⟩
  have f1' : yfr [28, 29, 50, 51, 52, 53] [41, 42, 43, 44, 45, 46, 47, 48, 49] μ μ1 := yfr_mono f1 (by decide) (by decide)
  rw [xq_bd, y_isLooked hQ, xq_ite]
  cases hl : sp_looked n D with
  | false =>
    rw [if_pos (show qb false = 0 from rfl), xq_rt]
    refine ⟨?_, f1'⟩
    unfold sp_sure
    rw [hl]
    rfl
  | true =>
    rw [if_neg (show ¬ qb true = 0 by decide)]
    refine xq_loop (I := fun i a s => a = qn i ∧ i ≤ sp_cm D (4 * n) ∧ yfr [28, 29, 50, 51, 52, 53] [41, 42, 43, 44, 45, 46, 47, 48, 49] μ s ∧ yE s n D R bar ∧ yQ s D (4 * n) ∧ ∀ j, j < i → (sp_at n D R bar j).1 < 9999) (N := sp_cm D (4 * n)) ⟨rfl, by omega, f1', yE_fr f1 h (by decide) (by decide), hQ, fun j hj => absurd hj (by omega)⟩ (by omega) ?_
    rintro i a s hi ⟨rfl, hin, hf, hE, hQs, hj⟩
    by_cases hlt : i < sp_cm D (4 * n)
    · rw [xq_g, hQs.2, xq_ite, if_neg (by rw [qn_le (by omega) (by omega)]; omega), xq_bd]
      refine xq_mono (y_looksD hE hR hD hQs (by omega)) ?_
      rintro _ s2 ⟨f2, _, _, hB⟩
      have f2' : yfr [28, 29, 50, 51, 52, 53] [41, 42, 43, 44, 45, 46, 47, 48, 49] μ s2 := yfr_trans hf (yfr_mono f2 (by decide) (by decide))
      rw [xq_g, xq_ite]
      by_cases hb : (sp_at n D R bar i).1 < 9999
      · rw [(hB.1 hb).1, if_neg (by decide), xq_rt, xq_elim_l, qn_addl.2.1]
        refine ⟨hlt, rfl, by omega, f2', yE_fr f2 hE (by decide) (by decide), yQ_fr f2 hQs (by decide) (by decide) (by decide) (by decide), fun j hj2 => ?_⟩
        rcases (by omega : j < i ∨ j = i) with h1 | h1
        · exact hj j h1
        · rw [h1]; exact hb
      · rw [hB.2 (Nat.not_lt.mp hb), if_pos rfl, xq_rt, xq_elim_r]
        refine ⟨?_, f2'⟩
        unfold sp_sure
        rw [hl, all_f hlt (by exact decide_eq_false hb)]
        rfl
    · have hin' : i = sp_cm D (4 * n) := by omega
      rw [xq_g, hQs.2, xq_ite, if_pos (by rw [qn_le (by omega) (by omega)]; omega), xq_rt, xq_elim_r]
      refine ⟨?_, hf⟩
      unfold sp_sure
      rw [hl, all_t (fun j hj2 => decide_eq_true (hj j (by omega)))]
      rfl
