/-! the reference: a case comes to hand; a combo is looked at -/
set_option maxRecDepth 100000
/-- what the reference may write when it looks at a case -/
abbrev yfI : List Nat := [27, 28, 29, 50, 51, 52, 53]
abbrev yfA : List Nat := [26, 30, 31, 32, 33, 34, 35, 36, 37, 38, 39, 40, 41, 42, 43, 44, 45, 46, 47, 48, 49, 54, 55]
abbrev yF (μ μ' : xw_Mu) : Prop := yfr yfI yfA μ μ'
theorem y_takes {μ : xw_Mu} (hM : yM μ) {c : Nat} (hc : c < y_nC μ) {R : Nat → Int32} (hR : sp_okR R) (hR2 : ∀ f, f < 13 → yA μ 26 f = R f) :
    xq_w (pg_X2_takes (qn c)) μ fun _ μ' => yF μ μ' ∧ yE μ' (y_n μ c) (yD μ c) R (sBar (y_n μ) (yD μ) R c) ∧ yQ μ' (yD μ c) (4 * y_n μ c) := by
  have hC := hM.1.2
  unfold pg_X2_takes
  refine y_needs hM hc _ _ ?_
  intro μ1 nd f1 hz hnc hcl
  rw [xq_bd]
  have bring : ∀ i, i ≤ c → nd i = true → ∀ s, yfr yfI [30, 31, 32, 33, 34, 35, 36, 37, 38, 39, 40, 41, 42, 43, 44, 45, 46, 47, 48, 49, 54, 55] μ s → (∀ j, j < i → nd j = true → yA s 54 j = qb (sS (y_n μ) (yD μ) R j)) →
      xq_w (pg_X2_bring (qn i)) s fun _ μ' => yfr [27] [30, 31, 32, 33, 34, 35, 36, 37, 38, 39, 40] s μ' ∧ yE μ' (y_n μ i) (yD μ i) R (sBar (y_n μ) (yD μ) R i) := by
    intro i hi hni s hf hsu
    obtain ⟨hm1, hm2, hm3⟩ := hM.2.2.2.1 i (by omega)
    have hyD : yD s = yD μ := yD_fr hf (by decide)
    have := y_bring (μ := s) (c := i) (n := y_n μ i) (R := R) (sure := sT (y_n μ) (yD μ) R i) (by omega) ((hf.2 3 (by decide) i).trans hm1) (by rw [hyD]; exact hm3) (fun f hf2 => (hf.2 26 (by decide) f).trans (hR2 f hf2)) (fun k hk h6 => by
      rw [hyD] at h6 ⊢
      obtain ⟨hg1, hg2⟩ := sp_given hm3 (by omega) hk h6
      rw [hsu _ hg2 (hcl i hi hni k hk h6), sT_lt hg2])
    rw [hyD] at this
    exact this
  have hf1 : yfr yfI [30, 31, 32, 33, 34, 35, 36, 37, 38, 39, 40, 41, 42, 43, 44, 45, 46, 47, 48, 49, 54, 55] μ μ1 := yfr_mono f1 (by decide) (by decide)
  refine xq_for (I := fun i s => yfr yfI [30, 31, 32, 33, 34, 35, 36, 37, 38, 39, 40, 41, 42, 43, 44, 45, 46, 47, 48, 49, 54, 55] μ s ∧ (∀ j, j < 16 → yA s 55 j = qb (nd j)) ∧ ∀ j, j < i → nd j = true → yA s 54 j = qb (sS (y_n μ) (yD μ) R j)) 0 c rfl ⟨hf1, hz, fun j hj => absurd hj (by omega)⟩ (by omega) (by omega) ?_ ?_
  · rintro i s - hi ⟨hf, hz, hsu⟩
    rw [xq_ite, if_neg (by rw [qn_le (by omega) (by omega)]; omega), xq_bd, xq_ld 55 _ _ _ (by show _ < 16; omega), hz i (by omega), xq_ite]
    cases hni : nd i with
    | false =>
      rw [if_pos (show qb false = 0 from rfl), xq_rt, xq_elim_l, qn_addl.2.1]
      refine ⟨rfl, hf, hz, fun j hj hnj => ?_⟩
      by_cases h : j = i
      · rw [h, hni] at hnj; exact absurd hnj (by decide)
      · exact hsu j (by omega) hnj
    | true =>
      rw [if_neg (show ¬ qb true = 0 by decide), xq_bd]
      refine xq_mono (bring i (by omega) hni s hf hsu) ?_
      rintro _ s2 ⟨f2, hE⟩
      have f2' := yfr_trans hf (yfr_mono f2 (I' := yfI) (A' := [30, 31, 32, 33, 34, 35, 36, 37, 38, 39, 40, 41, 42, 43, 44, 45, 46, 47, 48, 49, 54, 55]) (by decide) (by decide))
      obtain ⟨hm1, hm2, hm3⟩ := hM.2.2.2.1 i (by omega)
      rw [xq_bd]
      refine xq_mono (y_isSureNow hE hR hm3) ?_
      rintro r s3 ⟨rfl, f3⟩
      have f3' := yfr_trans f2' (yfr_mono f3 (I' := yfI) (A' := [30, 31, 32, 33, 34, 35, 36, 37, 38, 39, 40, 41, 42, 43, 44, 45, 46, 47, 48, 49, 54, 55]) (by decide) (by decide))
      rw [xq_bd, xq_stZ 54 _ _ _ _ (by show _ < 16; omega) (qb_or _), xq_rt, xq_elim_l, qn_addl.2.1]
      refine ⟨rfl, yfr_sA f3' (by decide), fun j hj => ?_, fun j hj hnj => ?_⟩
      · rw [yA_sA, if_neg (by decide), f3.2 55 (by decide), f2.2 55 (by decide)]; exact hz j hj
      · rw [yA_sA, if_pos rfl]
        by_cases h : j = i
        · rw [if_pos h, h]; rfl
        · rw [if_neg h, f3.2 54 (by decide), f2.2 54 (by decide)]; exact hsu j (by omega) hnj
  · rintro s ⟨hf, hz, hsu⟩
    rw [xq_ite, if_pos (by rw [qn_le (by omega) (by omega)]; omega), xq_rt, xq_elim_r, xq_bd]
    refine xq_mono (bring c (by omega) hnc s hf hsu) ?_
    rintro _ s2 ⟨f2, hE⟩
    have f2' := yfr_trans hf (yfr_mono f2 (I' := yfI) (A' := [30, 31, 32, 33, 34, 35, 36, 37, 38, 39, 40, 41, 42, 43, 44, 45, 46, 47, 48, 49, 54, 55]) (by decide) (by decide))
    obtain ⟨hm1, hm2, hm3⟩ := hM.2.2.2.1 c (by omega)
    rw [xq_bd]
    refine xq_mono (y_findAsked hE hm3) ?_
    rintro _ s3 ⟨f3, hQ⟩
    rw [xq_rt]
    exact ⟨yfr_mono (yfr_trans f2' (yfr_mono f3 (I' := yfI) (A' := [30, 31, 32, 33, 34, 35, 36, 37, 38, 39, 40, 41, 42, 43, 44, 45, 46, 47, 48, 49, 54, 55]) (by decide) (by decide))) (by decide) (by decide), yE_fr f3 hE (by decide) (by decide), hQ⟩
/-- a case without what it hangs on -/
theorem y_bringPlain {μ : xw_Mu} (hM : yM μ) {c : Nat} (hc : c < y_nC μ) :
    xq_w (pg_X2_bringPlain (qn c)) μ fun _ μ' => yF μ μ' ∧ yE μ' (y_n μ c) (yD μ c) (yA μ 26) (spBar (yD μ c) (fun _ => false)) ∧ yQ μ' (yD μ c) (4 * y_n μ c) := by
  have hC := hM.1.2
  obtain ⟨hm1, hm2, hm3⟩ := hM.2.2.2.1 c (by omega)
  unfold pg_X2_bringPlain
  rw [xq_bd]
  refine xq_for (I := fun i s => yfr [] [54] μ s ∧ ∀ j, j < i → yA s 54 j = 0) 0 16 rfl ⟨yfr_refl _ _ _, fun j hj => absurd hj (by omega)⟩ (by omega) (by omega) ?_ ?_
  · rintro i s - hi ⟨hf, hz⟩
    rw [xq_ite, if_neg (by simp (disch := first | omega | assumption | decide | exact qb_or _) only [xq_bd, xq_rt, xq_lt, xq_jn, xq_ite, xq_g, xq_gJ, xq_pJ, xq_lds, xq_ldls, xq_sts, xq_stls, xq_stZs, xq_ps, xq_pbs, qn_add, qn_addl, qn_addr, qn_mul, qn_mull, qn_lel, qn_ler, qn_ltl, qn_ltr, qn_eql, qn_eqr, qn_le, qn_lt, qn_inj, qn_ne1, xq_elim_l, xq_elim_r, yI_sI, yI_sJ, yI_sA, yJ_sI, yJ_sJ, yJ_sA, yA_sI, yA_sJ, yA_sA]; omega), xq_bd, xq_stZ 54 _ _ _ _ (by show _ < 16; omega) (Or.inl rfl), xq_rt, xq_elim_l, qn_addl.2.1]
    refine ⟨rfl, yfr_sA hf (by decide), fun j hj => ?_⟩
    rw [yA_sA, if_pos rfl]
    by_cases h : j = i
    · rw [if_pos h]
    · rw [if_neg h]; exact hz j (by omega)
  · rintro s ⟨hf, hz⟩
    rw [xq_ite, if_pos (by simp (disch := first | omega | assumption | decide | exact qb_or _) only [xq_bd, xq_rt, xq_lt, xq_jn, xq_ite, xq_g, xq_gJ, xq_pJ, xq_lds, xq_ldls, xq_sts, xq_stls, xq_stZs, xq_ps, xq_pbs, qn_add, qn_addl, qn_addr, qn_mul, qn_mull, qn_lel, qn_ler, qn_ltl, qn_ltr, qn_eql, qn_eqr, qn_le, qn_lt, qn_inj, qn_ne1, xq_elim_l, xq_elim_r, yI_sI, yI_sJ, yI_sA, yJ_sI, yJ_sJ, yJ_sA, yA_sI, yA_sJ, yA_sA]; omega), xq_rt, xq_elim_r, xq_bd]
    have hyD : yD s = yD μ := yD_fr hf (by decide)
    have hb := y_bring (μ := s) (c := c) (n := y_n μ c) (R := yA μ 26) (sure := fun _ => false) (by omega) ((hf.2 3 (by decide) c).trans hm1) (by rw [hyD]; exact hm3) (fun f hf2 => hf.2 26 (by decide) f) (fun k hk h6 => by
      rw [hyD] at h6 ⊢
      obtain ⟨hg1, hg2⟩ := sp_given hm3 (by omega) hk h6
      rw [hz _ (by omega)]; rfl)
    rw [hyD] at hb
    refine xq_mono hb ?_
    rintro _ s2 ⟨f2, hE⟩
    rw [xq_bd]
    refine xq_mono (y_findAsked hE hm3) ?_
    rintro _ s3 ⟨f3, hQ⟩
    rw [xq_rt]
    exact ⟨yfr_trans (yfr_mono hf (by decide) (by decide)) (yfr_trans (yfr_mono f2 (by decide) (by decide)) (yfr_mono f3 (by decide) (by decide))), yE_fr f3 hE (by decide) (by decide), hQ⟩
/-! what is asked for: a case by a law in a combo -/
/-- a law's rules, clauses of a set behind them -/
def yR (μ : xw_Mu) (l : Nat) (bits : Int32) : Nat → Int32 := sp_lays (y_law μ l) (y_cl μ) bits (y_nK μ)
theorem yR_ok {μ : xw_Mu} (hM : yM μ) {l : Nat} (hl : l < y_nL μ) (bits : Int32) : sp_okR (yR μ l bits) := sp_okR_lays (hM.2.2.2.2.1 l hl) hM.2.2.2.2.2
def y_lk (μ : xw_Mu) (c : Nat) : Bool := sp_looked (y_n μ c) (yD μ c)
def y_cm (μ : xw_Mu) (c : Nat) : Nat := sp_cm (yD μ c) (4 * y_n μ c)
/-- whether there is such a combo -/
def okCombo (μ : xw_Mu) (number combo : Int32) : Bool := inN number (y_nC μ) && y_lk μ (dn number) && inN combo (y_cm μ (dn number))
def okRun (μ : xw_Mu) (number law combo : Int32) : Bool := inN law (y_nL μ) && okCombo μ number combo
theorem okRun_t {μ : xw_Mu} {number law combo : Int32} (h : okRun μ number law combo = true) : (number = qn (dn number) ∧ dn number < y_nC μ) ∧ (law = qn (dn law) ∧ dn law < y_nL μ) ∧ y_lk μ (dn number) = true ∧ (combo = qn (dn combo) ∧ dn combo < y_cm μ (dn number)) := by
  unfold okRun okCombo at h
  simp only [Bool.and_eq_true] at h
  exact ⟨inN_t h.2.1.1, inN_t h.1, h.2.1.2, inN_t h.2.2⟩
/-- the case c by the rules R: who makes the bargain in a combo -/
def yAt (μ : xw_Mu) (R : Nat → Int32) (c combo : Nat) : Nat × Int32 × Nat := sp_at (y_n μ c) (yD μ c) R (sBar (y_n μ) (yD μ) R c) combo
/-- the case c at hand by the rules R -/
def yC (μ s : xw_Mu) (R : Nat → Int32) (c : Nat) : Prop := yF μ s ∧ yE s (y_n μ c) (yD μ c) R (sBar (y_n μ) (yD μ) R c) ∧ yQ s (yD μ c) (4 * y_n μ c)
/-- a combo of it looked at -/
def yCL (μ s : xw_Mu) (R : Nat → Int32) (c combo : Nat) : Prop := yC μ s R c ∧ yL s (y_n μ c) (yD μ c) R (sBar (y_n μ) (yD μ) R c) (sp_HD (y_n μ c) (yD μ c) combo)
theorem yCL_B {μ s : xw_Mu} {R : Nat → Int32} {c combo : Nat} (h : yCL μ s R c combo) : yB s (yAt μ R c combo) := h.2.2.2
theorem y_looksC {μ s : xw_Mu} {R : Nat → Int32} {c : Nat} (hM : yM μ) (hc : c < y_nC μ) (hR : sp_okR R) (h : yC μ s R c) {combo : Nat} (hcm : combo < 2147483648) : xq_w (pg_X2_looks (qn combo)) s fun _ s' => yfr [50, 51, 52, 53] [43, 44, 45, 46, 47, 48, 49] s s' ∧ yCL μ s' R c combo := by
  obtain ⟨hm1, hm2, hm3⟩ := hM.2.2.2.1 c hc
  refine xq_mono (y_looksD h.2.1 hR hm3 h.2.2 hcm) ?_
  rintro _ s' ⟨f, hL⟩
  exact ⟨f, ⟨yfr_trans h.1 (yfr_mono f (by decide) (by decide)), yE_fr f h.2.1 (by decide) (by decide), yQ_fr f h.2.2 (by decide) (by decide) (by decide) (by decide)⟩, hL⟩
theorem y_takesR {μ : xw_Mu} (hM : yM μ) {c l : Nat} (hc : c < y_nC μ) (hl : l < y_nL μ) {bits : Int32} {s : xw_Mu} (hs : yF μ s) (P : Unit → xw_Mu → Prop) (hP : ∀ s', yC μ s' (yR μ l bits) c → P () s') :
    xq_w (xw_bd (pg_X2_lays (qn l) bits) fun _ => pg_X2_takes (qn c)) s P := by
  obtain ⟨e1, e2, e3, e4, e5, e6, e7, e8⟩ := yM_fr hs (by decide)
  have hMs := e8 hM
  rw [xq_bd]
  have hK := hM.2.2.1
  have hL := hM.2.1.2
  refine xq_mono (y_lays (μ := s) (l := l) (cn := y_nK μ) (bits := bits) (by omega) (by rw [← e4]; exact hMs.2.2.1.1) hK.2) ?_
  rintro _ s1 ⟨f1, hr⟩
  rw [e6, e7] at hr
  obtain ⟨a1, a2, a3, a4, a5, a6, a7, a8⟩ := yM_fr f1 (by decide)
  have hMs1 := a8 hMs
  refine xq_mono (y_takes hMs1 (c := c) (by rw [a2, e2]; exact hc) (yR_ok hM hl bits) hr) ?_
  rintro _ s2 ⟨f2, hE, hQ⟩
  rw [a5, a1, e5, e1] at hE
  rw [a5, a1, e5, e1] at hQ
  exact hP _ ⟨yfr_trans hs (yfr_trans (yfr_mono f1 (by decide) (by decide)) f2), hE, hQ⟩
theorem y_looksAt {μ s : xw_Mu} (hM : yM μ) (hs : yF μ s) (number law combo : Int32) :
    xq_w (pg_X2_looksAt number law combo) s fun r s' => r = qb (okRun μ number law combo) ∧ yF μ s' ∧ (okRun μ number law combo = true → yCL μ s' (yR μ (dn law) 0) (dn number) (dn combo)) := by
  obtain ⟨e1, e2, e3, e4, e5, e6, e7, e8⟩ := yM_fr hs (by decide)
  have hMs := e8 hM
  have bad : ∀ s', yF μ s' → okRun μ number law combo = false → (0 : Int32) = qb (okRun μ number law combo) ∧ yF μ s' ∧ (okRun μ number law combo = true → yCL μ s' (yR μ (dn law) 0) (dn number) (dn combo)) := by
    intro s' h1 h2
    rw [h2]
    exact ⟨rfl, h1, fun h => absurd h (by decide)⟩
  unfold pg_X2_looksAt
  rw [xq_bd, y_isCase hMs, e2, xq_ite]
  cases hc : inN number (y_nC μ) with
  | false =>
    rw [if_pos (show qb false = 0 from rfl), xq_rt]
    exact bad s hs (by unfold okRun okCombo; rw [hc]; simp)
  | true =>
    rw [if_neg (show ¬ qb true = 0 by decide), xq_bd, y_isLaw hMs, e3, xq_ite]
    cases hl : inN law (y_nL μ) with
    | false =>
      rw [if_pos (show qb false = 0 from rfl), xq_rt]
      exact bad s hs (by unfold okRun okCombo; rw [hl]; simp)
    | true =>
      rw [if_neg (show ¬ qb true = 0 by decide), xq_ite]
      obtain ⟨hc1, hc2⟩ := inN_t hc
      obtain ⟨hl1, hl2⟩ := inN_t hl
      rcases i32_cases combo with hcb | ⟨hcb, hcb2⟩
      · rw [if_neg (by intro h; have := Int32.lt_iff_toInt_lt.mp hcb; have h2 := Int32.le_iff_toInt_le.mp h; omega), xq_rt]
        refine bad s hs ?_
        unfold okRun okCombo
        have : inN combo (y_cm μ (dn number)) = false := by unfold inN; simp [hcb]
        rw [this]; simp
      · rw [if_pos (by rw [hcb, show (0 : Int32) = qn 0 from rfl, qn_le (by omega) hcb2]; omega), ← xw_bd_bd, hl1, hc1, xq_bd]
        refine y_takesR hM hc2 hl2 hs _ ?_
        intro s1 hC1
        rw [xq_bd, y_isLooked hC1.2.2, xq_ite]
        cases hlk : sp_looked (y_n μ (dn number)) (yD μ (dn number)) with
        | false =>
          rw [if_pos (show qb false = 0 from rfl), xq_rt, ← hl1, ← hc1]
          exact bad s1 hC1.1 (by unfold okRun okCombo y_lk; rw [hlk]; simp)
        | true =>
          have hcm := sp_cm_pos (yD μ (dn number)) (4 * y_n μ (dn number))
          rw [if_neg (show ¬ qb true = 0 by decide), xq_g, hC1.2.2.2, xq_ite, hcb]
          by_cases hlt : dn combo < sp_cm (yD μ (dn number)) (4 * y_n μ (dn number))
          · rw [if_pos (by rw [qn_lt hcb2 (by omega)]; exact hlt), xq_bd]
            refine xq_mono (y_looksC hM hc2 (yR_ok hM hl2 0) hC1 hcb2) ?_
            rintro _ s2 ⟨f2, hL2⟩
            rw [xq_rt, ← hcb, ← hl1, ← hc1]
            have ok : okRun μ number law combo = true := by
              unfold okRun okCombo y_lk y_cm
              rw [hl, hc, hlk, hcb, inN_qn (by omega) (by exact hlt)]
              rfl
            rw [ok]
            exact ⟨rfl, hL2.1.1, fun _ => hL2⟩
          · rw [if_neg (by rw [qn_lt hcb2 (by omega)]; exact hlt), xq_rt, ← hcb, ← hl1, ← hc1]
            refine bad s1 hC1.1 ?_
            unfold okRun okCombo y_cm inN
            simp [show ¬ dn combo < sp_cm (yD μ (dn number)) (4 * y_n μ (dn number)) from hlt]
