/-- a type of references -/
def xw_isR (t : FieldType) : Bool := match t with
  | .object _ => true
  | .array _ => true
  | _ => false
theorem xw_isR_n {t : FieldType} (h : xw_isR t = true) (v : Option Nat) : narrow t (va_rf v) = va_rf v := by
  cases t <;> first | rfl | cases h
theorem xw_isR_f {t : FieldType} (h : xw_isR t = true) (v : Option Nat) : fits t (va_rf v) = true := by
  cases t <;> first | (cases v <;> rfl) | cases h
set_option maxRecDepth 100000
abbrev xw_hc (G : xw_G) (μ : xw_Mu) : xw_St → Heap → Prop := fun σ H => xw_HH G σ μ H
abbrev xw_hr (G : xw_G) (σ : xw_St) : xw_Mu → Heap → Prop := fun μ H => xw_HH G σ μ H
section XI
variable {α β γ δ : Type} {E : xw_E} {own : String} {cc : ByteArray} {nL lam pc : Nat} {ret : Option FieldType} {lv lv' : List (Nat × Value)} {st st' : List Value} {μ : xw_Mu} {Q : γ → xw_St → Nat → Nat → State → Prop} {K : α → xw_M xw_St γ}
theorem x_gI (pc' : Nat) (hE : xw_ok E own cc nL ret lam) {f idx : Nat} {r : Option Nat} {F : Int32 → xw_M xw_St α} (hlk : xw_lk E own idx f) (hf : Nat.ble (xw_ft f) 1 = true) (hdg : decode cc pc = .ok (.getfield idx, 3)) (hp : pc + 3 = pc') (kk : ∀ v, xw_X E nL (xw_hc (xe_G E) μ) Q pc' lv (.int v :: st) (F v) K) : xw_X E nL (xw_hc (xe_G E) μ) Q pc lv (va_rf r :: st) (xw_bd (xw_gI f r) F) K := by
  subst hp
  refine xw_rd (pc + 3) (fun v => .int v :: st) (fun ls H locs cells slots σ v σ1 k1 n1 e hl hw hS => ?_) kk
  cases r with
  | none => cases e
  | some q =>
    simp only [xw_gI] at e
    by_cases hq : xw_hf f (xw_T σ q) = true
    · rw [if_pos hq] at e
      cases e
      refine ⟨rfl, rfl, rfl, fun Qs k => xw_get hE hw hq hlk hdg ?_⟩
      have h2 : xw_ft f = 0 ∨ xw_ft f = 1 := by have := Nat.le_of_ble_eq_true hf; omega
      have h3 : xw_val σ f q = .int (xw_I σ f q) := by rcases h2 with h2 | h2 <;> simp only [xw_val, h2]
      rw [h3]
      exact k
    · rw [if_neg hq] at e; cases e
theorem x_gJ (pc' : Nat) (hE : xw_ok E own cc nL ret lam) {f idx : Nat} {r : Option Nat} {F : Int64 → xw_M xw_St α} (hlk : xw_lk E own idx f) (hf : xw_ft f = 2) (hdg : decode cc pc = .ok (.getfield idx, 3)) (hp : pc + 3 = pc') (kk : ∀ v, xw_X E nL (xw_hc (xe_G E) μ) Q pc' lv (.long v :: st) (F v) K) : xw_X E nL (xw_hc (xe_G E) μ) Q pc lv (va_rf r :: st) (xw_bd (xw_gJ f r) F) K := by
  subst hp
  refine xw_rd (pc + 3) (fun v => .long v :: st) (fun ls H locs cells slots σ v σ1 k1 n1 e hl hw hS => ?_) kk
  cases r with
  | none => cases e
  | some q =>
    simp only [xw_gJ] at e
    by_cases hq : xw_hf f (xw_T σ q) = true
    · rw [if_pos hq] at e
      cases e
      refine ⟨rfl, rfl, rfl, fun Qs k => xw_get hE hw hq hlk hdg ?_⟩
      have h3 : xw_val σ f q = .long (xw_J σ f q) := by simp only [xw_val, hf]
      rw [h3]
      exact k
    · rw [if_neg hq] at e; cases e
theorem x_gR (pc' : Nat) (hE : xw_ok E own cc nL ret lam) {f idx : Nat} {r : Option Nat} {F : Option Nat → xw_M xw_St α} (hlk : xw_lk E own idx f) (hf : xw_ft f = 3) (hdg : decode cc pc = .ok (.getfield idx, 3)) (hp : pc + 3 = pc') (kk : ∀ v, xw_X E nL (xw_hc (xe_G E) μ) Q pc' lv (va_rf v :: st) (F v) K) : xw_X E nL (xw_hc (xe_G E) μ) Q pc lv (va_rf r :: st) (xw_bd (xw_gR f r) F) K := by
  subst hp
  refine xw_rd (pc + 3) (fun v => va_rf v :: st) (fun ls H locs cells slots σ v σ1 k1 n1 e hl hw hS => ?_) kk
  cases r with
  | none => cases e
  | some q =>
    simp only [xw_gR] at e
    by_cases hq : xw_hf f (xw_T σ q) = true
    · rw [if_pos hq] at e
      cases e
      refine ⟨rfl, rfl, rfl, fun Qs k => xw_get hE hw hq hlk hdg ?_⟩
      have h3 : xw_val σ f q = va_rf (xw_R σ f q) := by simp only [xw_val, hf]
      rw [h3]
      exact k
    · rw [if_neg hq] at e; cases e
/-- how a field may be written here -/
def xw_pk (E : xw_E) (own : String) (idx f : Nat) : Prop := ((xw_fd f).2.2.2 = false ∧ xw_lk E own idx f) ∨ ((xw_fd f).2.2.2 = true ∧ (xe_M E).name = "<init>" ∧ (xw_fd f).1 = own ∧ (Cond.fieldLink own idx (xw_fd f).1 (xw_fd f).2.1 (xw_fd f).2.2.1).before (xe_a E) (xe_s E) = true)
theorem xw_pkF {idx f : Nat} (hE : xw_ok E own cc nL ret lam) (hn : (xe_M E).name = "<init>") (h : Cond.fieldLink own idx (xw_fd f).1 (xw_fd f).2.1 (xw_fd f).2.2.1 ∈ lw_all) (hf : (xw_fd f).2.2.2 = true) (hd : (xw_fd f).1 = own) : xw_pk E own idx f := Or.inr ⟨hf, hn, hd, hE.2.2.2.2.1 _ h⟩
theorem xw_pkN {idx f : Nat} (h : xw_lk E own idx f) (hf : (xw_fd f).2.2.2 = false) : xw_pk E own idx f := Or.inl ⟨hf, h⟩
theorem x_pI (pc' : Nat) (hE : xw_ok E own cc nL ret lam) {f idx : Nat} {r : Option Nat} {v : Int32} {F : Unit → xw_M xw_St α} (hlk : xw_pk E own idx f) (hf : xw_fT f = .int ∧ xw_ft f = 0) (hdg : decode cc pc = .ok (.putfield idx, 3)) (hp : pc + 3 = pc') (kk : xw_X E nL (xw_hc (xe_G E) μ) Q pc' lv st (F ()) K) : xw_X E nL (xw_hc (xe_G E) μ) Q pc lv (.int v :: va_rf r :: st) (xw_bd (xw_pI f r v) F) K := by
  subst hp
  refine xw_wt (pc + 3) (fun ls H locs cells slots σ σ1 k1 n1 e hl hw hS => ?_) kk
  cases r with
  | none => cases e
  | some q =>
    simp only [xw_pI] at e
    split at e
    · rename_i hq
      cases e
      exact ⟨rfl, rfl, fun Qs k => xw_put hE hw hS hq.1 hq.2 (xw_upI (by rw [hf.2]; decide)) hlk (by rw [hf.1]; rfl) (by rw [hf.1]; rfl) hdg k⟩
    · cases e
theorem x_pZ (pc' : Nat) (hE : xw_ok E own cc nL ret lam) {f idx : Nat} {r : Option Nat} {v : Int32} {F : Unit → xw_M xw_St α} (hlk : xw_pk E own idx f) (hf : xw_fT f = .boolean ∧ xw_ft f = 1) (hdg : decode cc pc = .ok (.putfield idx, 3)) (hp : pc + 3 = pc') (kk : xw_X E nL (xw_hc (xe_G E) μ) Q pc' lv st (F ()) K) : xw_X E nL (xw_hc (xe_G E) μ) Q pc lv (.int v :: va_rf r :: st) (xw_bd (xw_pZ f r v) F) K := by
  subst hp
  refine xw_wt (pc + 3) (fun ls H locs cells slots σ σ1 k1 n1 e hl hw hS => ?_) kk
  cases r with
  | none => cases e
  | some q =>
    simp only [xw_pZ] at e
    split at e
    · rename_i hq
      cases e
      refine ⟨rfl, rfl, fun Qs k => xw_put hE hw hS hq.1.1 hq.1.2 (xw_upI (by rw [hf.2]; decide)) hlk ?_ ?_ hdg k⟩
      · rw [hf.1]; rcases hq.2 with h | h <;> rw [h] <;> rfl
      · rw [hf.1]; rcases hq.2 with h | h <;> rw [h] <;> rfl
    · cases e
theorem x_pJ (pc' : Nat) (hE : xw_ok E own cc nL ret lam) {f idx : Nat} {r : Option Nat} {v : Int64} {F : Unit → xw_M xw_St α} (hlk : xw_pk E own idx f) (hf : xw_fT f = .long ∧ xw_ft f = 2) (hdg : decode cc pc = .ok (.putfield idx, 3)) (hp : pc + 3 = pc') (kk : xw_X E nL (xw_hc (xe_G E) μ) Q pc' lv st (F ()) K) : xw_X E nL (xw_hc (xe_G E) μ) Q pc lv (.long v :: va_rf r :: st) (xw_bd (xw_pJ f r v) F) K := by
  subst hp
  refine xw_wt (pc + 3) (fun ls H locs cells slots σ σ1 k1 n1 e hl hw hS => ?_) kk
  cases r with
  | none => cases e
  | some q =>
    simp only [xw_pJ] at e
    split at e
    · rename_i hq
      cases e
      exact ⟨rfl, rfl, fun Qs k => xw_put hE hw hS hq.1 hq.2 (xw_upJ hf.2) hlk (by rw [hf.1]; rfl) (by rw [hf.1]; rfl) hdg k⟩
    · cases e
theorem x_pR (pc' : Nat) (hE : xw_ok E own cc nL ret lam) {f idx : Nat} {r : Option Nat} {v : Option Nat} {F : Unit → xw_M xw_St α} (hlk : xw_pk E own idx f) (hf : xw_isR (xw_fT f) = true ∧ xw_ft f = 3) (hdg : decode cc pc = .ok (.putfield idx, 3)) (hp : pc + 3 = pc') (kk : xw_X E nL (xw_hc (xe_G E) μ) Q pc' lv st (F ()) K) : xw_X E nL (xw_hc (xe_G E) μ) Q pc lv (va_rf v :: va_rf r :: st) (xw_bd (xw_pR f r v) F) K := by
  subst hp
  refine xw_wt (pc + 3) (fun ls H locs cells slots σ σ1 k1 n1 e hl hw hS => ?_) kk
  cases r with
  | none => cases e
  | some q =>
    simp only [xw_pR] at e
    split at e
    · rename_i hq
      cases e
      exact ⟨rfl, rfl, fun Qs k => xw_put hE hw hS hq.1 hq.2 (xw_upR hf.2) hlk (xw_isR_n hf.1 v) (xw_isR_f hf.1 v) hdg k⟩
    · cases e
/-! arrays -/
theorem xw_ay200 {t : Nat} (h : xw_ay t ≠ 3) : t < 200 := by
  refine Nat.not_le.mp fun h2 => h ?_
  exact if_pos h2
theorem xw_ay3 {t : Nat} (h : xw_ay t = 3) : 200 ≤ t := by
  refine Nat.not_lt.mp fun h2 => ?_
  have h3 : xw_ay t = xw_ayl.getD (t - 64) 9 := if_neg (by omega)
  rw [h3] at h
  have : ∀ i, i < 200 → xw_ayl.getD i 9 ≠ 3 := by decide +kernel
  exact this (t - 64) (by omega) h
theorem xw_aHH {G : xw_G} {σ : xw_St} {H : Heap} (hw : xw_HH G σ μ H) {q : Nat} (h1 : 64 ≤ xw_T σ q) (h3 : xw_ay (xw_T σ q) ≠ 3) : H[q]? = some (arrV (xw_dA G (xw_ay (xw_T σ q))) (xw_L σ q) (xw_elt σ (xw_T σ q) q)) := (hw.2.2.2.2.2.1 q (by omega)).2.2.1 h1 (xw_ay200 h3)
theorem xw_oA {G : xw_G} {U : State} {j : Nat} (h : xw_K G U) (hj : j < 9) : ArrOfT U (xw_dA G j) (xw_aT j) := (h.2.1 j hj).1
theorem xw_ixo {i : Int32} {n : Nat} {cA : ClassId} {f : Nat → Value} (h : xw_ix i n) : ¬ (i < 0 ∨ (arrV cA n f).slots.size ≤ i.toNatClampNeg) := by
  rw [arrV_size]
  rintro (h1 | h1)
  · exact h.1 h1
  · exact Nat.not_le.mpr h.2 h1
theorem x_ldI (pc' : Nat) (hE : xw_ok E own cc nL ret lam) {r : Option Nat} {i : Int32} {F : Int32 → xw_M xw_St α} (hdg : decode cc pc = .ok (.iaload, 1)) (hp : pc + 1 = pc') (kk : ∀ v, xw_X E nL (xw_hc (xe_G E) μ) Q pc' lv (.int v :: st) (F v) K) : xw_X E nL (xw_hc (xe_G E) μ) Q pc lv (.int i :: va_rf r :: st) (xw_bd (xw_ldI r i) F) K := by
  subst hp
  refine xw_rd (pc + 1) (fun v => .int v :: st) (fun ls H locs cells slots σ v σ1 k1 n1 e hl hw hS => ?_) kk
  cases r with
  | none => cases e
  | some q =>
    simp only [xw_ldI] at e
    split at e
    · rename_i hq
      obtain ⟨h1, h2, h3⟩ := hq
      cases e
      refine ⟨rfl, rfl, rfl, fun Qs k => ?_⟩
      exact W.iald hE.1 hE.2.1 (xw_aHH hw h1 (by rw [h2]; decide)) (by rw [h2]; exact xw_oA hE.2.2.2.2.2.1 (by decide) _ _) (fun z => by cases z) (xw_ixo h3) (by rw [arrV_read _ _ h3.2]; simp only [xw_elt, h2]) rfl rfl hdg k
    · cases e
theorem x_ldB (pc' : Nat) (hE : xw_ok E own cc nL ret lam) {r : Option Nat} {i : Int32} {F : Int32 → xw_M xw_St α} (hdg : decode cc pc = .ok (.baload, 1)) (hp : pc + 1 = pc') (kk : ∀ v, xw_X E nL (xw_hc (xe_G E) μ) Q pc' lv (.int v :: st) (F v) K) : xw_X E nL (xw_hc (xe_G E) μ) Q pc lv (.int i :: va_rf r :: st) (xw_bd (xw_ldB r i) F) K := by
  subst hp
  refine xw_rd (pc + 1) (fun v => .int v :: st) (fun ls H locs cells slots σ v σ1 k1 n1 e hl hw hS => ?_) kk
  cases r with
  | none => cases e
  | some q =>
    simp only [xw_ldB] at e
    split at e
    · rename_i hq
      obtain ⟨h1, h2, h3⟩ := hq
      cases e
      refine ⟨rfl, rfl, rfl, fun Qs k => ?_⟩
      rcases h2 with h2 | h2
      · exact W.zald hE.1 hE.2.1 (xw_aHH hw h1 (by rw [h2]; decide)) (by rw [h2]; exact xw_oA hE.2.2.2.2.2.1 (by decide) _ _) (fun z => by cases z) (xw_ixo h3) (by rw [arrV_read _ _ h3.2]; simp only [xw_elt, h2]) rfl rfl hdg k
      · exact W.bald hE.1 hE.2.1 (xw_aHH hw h1 (by rw [h2]; decide)) (by rw [h2]; exact xw_oA hE.2.2.2.2.2.1 (by decide) _ _) (fun z => by cases z) (xw_ixo h3) (by rw [arrV_read _ _ h3.2]; simp only [xw_elt, h2]) rfl rfl hdg k
    · cases e
theorem x_ldJ (pc' : Nat) (hE : xw_ok E own cc nL ret lam) {r : Option Nat} {i : Int32} {F : Int64 → xw_M xw_St α} (hdg : decode cc pc = .ok (.laload, 1)) (hp : pc + 1 = pc') (kk : ∀ v, xw_X E nL (xw_hc (xe_G E) μ) Q pc' lv (.long v :: st) (F v) K) : xw_X E nL (xw_hc (xe_G E) μ) Q pc lv (.int i :: va_rf r :: st) (xw_bd (xw_ldJ r i) F) K := by
  subst hp
  refine xw_rd (pc + 1) (fun v => .long v :: st) (fun ls H locs cells slots σ v σ1 k1 n1 e hl hw hS => ?_) kk
  cases r with
  | none => cases e
  | some q =>
    simp only [xw_ldJ] at e
    split at e
    · rename_i hq
      obtain ⟨h1, h2, h3⟩ := hq
      cases e
      refine ⟨rfl, rfl, rfl, fun Qs k => ?_⟩
      obtain ⟨t1, t2, t3⟩ := (hw.2.2.2.2.2.1 q (by omega)).2.2.2.2 (xw_ay3 h2)
      have h200 := xw_ay3 h2
      obtain ⟨cell, c1, c2, c3, c4, c5, c6, c7⟩ := hE.2.2.2.2.2.1.2.2.2.2.2.2.2.2 (xw_T σ q - 200) (by omega)
      have ht : 200 + (xw_T σ q - 200) = xw_T σ q := by omega
      rw [ht] at c4 c5 c6
      rw [← t2] at c1 c7
      rw [t3] at h3
      have hcell : H[q]? = some cell := by rw [hw.2.2.1 q (Array.getElem?_eq_some_iff.mp c1).1]; exact c1
      exact W.lald hE.1 hE.2.1 hcell c2 c3 (by rintro (g | g); exact h3.1 g; omega) (c6 _ h3.2) rfl rfl hdg k
    · cases e
theorem xw_eltR {σ : xw_St} {t q i : Nat} (h : 4 ≤ xw_ay t) : xw_elt σ t q i = va_rf (xw_B σ t q i) := by
  unfold xw_elt
  split <;> first | omega | rfl
theorem xw_aTR {j : Nat} (h : 4 ≤ j ∧ j < 9) : ∃ C, xw_aT j = .object C := by
  have : j = 4 ∨ j = 5 ∨ j = 6 ∨ j = 7 ∨ j = 8 := by omega
  rcases this with h | h | h | h | h <;> subst h <;> exact ⟨_, rfl⟩
theorem x_ldR (pc' : Nat) (hE : xw_ok E own cc nL ret lam) {r : Option Nat} {i : Int32} {F : Option Nat → xw_M xw_St α} (hdg : decode cc pc = .ok (.aaload, 1)) (hp : pc + 1 = pc') (kk : ∀ v, xw_X E nL (xw_hc (xe_G E) μ) Q pc' lv (va_rf v :: st) (F v) K) : xw_X E nL (xw_hc (xe_G E) μ) Q pc lv (.int i :: va_rf r :: st) (xw_bd (xw_ldR r i) F) K := by
  subst hp
  refine xw_rd (pc + 1) (fun v => va_rf v :: st) (fun ls H locs cells slots σ v σ1 k1 n1 e hl hw hS => ?_) kk
  cases r with
  | none => cases e
  | some q =>
    simp only [xw_ldR] at e
    split at e
    · rename_i hq
      obtain ⟨h1, h2, h3⟩ := hq
      cases e
      refine ⟨rfl, rfl, rfl, fun Qs k => ?_⟩
      obtain ⟨C, hC⟩ := xw_aTR h2
      have h4 := xw_oA hE.2.2.2.2.2.1 h2.2
      rw [hC] at h4
      exact W.aald (ty := .object C) hE.1 hE.2.1 (xw_aHH hw h1 (by omega)) (h4 _ _) rfl (fun z => by cases z) (xw_ixo h3) (by rw [arrV_read _ _ h3.2, xw_eltR h2.1]) rfl rfl hdg k
    · cases e
theorem x_len (pc' : Nat) (hE : xw_ok E own cc nL ret lam) {r : Option Nat} {F : Int32 → xw_M xw_St α} (hdg : decode cc pc = .ok (.arraylength, 1)) (hp : pc + 1 = pc') (kk : ∀ v, xw_X E nL (xw_hc (xe_G E) μ) Q pc' lv (.int v :: st) (F v) K) : xw_X E nL (xw_hc (xe_G E) μ) Q pc lv (va_rf r :: st) (xw_bd (xw_len r) F) K := by
  subst hp
  refine xw_rd (pc + 1) (fun v => .int v :: st) (fun ls H locs cells slots σ v σ1 k1 n1 e hl hw hS => ?_) kk
  cases r with
  | none => cases e
  | some q =>
    simp only [xw_len] at e
    split at e
    · rename_i hq
      cases e
      refine ⟨rfl, rfl, rfl, fun Qs k => ?_⟩
      by_cases h3 : xw_ay (xw_T σ q) = 3
      · obtain ⟨t1, t2, t3⟩ := (hw.2.2.2.2.2.1 q (by omega)).2.2.2.2 (xw_ay3 h3)
        have h200 := xw_ay3 h3
        obtain ⟨cell, c1, c2, c3, c4, c5, c6, c7⟩ := hE.2.2.2.2.2.1.2.2.2.2.2.2.2.2 (xw_T σ q - 200) (by omega)
        have ht : 200 + (xw_T σ q - 200) = xw_T σ q := by omega
        rw [ht] at c4 c5 c6
        rw [← t2] at c1 c7
        have hcell : H[q]? = some cell := by rw [hw.2.2.1 q (Array.getElem?_eq_some_iff.mp c1).1]; exact c1
        rw [t3] at k
        exact W.alen hE.1 hE.2.1 hcell c2 c5 rfl rfl hdg k
      · exact W.alen hE.1 hE.2.1 (xw_aHH hw hq.1 h3) (xw_oA hE.2.2.2.2.2.1 hq.2 _ _) (by rw [arrV_size] <;> rfl) rfl rfl hdg k
    · cases e
end XI
