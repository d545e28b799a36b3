set_option maxRecDepth 100000
/-- an element of σ is set: what σ1 is -/
def xw_ua (σ σ1 : xw_St) (q i : Nat) (v : Value) : Prop :=
  xw_T σ1 = xw_T σ ∧ xw_L σ1 = xw_L σ ∧ xw_C σ1 = xw_C σ ∧ xw_N σ1 = xw_N σ ∧ (q < xw_N σ → xw_wf σ → xw_wf σ1) ∧ (∀ f q', xw_val σ1 f q' = xw_val σ f q') ∧ (∀ j, xw_elt σ1 (xw_T σ q) q j = updV (xw_elt σ (xw_T σ q) q) i v j) ∧ ∀ t q' j, q' ≠ q → xw_elt σ1 t q' j = xw_elt σ t q' j
theorem xw_uaA {σ : xw_St} {q i : Nat} {v : Int32} (h : xw_ay (xw_T σ q) < 3) : xw_ua σ (xw_sA σ (xw_T σ q) q i v) q i (.int v) := by
  refine ⟨rfl, rfl, rfl, rfl, fun hq hw q' hq' => ?_, fun f q' => rfl, fun j => ?_, fun t q' j hne => ?_⟩
  · obtain ⟨w1, w2, w3, w4, w5, w6⟩ := hw q' hq'
    have hq' : xw_N σ ≤ q' := hq'
    exact ⟨w1, w2, w3, w4, fun t i' => (xw_u3_ne _ _ _ _ _ (by omega) i').trans (w5 t i'), w6⟩
  · have e : xw_A (xw_sA σ (xw_T σ q) q i v) (xw_T σ q) q j = if j = i then v else xw_A σ (xw_T σ q) q j := xw_u3_at _ _ _ _ _ _
    have h3 : xw_ay (xw_T σ q) = 0 ∨ xw_ay (xw_T σ q) = 1 ∨ xw_ay (xw_T σ q) = 2 := by omega
    unfold updV
    rcases h3 with h3 | h3 | h3 <;> simp only [xw_elt, h3, e] <;> split <;> rfl
  · have e : xw_A (xw_sA σ (xw_T σ q) q i v) t q' j = xw_A σ t q' j := xw_u3_ne _ _ _ _ _ hne j
    unfold xw_elt
    rw [e]
    rfl
theorem xw_uaB {σ : xw_St} {q i : Nat} {v : Option Nat} (h : 4 ≤ xw_ay (xw_T σ q)) : xw_ua σ (xw_sB σ (xw_T σ q) q i v) q i (va_rf v) := by
  refine ⟨rfl, rfl, rfl, rfl, fun hq hw q' hq' => ?_, fun f q' => rfl, fun j => ?_, fun t q' j hne => ?_⟩
  · obtain ⟨w1, w2, w3, w4, w5, w6⟩ := hw q' hq'
    have hq' : xw_N σ ≤ q' := hq'
    exact ⟨w1, w2, w3, w4, w5, fun t i' => (xw_u3_ne _ _ _ _ _ (by omega) i').trans (w6 t i')⟩
  · have e : xw_B (xw_sB σ (xw_T σ q) q i v) (xw_T σ q) q j = if j = i then v else xw_B σ (xw_T σ q) q j := xw_u3_at _ _ _ _ _ _
    rw [xw_eltR h, e]
    unfold updV
    split
    · rfl
    · rw [xw_eltR h]
  · have e : xw_B (xw_sB σ (xw_T σ q) q i v) t q' j = xw_B σ t q' j := xw_u3_ne _ _ _ _ _ hne j
    unfold xw_elt
    rw [e]
    rfl
theorem xw_ast {G : xw_G} {σ σ1 : xw_St} {μ : xw_Mu} {H H1 : Heap} (hw : xw_HH G σ μ H) {q i : Nat} {v : Value} (h1 : 64 ≤ xw_T σ q) (h3 : xw_ay (xw_T σ q) ≠ 3) (hu : xw_ua σ σ1 q i v)
    (e1 : H1[q]? = some ((arrV (xw_dA G (xw_ay (xw_T σ q))) (xw_L σ q) (xw_elt σ (xw_T σ q) q)).setSlot i v)) (e2 : H1.size = H.size) (e3 : ∀ x, x ≠ q → H1[x]? = H[x]?) : xw_HH G σ1 μ H1 ∧ xw_Fr G q := by
  have hlt := hw.lt (q := q) (by omega)
  obtain ⟨w1, w2, w3, w4, w5, w6, w7⟩ := hw
  have hro : xw_ro (xw_T σ q) = false := by
    unfold xw_ro
    rw [Bool.or_eq_false_iff]
    refine ⟨by simp; omega, ?_⟩
    cases hb : Nat.ble 200 (xw_T σ q) with
    | false => rfl
    | true =>
      have := Nat.le_of_ble_eq_true hb
      exact absurd (if_pos this) h3
  have hA : xw_Fr G q := (w6 q (by omega)).1 hro
  obtain ⟨u1, u2, u5, u6, u7, u8, u9, u10⟩ := hu
  refine ⟨⟨by rw [u6, w1, e2], by rw [e2]; exact w2, fun a ha => by rw [e3 a (fun z => by rw [z] at ha; exact absurd hA (Nat.not_le.mpr ha))]; exact w3 a ha, by rw [u5]; exact w4, u7 (by rw [w1]; exact hlt) w5, fun q' hq' => ?_, fun hac => ?_⟩, hA⟩
  · rw [u1] at hq' ⊢
    obtain ⟨b1, b2⟩ := w6 q' hq'
    refine ⟨b1, ?_⟩
    by_cases hqq : q' = q
    · subst hqq
      refine ⟨fun a => ?_, fun a _ => ?_, fun a => ?_, fun a => ?_⟩
      · rw [u1] at a; omega
      · rw [u1, u2, e1, arrV_store]
        congr 2
        funext j
        exact (u9 j).symm
      · rw [u1] at a; omega
      · rw [u1] at a
        exact absurd (if_pos a) h3
    · exact b2.kept (by rw [u1]) (by rw [u2]) (fun f' => u8 f' q') (fun t j => u10 t q' j hqq) (e3 q' hqq)
  · refine (w7 hac).kept (by rw [e2]; exact Nat.le_refl _) (fun x _ hx => ⟨e3 x (fun z => ?_), by rw [u1]; exact hx⟩)
    rw [z] at hx
    omega
section XJ
variable {α β γ δ : Type} {E : xw_E} {own : String} {cc : ByteArray} {nL lam pc : Nat} {ret : Option FieldType} {lv lv' : List (Nat × Value)} {st st' : List Value} {μ : xw_Mu} {Q : γ → xw_St → Nat → Nat → State → Prop} {K : α → xw_M xw_St γ}
theorem x_stI (pc' : Nat) (hE : xw_ok E own cc nL ret lam) {r : Option Nat} {i v : Int32} {F : Unit → xw_M xw_St α} (hdg : decode cc pc = .ok (.iastore, 1)) (hp : pc + 1 = pc') (kk : xw_X E nL (xw_hc (xe_G E) μ) Q pc' lv st (F ()) K) : xw_X E nL (xw_hc (xe_G E) μ) Q pc lv (.int v :: .int i :: va_rf r :: st) (xw_bd (xw_stI r i v) F) K := by
  subst hp
  refine xw_wt (pc + 1) (fun ls H locs cells slots σ σ1 k1 n1 e hl hw hS => ?_) kk
  cases r with
  | none => cases e
  | some q =>
    simp only [xw_stI] at e
    split at e
    · rename_i hq
      obtain ⟨h1, h2, h3⟩ := hq
      cases e
      refine ⟨rfl, rfl, fun Qs k => ?_⟩
      refine W.iast hE.1 hE.2.1 (xw_aHH hw h1 (by rw [h2]; decide)) (by rw [h2]; exact xw_oA hE.2.2.2.2.2.1 (by decide) _ _) (fun z => by cases z) (xw_ixo h3) rfl rfl hdg fun H1 e1 e2 e3 => ?_
      obtain ⟨a1, a2⟩ := xw_ast hw h1 (by rw [h2]; decide) (xw_uaA (by rw [h2]; decide)) e1 e2 e3
      exact k H1 _ a1 (hS.put e2 e3 a2)
    · cases e
theorem x_stB (pc' : Nat) (hE : xw_ok E own cc nL ret lam) {r : Option Nat} {i v : Int32} {F : Unit → xw_M xw_St α} (hdg : decode cc pc = .ok (.bastore, 1)) (hp : pc + 1 = pc') (kk : xw_X E nL (xw_hc (xe_G E) μ) Q pc' lv st (F ()) K) : xw_X E nL (xw_hc (xe_G E) μ) Q pc lv (.int v :: .int i :: va_rf r :: st) (xw_bd (xw_stB r i v) F) K := by
  subst hp
  refine xw_wt (pc + 1) (fun ls H locs cells slots σ σ1 k1 n1 e hl hw hS => ?_) kk
  cases r with
  | none => cases e
  | some q =>
    simp only [xw_stB] at e
    split at e
    · rename_i hq
      obtain ⟨h1, h2, h3⟩ := hq
      cases e
      refine ⟨rfl, rfl, fun Qs k => ?_⟩
      refine W.bast hE.1 hE.2.1 (xw_aHH hw h1 (by rw [h2]; decide)) (by rw [h2]; exact xw_oA hE.2.2.2.2.2.1 (by decide) _ _) (fun z => by cases z) (xw_ixo h3) rfl rfl hdg fun H1 e1 e2 e3 => ?_
      obtain ⟨a1, a2⟩ := xw_ast hw h1 (by rw [h2]; decide) (xw_uaA (v := v.toInt8.toInt32) (by rw [h2]; decide)) e1 e2 e3
      exact k H1 _ a1 (hS.put e2 e3 a2)
    · cases e
theorem x_stZ (pc' : Nat) (hE : xw_ok E own cc nL ret lam) {r : Option Nat} {i v : Int32} {F : Unit → xw_M xw_St α} (hdg : decode cc pc = .ok (.bastore, 1)) (hp : pc + 1 = pc') (kk : xw_X E nL (xw_hc (xe_G E) μ) Q pc' lv st (F ()) K) : xw_X E nL (xw_hc (xe_G E) μ) Q pc lv (.int v :: .int i :: va_rf r :: st) (xw_bd (xw_stZ r i v) F) K := by
  subst hp
  refine xw_wt (pc + 1) (fun ls H locs cells slots σ σ1 k1 n1 e hl hw hS => ?_) kk
  cases r with
  | none => cases e
  | some q =>
    simp only [xw_stZ] at e
    split at e
    · rename_i hq
      obtain ⟨⟨h1, h2, h3⟩, h4⟩ := hq
      cases e
      refine ⟨rfl, rfl, fun Qs k => ?_⟩
      refine W.zast hE.1 hE.2.1 (xw_aHH hw h1 (by rw [h2]; decide)) (by rw [h2]; exact xw_oA hE.2.2.2.2.2.1 (by decide) _ _) (fun z => by cases z) (xw_ixo h3) rfl rfl hdg fun H1 e1 e2 e3 => ?_
      have hn : narrow .boolean (.int v) = .int v := by rcases h4 with h | h <;> rw [h] <;> rfl
      rw [hn] at e1
      obtain ⟨a1, a2⟩ := xw_ast hw h1 (by rw [h2]; decide) (xw_uaA (v := v) (by rw [h2]; decide)) e1 e2 e3
      exact k H1 _ a1 (hS.put e2 e3 a2)
    · cases e
theorem xw_nc_at {U : State} {G : xw_G} (h : xw_K G U) {C T : String} (hm : Cond.castable C T ∈ xw_nc) {c t : ClassId} (hc : U.vm.findClass C = some c) (ht : U.vm.findClass T = some t) : U.vm.assignable c t = true := by
  obtain ⟨c0, t0, f1, f2, f3⟩ := Cond.castable_spec (va_Nw.use (A := #[]) rfl (h.2.2.2.2.2.2.1 _ hm))
  cases hc.symm.trans f1
  cases ht.symm.trans f2
  exact f3
theorem xw_asg {U : State} {G : xw_G} (h : xw_K G U) {j t : Nat} (ha : xw_as j t = true) {C : String} (hC : xw_aT j = .object C) : 1 ≤ t ∧ t < 32 ∧ t - 1 < 19 ∧ ∀ comp, U.vm.findClass C = some comp → U.vm.assignable ((xw_D G).1 (t - 1)) comp = true := by
  have same : ∀ c, c < 19 → xw_cn c = C → ∀ comp, U.vm.findClass C = some comp → U.vm.assignable ((xw_D G).1 c) comp = true := by
    intro c hc e comp hcomp
    have hk := (h.1 c hc).2
    rw [e] at hk
    cases hcomp.symm.trans hk.1
    exact va_assign hk
  have sub : ∀ c, c < 19 → Cond.castable (xw_cn c) C ∈ xw_nc → ∀ comp, U.vm.findClass C = some comp → U.vm.assignable ((xw_D G).1 c) comp = true := fun c hc hm comp hcomp => xw_nc_at h hm (h.1 c hc).2.1 hcomp
  unfold xw_as at ha
  split at ha
  · simp only [Bool.and_eq_true] at ha
    have h1 := Nat.le_of_ble_eq_true ha.1
    have h2 := Nat.le_of_ble_eq_true ha.2
    have hC2 : C = "CrossingWords$Saying" := by cases hC; rfl
    subst hC2
    refine ⟨by omega, by omega, by omega, ?_⟩
    have h3 : t = 6 ∨ t = 7 ∨ t = 8 ∨ t = 9 ∨ t = 10 ∨ t = 11 ∨ t = 12 ∨ t = 13 := by omega
    rcases h3 with h3 | h3 | h3 | h3 | h3 | h3 | h3 | h3 <;> subst h3 <;> exact sub _ (by decide) (by decide +kernel)
  all_goals first | (cases ha; done) | skip
  all_goals
    have ha := eq_of_beq ha
    subst ha
    cases hC
    exact ⟨by decide, by decide, by decide, same _ (by decide) rfl⟩
theorem x_stR (pc' : Nat) (hE : xw_ok E own cc nL ret lam) {r : Option Nat} {i : Int32} {v : Option Nat} {F : Unit → xw_M xw_St α} (hdg : decode cc pc = .ok (.aastore, 1)) (hp : pc + 1 = pc') (kk : xw_X E nL (xw_hc (xe_G E) μ) Q pc' lv st (F ()) K) : xw_X E nL (xw_hc (xe_G E) μ) Q pc lv (va_rf v :: .int i :: va_rf r :: st) (xw_bd (xw_stR r i v) F) K := by
  subst hp
  refine xw_wt (pc + 1) (fun ls H locs cells slots σ σ1 k1 n1 e hl hw hS => ?_) kk
  cases r with
  | none => cases e
  | some q =>
    simp only [xw_stR] at e
    split at e
    · rename_i hq
      obtain ⟨⟨h1, h2, h3⟩, h4⟩ := hq
      cases e
      refine ⟨rfl, rfl, fun Qs k => ?_⟩
      obtain ⟨C, hC⟩ := xw_aTR h2
      have h5 := hE.2.2.2.2.2.1.2.1 _ h2.2
      rw [hC] at h5
      have fin : ∀ (H1 : Heap), H1[q]? = some ((arrV (xw_dA (xe_G E) (xw_ay (xw_T σ q))) (xw_L σ q) (xw_elt σ (xw_T σ q) q)).setSlot i.toNatClampNeg (va_rf v)) → H1.size = H.size → (∀ x, x ≠ q → H1[x]? = H[x]?) → xw_W E H1 (locs ++ [⟨q, i.toNatClampNeg⟩]) cells slots Qs (F0 (xe_m E) (pc + 1) ls st) := by
        intro H1 e1 e2 e3
        obtain ⟨a1, a2⟩ := xw_ast hw h1 (by omega) (xw_uaB h2.1) e1 e2 e3
        exact k H1 _ a1 (hS.put e2 e3 a2)
      cases v with
      | none => exact va_WaastN (C := C) hE.1 hE.2.1 (xw_aHH hw h1 (by omega)) (h5.1 _ _) (fun z => by cases z) (xw_ixo h3) rfl rfl hdg fin
      | some y =>
        obtain ⟨kA, comp, k1, k2, k3, -⟩ := h5.2
        obtain ⟨b1, b2, b3, b4⟩ := xw_asg hE.2.2.2.2.2.1 h4 hC
        have hci : xw_ci (xw_T σ y) = xw_T σ y - 1 := if_neg (by omega)
        obtain ⟨cellV, g1, g2, g3, -⟩ := (hw.2.2.2.2.2.1 y b1).2.1 (by omega)
        rw [hci] at g2
        obtain ⟨-, kC, hkC, -⟩ := (hE.2.2.2.2.2.1.1 _ b3).2
        obtain ⟨kE, hkE, -⟩ := Vm.findClass_spec k3
        exact W.aast hE.1 hE.2.1 (xw_aHH hw h1 (by omega)) (fun q h => by cases h) (fun h => by cases h) k1 k2 rfl hkE ⟨h3.1, by rw [arrV_size]; exact h3.2⟩ g1 (fun q h => by rw [g3] at h; cases h) (by rw [g2]; exact hkC) (by rw [g2]; exact b4 _ k3) rfl rfl hdg fin
    · cases e
/-! making -/
theorem xw_mkHH {G : xw_G} {σ : xw_St} {μ : xw_Mu} {H H1 : Heap} {t n : Nat} (hw : xw_HH G σ μ H) (e2 : H1.size = H.size + 1) (e3 : ∀ x, x < H.size → H1[x]? = H[x]?) (h0 : 1 ≤ t) (hc : xw_cell G (xw_nw σ t n) (xw_N σ) H1) : xw_HH G (xw_nw σ t n) μ H1 := by
  have hl : ∀ {q : Nat}, 1 ≤ xw_T σ q → q < H.size := fun h => hw.lt h
  obtain ⟨w1, w2, w3, w4, w5, w6, w7⟩ := hw
  have hN : xw_N (xw_nw σ t n) = xw_N σ + 1 := rfl
  have hT : ∀ q, xw_T (xw_nw σ t n) q = if q = xw_N σ then t else xw_T σ q := fun q => rfl
  have hL : ∀ q, xw_L (xw_nw σ t n) q = if q = xw_N σ then n else xw_L σ q := fun q => rfl
  refine ⟨by rw [hN, w1, e2], by omega, fun a ha => by rw [e3 a (by omega)]; exact w3 a ha, w4, fun q hq => ?_, fun q hq => ?_, fun hac => ?_⟩
  · have hq : xw_N σ + 1 ≤ q := hq
    obtain ⟨v1, v2⟩ := w5 q (by omega)
    exact ⟨by rw [hT, if_neg (by omega)]; exact v1, v2⟩
  · by_cases hqN : q = xw_N σ
    · subst hqN
      exact ⟨fun _ => by rw [w1]; exact w2, hc⟩
    · rw [hT, if_neg hqN] at hq ⊢
      obtain ⟨b1, b2⟩ := w6 q hq
      exact ⟨b1, b2.kept (by rw [hT, if_neg hqN]) (by rw [hL, if_neg hqN]) (fun _ => rfl) (fun _ _ => rfl) (e3 q (hl hq))⟩
  · refine (w7 hac).kept (by omega) (fun x hx h => ⟨e3 x hx, ?_⟩)
    rw [hT, if_neg (by omega)]
    exact h
theorem x_new (pc' : Nat) (hE : xw_ok E own cc nL ret lam) {c idx : Nat} {F : Nat → xw_M xw_St α} (hc : c < 19) (hcl : Cond.classLink own idx (xw_cn c) ∈ lw_all) (hinst : Cond.instantiable (xw_cn c) (xw_nf c) ∈ lw_all) (hini : Cond.initialized (xw_cn c) ∈ lw_all) (hdg : decode cc pc = .ok (.new idx, 3)) (hp : pc + 3 = pc') (kk : ∀ q, xw_X E nL (xw_hc (xe_G E) μ) Q pc' lv (va_rf (some q) :: st) (F q) K) : xw_X E nL (xw_hc (xe_G E) μ) Q pc lv st (xw_bd (xw_new c) F) K := by
  subst hp
  refine xw_mk (pc + 3) (fun q => va_rf (some q) :: st) (fun ls H locs cells slots σ v σ1 k1 n1 e hl hw hS hcs hss Qs k => ?_) kk
  cases e
  have hKn := hE.2.2.2.2.2.1.1 c hc
  refine W.newcK hE.1 hE.2.1 hE.2.2.2.1 (hE.2.2.2.2.1 _ hcl) (hE.2.2.2.2.1 _ hinst) (hE.2.2.2.2.1 _ hini) rfl hdg hcs hss hKn.2.1 rfl fun H1 kC hkC e1 z1 o1 => ?_
  have hb := u_born (fun k => xw_fT (xw_fid c k)) hE.2.2.2.2.1 (xw_inA c hc) hKn hkC e1 (xw_tyA c hc)
  have hT : xw_T (xw_nw σ (c + 1) 0) (xw_N σ) = c + 1 := if_pos rfl
  have hci : xw_ci (c + 1) = c := by unfold xw_ci; rw [if_neg (by omega)]; rfl
  have hcell : xw_cell (xe_G E) (xw_nw σ (c + 1) 0) (xw_N σ) H1 := by
    refine ⟨fun _ => ?_, fun a => ?_, fun a => ?_, fun a => ?_⟩
    · rw [hT, hci, hw.1]
      refine hb.to (fun k hk => ?_)
      obtain ⟨-, v2, v3, v4, -⟩ := hw.2.2.2.2.1 H.size (by rw [hw.1]; exact Nat.le_refl _)
      rw [xw_dvA c hc k hk]
      unfold xw_val
      have b2 : xw_I (xw_nw σ (c + 1) 0) (xw_fid c k) H.size = 0 := v2 _
      have b3 : xw_J (xw_nw σ (c + 1) 0) (xw_fid c k) H.size = 0 := v3 _
      have b4 : xw_R (xw_nw σ (c + 1) 0) (xw_fid c k) H.size = none := v4 _
      rw [b2, b3, b4]
      split <;> first | rfl | (split <;> first | rfl | contradiction)
    · rw [hT] at a; omega
    · rw [hT] at a; omega
    · rw [hT] at a; omega
  have := k H1 locs (xw_mkHH hw z1 o1 (by omega) hcell) ⟨Nat.le_trans hS.1 (by omega), fun x h1 h2 => (o1 x (Nat.lt_of_lt_of_le h1 hS.1)).trans (hS.2.1 x h1 h2), hS.2.2⟩
  rw [hw.1] at this
  exact this
theorem xw_mkA {G : xw_G} {σ : xw_St} {H1 : Heap} {t n : Nat} (h64 : 64 ≤ t) (h200 : t < 200) (e1 : H1[xw_N σ]? = some (arrV (xw_dA G (xw_ay t)) n (xw_elt (xw_nw σ t n) t (xw_N σ)))) : xw_cell G (xw_nw σ t n) (xw_N σ) H1 := by
  have hT : xw_T (xw_nw σ t n) (xw_N σ) = t := if_pos rfl
  have hL : xw_L (xw_nw σ t n) (xw_N σ) = n := if_pos rfl
  refine ⟨fun a => ?_, fun a _ => ?_, fun a => ?_, fun a => ?_⟩
  · rw [hT] at a; omega
  · rw [hT, hL]
    exact e1
  · rw [hT] at a; omega
  · rw [hT] at a; omega
theorem x_nwa (pc' : Nat) (hE : xw_ok E own cc nL ret lam) {t : Nat} {n : Int32} {F : Nat → xw_M xw_St α} {atype : ArrayType} (h64 : 64 ≤ t ∧ xw_ay t < 3) (hty : newarray.typeOf atype = xw_aT (xw_ay t)) (harr : Cond.arrayClass (xw_aT (xw_ay t)) ∈ lw_all) (hdg : decode cc pc = .ok (.newarray atype, 2)) (hp : pc + 2 = pc') (kk : ∀ q, xw_X E nL (xw_hc (xe_G E) μ) Q pc' lv (va_rf (some q) :: st) (F q) K) : xw_X E nL (xw_hc (xe_G E) μ) Q pc lv (.int n :: st) (xw_bd (xw_nwa t n) F) K := by
  subst hp
  refine xw_mk (pc + 2) (fun q => va_rf (some q) :: st) (fun ls H locs cells slots σ v σ1 k1 n1 e hl hw hS hcs hss Qs k => ?_) kk
  simp only [xw_nwa] at e
  split at e
  · rename_i hn
    cases e
    have hcb : n.toNatClampNeg * componentBytes (newarray.typeOf atype) ≤ 536870912 := by
      have : componentBytes (newarray.typeOf atype) ≤ 8 := by cases atype <;> decide
      calc n.toNatClampNeg * componentBytes (newarray.typeOf atype) ≤ 60000 * 8 := Nat.mul_le_mul hn.2 this
        _ ≤ 536870912 := by decide
    refine va_newaK hE.1 hE.2.1 (by rw [hty]; exact hE.2.2.2.2.1 _ harr) rfl hdg rfl hn.1 rfl hcb hcs hss rfl fun H1 cA e1 z1 o1 hAr hNm => ?_
    have hd : defaultValue (newarray.typeOf atype) = .int 0 := by
      rw [hty]
      have : xw_ay t = 0 ∨ xw_ay t = 1 ∨ xw_ay t = 2 := by omega
      rcases this with h | h | h <;> rw [h] <;> rfl
    have hRA := (hE.2.2.2.2.2.1.2.1 (xw_ay t) (by omega)).2
    have hcA : cA = xw_dA (xe_G E) (xw_ay t) := by
      rw [hty] at hNm
      have : xw_ay t = 0 ∨ xw_ay t = 1 ∨ xw_ay t = 2 := by omega
      rcases this with h | h | h <;> rw [h] at hRA hNm ⊢ <;> exact Option.some.inj (hNm.symm.trans hRA)
    have hcell : xw_cell (xe_G E) (xw_nw σ t n.toNatClampNeg) (xw_N σ) H1 := by
      refine xw_mkA h64.1 (xw_ay200 (by omega)) ?_
      rw [hw.1, e1, hcA, hd]
      congr 2
      funext i
      obtain ⟨-, -, -, -, v5, -⟩ := hw.2.2.2.2.1 H.size (by rw [hw.1]; exact Nat.le_refl _)
      have b5 : xw_A (xw_nw σ t n.toNatClampNeg) t H.size i = 0 := v5 _ _
      have : xw_ay t = 0 ∨ xw_ay t = 1 ∨ xw_ay t = 2 := by omega
      rcases this with h | h | h <;> simp only [xw_elt, h, b5]
    have := k H1 locs (xw_mkHH hw z1 o1 (by omega) hcell) ⟨Nat.le_trans hS.1 (by omega), fun x h1 h2 => (o1 x (Nat.lt_of_lt_of_le h1 hS.1)).trans (hS.2.1 x h1 h2), hS.2.2⟩
    rw [hw.1] at this
    exact this
  · cases e
theorem x_nwR (pc' : Nat) (hE : xw_ok E own cc nL ret lam) {t idx : Nat} {n : Int32} {C : String} {F : Nat → xw_M xw_St α} (h64 : 64 ≤ t ∧ 4 ≤ xw_ay t ∧ xw_ay t < 9) (hty : xw_aT (xw_ay t) = .object C) (hcl : Cond.classLink own idx C ∈ lw_all) (hdg : decode cc pc = .ok (.anewarray idx, 3)) (hp : pc + 3 = pc') (kk : ∀ q, xw_X E nL (xw_hc (xe_G E) μ) Q pc' lv (va_rf (some q) :: st) (F q) K) : xw_X E nL (xw_hc (xe_G E) μ) Q pc lv (.int n :: st) (xw_bd (xw_nwa t n) F) K := by
  subst hp
  refine xw_mk (pc + 3) (fun q => va_rf (some q) :: st) (fun ls H locs cells slots σ v σ1 k1 n1 e hl hw hS hcs hss Qs k => ?_) kk
  simp only [xw_nwa] at e
  split at e
  · rename_i hn
    cases e
    have hAO := hE.2.2.2.2.2.1.2.2.2.1 (xw_ay t) h64.2.1 h64.2.2 C hty
    refine W.anew hE.1 hE.2.1 hE.2.2.2.1 (hE.2.2.2.2.1 _ hcl) (va_AO.use hAO) rfl hdg rfl hn.1 (by omega) hcs hss fun cA kA comp f1 f2 f3 f4 => ?_
    generalize hH1 : H.push ({ cls := cA, slots := Array.replicate n.toNatClampNeg .null, vm := .none } : Cell) = H1
    have z1 : H1.size = H.size + 1 := by rw [← hH1, Array.size_push]
    have e1 : H1[H.size]? = some (arrV cA n.toNatClampNeg (fun _ => .null)) := by rw [← hH1, Array.getElem?_push_size, ← arrV_new]
    have o1 : ∀ q : Nat, q < H.size → H1[q]? = H[q]? := fun q hq => by rw [← hH1, Array.getElem?_push, if_neg (Nat.ne_of_lt hq)]
    have hRA := (hE.2.2.2.2.2.1.2.1 (xw_ay t) h64.2.2).2
    rw [hty] at hRA
    obtain ⟨_, _, _, _, _, r4⟩ := hRA
    have hcA : cA = xw_dA (xe_G E) (xw_ay t) := Option.some.inj (f1.symm.trans r4)
    have hcell : xw_cell (xe_G E) (xw_nw σ t n.toNatClampNeg) (xw_N σ) H1 := by
      refine xw_mkA h64.1 (xw_ay200 (by omega)) ?_
      rw [hw.1, e1, hcA]
      congr 2
      funext i
      obtain ⟨-, -, -, -, -, v6⟩ := hw.2.2.2.2.1 H.size (by rw [hw.1]; exact Nat.le_refl _)
      have b6 : xw_B (xw_nw σ t n.toNatClampNeg) t H.size i = none := v6 _ _
      rw [xw_eltR h64.2.1, b6]
      rfl
    have := k H1 locs (xw_mkHH hw z1 o1 (by omega) hcell) ⟨Nat.le_trans hS.1 (by omega), fun x h1 h2 => (o1 x (Nat.lt_of_lt_of_le h1 hS.1)).trans (hS.2.1 x h1 h2), hS.2.2⟩
    rw [hw.1] at this
    exact this
  · cases e
end XJ
