set_option maxRecDepth 100000
/-! static constants; the reference's cells; array copies -/
section XN
variable {α β γ δ : Type} {E : xw_E} {own : String} {cc : ByteArray} {nL lam pc : Nat} {ret : Option FieldType} {lv lv' : List (Nat × Value)} {st st' : List Value} {μ : xw_Mu} {Q : γ → xw_St → Nat → Nat → State → Prop} {K : α → xw_M xw_St γ}
theorem xw_gets (hE : xw_ok E own cc nL ret lam) {σ : xw_St} {H : Heap} (hw : xw_HH (xe_G E) σ μ H) {n d host : String} {idx : Nat} {v : Value} (hZ : va_Z "CrossingWords" n d v (xw_Fr (xe_G E)) (xe_s E) (xw_hb (xe_G E))) (hl : Cond.fieldLinkNest own idx "CrossingWords" n d host ∈ xw_nl) (hdg : decode cc pc = .ok (.getstatic idx, 3)) {locs : List Loc} {cells slots : Nat} {Qs : State → Prop} {ls : Array Slot}
    (kk : xw_W E H locs cells slots Qs (F0 (xe_m E) (pc + 3) ls (v :: st))) : xw_W E H locs cells slots Qs (F0 (xe_m E) pc ls st) := by
  obtain ⟨cf, kf, fi, f, a, cell, h1, h2, h3, h4, h5, h6, h7, h8⟩ := hZ
  have hlink := va_Nw.use (A := xe_a E) rfl (hE.2.2.2.2.2.1.2.2.1 _ hl)
  exact va_WgetsN hE.1 hE.2.1 hE.2.2.2.1 hlink h1 h2 h3 h4 (by rw [hw.2.2.1 a (Array.getElem?_eq_some_iff.mp h5).1]; exact h5) (fun e => by rw [e] at h6; cases h6) h7 rfl hdg kk
theorem x_gs (pc' : Nat) (hE : xw_ok E own cc nL ret lam) {j idx : Nat} {n d host : String} {F : Option Nat → xw_M xw_St α} (hj : (n, d, j) ∈ xw_sl) (hl : Cond.fieldLinkNest own idx "CrossingWords" n d host ∈ xw_nl) (hdg : decode cc pc = .ok (.getstatic idx, 3)) (hp : pc + 3 = pc') (kk : ∀ v, xw_X E nL (xw_hc (xe_G E) μ) Q pc' lv (va_rf v :: st) (F v) K) : xw_X E nL (xw_hc (xe_G E) μ) Q pc lv st (xw_bd (xw_gs j) F) K := by
  subst hp
  refine xw_rd (pc + 3) (fun v => va_rf v :: st) (fun ls H locs cells slots σ v σ1 k1 n1 e hl2 hw hS => ?_) kk
  cases e
  refine ⟨rfl, rfl, rfl, fun Qs k => ?_⟩
  rw [hw.2.2.2.1] at k
  exact xw_gets hE hw (hE.2.2.2.2.2.1.2.2.2.2.1 _ hj) hl hdg k
theorem x_gsl (pc' : Nat) (hE : xw_ok E own cc nL ret lam) {idx : Nat} {n host : String} {v : Int64} {P : xw_M xw_St α} (hj : (n, v) ∈ xw_ll) (hl : Cond.fieldLinkNest own idx "CrossingWords" n "J" host ∈ xw_nl) (hdg : decode cc pc = .ok (.getstatic idx, 3)) (hp : pc + 3 = pc') (kk : xw_X E nL (xw_hc (xe_G E) μ) Q pc' lv (.long v :: st) P K) : xw_X E nL (xw_hc (xe_G E) μ) Q pc lv st P K := by
  subst hp
  intro ls H locs cells slots σ r σ' k n h1 h2 h3 h4 h5 h6
  exact xw_gets hE h3 (hE.2.2.2.2.2.1.2.2.2.2.2.1 _ hj) hl hdg (kk ls H locs cells slots σ r σ' k n h1 h2 h3 h4 h5 h6)
/-- an array's contents as a whole -/
def xw_sC (σ : xw_St) (t q : Nat) (g : Nat → Option Nat) : xw_St := (xw_T σ, xw_L σ, xw_I σ, xw_J σ, xw_R σ, xw_A σ, xw_u2 (xw_B σ) t q g, xw_C σ, xw_N σ)
/-- System.arraycopy of references, from place 0 to place 0 -/
def xw_cp (r1 : Option Nat) (r2 : Option Nat) (n : Int32) : xw_M xw_St Unit := fun σ => match r1, r2 with
  | some a, some b => if (64 ≤ xw_T σ a ∧ 64 ≤ xw_T σ b ∧ 4 ≤ xw_ay (xw_T σ a) ∧ 4 ≤ xw_ay (xw_T σ b) ∧ xw_ay (xw_T σ a) < 9 ∧ xw_ay (xw_T σ b) < 9) ∧ ¬ n < 0 ∧ n.toNatClampNeg ≤ xw_L σ a ∧ n.toNatClampNeg ≤ xw_L σ b ∧ (List.range n.toNatClampNeg).all (fun i => xw_asR σ (xw_ay (xw_T σ b)) (xw_B σ (xw_T σ a) a i)) = true then
      some ((), xw_sC σ (xw_T σ b) b (fun i => if i < n.toNatClampNeg then xw_B σ (xw_T σ a) a i else xw_B σ (xw_T σ b) b i), 0, 0) else none
  | _, _ => none
theorem xw_nn {z : Int32} (hz : ¬ z < 0) : z.toInt = (z.toNatClampNeg : Int) := by
  have hz0 : (0 : Int) ≤ z.toInt := by
    have := Int32.not_lt.mp hz
    simpa using Int32.le_iff_toInt_le.mp this
  show z.toInt = ((z.toInt.toNat : Nat) : Int)
  omega
theorem xw_cpH {G : xw_G} {σ : xw_St} {H H1 : Heap} (hw : xw_HH G σ μ H) {q : Nat} {g : Nat → Option Nat} (h1 : 64 ≤ xw_T σ q) (h4 : 4 ≤ xw_ay (xw_T σ q)) (e1 : H1[q]? = some (arrV (xw_dA G (xw_ay (xw_T σ q))) (xw_L σ q) (fun j => va_rf (g j)))) (e2 : H1.size = H.size) (e3 : ∀ x, x ≠ q → H1[x]? = H[x]?) : xw_HH G (xw_sC σ (xw_T σ q) q g) μ H1 ∧ xw_Fr G q := by
  have hlt := hw.lt (q := q) (by omega)
  obtain ⟨w1, w2, w3, w4, w5, w6, w7⟩ := hw
  have hro : xw_ro (xw_T σ q) = false := by
    unfold xw_ro
    rw [Bool.or_eq_false_iff]
    refine ⟨by simp; omega, ?_⟩
    cases hb : Nat.ble 200 (xw_T σ q) with
    | false => rfl
    | true =>
      have := Nat.le_of_ble_eq_true hb
      have h5 : xw_ay (xw_T σ q) = 3 := if_pos this
      omega
  have hA : xw_Fr G q := (w6 q (by omega)).1 hro
  have hT : xw_T (xw_sC σ (xw_T σ q) q g) = xw_T σ := rfl
  have hL : xw_L (xw_sC σ (xw_T σ q) q g) = xw_L σ := rfl
  refine ⟨⟨by show xw_N σ = _; rw [w1, e2], by rw [e2]; exact w2, fun a ha => by rw [e3 a (fun z => by rw [z] at ha; exact absurd hA (Nat.not_le.mpr ha))]; exact w3 a ha, w4, fun q' hq' => ?_, fun q' hq' => ?_, fun hac => ?_⟩, hA⟩
  · obtain ⟨v1, v2, v3, v4, v5, v6⟩ := w5 q' hq'
    have hq' : xw_N σ ≤ q' := hq'
    refine ⟨v1, v2, v3, v4, v5, fun t i => ?_⟩
    show xw_u2 (xw_B σ) (xw_T σ q) q g t q' i = none
    rw [xw_u2_ne _ _ _ _ (fun z => by omega)]
    exact v6 t i
  · rw [hT] at hq' ⊢
    obtain ⟨b1, b2⟩ := w6 q' hq'
    refine ⟨b1, ?_⟩
    by_cases hqq : q' = q
    · subst hqq
      refine ⟨fun a => ?_, fun a _ => ?_, fun a => ?_, fun a => ?_⟩
      · rw [hT] at a; omega
      · rw [hT, hL, e1]
        congr 2
        funext j
        rw [xw_eltR h4]
        show va_rf (g j) = va_rf (xw_u2 (xw_B σ) (xw_T σ q') q' g (xw_T σ q') q' j)
        rw [xw_u2_eq]
      · rw [hT] at a; omega
      · rw [hT] at a
        have h5 : xw_ay (xw_T σ q') = 3 := if_pos a
        omega
    · refine b2.kept (by rw [hT]) (by rw [hL]) (fun f' => rfl) (fun t j => ?_) (e3 q' hqq)
      have : xw_B (xw_sC σ (xw_T σ q) q g) t q' j = xw_B σ t q' j := by
        show xw_u2 (xw_B σ) (xw_T σ q) q g t q' j = _
        rw [xw_u2_ne _ _ _ _ (fun z => hqq z.2)]
      unfold xw_elt
      rw [this]
      rfl
  · refine (w7 hac).kept (by rw [e2]; exact Nat.le_refl _) (fun x _ hx => ⟨e3 x (fun z => ?_), hx⟩)
    rw [z] at hx
    omega
theorem x_cp (pc' : Nat) (hE : xw_ok E own cc nL ret lam) {idx : Nat} {r1 r2 : Option Nat} {n : Int32} {F : Unit → xw_M xw_St α} (h1 : Cond.methodLink own idx arraycopyName ∈ lw_all) (h2 : Cond.native arraycopyName ∈ lw_all) (h3 : Cond.static arraycopyName ∈ lw_all) (h4 : Cond.initialized "java/lang/System" ∈ lw_all) (hlam : 1 ≤ lam) (hdg : decode cc pc = .ok (.invokestatic idx, 3)) (hp : pc + 3 = pc') (hst : st = []) (kk : xw_X E nL (xw_hc (xe_G E) μ) Q pc' lv st (F ()) K) : xw_X E nL (xw_hc (xe_G E) μ) Q pc lv (.int n :: .int 0 :: va_rf r2 :: .int 0 :: va_rf r1 :: st) (xw_bd (xw_cp r1 r2 n) F) K := by
  subst hp
  have h9 := hE.2.2.2.2.2.2.2.2.1
  have h10 := hE.2.2.2.2.2.2.2.2.2
  refine xw_wt (pc + 3) (fun ls H locs cells slots σ σ1 k1 n1 e hl hw hS => ?_) kk
  subst hst
  cases r1 with
  | none => cases e
  | some a =>
  cases r2 with
  | none => cases e
  | some b =>
  simp only [xw_cp] at e
  split at e
  · rename_i hq
    obtain ⟨⟨a1, b1, a2, b2, a3, b3⟩, hn, hla, hlb, hall⟩ := hq
    cases e
    refine ⟨rfl, rfl, fun Qs k => ?_⟩
    intro T hT X
    have ha := xw_aHH hw a1 (by omega)
    have hb := xw_aHH hw b1 (by omega)
    obtain ⟨Ca, hCa⟩ := xw_aTR ⟨a2, a3⟩
    obtain ⟨Cb, hCb⟩ := xw_aTR ⟨b2, b3⟩
    have oa := hE.2.2.2.2.2.1.2.1 _ a3
    have ob := hE.2.2.2.2.2.1.2.1 _ b3
    rw [hCa] at oa
    rw [hCb] at ob
    have ea : xw_elt σ (xw_T σ a) a = fun j => va_rf (xw_B σ (xw_T σ a) a j) := funext fun j => xw_eltR a2
    have eb : xw_elt σ (xw_T σ b) b = fun j => va_rf (xw_B σ (xw_T σ b) b j) := funext fun j => xw_eltR b2
    rw [ea] at ha
    rw [eb] at hb
    obtain ⟨-, k0, hk0, cm0, hkk0⟩ := oa.1 (xw_L σ a) (fun j => va_rf (xw_B σ (xw_T σ a) a j))
    obtain ⟨-, k1, hk1, cm1, hkk1⟩ := ob.1 (xw_L σ b) (fun j => va_rf (xw_B σ (xw_T σ b) b j))
    obtain ⟨vm', X', step⟩ := X.arraycopy hE.1 hE.2.2.2.1 (hE.2.2.2.2.1 _ h1) (hE.2.2.2.2.1 _ h2) (hE.2.2.2.2.1 _ h3) (hE.2.2.2.2.1 _ h4) (src := a) (dst := b) (srcPos := 0) (destPos := 0) (n := n) (by rw [hT]; exact ha) (by rw [hT]; exact hb)
      (fun _ h => by cases h) (fun _ h => by cases h) (fun h => by cases h) (fun h => by cases h) hk0 hk1 hkk0 hkk1 rfl (by decide) (by decide) hn
      (by rw [xw_nn hn, arrV_size]; show ¬ (0 : Int) + _ > _; omega)
      (by rw [xw_nn hn, arrV_size]; show ¬ (0 : Int) + _ > _; omega)
      (fun vm₁ hal i hi => by
        have e : (arrV (xw_dA (xe_G E) (xw_ay (xw_T σ a))) (xw_L σ a) (fun j => va_rf (xw_B σ (xw_T σ a) a j))).slots.getD ((0 : Int32).toNatClampNeg + i) .null = va_rf (xw_B σ (xw_T σ a) a i) := by
          rw [show (0 : Int32).toNatClampNeg = 0 from rfl, Nat.zero_add, Array.getD_eq_getD_getElem?, arrV_read _ _ (by omega)]
          rfl
        rw [e]
        have h5 := List.all_eq_true.mp hall i (List.mem_range.mpr hi)
        cases hy : xw_B σ (xw_T σ a) a i with
        | none => exact ⟨rfl, trivial⟩
        | some y =>
          rw [hy] at h5
          obtain ⟨kA, comp, r1, r2, r3, -⟩ := ob.2
          cases hk1.symm.trans r1
          cases hkk1.symm.trans r2
          obtain ⟨c1, c2, c3, c4⟩ := xw_asg hE.2.2.2.2.2.1 h5 hCb
          have hci : xw_ci (xw_T σ y) = xw_T σ y - 1 := if_neg (by omega)
          obtain ⟨cellV, g1, g2, g3, -⟩ := (hw.2.2.2.2.2.1 y c1).2.1 (by omega)
          rw [hci] at g2
          obtain ⟨-, kC, hkC, -⟩ := (hE.2.2.2.2.2.1.1 _ c3).2
          rw [← g2] at hkC
          obtain ⟨kE, hkE, -⟩ := Vm.findClass_spec r3
          obtain ⟨kC', hkC', -⟩ := hal.2.2 _ _ hkC
          obtain ⟨kE', hkE', -⟩ := hal.2.2 _ _ hkE
          refine ⟨rfl, cellV, (show T.heap[y]? = some cellV by rw [hT]; exact g1), (fun q h => by rw [g3] at h; cases h), ⟨kC', hkC'⟩, ⟨kE', hkE'⟩, ?_⟩
          show vm₁.assignable _ _ = true
          rw [hal.assignable, g2]
          exact c4 _ r3)
      (g := F0 (xe_m E) pc ls (.int n :: .int 0 :: .ref b :: .int 0 :: .ref a :: [])) rfl (by rw [hE.2.2.1]; exact hl.1) (rest := []) rfl (by rw [hE.2.1]; exact hdg) (by omega) (by show 2 * 0 + 0 + (nativeFrameWords "java/lang/System" "arraycopy" 5 + 11) ≤ _; exact Nat.le_trans (show 2 * 0 + 0 + (nativeFrameWords "java/lang/System" "arraycopy" 5 + 11) ≤ 60 by decide +kernel) (by omega))
    have e1 : copied (arrV (xw_dA (xe_G E) (xw_ay (xw_T σ a))) (xw_L σ a) (fun j => va_rf (xw_B σ (xw_T σ a) a j))) (arrV (xw_dA (xe_G E) (xw_ay (xw_T σ b))) (xw_L σ b) (fun j => va_rf (xw_B σ (xw_T σ b) b j))) 0 0 n = arrV (xw_dA (xe_G E) (xw_ay (xw_T σ b))) (xw_L σ b) (fun j => va_rf (va_cpy (xw_B σ (xw_T σ a) a) (xw_B σ (xw_T σ b) b) (0 : Int32).toNatClampNeg (0 : Int32).toNatClampNeg n.toNatClampNeg j)) :=
      va_copied (fun z => va_rf z) _ _ _ _ (by show (0 : Int32).toNatClampNeg + _ ≤ _; rw [show (0 : Int32).toNatClampNeg = 0 from rfl]; omega)
    have e2 : (va_cpy (xw_B σ (xw_T σ a) a) (xw_B σ (xw_T σ b) b) (0 : Int32).toNatClampNeg (0 : Int32).toNatClampNeg n.toNatClampNeg) = (fun i => if i < n.toNatClampNeg then xw_B σ (xw_T σ a) a i else xw_B σ (xw_T σ b) b i) := by
      funext i
      rw [show (0 : Int32).toNatClampNeg = 0 from rfl]
      unfold va_cpy
      by_cases hi : i < n.toNatClampNeg
      · rw [if_pos ⟨Nat.zero_le _, by omega⟩, if_pos hi, Nat.zero_add, Nat.sub_zero]
      · rw [if_neg (fun z => hi (by omega)), if_neg hi]
    rw [e2] at e1
    rw [e1] at X' step
    have hlt : b < T.heap.size := by rw [hT]; exact hw.lt (by omega)
    have f1 : ((T.setVm vm').setCell b (arrV (xw_dA (xe_G E) (xw_ay (xw_T σ b))) (xw_L σ b) (fun j => va_rf (if j < n.toNatClampNeg then xw_B σ (xw_T σ a) a j else xw_B σ (xw_T σ b) b j)))).heap[b]? = some (arrV (xw_dA (xe_G E) (xw_ay (xw_T σ b))) (xw_L σ b) (fun j => va_rf (if j < n.toNatClampNeg then xw_B σ (xw_T σ a) a j else xw_B σ (xw_T σ b) b j))) := heapAt_setCell_self _ hlt
    have f2 : ∀ q, q ≠ b → ((T.setVm vm').setCell b (arrV (xw_dA (xe_G E) (xw_ay (xw_T σ b))) (xw_L σ b) (fun j => va_rf (if j < n.toNatClampNeg then xw_B σ (xw_T σ a) a j else xw_B σ (xw_T σ b) b j)))).heap[q]? = H[q]? := fun q hq => by rw [heapAt_setCell_ne _ (Ne.symm hq), ← hT]; rfl
    have f3 : ((T.setVm vm').setCell b (arrV (xw_dA (xe_G E) (xw_ay (xw_T σ b))) (xw_L σ b) (fun j => va_rf (if j < n.toNatClampNeg then xw_B σ (xw_T σ a) a j else xw_B σ (xw_T σ b) b j)))).heap.size = H.size := by rw [size_setCell, ← hT]; rfl
    obtain ⟨p1, p2⟩ := xw_cpH hw b1 b2 f1 f3 f2
    obtain ⟨t, q1, q2⟩ := k _ _ p1 ⟨by rw [f3]; exact hS.1, fun q g1 g2 => by
      rw [f2 q (fun e => g2 (by rw [e]; exact p2))]
      exact hS.2.1 q g1 g2, fun q hq => by
      rcases List.mem_append.mp hq with h | h
      · exact hS.2.2 q h
      · obtain ⟨z, -, hz⟩ := List.mem_map.mp h
        rw [← hz]
        exact p2⟩ _ rfl X'
    exact ⟨t, step t q1, q2⟩
  · cases e
end XN
