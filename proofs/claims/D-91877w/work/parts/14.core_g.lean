set_option maxRecDepth 100000
/-! rows over the reference's own object and arrays -/
theorem xw_mst {G : xw_G} {σ : xw_St} {μ μ' : xw_Mu} {H H1 : Heap} (hw : xw_HH G σ μ H) {q : Nat} (h0 : xw_T σ q = 0) (hb : (xw_hb G).size ≤ q) (e2 : H1.size = H.size) (e3 : ∀ x, x ≠ q → H1[x]? = H[x]?) (hm : xw_MH G σ μ' H1) : xw_HH G σ μ' H1 := by
  obtain ⟨w1, w2, w3, w4, w5, w6, w7⟩ := hw
  refine ⟨by rw [w1, e2], by rw [e2]; exact w2, fun a ha => by rw [e3 a (by omega)]; exact w3 a ha, w4, w5, fun q' hq' => ?_, fun _ => hm⟩
  obtain ⟨b1, b2⟩ := w6 q' hq'
  exact ⟨b1, b2.kept rfl rfl (fun _ => rfl) (fun _ _ => rfl) (e3 q' (fun z => by rw [z] at hq'; omega))⟩
theorem ym_ty2 {j : Nat} (h : ym_ty j = 2) : j = 24 := by
  have h1 : j < 63 := by
    refine Nat.not_le.mp fun h2 => ?_
    unfold ym_ty at h
    rw [List.getD_eq_getElem?_getD, List.getElem?_eq_none (show ym_tyl.length ≤ j from h2)] at h
    cases h
  have : ∀ j, j < 63 → ym_ty j = 2 → j = 24 := by decide +kernel
  exact this j h1 h
section XY
variable {α β γ δ : Type} {E : xw_E} {own : String} {cc : ByteArray} {nL lam pc : Nat} {ret : Option FieldType} {lv lv' : List (Nat × Value)} {st st' : List Value} {σ : xw_St} {Q : γ → xw_Mu → Nat → Nat → State → Prop} {K : α → xw_M xw_Mu γ}
theorem ym_get (hE : xw_ok E own cc nL ret lam) (hac : xw_ac (xe_G E) = true) {μ : xw_Mu} {H : Heap} (hw : xw_HH (xe_G E) σ μ H) {k f idx : Nat} (hk : k < 63) (hf : xw_fid 2 k = f) (hlk : Cond.fieldLink own idx (xw_fd f).1 (xw_fd f).2.1 (xw_fd f).2.2.1 ∈ lw_all) (hdg : decode cc pc = .ok (.getfield idx, 3)) {locs : List Loc} {cells slots : Nat} {Qs : State → Prop} {ls : Array Slot}
    (kk : xw_W E H locs cells slots Qs (F0 (xe_m E) (pc + 3) ls (xw_mv (xe_G E) μ k :: st))) : xw_W E H locs cells slots Qs (F0 (xe_m E) pc ls (.ref (xw_hm (xe_G E)) :: st)) := by
  obtain ⟨cell, q1, q2, q3, q4⟩ := (hw.2.2.2.2.2.2 hac).1.2.2.2
  obtain ⟨hS, hfc, kC, hkC, hkind⟩ := hE.2.2.2.2.2.1.1 2 (by decide)
  have hk2 : k < xw_nf 2 := hk
  obtain ⟨cf, kf, fi, fd, hi, hsl⟩ := hS k hk2
  have hst := (u_facts hfc hkC (u_lays hE.2.2.2.2.1 (xw_inA 2 (by decide)) hk2) hi).1
  have hT : xw_Tc 2 k = xw_fd f := by rw [← hf]; rfl
  rw [hT] at hi
  exact W.getf hE.1 hE.2.1 hE.2.2.2.1 (hE.2.2.2.2.1 _ hlk) hi hst q1 (by rw [q3]; exact fun h => by cases h) (by rw [hsl, q4 k hk]) rfl rfl hdg kk
theorem y_g (pc' : Nat) (hE : xw_ok E own cc nL ret lam) (hac : xw_ac (xe_G E) = true) {k f idx : Nat} {F : Int32 → xw_M xw_Mu α} (hk : k < 63) (hf : xw_fid 2 k = f) (ht : Nat.ble (ym_ty k) 1 = true) (hlk : Cond.fieldLink own idx (xw_fd f).1 (xw_fd f).2.1 (xw_fd f).2.2.1 ∈ lw_all) (hdg : decode cc pc = .ok (.getfield idx, 3)) (hp : pc + 3 = pc') (kk : ∀ v, xw_X E nL (xw_hr (xe_G E) σ) Q pc' lv (.int v :: st) (F v) K) : xw_X E nL (xw_hr (xe_G E) σ) Q pc lv (va_rf (some (xw_hm (xe_G E))) :: st) (ym_g k F) K := by
  subst hp
  intro ls H locs cells slots μ r μ' a n h1 h2 h3 h4 h5 h6
  refine ym_get hE hac h3 hk hf hlk hdg ?_
  have h7 : xw_mv (xe_G E) μ k = .int (μ.1 k) := by
    have := Nat.le_of_ble_eq_true ht
    have h8 : ym_ty k = 0 ∨ ym_ty k = 1 := by omega
    rcases h8 with h8 | h8 <;> simp only [xw_mv, h8]
  rw [h7]
  exact kk _ ls H locs cells slots μ r μ' a n h1 h2 h3 h4 h5 h6
theorem y_gJ (pc' : Nat) (hE : xw_ok E own cc nL ret lam) (hac : xw_ac (xe_G E) = true) {k f idx : Nat} {F : Int64 → xw_M xw_Mu α} (hk : k < 63) (hf : xw_fid 2 k = f) (ht : ym_ty k = 2) (hlk : Cond.fieldLink own idx (xw_fd f).1 (xw_fd f).2.1 (xw_fd f).2.2.1 ∈ lw_all) (hdg : decode cc pc = .ok (.getfield idx, 3)) (hp : pc + 3 = pc') (kk : ∀ v, xw_X E nL (xw_hr (xe_G E) σ) Q pc' lv (.long v :: st) (F v) K) : xw_X E nL (xw_hr (xe_G E) σ) Q pc lv (va_rf (some (xw_hm (xe_G E))) :: st) (ym_gJ F) K := by
  subst hp
  intro ls H locs cells slots μ r μ' a n h1 h2 h3 h4 h5 h6
  refine ym_get hE hac h3 hk hf hlk hdg ?_
  have h7 : xw_mv (xe_G E) μ k = .long μ.2.1 := by simp only [xw_mv, ht]
  rw [h7]
  exact kk _ ls H locs cells slots μ r μ' a n h1 h2 h3 h4 h5 h6
/-- an array of the reference comes to the stack -/
theorem y_ga (pc' : Nat) (hE : xw_ok E own cc nL ret lam) (hac : xw_ac (xe_G E) = true) {k f idx : Nat} {P : xw_M xw_Mu α} (hk : k < 63) (hf : xw_fid 2 k = f) (ht : ym_ty k = 3) (hlk : Cond.fieldLink own idx (xw_fd f).1 (xw_fd f).2.1 (xw_fd f).2.2.1 ∈ lw_all) (hdg : decode cc pc = .ok (.getfield idx, 3)) (hp : pc + 3 = pc') (kk : xw_X E nL (xw_hr (xe_G E) σ) Q pc' lv (va_rf (some (xw_am (xe_G E) k)) :: st) P K) : xw_X E nL (xw_hr (xe_G E) σ) Q pc lv (va_rf (some (xw_hm (xe_G E))) :: st) P K := by
  subst hp
  intro ls H locs cells slots μ r μ' a n h1 h2 h3 h4 h5 h6
  refine ym_get hE hac h3 hk hf hlk hdg ?_
  have h7 : xw_mv (xe_G E) μ k = va_rf (some (xw_am (xe_G E) k)) := by simp only [xw_mv, ht]; rfl
  rw [h7]
  exact kk ls H locs cells slots μ r μ' a n h1 h2 h3 h4 h5 h6
theorem ym_put (hE : xw_ok E own cc nL ret lam) (hac : xw_ac (xe_G E) = true) {μ μ' : xw_Mu} {H : Heap} {locs : List Loc} (hw : xw_HH (xe_G E) σ μ H) (hS0 : va_S (xw_Fr (xe_G E)) (xe_s E).heap H locs) {k f idx : Nat} {v : Value} (hk : k < 63) (hf : xw_fid 2 k = f) (hv : xw_mv (xe_G E) μ' k = v) (ho : ∀ j, j ≠ k → xw_mv (xe_G E) μ' j = xw_mv (xe_G E) μ j) (ha : μ'.2.2 = μ.2.2) (hfin : (xw_fd f).2.2.2 = false) (hlk : Cond.fieldLink own idx (xw_fd f).1 (xw_fd f).2.1 (xw_fd f).2.2.1 ∈ lw_all)
    (hn : narrow (xw_fT f) v = v) (hfit : fits (xw_fT f) v = true) (hdg : decode cc pc = .ok (.putfield idx, 3)) {cells slots : Nat} {Qs : State → Prop} {ls : Array Slot}
    (kk : ∀ (H1 : Heap) (locs1 : List Loc), xw_HH (xe_G E) σ μ' H1 → va_S (xw_Fr (xe_G E)) (xe_s E).heap H1 locs1 → xw_W E H1 locs1 cells slots Qs (F0 (xe_m E) (pc + 3) ls st)) : xw_W E H locs cells slots Qs (F0 (xe_m E) pc ls (v :: .ref (xw_hm (xe_G E)) :: st)) := by
  obtain ⟨⟨m1, m2, m3, cell, q1, q2, q3, q4⟩, mb, mc⟩ := hw.2.2.2.2.2.2 hac
  obtain ⟨hS, hfc, kC, hkC, hkind⟩ := hE.2.2.2.2.2.1.1 2 (by decide)
  have hk2 : k < xw_nf 2 := hk
  obtain ⟨cf, kf, fi, fd, hi, hsl⟩ := hS k hk2
  have hst := (u_facts hfc hkC (u_lays hE.2.2.2.2.1 (xw_inA 2 (by decide)) hk2) hi).1
  have hT : xw_Tc 2 k = xw_fd f := by rw [← hf]; rfl
  have hap : ∀ x y, x < 63 → y < 63 → x ≠ y → ((xw_D (xe_G E)).2 2) x ≠ ((xw_D (xe_G E)).2 2) y := by
    intro x y hx hy hne
    have hx : x < xw_nf 2 := hx
    have hy : y < xw_nf 2 := hy
    obtain ⟨_, _, _, fa, hia, ea⟩ := hS x hx
    obtain ⟨_, _, _, fb, hib, eb⟩ := hS y hy
    rw [← ea, ← eb]
    refine u_apart (u_lays hE.2.2.2.2.1 (xw_inA 2 (by decide)) hx) (u_lays hE.2.2.2.2.1 (xw_inA 2 (by decide)) hy) hia hib ?_
    rw [(State.fieldFound?_type hia (xw_tyA 2 (by decide) x hx)).1, (State.fieldFound?_type hib (xw_tyA 2 (by decide) y hy)).1]
    exact xw_nmA 2 (by decide) x hx y hy hne
  have hlay := hE.2.2.2.2.1 _ (xw_inA 2 (by decide) _ (u_in_lay hk2))
  unfold u_lay at hlay
  rw [hT, if_neg (by rw [hfin]; decide)] at hlay
  rw [hT] at hi
  have h6 := u_store hfc hkC hkind hlay hi (by have h7 := xw_tyA 2 (by decide) k hk2; rw [hT, hf] at h7; exact h7) hn hfit
  refine W.putK hE.1 hE.2.1 (f := fd) ⟨hE.2.2.2.1, hE.2.2.2.2.1 _ hlk, ⟨_, _, _, hi⟩, hst⟩ (by rw [q2]; exact h6) q1 q3 (by rw [hsl]; exact k2_hasslot (q4 k hk)) rfl rfl hdg fun H1 e1 e2 e3 => ?_
  refine kk H1 _ (xw_mst hw m3 m2 e2 e3 ⟨⟨by omega, m2, m3, ?_⟩, fun j hj => ?_, mc⟩) (hS0.put e2 e3 m2)
  · rw [hsl] at e1
    refine ⟨_, e1, q2, q3, fun j hj => ?_⟩
    rw [t_set q4 hap hk v j hj]
    congr 1
    unfold updV
    by_cases hjk : j = k
    · rw [if_pos hjk, hjk, hv]
    · rw [if_neg hjk, ho j hjk]
  · obtain ⟨b1, b2, b3, b4, b5⟩ := mb j hj
    refine ⟨by omega, b2, b3, b4, ?_⟩
    rw [e3 _ b4, b5, ha]
theorem y_p (pc' : Nat) (hE : xw_ok E own cc nL ret lam) (hac : xw_ac (xe_G E) = true) {k f idx : Nat} {v : Int32} {F : Unit → xw_M xw_Mu α} (hk : k < 63) (hf : xw_fid 2 k = f) (ht : (ym_ty k = 0 ∧ xw_fT f = .int) ∨ (ym_ty k = 1 ∧ xw_fT f = .boolean)) (hfin : (xw_fd f).2.2.2 = false) (hlk : Cond.fieldLink own idx (xw_fd f).1 (xw_fd f).2.1 (xw_fd f).2.2.1 ∈ lw_all) (hdg : decode cc pc = .ok (.putfield idx, 3)) (hp : pc + 3 = pc') (kk : xw_X E nL (xw_hr (xe_G E) σ) Q pc' lv st (F ()) K) : xw_X E nL (xw_hr (xe_G E) σ) Q pc lv (.int v :: va_rf (some (xw_hm (xe_G E))) :: st) (xw_bd (ym_p k v) F) K := by
  subst hp
  refine xw_wt (pc + 3) (fun ls H locs cells slots μ μ1 k1 n1 e hl hw hS => ?_) kk
  simp only [ym_p] at e
  split at e
  · rename_i hq
    cases e
    have ht2 : ym_ty k = 0 ∨ ym_ty k = 1 := by rcases ht with h | h; exact Or.inl h.1; exact Or.inr h.1
    refine ⟨rfl, rfl, fun Qs kq => ym_put (μ' := (xw_u1 μ.1 k v, μ.2.1, μ.2.2)) hE hac hw hS hk hf ?_ (fun j hj => ?_) rfl hfin hlk ?_ ?_ hdg kq⟩
    · have : xw_u1 μ.1 k v k = v := if_pos rfl
      rcases ht2 with h | h <;> simp only [xw_mv, h, this]
    · have : xw_u1 μ.1 k v j = μ.1 j := if_neg hj
      unfold xw_mv
      simp only [this]
    · rcases ht with h | h
      · rw [h.2]; rfl
      · rw [h.2]
        rcases hq with h2 | h2
        · rw [h.1] at h2; cases h2
        · rcases h2.2 with h3 | h3 <;> rw [h3] <;> rfl
    · rcases ht with h | h
      · rw [h.2]; rfl
      · rw [h.2]
        rcases hq with h2 | h2
        · rw [h.1] at h2; cases h2
        · rcases h2.2 with h3 | h3 <;> rw [h3] <;> rfl
  · cases e
theorem y_pJ (pc' : Nat) (hE : xw_ok E own cc nL ret lam) (hac : xw_ac (xe_G E) = true) {k f idx : Nat} {v : Int64} {F : Unit → xw_M xw_Mu α} (hk : k = 24) (hf : xw_fid 2 k = f) (ht : xw_fT f = .long) (hfin : (xw_fd f).2.2.2 = false) (hlk : Cond.fieldLink own idx (xw_fd f).1 (xw_fd f).2.1 (xw_fd f).2.2.1 ∈ lw_all) (hdg : decode cc pc = .ok (.putfield idx, 3)) (hp : pc + 3 = pc') (kk : xw_X E nL (xw_hr (xe_G E) σ) Q pc' lv st (F ()) K) : xw_X E nL (xw_hr (xe_G E) σ) Q pc lv (.long v :: va_rf (some (xw_hm (xe_G E))) :: st) (xw_bd (ym_pJ v) F) K := by
  subst hp
  refine xw_wt (pc + 3) (fun ls H locs cells slots μ μ1 k1 n1 e hl hw hS => ?_) kk
  cases e
  refine ⟨rfl, rfl, fun Qs kq => ym_put (μ' := (μ.1, v, μ.2.2)) hE hac hw hS (by omega) hf ?_ (fun j hj => ?_) rfl hfin hlk (by rw [ht]; rfl) (by rw [ht]; rfl) hdg kq⟩
  · subst hk
    have : ym_ty 24 = 2 := by decide
    simp only [xw_mv, this]
  · have : ym_ty j ≠ 2 := fun h => hj (by rw [hk]; exact ym_ty2 h)
    unfold xw_mv
    split <;> first | rfl | contradiction
theorem ym_arr {G : xw_G} {μ : xw_Mu} {H : Heap} (hw : xw_HH G σ μ H) (hac : xw_ac G = true) {j : Nat} (h : ym_ty j = 3) : xw_am G j < H.size ∧ (xw_hb G).size ≤ xw_am G j ∧ xw_T σ (xw_am G j) = 0 ∧ xw_am G j ≠ xw_hm G ∧ H[xw_am G j]? = some (arrV (xw_dA G (ym_ay j)) (ym_ln j) (fun i => .int (μ.2.2 j i))) := (hw.2.2.2.2.2.2 hac).2.1 j (by omega)
theorem y_ld (pc' : Nat) (hE : xw_ok E own cc nL ret lam) (hac : xw_ac (xe_G E) = true) {j : Nat} {i : Int32} {F : Int32 → xw_M xw_Mu α} (ht : ym_ty j = 3 ∧ ym_ay j = 0) (hdg : decode cc pc = .ok (.iaload, 1)) (hp : pc + 1 = pc') (kk : ∀ v, xw_X E nL (xw_hr (xe_G E) σ) Q pc' lv (.int v :: st) (F v) K) : xw_X E nL (xw_hr (xe_G E) σ) Q pc lv (.int i :: va_rf (some (xw_am (xe_G E) j)) :: st) (xw_bd (ym_ld j i) F) K := by
  subst hp
  refine xw_rd (pc + 1) (fun v => .int v :: st) (fun ls H locs cells slots μ v μ1 k1 n1 e hl hw hS => ?_) kk
  simp only [ym_ld] at e
  split at e
  · rename_i hi
    cases e
    refine ⟨rfl, rfl, rfl, fun Qs k => ?_⟩
    exact W.iald hE.1 hE.2.1 (ym_arr hw hac ht.1).2.2.2.2 (by rw [ht.2]; exact xw_oA hE.2.2.2.2.2.1 (by decide) _ _) (fun z => by cases z) (xw_ixo hi) (by rw [arrV_read _ _ hi.2]) rfl rfl hdg k
  · cases e
theorem y_ldB (pc' : Nat) (hE : xw_ok E own cc nL ret lam) (hac : xw_ac (xe_G E) = true) {j : Nat} {i : Int32} {F : Int32 → xw_M xw_Mu α} (ht : ym_ty j = 3 ∧ (ym_ay j = 1 ∨ ym_ay j = 2)) (hdg : decode cc pc = .ok (.baload, 1)) (hp : pc + 1 = pc') (kk : ∀ v, xw_X E nL (xw_hr (xe_G E) σ) Q pc' lv (.int v :: st) (F v) K) : xw_X E nL (xw_hr (xe_G E) σ) Q pc lv (.int i :: va_rf (some (xw_am (xe_G E) j)) :: st) (xw_bd (ym_ld j i) F) K := by
  subst hp
  refine xw_rd (pc + 1) (fun v => .int v :: st) (fun ls H locs cells slots μ v μ1 k1 n1 e hl hw hS => ?_) kk
  simp only [ym_ld] at e
  split at e
  · rename_i hi
    cases e
    refine ⟨rfl, rfl, rfl, fun Qs k => ?_⟩
    rcases ht.2 with h | h
    · exact W.zald hE.1 hE.2.1 (ym_arr hw hac ht.1).2.2.2.2 (by rw [h]; exact xw_oA hE.2.2.2.2.2.1 (by decide) _ _) (fun z => by cases z) (xw_ixo hi) (by rw [arrV_read _ _ hi.2]) rfl rfl hdg k
    · exact W.bald hE.1 hE.2.1 (ym_arr hw hac ht.1).2.2.2.2 (by rw [h]; exact xw_oA hE.2.2.2.2.2.1 (by decide) _ _) (fun z => by cases z) (xw_ixo hi) (by rw [arrV_read _ _ hi.2]) rfl rfl hdg k
  · cases e
theorem ym_ast {G : xw_G} {μ : xw_Mu} {H H1 : Heap} {j i : Nat} {v : Int32} (hw : xw_HH G σ μ H) (hac : xw_ac G = true) (h : ym_ty j = 3) (e1 : H1[xw_am G j]? = some ((arrV (xw_dA G (ym_ay j)) (ym_ln j) (fun i => Value.int (μ.2.2 j i))).setSlot i (.int v))) (e2 : H1.size = H.size) (e3 : ∀ x, x ≠ xw_am G j → H1[x]? = H[x]?) : xw_HH G σ (μ.1, μ.2.1, xw_u2 μ.2.2 j i v) H1 ∧ xw_Fr G (xw_am G j) := by
  obtain ⟨a1, a2, a3, a4, a5⟩ := ym_arr hw hac h
  obtain ⟨⟨m1, m2, m3, m4⟩, mb, mc⟩ := hw.2.2.2.2.2.2 hac
  refine ⟨xw_mst hw a3 a2 e2 e3 ⟨⟨by omega, m2, m3, m4.kept (e3 _ (Ne.symm a4))⟩, fun j' hj' => ?_, mc⟩, a2⟩
  obtain ⟨b1, b2, b3, b4, b5⟩ := mb j' hj'
  refine ⟨by omega, b2, b3, b4, ?_⟩
  by_cases hjj : j' = j
  · subst hjj
    rw [e1, arrV_store]
    congr 2
    funext i'
    show updV (fun i => Value.int (μ.2.2 j' i)) i (.int v) i' = .int (xw_u2 μ.2.2 j' i v j' i')
    unfold updV
    by_cases hi : i' = i
    · rw [if_pos hi, hi, xw_u2_eq]
    · rw [if_neg hi, xw_u2_ne _ _ _ _ (fun z => hi z.2)]
  · rw [e3 _ (fun z => hjj (mc j' j hj' (by omega) z)), b5]
    congr 2
    funext i'
    show Value.int (μ.2.2 j' i') = .int (xw_u2 μ.2.2 j i v j' i')
    rw [xw_u2_ne _ _ _ _ (fun z => hjj z.1)]
theorem y_st (pc' : Nat) (hE : xw_ok E own cc nL ret lam) (hac : xw_ac (xe_G E) = true) {j : Nat} {i v : Int32} {F : Unit → xw_M xw_Mu α} (ht : ym_ty j = 3 ∧ ym_ay j = 0) (hdg : decode cc pc = .ok (.iastore, 1)) (hp : pc + 1 = pc') (kk : xw_X E nL (xw_hr (xe_G E) σ) Q pc' lv st (F ()) K) : xw_X E nL (xw_hr (xe_G E) σ) Q pc lv (.int v :: .int i :: va_rf (some (xw_am (xe_G E) j)) :: st) (xw_bd (ym_st j i v) F) K := by
  subst hp
  refine xw_wt (pc + 1) (fun ls H locs cells slots μ μ1 k1 n1 e hl hw hS => ?_) kk
  simp only [ym_st] at e
  split at e
  · rename_i hi
    cases e
    refine ⟨rfl, rfl, fun Qs k => ?_⟩
    refine W.iast hE.1 hE.2.1 (ym_arr hw hac ht.1).2.2.2.2 (by rw [ht.2]; exact xw_oA hE.2.2.2.2.2.1 (by decide) _ _) (fun z => by cases z) (xw_ixo hi) rfl rfl hdg fun H1 e1 e2 e3 => ?_
    obtain ⟨a1, a2⟩ := ym_ast hw hac ht.1 e1 e2 e3
    exact k H1 _ a1 (hS.put e2 e3 a2)
  · cases e
theorem y_stB (pc' : Nat) (hE : xw_ok E own cc nL ret lam) (hac : xw_ac (xe_G E) = true) {j : Nat} {i v : Int32} {F : Unit → xw_M xw_Mu α} (ht : ym_ty j = 3 ∧ ym_ay j = 2) (hdg : decode cc pc = .ok (.bastore, 1)) (hp : pc + 1 = pc') (kk : xw_X E nL (xw_hr (xe_G E) σ) Q pc' lv st (F ()) K) : xw_X E nL (xw_hr (xe_G E) σ) Q pc lv (.int v :: .int i :: va_rf (some (xw_am (xe_G E) j)) :: st) (xw_bd (ym_stB j i v) F) K := by
  subst hp
  refine xw_wt (pc + 1) (fun ls H locs cells slots μ μ1 k1 n1 e hl hw hS => ?_) kk
  simp only [ym_stB] at e
  split at e
  · rename_i hi
    cases e
    refine ⟨rfl, rfl, fun Qs k => ?_⟩
    refine W.bast hE.1 hE.2.1 (ym_arr hw hac ht.1).2.2.2.2 (by rw [ht.2]; exact xw_oA hE.2.2.2.2.2.1 (by decide) _ _) (fun z => by cases z) (xw_ixo hi) rfl rfl hdg fun H1 e1 e2 e3 => ?_
    obtain ⟨a1, a2⟩ := ym_ast (v := v.toInt8.toInt32) hw hac ht.1 e1 e2 e3
    exact k H1 _ a1 (hS.put e2 e3 a2)
  · cases e
theorem y_stZ (pc' : Nat) (hE : xw_ok E own cc nL ret lam) (hac : xw_ac (xe_G E) = true) {j : Nat} {i v : Int32} {F : Unit → xw_M xw_Mu α} (ht : ym_ty j = 3 ∧ ym_ay j = 1) (hdg : decode cc pc = .ok (.bastore, 1)) (hp : pc + 1 = pc') (kk : xw_X E nL (xw_hr (xe_G E) σ) Q pc' lv st (F ()) K) : xw_X E nL (xw_hr (xe_G E) σ) Q pc lv (.int v :: .int i :: va_rf (some (xw_am (xe_G E) j)) :: st) (xw_bd (ym_stZ j i v) F) K := by
  subst hp
  refine xw_wt (pc + 1) (fun ls H locs cells slots μ μ1 k1 n1 e hl hw hS => ?_) kk
  simp only [ym_stZ] at e
  split at e
  · rename_i hi
    cases e
    refine ⟨rfl, rfl, fun Qs k => ?_⟩
    refine W.zast hE.1 hE.2.1 (ym_arr hw hac ht.1).2.2.2.2 (by rw [ht.2]; exact xw_oA hE.2.2.2.2.2.1 (by decide) _ _) (fun z => by cases z) (xw_ixo hi.1) rfl rfl hdg fun H1 e1 e2 e3 => ?_
    have hn : narrow .boolean (.int v) = .int v := by rcases hi.2 with h | h <;> rw [h] <;> rfl
    rw [hn] at e1
    obtain ⟨a1, a2⟩ := ym_ast (v := v) hw hac ht.1 e1 e2 e3
    exact k H1 _ a1 (hS.put e2 e3 a2)
  · cases e
end XY
