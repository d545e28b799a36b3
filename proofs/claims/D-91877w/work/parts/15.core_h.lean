set_option maxRecDepth 100000
/-! a boolean method answers the lowest bit of what stands on the stack -/
def xw_oz (v : Int32) : Option Value := some (.int v)
section XO
variable {S α β γ δ : Type} {E : xw_E} {own : String} {cc : ByteArray} {nL lam pc : Nat} {ret : Option FieldType} {lv lv' : List (Nat × Value)} {st st' : List Value} {wr : S → Heap → Prop} {Q : γ → S → Nat → Nat → State → Prop} {K : α → xw_M S γ}
theorem xw_Wz {p : Program} {l : Launch} {e : Env} {R : Room} {s : State} {m : MethodId} {args : Array Value} {below : List Frame} {meth : Method} {c : Code} {H : Heap} {locs : List Loc} {cells slots : Nat} {Qc : Array Value → State → Outcome → State → Prop} {free : Addr → Prop} {v w : Int32} (hexec : p.tables.exec = Jvm.exec) (hb : c.code = cc) (hr : meth.sig.returnType = some .boolean) (hlocks : meth.locks = false) (hv : v &&& 1 = w)
    (hq : ∀ t : State, t.heap = H → s.WarmedH t.vm → Qc args s (.returned (some (.int w))) t) (hf : ∀ q ∈ locs, free q.base)
    {pc : Nat} {ls : Array Slot} (hdg : decode cc pc = .ok (.ireturn, 1)) : W p l e R s m args below meth c H locs cells slots (MQ below Qc args s cells slots free) (F0 m pc ls [.int v]) := by
  intro T hT X
  subst hv
  obtain ⟨fs, hret, hrun, hended, hW, hframe⟩ := X.leave (v := some (.int (v &&& 1))) (fun h => by rw [hr] at h; cases h)
  have hmeth' : T.vm.method? m = some meth := X.method'
  refine ⟨T.setFrames fs, ?_, .returned (some (.int (v &&& 1))), hrun, hended, hq _ hT hW, locs, ⟨⟨_, rfl⟩, hW, hframe⟩, hf⟩
  jvm_step X.here [X.here.top, hexec, hb, hdg, hmeth', hr, narrow]
  (try refine ⟨rfl, ?_⟩); (try refine ⟨rfl, ?_⟩)
  first | (intro acts; rw [hret _ acts rfl rfl rfl]) | rw [hret _ _ rfl rfl rfl]
  exact Steps.refl _
theorem x_zretw (hE : xw_ok E own cc nL (some .boolean) lam) {v w : Int32} (hv : v &&& 1 = w) (hdg : decode cc pc = .ok (.ireturn, 1)) : xw_X E nL wr (xw_Q E wr xw_oi) pc lv [.int v] (xw_rt w) xw_rt :=
  xw_end fun ls H locs cells slots σ hq hf => xw_Wz hE.1 hE.2.1 hE.2.2.2.2.2.2.2.1 hE.2.2.2.2.2.2.1 hv hq hf hdg
/-- a contract out of a walk; its first locals told -/
theorem xw_metL {l : Launch} {G : xw_G} {ρ : α → Option Value} {y : MethodName} {maxL : Nat} {As : List Value} {P : xw_M S α} (lv : List (Nat × Value)) (hy : plainName y.cls = true) (hA : (lg_sl As).length ≤ maxL) (hlv : lv_args 0 As = lv) (h : ∀ E : xw_E, xw_ok E y.cls cc maxL ret lam → xe_l E = l → xe_G E = G → (xe_M E).name = y.name → xw_X E maxL wr (xw_Q E wr ρ) 0 lv [] P xw_rt) : xw_Ct l G wr ρ y cc maxL ret lam As P := by
  subst hlv
  exact xw_met hy hA h
theorem xw_a0 {i : Nat} : lv_args i [] = [] := rfl
theorem xw_a1 {i : Nat} {v : Value} {vs : List Value} (h : v.category = 1) : lv_args i (v :: vs) = (i, v) :: lv_args (i + 1) vs := by
  simp [lv_args, h]
theorem xw_a2 {i : Nat} {v : Int64} {vs : List Value} : lv_args i (.long v :: vs) = (i, .long v) :: lv_args (i + 2) vs := by
  simp [lv_args, Value.category]
theorem xw_l0 : (lg_sl []).length = 0 := rfl
theorem xw_l1 {v : Value} {vs : List Value} (h : v.category = 1) : (lg_sl (v :: vs)).length = 1 + (lg_sl vs).length := by
  simp [lg_sl, h, Nat.add_comm]
theorem xw_l2 {v : Int64} {vs : List Value} : (lg_sl (.long v :: vs)).length = 2 + (lg_sl vs).length := by
  simp [lg_sl, Value.category, Nat.add_comm]
  omega
/-- what a store keeps: the locals at other places -/
theorem xw_f0 {i : Nat} : List.filter (fun q : Nat × Value => !(q.1 == i) && !(q.1 + 1 == i && q.2.category == 2)) [] = [] := rfl
theorem xw_f1 {i j : Nat} {v : Value} {l l' : List (Nat × Value)} (h : j ≠ i) (hc : v.category = 1) (ht : List.filter (fun q : Nat × Value => !(q.1 == i) && !(q.1 + 1 == i && q.2.category == 2)) l = l') : List.filter (fun q : Nat × Value => !(q.1 == i) && !(q.1 + 1 == i && q.2.category == 2)) ((j, v) :: l) = (j, v) :: l' := by
  subst ht
  simp [h, hc]
theorem xw_f2 {i : Nat} {v : Value} {l l' : List (Nat × Value)} (ht : List.filter (fun q : Nat × Value => !(q.1 == i) && !(q.1 + 1 == i && q.2.category == 2)) l = l') : List.filter (fun q : Nat × Value => !(q.1 == i) && !(q.1 + 1 == i && q.2.category == 2)) ((i, v) :: l) = l' := by
  subst ht
  simp
/-- a private method of an abstract class -/
theorem xw_rP {wr : S → Heap → Prop} {ρ : α → Option Value} (hE : xw_ok E own cc nL ret lam) {idx lam' maxL n b : Nat} {C : String} {y : MethodName} {bytes : ByteArray} {rt : Option FieldType} {As : List Value} {P : xw_M S α} (ct : xw_Ct (xe_l E) (xe_G E) wr ρ y bytes maxL rt lam' (va_rf (some b) :: As) P) (hd : xw_dsc y n) (h1 : Cond.methodLink own idx y ∈ lw_all) (h2 : Cond.instanceMethod y ∈ lw_all) (h3 : Cond.selects C y y ∈ xw_np) (h4 : Cond.initialized y.cls ∈ lw_all) (h5 : Cond.code y bytes maxL rt ∈ lw_all) (hn : As.length = n) (hlam : lam' < lam ∧ maxL ≤ 40) {rv : Value} (hrv : rv = va_rf (some b)) (hst : st = As.reverse ++ rv :: st') (hr : (st'.map fun v => v.category).sum ≤ 8) (hdg : decode cc pc = .ok (.invokevirtual idx, 3)) : xw_GoR E nL wr ρ pc C b st st' P := by
  intro ls H locs cells slots σ r σ' k m hP hs hw hb hc hsl
  subst hrv
  subst hst
  have hsel : (Cond.selects C y y).before (xe_a E) (xe_s E) = true := va_Nw.use rfl (hE.2.2.2.2.2.1.2.2.2.2.2.2.2.1 _ h3)
  exact ⟨_, va_runV (b := b) (As := As) ⟨hE.1, hE.2.1, hE.2.2.1, hE.2.2.2.1, hE.2.2.2.2.1⟩ (ct σ r σ' k m hP) ⟨callB_of n hE.2.2.2.2.1 (lw_meth h5) rfl rfl rfl (hE.2.2.2.2.1 _ h4) (hE.2.2.2.2.1 _ h1) hd (xw_room hE hlam.1 hlam.2), hE.2.2.2.2.1 _ h2, hsel⟩ ⟨xw_blind, hb, xw_pre (P := P) hE hw⟩ rfl hn hs rfl (lv_room hr) hdg ⟨hc, hsl⟩⟩
theorem x_ldcw (pc' : Nat) (hE : xw_ok E own cc nL ret lam) {P : xw_M S α} {i : Nat} {v : Int32} (hw : Jvm.Cond.constant own i v ∈ lw_all) (hdg : decode cc pc = .ok (.ldc_w i, 3)) (hp : pc + 3 = pc') (k : xw_X E nL wr Q pc' lv (.int v :: st) P K) : xw_X E nL wr Q pc lv st P K :=
  xw_pure pc' (fun ls H locs cells slots Qs hl kk => by subst hp; exact lv_ldcw hE.1 hE.2.1 hE.2.2.2.1 (hE.2.2.2.2.1 _ hw) hdg (kk ls hl)) k
def xw_max (x y : Int32) : Int32 := if x < y then y else x
def xw_min (x y : Int32) : Int32 := if y < x then y else x
def xw_minL (x y : Int64) : Int64 := if y < x then y else x
theorem x_mmax (pc' : Nat) (hE : xw_ok E own cc nL ret lam) {P : xw_M S α} {idx : Nat} {x y : Int32} (h1 : Cond.methodLink own idx Lib.Math.max.name ∈ lw_all) (h2 : Cond.static Lib.Math.max.name ∈ lw_all) (h3 : Cond.initialized "java/lang/Math" ∈ lw_all) (h4 : Cond.code Lib.Math.max.name Lib.Math.max.code 2 (some .int) ∈ lw_all) (hlam : 1 ≤ lam) (hr : (st.map fun v => v.category).sum ≤ 8) (hdg : decode cc pc = .ok (.invokestatic idx, 3)) (hp : pc + 3 = pc') (kk : xw_X E nL wr Q pc' lv (.int (xw_max x y) :: st) P K) : xw_X E nL wr Q pc lv (.int y :: .int x :: st) P K := by
  intro ls H locs cells slots σ r σ' a b q1 q2 q3 q4 q5 q6
  subst hp
  have h9 := hE.2.2.2.2.2.2.2.2.1
  have h10 := hE.2.2.2.2.2.2.2.2.2
  exact va_mmax hE.1 hE.2.1 (hE.2.2.1.trans q2.1.symm) hE.2.2.2.1 (hE.2.2.2.2.1 _ h1) (hE.2.2.2.2.1 _ h2) (hE.2.2.2.2.1 _ h3) (hE.2.2.2.2.1 _ h4) (by omega) (by omega) (by omega) (by omega) hdg (kk ls H locs cells slots σ r σ' a b q1 q2 q3 q4 q5 q6)
theorem x_mmin (pc' : Nat) (hE : xw_ok E own cc nL ret lam) {P : xw_M S α} {idx : Nat} {x y : Int32} (h1 : Cond.methodLink own idx Lib.Math.min.name ∈ lw_all) (h2 : Cond.static Lib.Math.min.name ∈ lw_all) (h3 : Cond.initialized "java/lang/Math" ∈ lw_all) (h4 : Cond.code Lib.Math.min.name Lib.Math.min.code 2 (some .int) ∈ lw_all) (hlam : 1 ≤ lam) (hr : (st.map fun v => v.category).sum ≤ 8) (hdg : decode cc pc = .ok (.invokestatic idx, 3)) (hp : pc + 3 = pc') (kk : xw_X E nL wr Q pc' lv (.int (xw_min x y) :: st) P K) : xw_X E nL wr Q pc lv (.int y :: .int x :: st) P K := by
  intro ls H locs cells slots σ r σ' a b q1 q2 q3 q4 q5 q6
  subst hp
  have h9 := hE.2.2.2.2.2.2.2.2.1
  have h10 := hE.2.2.2.2.2.2.2.2.2
  exact va_mmin hE.1 hE.2.1 (hE.2.2.1.trans q2.1.symm) hE.2.2.2.1 (hE.2.2.2.2.1 _ h1) (hE.2.2.2.2.1 _ h2) (hE.2.2.2.2.1 _ h3) (hE.2.2.2.2.1 _ h4) (by omega) (by omega) (by omega) (by omega) hdg (kk ls H locs cells slots σ r σ' a b q1 q2 q3 q4 q5 q6)
theorem x_mminL (pc' : Nat) (hE : xw_ok E own cc nL ret lam) {P : xw_M S α} {idx : Nat} {x y : Int64} (h1 : Cond.methodLink own idx Lib.MathLoose.min_long.x ∈ lw_all) (h2 : Cond.static Lib.MathLoose.min_long.x ∈ lw_all) (h3 : Cond.initialized "java/lang/Math" ∈ lw_all) (h4 : Cond.code Lib.MathLoose.min_long.x Lib.MathLoose.min_long.code 4 (some .long) ∈ lw_all) (hlam : 1 ≤ lam) (hr : (st.map fun v => v.category).sum ≤ 8) (hdg : decode cc pc = .ok (.invokestatic idx, 3)) (hp : pc + 3 = pc') (kk : xw_X E nL wr Q pc' lv (.long (xw_minL x y) :: st) P K) : xw_X E nL wr Q pc lv (.long y :: .long x :: st) P K := by
  intro ls H locs cells slots σ r σ' a b q1 q2 q3 q4 q5 q6
  subst hp
  have h9 := hE.2.2.2.2.2.2.2.2.1
  have h10 := hE.2.2.2.2.2.2.2.2.2
  exact va_mmin_long hE.1 hE.2.1 (hE.2.2.1.trans q2.1.symm) hE.2.2.2.1 (hE.2.2.2.2.1 _ h1) (hE.2.2.2.2.1 _ h2) (hE.2.2.2.2.1 _ h3) (hE.2.2.2.2.1 _ h4) (by omega) (by omega) (by omega) (by omega) hdg (kk ls H locs cells slots σ r σ' a b q1 q2 q3 q4 q5 q6)
theorem xw_sm0 : (([] : List Value).map fun v => v.category).sum ≤ 0 := Nat.le_refl _
theorem xw_sm1 {v : Value} {vs : List Value} {k : Nat} (h : v.category = 1) (t : (vs.map fun v => v.category).sum ≤ k) : ((v :: vs).map fun v => v.category).sum ≤ 1 + k := by
  simp only [List.map_cons, List.sum_cons, h]
  omega
theorem xw_sm2 {v : Int64} {vs : List Value} {k : Nat} (t : (vs.map fun v => v.category).sum ≤ k) : ((.long v :: vs).map fun v => v.category).sum ≤ 2 + k := by
  simp only [List.map_cons, List.sum_cons]
  show 2 + _ ≤ 2 + k
  omega
/-- fewer locals -/
theorem x_sub {P : xw_M S α} (lv' : List (Nat × Value)) (ks : List Nat) (h : lv_pick lv ks = lv') (k : xw_X E nL wr Q pc lv' st P K) : xw_X E nL wr Q pc lv st P K := by
  intro ls H locs cells slots σ r σ' a b h1 h2 h3 h4 h5 h6
  exact k ls H locs cells slots σ r σ' a b h1 (lv_sub h2 ks h) h3 h4 h5 h6
end XO
