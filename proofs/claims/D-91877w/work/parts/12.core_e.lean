set_option maxRecDepth 100000
/-! calls and ends -/
def xw_oi (v : Int32) : Option Value := some (.int v)
def xw_ol (v : Int64) : Option Value := some (.long v)
def xw_ov (_ : Unit) : Option Value := none
def xw_or (r : Option Nat) : Option Value := some (va_rf r)
def xw_Qc {S α : Type} (ρ : α → Option Value) (G : xw_G) (wr : S → Heap → Prop) (r : α) (σ' : S) : Array Value → State → Outcome → State → Prop := fun _ st oc t => oc = .returned (ρ r) ∧ wr σ' t.heap ∧ va_F (xw_Fr G) st t
def xw_rm (lam k n : Nat) : Room := { frames := lam, cells := k, slots := n, locals := 60 * lam }
def xw_Pc {S : Type} (G : xw_G) (wr : S → Heap → Prop) (σ : S) (As : List Value) : Array Value → State → Prop := va_Pc As (fun U => wr σ U.heap ∧ xw_K G U)
/-- a method's contract: whatever its program answers, it returns -/
def xw_Ct {S α : Type} (l : Launch) (G : xw_G) (wr : S → Heap → Prop) (ρ : α → Option Value) (y : MethodName) (code : ByteArray) (maxL : Nat) (ret : Option FieldType) (lam : Nat) (As : List Value) (P : xw_M S α) : Prop :=
  ∀ (σ : S) (r : α) (σ' : S) (k n : Nat), P σ = some (r, σ', k, n) → Met l y (ws_ y code maxL ret) (xw_rm lam k n) (xw_Pc G wr σ As) (xw_Qc ρ G wr r σ') k n (xw_Fr G)
theorem xw_blind {S : Type} {G : xw_G} {wr : S → Heap → Prop} {σ : S} {As : List Value} : FrameBlind (xw_Pc G wr σ As) := fun a U g mk q => ⟨q.1, q.2.1, xw_K.same (s := U) (U := U.calling g mk a) rfl q.2.2⟩
section XK
variable {S α β γ δ : Type} {E : xw_E} {own : String} {cc : ByteArray} {nL lam pc : Nat} {ret : Option FieldType} {lv lv' : List (Nat × Value)} {st st' : List Value} {wr : S → Heap → Prop} {Q : γ → S → Nat → Nat → State → Prop} {K : α → xw_M S γ} {ρ : α → Option Value}
/-- a call that runs -/
def xw_Go (E : xw_E) (nL : Nat) (wr : S → Heap → Prop) (ρ : α → Option Value) (pc : Nat) (st st' : List Value) (P : xw_M S α) : Prop :=
  ∀ (ls : Array Slot) (H : Heap) (locs : List Loc) (cells slots : Nat) (σ : S) (r : α) (σ' : S) (k n : Nat), P σ = some (r, σ', k, n) → ls.size = nL → wr σ H → cells + k ≤ (xe_R E).cells → slots + n ≤ (xe_R E).slots →
    ∃ arr : Array Value, va_Run (xe_p E) (xe_l E) (xe_e E) (xe_R E) (xe_s E) (xe_m E) (xe_a E) (xe_b E) (xe_M E) (xe_c E) H locs cells slots k n (F0 (xe_m E) pc ls st) st' (xw_Qc ρ (xe_G E) wr r σ' arr) (xw_Fr (xe_G E))
/-- the same, for a receiver at b of the class C -/
def xw_GoR (E : xw_E) (nL : Nat) (wr : S → Heap → Prop) (ρ : α → Option Value) (pc : Nat) (C : String) (b : Nat) (st st' : List Value) (P : xw_M S α) : Prop :=
  ∀ (ls : Array Slot) (H : Heap) (locs : List Loc) (cells slots : Nat) (σ : S) (r : α) (σ' : S) (k n : Nat), P σ = some (r, σ', k, n) → ls.size = nL → wr σ H → (∃ cellB : Cell, H[b]? = some cellB ∧ cellB.vm.isStatics = false ∧ (xe_s E).vm.findClass C = some cellB.cls) → cells + k ≤ (xe_R E).cells → slots + n ≤ (xe_R E).slots →
    ∃ arr : Array Value, va_Run (xe_p E) (xe_l E) (xe_e E) (xe_R E) (xe_s E) (xe_m E) (xe_a E) (xe_b E) (xe_M E) (xe_c E) H locs cells slots k n (F0 (xe_m E) pc ls st) st' (xw_Qc ρ (xe_G E) wr r σ' arr) (xw_Fr (xe_G E))
theorem x_call {P : xw_M S β} {F : β → xw_M S α} {ρ : β → Option Value} (go : xw_Go E nL wr ρ pc st st' P) (kk : ∀ r, xw_X E nL wr Q (pc + 3) lv ((ρ r).toList ++ st') (F r) K) : xw_X E nL wr Q pc lv st (xw_bd P F) K := by
  intro ls H locs cells slots σ r σ' x y q1 q2 q3 q4 q5 q6
  rw [xw_bd_bd] at q1
  obtain ⟨v, σ1, k1, n1, k2, n2, e1, e2, rfl, rfl⟩ := xw_bd_inv q1
  obtain ⟨arr, hr⟩ := go ls H locs cells slots σ v σ1 k1 n1 e1 q2.1 q3 (by omega) (by omega)
  have h9 := fun (H1 : Heap) (locs1 : List Loc) w1 s1 => kk v ls H1 locs1 (cells + k1) (slots + n1) σ1 r σ' k2 n2 e2 q2 w1 s1 (by omega) (by omega)
  rw [← Nat.add_assoc, ← Nat.add_assoc]
  intro T hT X
  obtain ⟨w, st₀, t, T', L, h0, X', hL, t1, t2, ⟨hv, hw', hF⟩, stp⟩ := hr T hT X
  cases hv
  obtain ⟨f1, f2⟩ := hF
  rw [h0] at f1 f2
  obtain ⟨z, a1, b1⟩ := h9 T'.heap (locs ++ L) (by rw [t1]; exact hw') ⟨Nat.le_trans q4.1 (by rw [t1]; exact f1), fun q h1 h2 => by rw [t1, f2 q (Nat.lt_of_lt_of_le h1 q4.1) h2]; exact q4.2.1 q h1 h2, fun q hq => by
    rcases List.mem_append.mp hq with h | h
    · exact q4.2.2 q h
    · exact hL q h⟩ T' rfl X'
  exact ⟨z, stp z a1, b1⟩
theorem x_calli (pc' : Nat) {P : xw_M S Int32} {F : Int32 → xw_M S α} (go : xw_Go E nL wr xw_oi pc st st' P) (hp : pc + 3 = pc') (kk : ∀ r, xw_X E nL wr Q pc' lv (.int r :: st') (F r) K) : xw_X E nL wr Q pc lv st (xw_bd P F) K := by
  subst hp; exact x_call go kk
theorem x_calll (pc' : Nat) {P : xw_M S Int64} {F : Int64 → xw_M S α} (go : xw_Go E nL wr xw_ol pc st st' P) (hp : pc + 3 = pc') (kk : ∀ r, xw_X E nL wr Q pc' lv (.long r :: st') (F r) K) : xw_X E nL wr Q pc lv st (xw_bd P F) K := by
  subst hp; exact x_call go kk
theorem x_callr (pc' : Nat) {P : xw_M S (Option Nat)} {F : Option Nat → xw_M S α} (go : xw_Go E nL wr xw_or pc st st' P) (hp : pc + 3 = pc') (kk : ∀ r, xw_X E nL wr Q pc' lv (va_rf r :: st') (F r) K) : xw_X E nL wr Q pc lv st (xw_bd P F) K := by
  subst hp; exact x_call go kk
theorem x_callv (pc' : Nat) {P : xw_M S Unit} {F : Unit → xw_M S α} (go : xw_Go E nL wr xw_ov pc st st' P) (hp : pc + 3 = pc') (kk : xw_X E nL wr Q pc' lv st' (F ()) K) : xw_X E nL wr Q pc lv st (xw_bd P F) K := by
  subst hp; exact x_call go fun _ => kk
/-- the room of a callee of a lower level -/
theorem xw_room (hE : xw_ok E own cc nL ret lam) {lam' maxL k n : Nat} (h1 : lam' < lam) (h2 : maxL ≤ 40) : (xw_rm lam' k n).frames + 1 ≤ (xe_R E).frames ∧ 8 + (maxL + 11) + (xw_rm lam' k n).locals ≤ (xe_R E).locals := by
  have h3 := hE.2.2.2.2.2.2.2.2.1
  have h4 := hE.2.2.2.2.2.2.2.2.2
  constructor
  · show lam' + 1 ≤ _; omega
  · show 8 + (maxL + 11) + 60 * lam' ≤ _; omega
theorem xw_pre {P : xw_M S α} {H : Heap} {σ : S} {As : List Value} (hE : xw_ok E own cc nL ret lam) (hw : wr σ H) : ∀ U : State, U.heap = H → (xe_s E).WarmedH U.vm → xw_Pc (xe_G E) wr σ As As.toArray U := fun U hU hW => ⟨rfl, by rw [hU]; exact hw, xw_K.warm hW hE.2.2.2.2.2.1⟩
abbrev xw_dsc (y : MethodName) (n : Nat) : Prop := y.cls ≠ "java/lang/invoke/MethodHandle" ∧ y.cls ≠ "java/lang/invoke/VarHandle" ∧ (parseMethodDescriptor y.desc).map (fun d => d.parameters.length) = some n
theorem xw_goS (hE : xw_ok E own cc nL ret lam) {idx lam' maxL n : Nat} {y : MethodName} {bytes : ByteArray} {rt : Option FieldType} {As : List Value} {P : xw_M S α} (ct : xw_Ct (xe_l E) (xe_G E) wr ρ y bytes maxL rt lam' As P) (hd : xw_dsc y n) (h1 : Cond.methodLink own idx y ∈ lw_all) (h2 : Cond.static y ∈ lw_all) (h3 : Cond.initialized y.cls ∈ lw_all) (h4 : Cond.code y bytes maxL rt ∈ lw_all) (hn : As.length = n) (hlam : lam' < lam ∧ maxL ≤ 40) (hst : st = As.reverse ++ st') (hr : (st'.map fun v => v.category).sum ≤ 8) (hdg : decode cc pc = .ok (.invokestatic idx, 3)) : xw_Go E nL wr ρ pc st st' P := by
  intro ls H locs cells slots σ r σ' k m hP hs hw hc hsl
  subst hst
  exact ⟨_, va_runS ⟨hE.1, hE.2.1, hE.2.2.1, hE.2.2.2.1, hE.2.2.2.2.1⟩ (ct σ r σ' k m hP) (va_cwS n hE.2.2.2.2.1 (lw_S h1 h2 h3 h4) rfl rfl rfl hd (xw_room hE hlam.1 hlam.2)) ⟨xw_blind, xw_pre (P := P) hE hw⟩ rfl hn hs rfl (lv_room hr) hdg ⟨hc, hsl⟩⟩
theorem xw_goSN (hE : xw_ok E own cc nL ret lam) {idx lam' maxL n : Nat} {y : MethodName} {host : String} {bytes : ByteArray} {rt : Option FieldType} {As : List Value} {P : xw_M S α} (ct : xw_Ct (xe_l E) (xe_G E) wr ρ y bytes maxL rt lam' As P) (hd : xw_dsc y n) (h1 : Cond.methodLinkNest own idx y host ∈ xw_nl) (h2 : Cond.static y ∈ lw_all) (h3 : Cond.initialized y.cls ∈ lw_all) (h4 : Cond.code y bytes maxL rt ∈ lw_all) (hn : As.length = n) (hlam : lam' < lam ∧ maxL ≤ 40) (hst : st = As.reverse ++ st') (hr : (st'.map fun v => v.category).sum ≤ 8) (hdg : decode cc pc = .ok (.invokestatic idx, 3)) : xw_Go E nL wr ρ pc st st' P := by
  intro ls H locs cells slots σ r σ' k m hP hs hw hc hsl
  subst hst
  exact ⟨_, va_runSN ⟨hE.1, hE.2.1, hE.2.2.1, hE.2.2.2.1, hE.2.2.2.2.1⟩ (ct σ r σ' k m hP) ⟨va_cnB n hE.2.2.2.2.1 (lw_meth h4) rfl rfl rfl (hE.2.2.2.2.2.1.2.2.1 _ h1) (hE.2.2.2.2.1 _ h3) hd (xw_room hE hlam.1 hlam.2), hE.2.2.2.2.1 _ h2, trivial⟩ ⟨xw_blind, xw_pre (P := P) hE hw⟩ rfl hn hs rfl (lv_room hr) hdg ⟨hc, hsl⟩⟩
theorem xw_goI (hE : xw_ok E own cc nL ret lam) {idx lam' maxL n b : Nat} {y : MethodName} {bytes : ByteArray} {As : List Value} {P : xw_M S α} (ct : xw_Ct (xe_l E) (xe_G E) wr ρ y bytes maxL none lam' (va_rf (some b) :: As) P) (hd : xw_dsc y n) (h1 : Cond.methodLink own idx y ∈ lw_all) (h2 : Cond.instanceMethod y ∈ lw_all) (h3 : Cond.initialized y.cls ∈ lw_all) (h4 : Cond.code y bytes maxL none ∈ lw_all) (hy : y.name = "<init>") (hn : As.length = n) (hlam : lam' < lam ∧ maxL ≤ 40) (hst : st = As.reverse ++ va_rf (some b) :: st') (hr : (st'.map fun v => v.category).sum ≤ 8) (hdg : decode cc pc = .ok (.invokespecial idx, 3)) : xw_Go E nL wr ρ pc st st' P := by
  intro ls H locs cells slots σ r σ' k m hP hs hw hc hsl
  subst hst
  exact ⟨_, va_runI (b := b) (As := As) ⟨hE.1, hE.2.1, hE.2.2.1, hE.2.2.2.1, hE.2.2.2.2.1⟩ (ct σ r σ' k m hP) (cwI n hE.2.2.2.2.1 (lw_meth h4) rfl rfl rfl (hE.2.2.2.2.1 _ h3) (hE.2.2.2.2.1 _ h1) (hE.2.2.2.2.1 _ h2) hy hd (xw_room hE hlam.1 hlam.2)) ⟨xw_blind, xw_pre (P := P) hE hw⟩ rfl hn hs rfl (lv_room hr) hdg ⟨hc, hsl⟩⟩
theorem xw_goIN (hE : xw_ok E own cc nL ret lam) {idx lam' maxL n b : Nat} {y : MethodName} {host : String} {bytes : ByteArray} {As : List Value} {P : xw_M S α} (ct : xw_Ct (xe_l E) (xe_G E) wr ρ y bytes maxL none lam' (va_rf (some b) :: As) P) (hd : xw_dsc y n) (h1 : Cond.methodLinkNest own idx y host ∈ xw_nl) (h2 : Cond.instanceMethod y ∈ lw_all) (h3 : Cond.initialized y.cls ∈ lw_all) (h4 : Cond.code y bytes maxL none ∈ lw_all) (hy : y.name = "<init>") (hn : As.length = n) (hlam : lam' < lam ∧ maxL ≤ 40) (hst : st = As.reverse ++ va_rf (some b) :: st') (hr : (st'.map fun v => v.category).sum ≤ 8) (hdg : decode cc pc = .ok (.invokespecial idx, 3)) : xw_Go E nL wr ρ pc st st' P := by
  intro ls H locs cells slots σ r σ' k m hP hs hw hc hsl
  subst hst
  exact ⟨_, va_runIN (b := b) (As := As) ⟨hE.1, hE.2.1, hE.2.2.1, hE.2.2.2.1, hE.2.2.2.2.1⟩ (ct σ r σ' k m hP) ⟨va_cnB n hE.2.2.2.2.1 (lw_meth h4) rfl rfl rfl (hE.2.2.2.2.2.1.2.2.1 _ h1) (hE.2.2.2.2.1 _ h3) hd (xw_room hE hlam.1 hlam.2), hy, hE.2.2.2.2.1 _ h2⟩ ⟨xw_blind, xw_pre (P := P) hE hw⟩ rfl hn hs rfl (lv_room hr) hdg ⟨hc, hsl⟩⟩
/-! calls through an object -/
theorem xw_rV (hE : xw_ok E own cc nL ret lam) {idx lam' maxL n b : Nat} {C : String} {y : MethodName} {bytes : ByteArray} {rt : Option FieldType} {As : List Value} {P : xw_M S α} (ct : xw_Ct (xe_l E) (xe_G E) wr ρ y bytes maxL rt lam' (va_rf (some b) :: As) P) (hd : xw_dsc y n) (hC : y.cls = C) (h1 : Cond.methodLink own idx y ∈ lw_all) (h2 : Cond.instanceMethod y ∈ lw_all) (h3 : Cond.selects C y y ∈ lw_all) (h4 : Cond.initialized C ∈ lw_all) (h5 : Cond.code y bytes maxL rt ∈ lw_all) (hn : As.length = n) (hlam : lam' < lam ∧ maxL ≤ 40) {rv : Value} (hrv : rv = va_rf (some b)) (hst : st = As.reverse ++ rv :: st') (hr : (st'.map fun v => v.category).sum ≤ 8) (hdg : decode cc pc = .ok (.invokevirtual idx, 3)) : xw_GoR E nL wr ρ pc C b st st' P := by
  intro ls H locs cells slots σ r σ' k m hP hs hw hb hc hsl
  subst hrv
  subst hst
  exact ⟨_, va_runV (b := b) (As := As) ⟨hE.1, hE.2.1, hE.2.2.1, hE.2.2.2.1, hE.2.2.2.2.1⟩ (ct σ r σ' k m hP) (cwV n hE.2.2.2.2.1 (lw_V h1 h2 h3 h4 h5) rfl rfl rfl ⟨hC, hd⟩ (xw_room hE hlam.1 hlam.2)) ⟨xw_blind, hb, xw_pre (P := P) hE hw⟩ rfl hn hs rfl (lv_room hr) hdg ⟨hc, hsl⟩⟩
theorem xw_rN (hE : xw_ok E own cc nL ret lam) {idx lam' maxL n b : Nat} {C : String} {y : MethodName} {host : String} {bytes : ByteArray} {rt : Option FieldType} {As : List Value} {P : xw_M S α} (ct : xw_Ct (xe_l E) (xe_G E) wr ρ y bytes maxL rt lam' (va_rf (some b) :: As) P) (hd : xw_dsc y n) (h1 : Cond.methodLinkNest own idx y host ∈ xw_nl) (h2 : Cond.instanceMethod y ∈ lw_all) (h3 : Cond.selects C y y ∈ lw_all) (h4 : Cond.initialized y.cls ∈ lw_all) (h5 : Cond.code y bytes maxL rt ∈ lw_all) (hn : As.length = n) (hlam : lam' < lam ∧ maxL ≤ 40) {rv : Value} (hrv : rv = va_rf (some b)) (hst : st = As.reverse ++ rv :: st') (hr : (st'.map fun v => v.category).sum ≤ 8) (hdg : decode cc pc = .ok (.invokevirtual idx, 3)) : xw_GoR E nL wr ρ pc C b st st' P := by
  intro ls H locs cells slots σ r σ' k m hP hs hw hb hc hsl
  subst hrv
  subst hst
  exact ⟨_, va_runVN (b := b) (As := As) ⟨hE.1, hE.2.1, hE.2.2.1, hE.2.2.2.1, hE.2.2.2.2.1⟩ (ct σ r σ' k m hP) ⟨va_cnB n hE.2.2.2.2.1 (lw_meth h5) rfl rfl rfl (hE.2.2.2.2.2.1.2.2.1 _ h1) (hE.2.2.2.2.1 _ h4) hd (xw_room hE hlam.1 hlam.2), hE.2.2.2.2.1 _ h2, hE.2.2.2.2.1 _ h3⟩ ⟨xw_blind, hb, xw_pre (P := P) hE hw⟩ rfl hn hs rfl (lv_room hr) hdg ⟨hc, hsl⟩⟩
theorem xw_gU {own C owner : String} {idx : Nat} {x y : MethodName} {bytes : ByteArray} {maxL : Nat} {rt : Option FieldType} (h1 : Cond.methodLink own idx x ∈ lw_all) (h2 : Cond.sameMethod x.cls owner x.name x.desc ∈ lw_all) (h3 : Cond.selects C x y ∈ lw_all) (h4 : Cond.instanceMethod y ∈ lw_all) (h5 : Cond.initialized y.cls ∈ lw_all) (h6 : Cond.code y bytes maxL rt ∈ lw_all) : GoodIn lw_all (va_wsU own idx C owner x y (ws_ y bytes maxL rt)) := by
  refine lw_app ?_ (lw_meth h6)
  intro w hw
  simp only [List.mem_cons, List.not_mem_nil, or_false] at hw
  rcases hw with e | e | e | e | e
  · rw [e]; exact h1
  · rw [e]; exact h2
  · rw [e]; exact h3
  · rw [e]; exact h4
  · rw [e]; exact h5
theorem xw_gO {own C owner : String} {idx : Nat} {x y : MethodName} {bytes : ByteArray} {maxL : Nat} {rt : Option FieldType} (h1 : Cond.methodLink own idx x ∈ lw_all) (h2 : Cond.sameMethod x.cls owner x.name x.desc ∈ lw_all) (h0 : Cond.instanceMethod ⟨owner, x.name, x.desc⟩ ∈ lw_all) (h3 : Cond.selects C x y ∈ lw_all) (h4 : Cond.instanceMethod y ∈ lw_all) (h5 : Cond.initialized y.cls ∈ lw_all) (h6 : Cond.code y bytes maxL rt ∈ lw_all) : GoodIn lw_all (va_wsO own idx C owner x y (ws_ y bytes maxL rt)) := by
  refine lw_app ?_ (lw_meth h6)
  intro w hw
  simp only [List.mem_cons, List.not_mem_nil, or_false] at hw
  rcases hw with e | e | e | e | e | e
  · rw [e]; exact h1
  · rw [e]; exact h2
  · rw [e]; exact h0
  · rw [e]; exact h3
  · rw [e]; exact h4
  · rw [e]; exact h5
theorem xw_rU (hE : xw_ok E own cc nL ret lam) {idx lam' maxL n b : Nat} {C owner : String} {x y : MethodName} {bytes : ByteArray} {rt : Option FieldType} {As : List Value} {P : xw_M S α} (ct : xw_Ct (xe_l E) (xe_G E) wr ρ y bytes maxL rt lam' (va_rf (some b) :: As) P) (hd : xw_dsc ⟨owner, x.name, x.desc⟩ n)
    (hy : (y = ⟨owner, x.name, x.desc⟩ ∨ ∃ b0 m0 r0, Cond.instanceMethod ⟨owner, x.name, x.desc⟩ ∈ lw_all ∧ Cond.code ⟨owner, x.name, x.desc⟩ b0 m0 r0 ∈ lw_all) ∨ Cond.declares ⟨owner, x.name, x.desc⟩ ∈ xw_nl)
    (h1 : Cond.methodLink own idx x ∈ lw_all) (h2 : Cond.sameMethod x.cls owner x.name x.desc ∈ lw_all) (h3 : Cond.selects C x y ∈ lw_all) (h4 : Cond.instanceMethod y ∈ lw_all) (h5 : Cond.initialized y.cls ∈ lw_all) (h6 : Cond.code y bytes maxL rt ∈ lw_all) (hn : As.length = n) (hlam : lam' < lam ∧ maxL ≤ 40) {rv : Value} (hrv : rv = va_rf (some b)) (hst : st = As.reverse ++ rv :: st') (hr : (st'.map fun v => v.category).sum ≤ 8) (hdg : decode cc pc = .ok (.invokevirtual idx, 3)) : xw_GoR E nL wr ρ pc C b st st' P := by
  intro ls H locs cells slots σ r σ' k m hP hs hw hb hc hsl
  subst hrv
  subst hst
  have cw : va_CU (xe_R E) (xe_s E) (xe_a E) own C owner idx x y bytes maxL rt (ws_ y bytes maxL rt) (xw_rm lam' k m) k m n := by
    rcases hy with (hy | ⟨b0, m0, r0, h0, hc0⟩) | hz
    · exact va_cwU n hE.2.2.2.2.1 (xw_gU h1 h2 h3 h4 h5 h6) rfl rfl rfl hy hd (xw_room hE hlam.1 hlam.2)
    · exact va_cwO n hE.2.2.2.2.1 (xw_gO h1 h2 h0 h3 h4 h5 h6) rfl rfl rfl hc0 hd (xw_room hE hlam.1 hlam.2)
    · exact va_cwA n hE.2.2.2.2.1 (xw_gU h1 h2 h3 h4 h5 h6) rfl rfl rfl (hE.2.2.2.2.2.1.2.2.1 _ hz) hd (xw_room hE hlam.1 hlam.2)
  exact ⟨_, va_runU (b := b) (As := As) ⟨hE.1, hE.2.1, hE.2.2.1, hE.2.2.2.1, hE.2.2.2.2.1⟩ (ct σ r σ' k m hP) cw ⟨xw_blind, hb, xw_pre (P := P) hE hw⟩ rfl hn hs rfl (lv_room hr) hdg ⟨hc, hsl⟩⟩
theorem xw_isC_cell {G : xw_G} {σ : xw_St} {μ : xw_Mu} {H : Heap} {U : State} (hw : xw_HH G σ μ H) (hK : xw_K G U) {c q : Nat} (hc : c < 19) (h : xw_isC c (xw_T σ q) = true) : ∃ cellB : Cell, H[q]? = some cellB ∧ cellB.vm.isStatics = false ∧ U.vm.findClass (xw_cn c) = some cellB.cls := by
  unfold xw_isC at h
  rcases Bool.or_eq_true_iff.mp h with h | h
  · have h := eq_of_beq h
    have hci : xw_ci (xw_T σ q) = c := by
      rw [h]
      unfold xw_ci
      rw [if_neg (by omega)]
      rfl
    obtain ⟨cell, q1, q2, q3, -⟩ := (hw.2.2.2.2.2.1 q (by omega)).2.1 (by omega)
    refine ⟨cell, q1, by rw [q3]; rfl, ?_⟩
    rw [q2, hci]
    exact (hK.1 c hc).2.1
  · obtain ⟨a, b⟩ := Bool.and_eq_true_iff.mp h
    have a := eq_of_beq a
    have b := eq_of_beq b
    obtain ⟨cell, q1, q2, q3, -⟩ := (hw.2.2.2.2.2.1 q (by omega)).2.2.2.1 a
    refine ⟨cell, q1, q3, ?_⟩
    rw [q2, b]
    exact (hK.1 13 (by decide)).2.1
end XK
section XL
variable {α β γ δ : Type} {E : xw_E} {own : String} {cc : ByteArray} {nL lam pc : Nat} {ret : Option FieldType} {lv lv' : List (Nat × Value)} {st st' : List Value} {ρ : α → Option Value} {μ : xw_Mu}
theorem xw_goV (hE : xw_ok E own cc nL ret lam) {c : Nat} {r : Option Nat} {P : Nat → xw_M xw_St α} (hc : c < 19) (h : ∀ q, r = some q → xw_GoR E nL (xw_hc (xe_G E) μ) ρ pc (xw_cn c) q st st' (P q)) : xw_Go E nL (xw_hc (xe_G E) μ) ρ pc st st' (xw_cv c r P) := by
  intro ls H locs cells slots σ v σ' k m hP hs hw hcl hsl
  cases r with
  | none => cases hP
  | some q =>
    simp only [xw_cv] at hP
    split at hP
    · rename_i hq
      exact h q rfl ls H locs cells slots σ v σ' k m hP hs hw (xw_isC_cell hw hE.2.2.2.2.2.1 hc hq) hcl hsl
    · cases hP
theorem xw_goD (hE : xw_ok E own cc nL ret lam) {r : Option Nat} {ps : List (Nat × (Nat → xw_M xw_St α))} (h : ∀ q, r = some q → ∀ e ∈ ps, e.1 < 19 ∧ xw_GoR E nL (xw_hc (xe_G E) μ) ρ pc (xw_cn e.1) q st st' (e.2 q)) : xw_Go E nL (xw_hc (xe_G E) μ) ρ pc st st' (xw_dv r ps) := by
  intro ls H locs cells slots σ v σ' k m hP hs hw hcl hsl
  cases r with
  | none => cases hP
  | some q =>
    simp only [xw_dv] at hP
    split at hP
    · cases hP
    · rename_i e he
      have h1 := List.find?_some he
      obtain ⟨h2, h3⟩ := h q rfl e (List.mem_of_find?_eq_some he)
      exact h3 ls H locs cells slots σ v σ' k m hP hs hw (xw_isC_cell hw hE.2.2.2.2.2.1 h2 h1) hcl hsl
/-- a method of the reference, on the reference -/
theorem xw_goM (hE : xw_ok E own cc nL ret lam) {σ0 : xw_St} (hac : xw_ac (xe_G E) = true) {P : xw_M xw_Mu α} (h : xw_GoR E nL (xw_hr (xe_G E) σ0) ρ pc (xw_cn 2) (xw_hm (xe_G E)) st st' P) : xw_Go E nL (xw_hr (xe_G E) σ0) ρ pc st st' P := by
  intro ls H locs cells slots σ v σ' k m hP hs hw hcl hsl
  obtain ⟨cell, q1, q2, q3, -⟩ := (hw.2.2.2.2.2.2 hac).1.2.2.2
  exact h ls H locs cells slots σ v σ' k m hP hs hw ⟨cell, q1, by rw [q3]; rfl, by rw [q2]; exact (hE.2.2.2.2.2.1.1 2 (by decide)).2.1⟩ hcl hsl
end XL
section XM
variable {S α β γ δ : Type} {E : xw_E} {own : String} {cc : ByteArray} {nL lam pc : Nat} {ret : Option FieldType} {lv lv' : List (Nat × Value)} {st st' : List Value} {wr : S → Heap → Prop} {Q : γ → S → Nat → Nat → State → Prop} {K : α → xw_M S γ}
/-- a method's end -/
def xw_Q (E : xw_E) (wr : S → Heap → Prop) (ρ : α → Option Value) : α → S → Nat → Nat → State → Prop := fun r σ' N M => MQ (xe_b E) (xw_Qc ρ (xe_G E) wr r σ') (xe_a E) (xe_s E) N M (xw_Fr (xe_G E))
theorem xw_end {ρ : α → Option Value} {v : α} (h : ∀ (ls : Array Slot) (H : Heap) (locs : List Loc) (cells slots : Nat) (σ : S), (∀ t : State, t.heap = H → (xe_s E).WarmedH t.vm → xw_Qc ρ (xe_G E) wr v σ (xe_a E) (xe_s E) (.returned (ρ v)) t) → (∀ q ∈ locs, xw_Fr (xe_G E) q.base) → xw_W E H locs cells slots (MQ (xe_b E) (xw_Qc ρ (xe_G E) wr v σ) (xe_a E) (xe_s E) cells slots (xw_Fr (xe_G E))) (F0 (xe_m E) pc ls st)) : xw_X E nL wr (xw_Q E wr ρ) pc lv st (xw_rt v) xw_rt := by
  intro ls H locs cells slots σ r σ' k n h1 h2 h3 h4 h5 h6
  rw [xw_bd_rt] at h1
  cases h1
  exact h ls H locs cells slots σ (fun t ht hW => ⟨rfl, by rw [ht]; exact h3, h4.F ht⟩) h4.2.2
theorem x_iret (hE : xw_ok E own cc nL (some .int) lam) {v : Int32} (hdg : decode cc pc = .ok (.ireturn, 1)) : xw_X E nL wr (xw_Q E wr xw_oi) pc lv [.int v] (xw_rt v) xw_rt :=
  xw_end fun ls H locs cells slots σ hq hf => W.iret hE.1 hE.2.1 hE.2.2.2.2.2.2.2.1 hq hf hdg hE.2.2.2.2.2.2.1
theorem x_lret (hE : xw_ok E own cc nL (some .long) lam) {v : Int64} (hdg : decode cc pc = .ok (.lreturn, 1)) : xw_X E nL wr (xw_Q E wr xw_ol) pc lv [.long v] (xw_rt v) xw_rt :=
  xw_end fun ls H locs cells slots σ hq hf => W.lret hE.1 hE.2.1 hE.2.2.2.2.2.2.2.1 hq hf hdg hE.2.2.2.2.2.2.1
theorem x_vret (hE : xw_ok E own cc nL none lam) (hdg : decode cc pc = .ok (.return_, 1)) : xw_X E nL wr (xw_Q E wr xw_ov) pc lv [] (xw_rt ()) xw_rt :=
  xw_end fun ls H locs cells slots σ hq hf => W.vret hE.1 hE.2.1 hE.2.2.2.2.2.2.2.1 hq hf hdg hE.2.2.2.2.2.2.1
theorem x_aret {rt : FieldType} (hE : xw_ok E own cc nL (some rt) lam) (hrt : xw_isR rt = true) {v : Option Nat} (hdg : decode cc pc = .ok (.areturn, 1)) : xw_X E nL wr (xw_Q E wr xw_or) pc lv [va_rf v] (xw_rt v) xw_rt :=
  xw_end fun ls H locs cells slots σ hq hf => W.aret hE.1 hE.2.1 hE.2.2.2.2.2.2.2.1 (by cases rt <;> first | exact Or.inl ⟨_, rfl⟩ | exact Or.inr ⟨_, rfl⟩ | cases hrt) (by cases v <;> first | exact Or.inl rfl | exact Or.inr ⟨_, rfl⟩) hq hf hdg hE.2.2.2.2.2.2.1
/-- a boolean method's end -/
theorem x_zret (hE : xw_ok E own cc nL (some .boolean) lam) {v : Int32} (hdg : decode cc pc = .ok (.ireturn, 1)) : xw_X E nL wr (xw_Q E wr xw_oi) pc lv [.int v] (xw_rz v) xw_rt := by
  intro ls H locs cells slots σ r σ' k n h1 h2 h3 h4 h5 h6
  rw [xw_rt_bd] at h1
  simp only [xw_rz] at h1
  split at h1
  · rename_i hv
    cases h1
    exact W.zret hE.1 hE.2.1 hE.2.2.2.2.2.2.2.1 (by rcases hv with h | h <;> rw [h] <;> rfl) (fun t ht hW => ⟨rfl, by rw [ht]; exact h3, h4.F ht⟩) h4.2.2 hdg hE.2.2.2.2.2.2.1
  · cases h1
theorem x_div (pc' : Nat) (hE : xw_ok E own cc nL ret lam) {x y : Int32} {F : Int32 → xw_M S α} (hdg : decode cc pc = .ok (.idiv, 1)) (hp : pc + 1 = pc') (kk : ∀ v, xw_X E nL wr Q pc' lv (.int v :: st) (F v) K) : xw_X E nL wr Q pc lv (.int y :: .int x :: st) (xw_bd (xw_div x y) F) K := by
  subst hp
  refine xw_rd (pc + 1) (fun v => .int v :: st) (fun ls H locs cells slots σ v σ1 k1 n1 e hl hw hS => ?_) kk
  simp only [xw_div] at e
  split at e
  · cases e
  · rename_i hy
    cases e
    exact ⟨rfl, rfl, rfl, fun Qs k => lv_idiv hE.1 hE.2.1 hdg hy k⟩
theorem x_rem (pc' : Nat) (hE : xw_ok E own cc nL ret lam) {x y : Int32} {F : Int32 → xw_M S α} (hdg : decode cc pc = .ok (.irem, 1)) (hp : pc + 1 = pc') (kk : ∀ v, xw_X E nL wr Q pc' lv (.int v :: st) (F v) K) : xw_X E nL wr Q pc lv (.int y :: .int x :: st) (xw_bd (xw_rem x y) F) K := by
  subst hp
  refine xw_rd (pc + 1) (fun v => .int v :: st) (fun ls H locs cells slots σ v σ1 k1 n1 e hl hw hS => ?_) kk
  simp only [xw_rem] at e
  split at e
  · cases e
  · rename_i hy
    cases e
    exact ⟨rfl, rfl, rfl, fun Qs k => lv_irem hE.1 hE.2.1 hdg hy k⟩
theorem x_objInit (pc' : Nat) (hE : xw_ok E own cc nL ret lam) {idx q : Nat} {P : xw_M S α} (h1 : Cond.methodLink own idx Lib.objectInit ∈ lw_all) (h2 : Cond.instanceMethod Lib.objectInit ∈ lw_all) (h3 : Cond.code Lib.objectInit ⟨#[0xb1]⟩ 1 none ∈ lw_all) (hlam : 1 ≤ lam) (hdg : decode cc pc = .ok (.invokespecial idx, 3)) (hp : pc + 3 = pc') (hst : st = []) (kk : xw_X E nL wr Q pc' lv st P K) : xw_X E nL wr Q pc lv (va_rf (some q) :: st) P K := by
  have h9 := hE.2.2.2.2.2.2.2.2.1
  have h10 := hE.2.2.2.2.2.2.2.2.2
  refine xw_pure pc' (fun ls H locs cells slots Qs hl k => ?_) kk
  subst hp
  subst hst
  exact W.objInit hE.1 hE.2.1 hE.2.2.2.1 (hE.2.2.2.2.1 _ h1) (hE.2.2.2.2.1 _ h2) (hE.2.2.2.2.1 _ h3) rfl (by rw [hE.2.2.1]; exact hl.1) rfl hdg (by omega) (by show 2 * 0 + 0 + 12 ≤ _; omega) (k ls hl)
/-- a contract out of a walk -/
theorem xw_met {l : Launch} {G : xw_G} {ρ : α → Option Value} {y : MethodName} {maxL : Nat} {As : List Value} {P : xw_M S α} (hy : plainName y.cls = true) (hA : (lg_sl As).length ≤ maxL) (h : ∀ E : xw_E, xw_ok E y.cls cc maxL ret lam → xe_l E = l → xe_G E = G → (xe_M E).name = y.name → xw_X E maxL wr (xw_Q E wr ρ) 0 (lv_args 0 As) [] P xw_rt) : xw_Ct l G wr ρ y cc maxL ret lam As P := by
  intro σ r σ' k n hP
  refine Met.ofW (cc := cc) (maxL := maxL) (ret := ret) hy rfl ?_
  intro p e s m args below meth c s₁ B hml hv
  obtain ⟨hargs, hw, hK⟩ := hv
  have hts := atoms_spec (ws := ws_ y cc maxL ret) B.pre
  have h1 := h (p, l, e, (headSpec (ws_ y cc maxL ret) (xw_rm lam k n)).room, s, m, args, below, meth, c, G) ⟨B.exec, B.bytes, hml, findClass_of_methodNamed B.named, fun w h => hts w (List.mem_cons_of_mem _ h), hK, B.notSynchronized, B.returns, Nat.le_refl _, Nat.le_refl _⟩ rfl rfl (name_of_methodNamed B.named B.method).1
  have hl := lv_entry As (n := maxL) hA
  subst hargs
  rw [lg_entry_eq]
  have h2 := h1 _ s.heap [] 0 0 σ r σ' k n (by rw [xw_rt_bd]; exact hP) hl hw va_S.rf (by show 0 + k ≤ k; omega) (by show 0 + n ≤ n; omega)
  rw [Nat.zero_add, Nat.zero_add] at h2
  exact h2
end XM
