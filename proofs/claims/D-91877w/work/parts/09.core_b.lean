/-! rows that read and write the abstract heap -/
set_option maxRecDepth 100000
def xw_gI (f : Nat) (r : Option Nat) : xw_M xw_St Int32 := fun σ => match r with
  | none => none
  | some q => if xw_hf f (xw_T σ q) = true then some (xw_I σ f q, σ, 0, 0) else none
def xw_gJ (f : Nat) (r : Option Nat) : xw_M xw_St Int64 := fun σ => match r with
  | none => none
  | some q => if xw_hf f (xw_T σ q) = true then some (xw_J σ f q, σ, 0, 0) else none
def xw_gR (f : Nat) (r : Option Nat) : xw_M xw_St (Option Nat) := fun σ => match r with
  | none => none
  | some q => if xw_hf f (xw_T σ q) = true then some (xw_R σ f q, σ, 0, 0) else none
def xw_pI (f : Nat) (r : Option Nat) (v : Int32) : xw_M xw_St Unit := fun σ => match r with
  | none => none
  | some q => if xw_hf f (xw_T σ q) = true ∧ xw_T σ q ≠ 32 then some ((), xw_sI σ f q v, 0, 0) else none
def xw_pZ (f : Nat) (r : Option Nat) (v : Int32) : xw_M xw_St Unit := fun σ => match r with
  | none => none
  | some q => if (xw_hf f (xw_T σ q) = true ∧ xw_T σ q ≠ 32) ∧ (v = 0 ∨ v = 1) then some ((), xw_sI σ f q v, 0, 0) else none
def xw_pJ (f : Nat) (r : Option Nat) (v : Int64) : xw_M xw_St Unit := fun σ => match r with
  | none => none
  | some q => if xw_hf f (xw_T σ q) = true ∧ xw_T σ q ≠ 32 then some ((), xw_sJ σ f q v, 0, 0) else none
def xw_pR (f : Nat) (r : Option Nat) (v : Option Nat) : xw_M xw_St Unit := fun σ => match r with
  | none => none
  | some q => if xw_hf f (xw_T σ q) = true ∧ xw_T σ q ≠ 32 then some ((), xw_sR σ f q v, 0, 0) else none
/-- an index within -/
abbrev xw_ix (i : Int32) (n : Nat) : Prop := ¬ i < 0 ∧ i.toNatClampNeg < n
def xw_ldI (r : Option Nat) (i : Int32) : xw_M xw_St Int32 := fun σ => match r with
  | none => none
  | some q => if 64 ≤ xw_T σ q ∧ xw_ay (xw_T σ q) = 0 ∧ xw_ix i (xw_L σ q) then some (xw_A σ (xw_T σ q) q i.toNatClampNeg, σ, 0, 0) else none
/-- of bytes or booleans -/
def xw_ldB (r : Option Nat) (i : Int32) : xw_M xw_St Int32 := fun σ => match r with
  | none => none
  | some q => if 64 ≤ xw_T σ q ∧ (xw_ay (xw_T σ q) = 1 ∨ xw_ay (xw_T σ q) = 2) ∧ xw_ix i (xw_L σ q) then some (xw_A σ (xw_T σ q) q i.toNatClampNeg, σ, 0, 0) else none
def xw_ldJ (r : Option Nat) (i : Int32) : xw_M xw_St Int64 := fun σ => match r with
  | none => none
  | some q => if 64 ≤ xw_T σ q ∧ xw_ay (xw_T σ q) = 3 ∧ xw_ix i (xw_L σ q) then some (xw_kc (xw_T σ q) i.toNatClampNeg, σ, 0, 0) else none
def xw_ldR (r : Option Nat) (i : Int32) : xw_M xw_St (Option Nat) := fun σ => match r with
  | none => none
  | some q => if 64 ≤ xw_T σ q ∧ (4 ≤ xw_ay (xw_T σ q) ∧ xw_ay (xw_T σ q) < 9) ∧ xw_ix i (xw_L σ q) then some (xw_B σ (xw_T σ q) q i.toNatClampNeg, σ, 0, 0) else none
def xw_stI (r : Option Nat) (i v : Int32) : xw_M xw_St Unit := fun σ => match r with
  | none => none
  | some q => if 64 ≤ xw_T σ q ∧ xw_ay (xw_T σ q) = 0 ∧ xw_ix i (xw_L σ q) then some ((), xw_sA σ (xw_T σ q) q i.toNatClampNeg v, 0, 0) else none
def xw_stB (r : Option Nat) (i v : Int32) : xw_M xw_St Unit := fun σ => match r with
  | none => none
  | some q => if 64 ≤ xw_T σ q ∧ xw_ay (xw_T σ q) = 2 ∧ xw_ix i (xw_L σ q) then some ((), xw_sA σ (xw_T σ q) q i.toNatClampNeg v.toInt8.toInt32, 0, 0) else none
def xw_stZ (r : Option Nat) (i v : Int32) : xw_M xw_St Unit := fun σ => match r with
  | none => none
  | some q => if (64 ≤ xw_T σ q ∧ xw_ay (xw_T σ q) = 1 ∧ xw_ix i (xw_L σ q)) ∧ (v = 0 ∨ v = 1) then some ((), xw_sA σ (xw_T σ q) q i.toNatClampNeg v, 0, 0) else none
/-- which objects an array of references may hold: its elements' kind, the object's tag -/
def xw_as (j t : Nat) : Bool := match j with
  | 4 => Nat.ble 6 t && Nat.ble t 13
  | 5 => t == 5
  | 6 => t == 17
  | 7 => t == 2
  | 8 => t == 19
  | _ => false
def xw_asR (σ : xw_St) (j : Nat) (v : Option Nat) : Bool := match v with
  | none => true
  | some y => xw_as j (xw_T σ y)
def xw_stR (r : Option Nat) (i : Int32) (v : Option Nat) : xw_M xw_St Unit := fun σ => match r with
  | none => none
  | some q => if (64 ≤ xw_T σ q ∧ (4 ≤ xw_ay (xw_T σ q) ∧ xw_ay (xw_T σ q) < 9) ∧ xw_ix i (xw_L σ q)) ∧ xw_asR σ (xw_ay (xw_T σ q)) v = true then some ((), xw_sB σ (xw_T σ q) q i.toNatClampNeg v, 0, 0) else none
def xw_len (r : Option Nat) : xw_M xw_St Int32 := fun σ => match r with
  | none => none
  | some q => if 64 ≤ xw_T σ q ∧ xw_ay (xw_T σ q) < 9 then some (Int32.ofNat (xw_L σ q), σ, 0, 0) else none
def xw_new (c : Nat) : xw_M xw_St Nat := fun σ => some (xw_N σ, xw_nw σ (c + 1) 0, 1, xw_nf c)
def xw_nwa (t : Nat) (n : Int32) : xw_M xw_St Nat := fun σ => if ¬ n < 0 ∧ n.toNatClampNeg ≤ 60000 then some (xw_N σ, xw_nw σ t n.toNatClampNeg, 1, n.toNatClampNeg) else none
def xw_gs (j : Nat) : xw_M xw_St (Option Nat) := fun σ => some (some (xw_C σ j), σ, 0, 0)
/-- a call's receiver, of a class -/
def xw_cv {α : Type} (c : Nat) (r : Option Nat) (P : Nat → xw_M xw_St α) : xw_M xw_St α := fun σ => match r with
  | none => none
  | some q => if xw_isC c (xw_T σ q) = true then P q σ else none
/-- a receiver of one of some classes -/
def xw_dv {α : Type} (r : Option Nat) (ps : List (Nat × (Nat → xw_M xw_St α))) : xw_M xw_St α := fun σ => match r with
  | none => none
  | some q => match ps.find? (fun e => xw_isC e.1 (xw_T σ q)) with
    | none => none
    | some e => e.2 q σ
/-- what a boolean method answers -/
def xw_rz {S : Type} (v : Int32) : xw_M S Int32 := fun σ => if v = 0 ∨ v = 1 then some (v, σ, 0, 0) else none
def xw_div {S : Type} (x y : Int32) : xw_M S Int32 := fun σ => if y = 0 then none else some (x / y, σ, 0, 0)
def xw_rem {S : Type} (x y : Int32) : xw_M S Int32 := fun σ => if y = 0 then none else some (x - x / y * y, σ, 0, 0)
/-! the reference's own -/
def ym_g {α : Type} (k : Nat) (f : Int32 → xw_M xw_Mu α) : xw_M xw_Mu α := fun μ => f (μ.1 k) μ
def ym_gJ {α : Type} (f : Int64 → xw_M xw_Mu α) : xw_M xw_Mu α := fun μ => f μ.2.1 μ
def ym_p (k : Nat) (v : Int32) : xw_M xw_Mu Unit := fun μ => if ym_ty k = 0 ∨ (ym_ty k = 1 ∧ (v = 0 ∨ v = 1)) then some ((), (xw_u1 μ.1 k v, μ.2.1, μ.2.2), 0, 0) else none
def ym_pJ (v : Int64) : xw_M xw_Mu Unit := fun μ => some ((), (μ.1, v, μ.2.2), 0, 0)
def ym_ld (j : Nat) (i : Int32) : xw_M xw_Mu Int32 := fun μ => if xw_ix i (ym_ln j) then some (μ.2.2 j i.toNatClampNeg, μ, 0, 0) else none
def ym_st (j : Nat) (i v : Int32) : xw_M xw_Mu Unit := fun μ => if xw_ix i (ym_ln j) then some ((), (μ.1, μ.2.1, xw_u2 μ.2.2 j i.toNatClampNeg v), 0, 0) else none
def ym_stB (j : Nat) (i v : Int32) : xw_M xw_Mu Unit := fun μ => if xw_ix i (ym_ln j) then some ((), (μ.1, μ.2.1, xw_u2 μ.2.2 j i.toNatClampNeg v.toInt8.toInt32), 0, 0) else none
def ym_stZ (j : Nat) (i v : Int32) : xw_M xw_Mu Unit := fun μ => if xw_ix i (ym_ln j) ∧ (v = 0 ∨ v = 1) then some ((), (μ.1, μ.2.1, xw_u2 μ.2.2 j i.toNatClampNeg v), 0, 0) else none
/-! the world, step by step -/
theorem xw_u2_ne {α : Type} (g : Nat → Nat → α) (f q : Nat) (v : α) {f' q' : Nat} (h : ¬ (f' = f ∧ q' = q)) : xw_u2 g f q v f' q' = g f' q' := by
  unfold xw_u2 xw_u1
  by_cases h1 : f' = f
  · rw [if_pos h1]
    exact if_neg (fun h2 => h ⟨h1, h2⟩)
  · rw [if_neg h1]
theorem xw_u2_eq {α : Type} (g : Nat → Nat → α) (f q : Nat) (v : α) : xw_u2 g f q v f q = v := by
  simp [xw_u2, xw_u1]
theorem xw_u3_ne {α : Type} (g : Nat → Nat → Nat → α) (t q i : Nat) (v : α) {t' q' : Nat} (h : q' ≠ q) (i' : Nat) : xw_u3 g t q i v t' q' i' = g t' q' i' := by
  unfold xw_u3
  by_cases h1 : t' = t
  · rw [if_pos h1, xw_u2_ne _ _ _ _ (fun z => h z.1)]
  · rw [if_neg h1]
theorem xw_u3_at {α : Type} (g : Nat → Nat → Nat → α) (t q i : Nat) (v : α) (i' : Nat) : xw_u3 g t q i v t q i' = if i' = i then v else g t q i' := by
  simp [xw_u3, xw_u2, xw_u1]
theorem xw_HH.lt {G : xw_G} {σ : xw_St} {μ : xw_Mu} {H : Heap} (h : xw_HH G σ μ H) {q : Nat} (hq : 1 ≤ xw_T σ q) : q < H.size := by
  refine Nat.not_le.mp fun h1 => ?_
  have h2 := (h.2.2.2.2.1 q (by rw [h.1]; exact h1)).1
  omega
theorem xw_hf_spec {f t : Nat} (h : xw_hf f t = true) : 1 ≤ t ∧ t < 33 ∧ xw_ci t < 19 ∧ ∃ k, k < xw_nf (xw_ci t) ∧ xw_fid (xw_ci t) k = f := by
  unfold xw_hf at h
  simp only [Bool.and_eq_true, List.contains_iff_mem] at h
  obtain ⟨⟨h1, h2⟩, h3⟩ := h
  have h1 := Nat.le_of_ble_eq_true h1
  have h2 := Nat.le_of_ble_eq_true h2
  refine ⟨h1, by omega, ?_, ?_⟩
  · refine Nat.not_le.mp fun h4 => ?_
    rw [List.getD_eq_getElem?_getD, List.getElem?_eq_none (show xw_fids.length ≤ _ from h4)] at h3
    cases h3
  · obtain ⟨k, hk⟩ := List.getElem?_of_mem h3
    refine ⟨k, (List.getElem?_eq_some_iff.mp hk).1, ?_⟩
    unfold xw_fid
    rw [List.getD_eq_getElem?_getD, hk]
    rfl
def xw_lk (E : xw_E) (own : String) (idx f : Nat) : Prop :=
  (∃ ref, (Cond.fieldLink own idx ref (xw_fd f).2.1 (xw_fd f).2.2.1).before (xe_a E) (xe_s E) = true ∧ ∀ x, (xe_s E).fieldFound? (xw_fd f).1 (xw_fd f).2.1 (xw_fd f).2.2.1 = some x → (xe_s E).fieldFound? ref (xw_fd f).2.1 (xw_fd f).2.2.1 = some x) ∨
  ∃ host, (Cond.fieldLinkNest own idx (xw_fd f).1 (xw_fd f).2.1 (xw_fd f).2.2.1 host).before (xe_a E) (xe_s E) = true
section XH
variable {α β γ δ : Type} {E : xw_E} {own : String} {cc : ByteArray} {nL lam pc : Nat} {ret : Option FieldType} {lv lv' : List (Nat × Value)} {st st' : List Value}
theorem xw_lk0 {idx f : Nat} (hE : xw_ok E own cc nL ret lam) (h : Cond.fieldLink own idx (xw_fd f).1 (xw_fd f).2.1 (xw_fd f).2.2.1 ∈ lw_all) : xw_lk E own idx f := Or.inl ⟨_, hE.2.2.2.2.1 _ h, fun _ h => h⟩
theorem xw_lkS {idx f : Nat} (hE : xw_ok E own cc nL ret lam) {ref : String} (h : Cond.fieldLink own idx ref (xw_fd f).2.1 (xw_fd f).2.2.1 ∈ lw_all) (h2 : Cond.sameField ref (xw_fd f).1 (xw_fd f).2.1 (xw_fd f).2.2.1 ∈ lw_all) : xw_lk E own idx f := Or.inl ⟨ref, hE.2.2.2.2.1 _ h, fun x hx => u_same (hE.2.2.2.2.1 _ h2) x hx⟩
theorem xw_lkN {idx f : Nat} (hE : xw_ok E own cc nL ret lam) {host : String} (h : Cond.fieldLinkNest own idx (xw_fd f).1 (xw_fd f).2.1 (xw_fd f).2.2.1 host ∈ xw_nl) : xw_lk E own idx f := Or.inr ⟨host, va_Nw.use rfl (hE.2.2.2.2.2.1.2.2.1 _ h)⟩
theorem xw_get (hE : xw_ok E own cc nL ret lam) {σ : xw_St} {μ : xw_Mu} {H : Heap} (hw : xw_HH (xe_G E) σ μ H) {f q idx : Nat} (hf : xw_hf f (xw_T σ q) = true) (hlk : xw_lk E own idx f) (hdg : decode cc pc = .ok (.getfield idx, 3)) {locs : List Loc} {cells slots : Nat} {Qs : State → Prop} {ls : Array Slot}
    (kk : xw_W E H locs cells slots Qs (F0 (xe_m E) (pc + 3) ls (xw_val σ f q :: st))) : xw_W E H locs cells slots Qs (F0 (xe_m E) pc ls (.ref q :: st)) := by
  obtain ⟨h1, h2, h3, k, hk, he⟩ := xw_hf_spec hf
  obtain ⟨cell, q1, q2, q3, q5, q4⟩ : xw_ob q ((xw_D (xe_G E)).1 (xw_ci (xw_T σ q))) (xw_nf (xw_ci (xw_T σ q))) ((xw_D (xe_G E)).2 (xw_ci (xw_T σ q))) H (fun k => xw_val σ (xw_fid (xw_ci (xw_T σ q)) k) q) := by
    by_cases h32 : xw_T σ q < 32
    · obtain ⟨cell, q1, q2, q3, q4⟩ := (hw.2.2.2.2.2.1 q h1).2.1 h32
      exact ⟨cell, q1, q2, by rw [q3]; rfl, by rw [q3]; exact (fun h => by cases h), q4⟩
    · have h33 : xw_T σ q = 32 := by omega
      have := (hw.2.2.2.2.2.1 q h1).2.2.2.1 h33
      rw [h33]
      exact this
  obtain ⟨hS, hfc, kC, hkC, hkind⟩ := hE.2.2.2.2.2.1.1 _ h3
  obtain ⟨cf, kf, fi, fd, hi, hsl⟩ := hS k hk
  have hst := (u_facts hfc hkC (u_lays hE.2.2.2.2.1 (xw_inA _ h3) hk) hi).1
  have hv : cell.slots[fd.slot]? = some (xw_val σ f q) := by rw [hsl, q4 k hk]; exact congrArg (fun z => some (xw_val σ z q)) he
  have hT : xw_Tc (xw_ci (xw_T σ q)) k = xw_fd f := by rw [← he]; rfl
  rw [hT] at hi
  rcases hlk with ⟨ref, l1, l2⟩ | ⟨host, l1⟩
  · exact W.getf hE.1 hE.2.1 hE.2.2.2.1 l1 (l2 _ hi) hst q1 q5 hv rfl rfl hdg kk
  · exact va_Wgetf hE.1 hE.2.1 hE.2.2.2.1 l1 hi hst q1 q5 hv rfl rfl hdg kk
/-- a field of σ is set: what σ1 is -/
def xw_up (σ σ1 : xw_St) (f q : Nat) (v : Value) : Prop :=
  xw_T σ1 = xw_T σ ∧ xw_L σ1 = xw_L σ ∧ xw_A σ1 = xw_A σ ∧ xw_B σ1 = xw_B σ ∧ xw_C σ1 = xw_C σ ∧ xw_N σ1 = xw_N σ ∧ (q < xw_N σ → xw_wf σ → xw_wf σ1) ∧ xw_val σ1 f q = v ∧ ∀ f' q', ¬ (f' = f ∧ q' = q) → xw_val σ1 f' q' = xw_val σ f' q'
theorem xw_upI {σ : xw_St} {f q : Nat} {v : Int32} (hf : xw_ft f ≤ 1) : xw_up σ (xw_sI σ f q v) f q (.int v) := by
  refine ⟨rfl, rfl, rfl, rfl, rfl, rfl, fun hq hw q' hq' => ?_, ?_, fun f' q' h => ?_⟩
  · obtain ⟨w1, w2, w3⟩ := hw q' hq'
    have hq' : xw_N σ ≤ q' := hq'
    exact ⟨w1, fun f' => (xw_u2_ne _ _ _ _ (fun z => by omega)).trans (w2 f'), w3⟩
  · have h2 : xw_ft f = 0 ∨ xw_ft f = 1 := by omega
    rcases h2 with h2 | h2 <;> simp only [xw_val, h2] <;> exact congrArg Value.int (xw_u2_eq _ _ _ _)
  · have e : xw_I (xw_sI σ f q v) f' q' = xw_I σ f' q' := xw_u2_ne _ _ _ _ h
    unfold xw_val
    rw [e]
    rfl
theorem xw_upJ {σ : xw_St} {f q : Nat} {v : Int64} (hf : xw_ft f = 2) : xw_up σ (xw_sJ σ f q v) f q (.long v) := by
  refine ⟨rfl, rfl, rfl, rfl, rfl, rfl, fun hq hw q' hq' => ?_, ?_, fun f' q' h => ?_⟩
  · obtain ⟨w1, w2, w3, w4⟩ := hw q' hq'
    have hq' : xw_N σ ≤ q' := hq'
    exact ⟨w1, w2, fun f' => (xw_u2_ne _ _ _ _ (fun z => by omega)).trans (w3 f'), w4⟩
  · simp only [xw_val, hf]
    exact congrArg Value.long (xw_u2_eq _ _ _ _)
  · have e : xw_J (xw_sJ σ f q v) f' q' = xw_J σ f' q' := xw_u2_ne _ _ _ _ h
    unfold xw_val
    rw [e]
    rfl
theorem xw_upR {σ : xw_St} {f q : Nat} {v : Option Nat} (hf : xw_ft f = 3) : xw_up σ (xw_sR σ f q v) f q (va_rf v) := by
  refine ⟨rfl, rfl, rfl, rfl, rfl, rfl, fun hq hw q' hq' => ?_, ?_, fun f' q' h => ?_⟩
  · obtain ⟨w1, w2, w3, w4, w5⟩ := hw q' hq'
    have hq' : xw_N σ ≤ q' := hq'
    exact ⟨w1, w2, w3, fun f' => (xw_u2_ne _ _ _ _ (fun z => by omega)).trans (w4 f'), w5⟩
  · simp only [xw_val, hf]
    exact congrArg va_rf (xw_u2_eq _ _ _ _)
  · have e : xw_R (xw_sR σ f q v) f' q' = xw_R σ f' q' := xw_u2_ne _ _ _ _ h
    unfold xw_val
    rw [e]
    rfl
/-- the model's part stays where its cells and their tags stay -/
theorem xw_MH.kept {G : xw_G} {σ σ1 : xw_St} {μ : xw_Mu} {H H1 : Heap} (h : xw_MH G σ μ H) (hz : H.size ≤ H1.size) (hT : ∀ q, q < H.size → xw_T σ q = 0 → H1[q]? = H[q]? ∧ xw_T σ1 q = 0) : xw_MH G σ1 μ H1 := by
  obtain ⟨⟨a1, a2, a3, a4⟩, b, c⟩ := h
  refine ⟨⟨by omega, a2, (hT _ a1 a3).2, a4.kept (hT _ a1 a3).1⟩, fun j hj => ?_, c⟩
  obtain ⟨b1, b2, b3, b4, b5⟩ := b j hj
  exact ⟨by omega, b2, (hT _ b1 b3).2, b4, by rw [(hT _ b1 b3).1]; exact b5⟩
/-- a cell as it was: its own tag, contents and slots stay -/
theorem xw_cell.kept {G : xw_G} {σ σ1 : xw_St} {q : Nat} {H H1 : Heap} (h : xw_cell G σ q H) (hT : xw_T σ1 q = xw_T σ q) (hL : xw_L σ1 q = xw_L σ q) (hv : ∀ f, xw_val σ1 f q = xw_val σ f q) (he : ∀ t i, xw_elt σ1 t q i = xw_elt σ t q i) (hH : H1[q]? = H[q]?) : xw_cell G σ1 q H1 := by
  obtain ⟨h1, h2, h3, h4⟩ := h
  unfold xw_cell
  rw [hT, hL]
  refine ⟨fun a => ((h1 a).kept hH).to (fun k _ => (hv _).symm), fun a b => by rw [hH, h2 a b, show xw_elt σ1 (xw_T σ q) q = xw_elt σ (xw_T σ q) q from funext fun i => he _ i], fun a => ?_, h4⟩
  obtain ⟨cell, q1, q2, q3, q4, q5⟩ := h3 a
  exact ⟨cell, by rw [hH]; exact q1, q2, q3, q4, fun k hk => (q5 k hk).trans (congrArg some (hv _).symm)⟩
theorem xw_put (hE : xw_ok E own cc nL ret lam) {σ σ1 : xw_St} {μ : xw_Mu} {H : Heap} {locs : List Loc} (hw : xw_HH (xe_G E) σ μ H) (hS0 : va_S (xw_Fr (xe_G E)) (xe_s E).heap H locs) {f q idx : Nat} {v : Value} (hf : xw_hf f (xw_T σ q) = true) (hro : xw_T σ q ≠ 32) (hu : xw_up σ σ1 f q v)
    (hlk : ((xw_fd f).2.2.2 = false ∧ xw_lk E own idx f) ∨ ((xw_fd f).2.2.2 = true ∧ (xe_M E).name = "<init>" ∧ (xw_fd f).1 = own ∧ (Cond.fieldLink own idx (xw_fd f).1 (xw_fd f).2.1 (xw_fd f).2.2.1).before (xe_a E) (xe_s E) = true))
    (hn : narrow (xw_fT f) v = v) (hfit : fits (xw_fT f) v = true) (hdg : decode cc pc = .ok (.putfield idx, 3)) {cells slots : Nat} {Qs : State → Prop} {ls : Array Slot}
    (kk : ∀ (H1 : Heap) (locs1 : List Loc), xw_HH (xe_G E) σ1 μ H1 → va_S (xw_Fr (xe_G E)) (xe_s E).heap H1 locs1 → xw_W E H1 locs1 cells slots Qs (F0 (xe_m E) (pc + 3) ls st)) : xw_W E H locs cells slots Qs (F0 (xe_m E) pc ls (v :: .ref q :: st)) := by
  obtain ⟨h1, h2, h3, k, hk, he⟩ := xw_hf_spec hf
  have h2 : xw_T σ q < 32 := by omega
  have hlt := hw.lt h1
  obtain ⟨w1, w2, w3, w4, w5, w6, w7⟩ := hw
  obtain ⟨hbase, hcell⟩ := w6 q h1
  obtain ⟨cell, q1, q2, q3, q4⟩ := hcell.1 h2
  obtain ⟨hS, hfc, kC, hkC, hkind⟩ := hE.2.2.2.2.2.1.1 _ h3
  obtain ⟨cf, kf, fi, fd, hi, hsl⟩ := hS k hk
  have hlays := u_lays hE.2.2.2.2.1 (xw_inA _ h3) hk
  have hst := (u_facts hfc hkC hlays hi).1
  have hT : xw_Tc (xw_ci (xw_T σ q)) k = xw_fd f := by rw [← he]; rfl
  have hap : ∀ x y, x < xw_nf (xw_ci (xw_T σ q)) → y < xw_nf (xw_ci (xw_T σ q)) → x ≠ y → ((xw_D (xe_G E)).2 (xw_ci (xw_T σ q))) x ≠ ((xw_D (xe_G E)).2 (xw_ci (xw_T σ q))) y := by
    intro x y hx hy hne
    obtain ⟨_, _, _, fa, hia, ea⟩ := hS x hx
    obtain ⟨_, _, _, fb, hib, eb⟩ := hS y hy
    rw [← ea, ← eb]
    refine u_apart (u_lays hE.2.2.2.2.1 (xw_inA _ h3) hx) (u_lays hE.2.2.2.2.1 (xw_inA _ h3) hy) hia hib ?_
    rw [(State.fieldFound?_type hia (xw_tyA _ h3 x hx)).1, (State.fieldFound?_type hib (xw_tyA _ h3 y hy)).1]
    exact xw_nmA _ h3 x hx y hy hne
  have hro' : xw_ro (xw_T σ q) = false := by
    unfold xw_ro
    rw [Bool.or_eq_false_iff]
    refine ⟨by simpa using hro, ?_⟩
    cases hb : Nat.ble 200 (xw_T σ q) with
    | false => rfl
    | true => have := Nat.le_of_ble_eq_true hb; omega
  have hA : xw_Fr (xe_G E) q := hbase hro'
  obtain ⟨u1, u2, u3, u4, u5, u6, u7, u8, u9⟩ := hu
  -- the world behind it
  have key : ∀ H1 : Heap, H1[q]? = some (cell.setSlot fd.slot v) → H1.size = H.size → (∀ x, x ≠ q → H1[x]? = H[x]?) → xw_HH (xe_G E) σ1 μ H1 := by
    intro H1 e1 e2 e3
    refine ⟨by rw [u6, w1, e2], by rw [e2]; exact w2, fun a ha => by rw [e3 a (fun z => by rw [z] at ha; exact absurd hA (Nat.not_le.mpr ha))]; exact w3 a ha, by rw [u5]; exact w4, u7 (by rw [w1]; exact hlt) w5, fun q' hq' => ?_, fun hac => ?_⟩
    · rw [u1] at hq' ⊢
      obtain ⟨b1, b2⟩ := w6 q' hq'
      refine ⟨b1, ?_⟩
      by_cases hqq : q' = q
      · subst hqq
        refine ⟨fun _ => ?_, fun a => ?_, fun a => ?_, fun a => ?_⟩
        · rw [u1]
          rw [hsl] at e1
          refine ⟨_, e1, q2, q3, fun j hj => ?_⟩
          rw [t_set q4 hap hk v j hj]
          congr 1
          unfold updV
          by_cases hjk : j = k
          · rw [if_pos hjk, hjk]
            show v = xw_val σ1 (xw_fid (xw_ci (xw_T σ q')) k) q'
            rw [he, u8]
          · rw [if_neg hjk]
            show xw_val σ (xw_fid (xw_ci (xw_T σ q')) j) q' = xw_val σ1 (xw_fid (xw_ci (xw_T σ q')) j) q'
            rw [u9]
            intro z
            exact hjk (xw_fuA _ h3 j hj k hk (by rw [z.1, he]))
        · rw [u1] at a
          omega
        · rw [u1] at a
          omega
        · rw [u1] at a
          omega
      · refine b2.kept (by rw [u1]) (by rw [u2]) (fun f' => u9 f' q' (fun z => hqq z.2)) (fun t i => ?_) (e3 q' hqq)
        unfold xw_elt
        rw [u3, u4]
    · refine (w7 hac).kept (by rw [e2]; exact Nat.le_refl _) (fun x _ hx => ⟨e3 x (fun z => ?_), by rw [u1]; exact hx⟩)
      rw [z] at hx
      omega
  rcases hlk with ⟨hfin, hlk⟩ | ⟨hfin, hin, hdecl, hlk⟩
  · have hlay := hE.2.2.2.2.1 _ (xw_inA _ h3 _ (u_in_lay hk))
    unfold u_lay at hlay
    rw [hT, if_neg (by rw [hfin]; decide)] at hlay
    rw [hT] at hi
    have h6 := u_store hfc hkC hkind hlay hi (by have h7 := xw_tyA _ h3 k hk; rw [hT, he] at h7; exact h7) hn hfit
    rcases hlk with ⟨ref, l1, l2⟩ | ⟨host, l1⟩
    · exact W.putK hE.1 hE.2.1 (f := fd) ⟨hE.2.2.2.1, l1, ⟨_, _, _, l2 _ hi⟩, hst⟩ (by rw [q2]; exact h6) q1 q3 (by rw [hsl]; exact k2_hasslot (q4 k hk)) rfl rfl hdg fun H' e1 e2 e3 => kk H' _ (key H' e1 e2 e3) (hS0.put e2 e3 hA)
    · exact va_WputK hE.1 hE.2.1 (f := fd) hE.2.2.2.1 l1 hi hst (by rw [q2]; exact h6) q1 q3 (by rw [hsl]; exact k2_hasslot (q4 k hk)) rfl rfl hdg fun H' e1 e2 e3 => kk H' _ (key H' e1 e2 e3) (hS0.put e2 e3 hA)
  · have hlay := hE.2.2.2.2.1 _ (xw_inA _ h3 _ (u_in_lay hk))
    unfold u_lay at hlay
    rw [hT, if_pos hfin] at hlay
    rw [hT] at hi hlays
    have hcf : (xe_m E).cls = cf := by
      obtain ⟨_, _, c', _, _, _, -, -, hf', -, -, -, hown2, -⟩ := Cond.laysFinal_spec hlay
      have e1 : c' = cf := by have := hi.symm.trans hf'; simp at this; exact this.1.symm
      rw [hdecl] at hown2
      rw [← e1]; exact Option.some.inj (hE.2.2.2.1.symm.trans hown2)
    have h6 := u_fits hfc hkC hkind hlays hi (by have h7 := xw_tyA _ h3 k hk; rw [hT, he] at h7; exact h7) hn hfit
    exact W.putFinK hE.1 hE.2.1 hE.2.2.2.1 hlk hi hst hcf hin (by rw [q2]; exact h6) q1 q3 (by rw [hsl]; exact k2_hasslot (q4 k hk)) rfl rfl hdg fun H' e1 e2 e3 => kk H' _ (key H' e1 e2 e3) (hS0.put e2 e3 hA)
end XH
