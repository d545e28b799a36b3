set_option maxRecDepth 100000
/-! the reference is made: its cells become its own state; the law's start out of a pure fact -/
def ym_tgl : List Nat := [73, 74, 75, 76, 77, 78, 79, 80, 81, 82, 83, 84, 85, 86, 87, 88, 89, 0, 0, 0, 0, 0, 0, 0, 0, 0, 90, 0, 0, 0, 91, 92, 93, 94, 95, 96, 97, 98, 99, 100, 101, 102, 103, 104, 105, 106, 107, 108, 109, 110, 0, 0, 0, 0, 111, 112, 113, 114, 115, 116, 0, 0, 0]
def ym_tg (k : Nat) : Nat := ym_tgl.getD k 0
theorem ym_lt3 {k : Nat} (h : ym_ty k = 3) : k < 63 := by
  refine Nat.not_le.mp fun h2 => ?_
  unfold ym_ty at h
  rw [List.getD_eq_getElem?_getD, List.getElem?_eq_none (show ym_tyl.length ≤ k from h2)] at h
  cases h
theorem ym_le3 (k : Nat) : ym_ty k ≤ 3 := by
  by_cases h : k < 63
  · have : ∀ k, k < 63 → ym_ty k ≤ 3 := by decide +kernel
    exact this k h
  · unfold ym_ty
    rw [List.getD_eq_getElem?_getD, List.getElem?_eq_none (show ym_tyl.length ≤ k from Nat.not_lt.mp h)]
    exact Nat.zero_le _
theorem ym_tgs : ∀ k, k < 63 → ym_ty k = 3 → 64 ≤ ym_tg k ∧ ym_tg k < 200 ∧ xw_ay (ym_tg k) = ym_ay k ∧ ym_ay k < 3 := by decide +kernel
theorem ym_tgi : ∀ i, i < 63 → ym_ty i = 3 → ∀ j, j < 63 → ym_ty j = 3 → ym_tg i = ym_tg j → i = j := by decide +kernel
theorem ym_fids : ∀ k, k < 63 → xw_fid 2 k = 26 + k ∧ xw_ft (26 + k) = ym_ty k := by decide +kernel
/-- the reference stands, with all its arrays -/
def xp_made (σ : xw_St) (m : Nat) : Prop := xw_T σ m = 3 ∧ ∀ k, ym_ty k = 3 → ∃ a, xw_R σ (26 + k) m = some a ∧ xw_T σ a = ym_tg k ∧ xw_L σ a = ym_ln k
def xh_a (σ : xw_St) (m k : Nat) : Nat := (xw_R σ (26 + k) m).getD 0
def xh_in (σ : xw_St) (m q : Nat) : Bool := q == m || (List.range 63).any (fun k => ym_ty k == 3 && q == xh_a σ m k)
/-- the class's side without the reference's cells; the reference's own state -/
def xh_s (σ : xw_St) (m : Nat) : xw_St := (fun q => if xh_in σ m q = true then 0 else xw_T σ q, xw_L σ, xw_I σ, xw_J σ, xw_R σ, xw_A σ, xw_B σ, xw_C σ, xw_N σ)
def xh_m (σ : xw_St) (m : Nat) : xw_Mu := (fun k => xw_I σ (26 + k) m, xw_J σ 50 m, fun k i => xw_A σ (ym_tg k) (xh_a σ m k) i)
theorem xh_over {D : va_G} {dA : Nat → ClassId} {hb H : Heap} {ka am0 : Nat → Nat} {hm0 : Nat} {σ : xw_St} {μ : xw_Mu} {m : Nat} (hw : xw_HH (D, dA, hb, ka, hm0, am0, false) σ μ H) (hm : xp_made σ m) : xw_HH (D, dA, hb, ka, m, xh_a σ m, true) (xh_s σ m) (xh_m σ m) H := by
  have hlt : ∀ {q : Nat}, 1 ≤ xw_T σ q → q < H.size := fun h => hw.lt h
  obtain ⟨w1, w2, w3, w4, w5, w6, w7⟩ := hw
  have hT : ∀ q, xw_T (xh_s σ m) q = if xh_in σ m q = true then 0 else xw_T σ q := fun q => rfl
  have ro : ∀ t, t ≠ 32 → t < 200 → xw_ro t = false := by
    intro t h1 h2
    unfold xw_ro
    rw [Bool.or_eq_false_iff]
    refine ⟨by simpa using h1, ?_⟩
    cases hb : Nat.ble 200 t with
    | false => rfl
    | true => have := Nat.le_of_ble_eq_true hb; omega
  have hin : ∀ k, ym_ty k = 3 → xh_in σ m (xh_a σ m k) = true := by
    intro k hk
    unfold xh_in
    rw [Bool.or_eq_true]
    exact Or.inr (List.any_eq_true.mpr ⟨k, List.mem_range.mpr (ym_lt3 hk), by simp [hk]⟩)
  have hinm : xh_in σ m m = true := by unfold xh_in; simp
  have arr : ∀ k, ym_ty k = 3 → xw_R σ (26 + k) m = some (xh_a σ m k) ∧ xw_T σ (xh_a σ m k) = ym_tg k ∧ xw_L σ (xh_a σ m k) = ym_ln k := by
    intro k hk
    obtain ⟨a, h1, h2, h3⟩ := hm.2 k hk
    have : xh_a σ m k = a := by unfold xh_a; rw [h1]; rfl
    rw [this]
    exact ⟨h1, h2, h3⟩
  refine ⟨w1, w2, w3, w4, fun q hq => ?_, fun q hq => ?_, fun _ => ⟨⟨hlt (q := m) (by rw [hm.1]; decide), (w6 m (by rw [hm.1]; decide)).1 (by rw [hm.1]; rfl), ?_, ?_⟩, fun k hk => ?_, fun i j hi hj e => ?_⟩⟩
  · obtain ⟨v1, v2⟩ := w5 q hq
    refine ⟨?_, v2⟩
    rw [hT, v1]
    split <;> rfl
  · rw [hT] at hq ⊢
    by_cases h : xh_in σ m q = true
    · rw [if_pos h] at hq; omega
    · rw [if_neg h] at hq ⊢
      obtain ⟨b1, b2⟩ := w6 q hq
      exact ⟨b1, xw_cell.kept (G := (D, dA, hb, ka, m, xh_a σ m, true)) b2 (by rw [hT, if_neg h]) rfl (fun _ => rfl) (fun _ _ => rfl) rfl⟩
  · show xw_T (xh_s σ m) m = 0
    rw [hT, if_pos hinm]
  · have h1 := (w6 m (by rw [hm.1]; decide)).2.1 (by rw [hm.1]; decide)
    rw [hm.1] at h1
    refine t_OB.to h1 (fun k hk => ?_)
    have hk : k < 63 := hk
    show xw_val σ (xw_fid 2 k) m = xw_mv _ _ k
    obtain ⟨f1, f2⟩ := ym_fids k hk
    rw [f1]
    have h4 := ym_le3 k
    have h5 : ym_ty k = 0 ∨ ym_ty k = 1 ∨ ym_ty k = 2 ∨ ym_ty k = 3 := by omega
    rcases h5 with h5 | h5 | h5 | h5
    · simp only [xw_val, xw_mv, f2, h5, xh_m]
    · simp only [xw_val, xw_mv, f2, h5, xh_m]
    · have := ym_ty2 h5
      subst this
      simp only [xw_val, xw_mv, f2, h5, xh_m]
    · simp only [xw_val, xw_mv, f2, h5]
      rw [(arr k h5).1]
      rfl
  · have hk : ym_ty k = 3 := by have := ym_le3 k; omega
    obtain ⟨t1, t2, t3, t4⟩ := ym_tgs k (ym_lt3 hk) hk
    obtain ⟨a1, a2, a3⟩ := arr k hk
    obtain ⟨b1, b2⟩ := w6 (xh_a σ m k) (by rw [a2]; omega)
    refine ⟨hlt (q := xh_a σ m k) (by rw [a2]; omega), b1 (ro _ (by rw [a2]; omega) (by rw [a2]; exact t2)), ?_, ?_, ?_⟩
    · show xw_T (xh_s σ m) (xh_a σ m k) = 0
      rw [hT, if_pos (hin k hk)]
    · intro e
      have e : xh_a σ m k = m := e
      have h9 := hm.1
      rw [← e, a2] at h9
      omega
    · show H[xh_a σ m k]? = some (arrV (dA (ym_ay k)) (ym_ln k) (fun i => .int (xw_A σ (ym_tg k) (xh_a σ m k) i)))
      rw [b2.2.1 (by rw [a2]; omega) (by rw [a2]; exact t2), a2, a3, t3]
      congr 2
      funext i
      have : ym_ay k = 0 ∨ ym_ay k = 1 ∨ ym_ay k = 2 := by omega
      rcases this with h | h | h <;> rw [h] at t3 <;> simp only [xw_elt, t3]
  · have hi : ym_ty i = 3 := by have := ym_le3 i; omega
    have hj : ym_ty j = 3 := by have := ym_le3 j; omega
    have e : xh_a σ m i = xh_a σ m j := e
    have h1 := (arr i hi).2.1
    rw [e, (arr j hj).2.1] at h1
    exact (ym_tgi j (ym_lt3 hj) hj i (ym_lt3 hi) hi h1).symm
/-- what is known of the class's side at the law's start -/
def xp_init (σ : xw_St) : Prop := xw_wf σ ∧ (∀ j, j < 12 → xw_T σ (xw_C σ j) = 200 + j ∧ xw_L σ (xw_C σ j) = xw_kn (200 + j)) ∧ xw_T σ (xw_C σ 12) = 32 ∧ (∀ q, xw_T σ q = 0 ∨ xw_T σ q = 32 ∨ 200 ≤ xw_T σ q) ∧ (∀ f q, xw_I σ f q = 0) ∧ (∀ f q, xw_R σ f q = none)
/-- THE PLAIN LAW, owed by the parts that follow -/
def xp_Law : Prop := ∀ (xs : Nat → Int32) (L : Nat) (σ0 : xw_St), L ≤ 384 → xp_init σ0 → ∃ x m σ1 k1 n1, pg_law0 σ0 = some ((x, m), σ1, k1, n1) ∧ xp_made σ1 m ∧ ∃ s' k2 n2, pg_law2 x xs L (xh_s σ1 m, xh_m σ1 m) = some (1, s', k2, n2) ∧ k1 + k2 ≤ 1159266 ∧ n1 + n2 ≤ 5624452

def R_law : String := "CrossingWordsLaw"
def lw_P (b : Addr) (xs : List Int32) (args : Array Value) (s : State) : Prop := args = #[.ref b] ∧ s.IntsAt b xs ∧ xs.length ≤ 384 ∧ (Jvm.Cond.and given_1 narrow_1).before args s = true
def lw_Q (_ : Array Value) (s : State) (o : Outcome) (t : State) : Prop := o = .returned (some (.int 1)) ∧ Framed s o t [] 1159266 5624452
def lw_Z (below : List Frame) (a : Array Value) (s : State) : State → Prop := fun t => ∃ o, t.status = .running ∧ Ended t below o ∧ lw_Q a s o t
/-- the law's own end, with 1 on the stack, nothing written that was there before, its room as the claim has it -/
theorem lw_ret {p : Program} {l : Launch} {e : Env} {s : State} {m : MethodId} {below : List Frame} {meth : Method} {c : Code} {b : Nat} (hx : p.tables.exec = Jvm.exec) (hb : c.code = code) (hr : meth.sig.returnType = ret) (hlocks : meth.locks = false) {pc : Nat} {H : Heap} {ls : Array Slot} (hdg : decode code pc = .ok (.ireturn, 1)) : W p l e room_1 s m #[Value.ref b] below meth c H [] 1159266 5624452 (lw_Z below #[Value.ref b] s) (F0 m pc ls [.int 1]) := by
  intro T hT X
  obtain ⟨fs, hret, hrun, hended, hW, hframe⟩ := X.leave (v := some (.int 1)) (hlocks := hlocks) (fun h => by rw [hr] at h; cases h)
  have hmeth' : T.vm.method? m = some meth := X.method'
  refine ⟨T.setFrames fs, ?_, .returned (some (.int 1)), hrun, hended, rfl, ⟨_, rfl⟩, hW, hframe⟩
  jvm_step X.here [X.here.top, hx, hb, hdg, hmeth', hr, ret, narrow_b1]
  (try refine ⟨rfl, ?_⟩); (try refine ⟨rfl, ?_⟩)
  first | (intro acts; rw [hret _ acts rfl rfl rfl]) | rw [hret _ _ rfl rfl rfl]
  exact Steps.refl _
/-- what holds at the law's entry: the machine, the code, the tables' words (any of lw_tbl by 'hts w (by decide +kernel)'), the script of L ints xs at the cell b, what the Statement gives of the start (any of its parts by flat_of_before) -/
def lw_At (p : Program) (s : State) (m : MethodId) (meth : Method) (c : Code) (b L : Nat) (xs : Nat → Int32) : Prop :=
  p.tables.exec = Jvm.exec ∧ c.code = code ∧ meth.sig.returnType = ret ∧ c.maxLocals = 4 ∧ s.vm.findClass R_law = some m.cls ∧ (∀ w ∈ lw_tbl, w.before #[Value.ref b] s = true) ∧ va_X b L xs s s.heap ∧ b < s.heap.size ∧ meth.locks = false ∧ (Jvm.Cond.and given_1 narrow_1).before #[Value.ref b] s = true
set_option maxHeartbeats 4000000 in
/-- the law's body, out of the plain law -/
theorem whole_open (hLaw : xp_Law) {p : Program} {e : Env} {s : State} {m : MethodId} {below : List Frame} {meth : Method} {c : Code} (l : Launch) {b L : Nat} {xs : Nat → Int32} (hL : L ≤ 384) (C0 : lw_At p s m meth c b L xs) : W p l e room_1 s m #[Value.ref b] below meth c s.heap [] 0 0 (lw_Z below #[Value.ref b] s) (entryFrame m ([Value.ref b] : List Value).toArray 4) := by
  obtain ⟨hx, hb, hr, hml, hown, hts, hX, hbl, hlocks, hgv⟩ := id C0
  obtain ⟨G, g1, g2, g3, g4, g5⟩ := xl_start hgv hts
  obtain ⟨D, dA, hbh, ka, hm0, am0, ac⟩ := G
  have g1 : hbh = s.heap := g1
  have g2 : ac = false := g2
  subst g1
  subst g2
  have g4 : ∀ j, j < 12 → xl_T0 ka (ka j) = 200 + j := g4
  have μ0 : xw_Mu := (fun _ => 0, 0, fun _ _ => 0)
  have hw0 := g5 μ0
  -- the plain law at this start
  have hi : xp_init (xl_s0 ka s.heap.size) := by
    refine ⟨hw0.2.2.2.2.1, fun j hj => ⟨g4 j hj, congrArg xw_kn (g4 j hj)⟩, if_pos rfl, fun q => ?_, fun _ _ => rfl, fun _ _ => rfl⟩
    show xl_T0 ka q = 0 ∨ xl_T0 ka q = 32 ∨ 200 ≤ xl_T0 ka q
    rcases xl_T0_spec (ka := ka) (q := q) with ⟨_, h2⟩ | ⟨i, hi, h1, h2⟩ | ⟨h2, -⟩ <;> omega
  obtain ⟨x, mo, σ1, k1, n1, e1, hmade, s', k2, n2, e2, hk, hn⟩ := hLaw xs L _ hL hi
  have hlen : lv_has ((lg_sl [Value.ref b] ++ List.replicate (4 - (lg_sl [Value.ref b]).length) Slot.unset).toArray) 4 [(0, va_rf (some b))] := lv_entry ([.ref b]) (n := 4) (Nat.le_of_ble_eq_true rfl)
  rw [lg_entry_eq]
  have hKall : ∀ w ∈ lw_all, w.before #[Value.ref b] s = true := fun w h => hts w (lw_all_tbl h)
  have hE0 : xw_ok (p, l, e, room_1, s, m, #[Value.ref b], below, meth, c, (D, dA, s.heap, ka, hm0, am0, false)) "CrossingWordsLaw" cL_law 4 (some .boolean) 97 := ⟨hx, hb, hml, hown, hKall, g3, hlocks, hr, (by decide : 97 ≤ room_1.frames), (by decide : 60 * 97 ≤ room_1.locals)⟩
  have hE1 : xw_ok (p, l, e, room_1, s, m, #[Value.ref b], below, meth, c, (D, dA, s.heap, ka, mo, xh_a σ1 mo, true)) "CrossingWordsLaw" cL_law 4 (some .boolean) 97 := ⟨hx, hb, hml, hown, hKall, g3, hlocks, hr, (by decide : 97 ≤ room_1.frames), (by decide : 60 * 97 ≤ room_1.locals)⟩
  have hfin : ∀ {pc : Nat} {lv : List (Nat × Value)} {v : Int32}, decode cL_law pc = .ok (.ireturn, 1) → xw_X (p, l, e, room_1, s, m, #[Value.ref b], below, meth, c, (D, dA, s.heap, ka, mo, xh_a σ1 mo, true)) 4 (xl_w (D, dA, s.heap, ka, mo, xh_a σ1 mo, true)) (fun (r : Int32) (_ : xl_S) N M => fun t => (r = 1 ∧ N ≤ 1159266 ∧ M ≤ 5624452) → lw_Z below #[Value.ref b] s t) pc lv [.int v] (xw_rt v) xw_rt := by
    intro pc lv v hdg ls H locs cells slots σ r σ' k n q1 q2 q3 q4 q5 q6
    rw [xw_bd_rt] at q1
    cases q1
    by_cases hc : v = 1 ∧ cells + 0 ≤ 1159266 ∧ slots + 0 ≤ 5624452
    · obtain ⟨hv, hc1, hc2⟩ := hc
      subst hv
      have h1 := W.widen (cells := cells) (slots := slots) (k := 1159266) (n := 5624452) hc1 hc2 (va_forget (locs := locs) q4.2.2 (lw_ret (p := p) (l := l) (e := e) (s := s) (m := m) (below := below) (meth := meth) (c := c) (b := b) (H := H) (ls := ls) hx hb hr hlocks hdg))
      intro T hT X
      obtain ⟨t, a1, a2⟩ := h1 T hT X
      exact ⟨t, a1, fun _ => a2⟩
    · intro T hT X
      exact ⟨_, Steps.refl _, fun h => absurd h hc⟩
  have h0 := xl_walk0 (E := (p, l, e, room_1, s, m, #[Value.ref b], below, meth, c, (D, dA, s.heap, ka, hm0, am0, false))) (μ := μ0) (Q := fun (r : Nat × Nat) (σ' : xw_St) N M => fun t => (r = (x, mo) ∧ σ' = σ1 ∧ N = k1 ∧ M = n1) → lw_Z below #[Value.ref b] s t) hE0 b (fun x' m' => by
    intro ls H locs cells slots σ r σ' k n q1 q2 q3 q4 q5 q6
    rw [xw_bd_rt] at q1
    cases q1
    by_cases hc : (x', m') = (x, mo) ∧ σ = σ1 ∧ cells + 0 = k1 ∧ slots + 0 = n1
    · obtain ⟨hv, h1, h2, h3⟩ := hc
      cases hv
      subst h1
      have h2 : cells = k1 := h2
      have h3 : slots = n1 := h3
      subst h2
      subst h3
      have h7 := xl_walk2 (E := (p, l, e, room_1, s, m, #[Value.ref b], below, meth, c, (D, dA, s.heap, ka, mo, xh_a σ mo, true))) hE1 rfl (b := b) (x := x) (L := L) (xs := xs) hX hbl (fun pc lv v hd => hfin hd) ls H locs cells slots (xh_s σ mo, xh_m σ mo) 1 s' k2 n2 (by rw [xw_rt_bd]; exact e2) q2 (xh_over q3 hmade) q4 hk hn
      intro T hT X
      obtain ⟨t, a1, a2⟩ := h7 T hT X
      exact ⟨t, a1, fun _ => a2 ⟨rfl, hk, hn⟩⟩
    · intro T hT X
      exact ⟨_, Steps.refl _, fun h => absurd h hc⟩)
  have h1 := h0 _ s.heap [] 0 0 (xl_s0 ka s.heap.size) (x, mo) σ1 k1 n1 (by rw [xw_rt_bd]; exact e1) hlen hw0 va_S.rf (by show 0 + k1 ≤ 1159266; omega) (by show 0 + n1 ≤ 5624452; omega)
  intro T hT X
  obtain ⟨t, a1, a2⟩ := h1 T hT X
  exact ⟨t, a1, a2 ⟨rfl, rfl, Nat.zero_add _, Nat.zero_add _⟩⟩
