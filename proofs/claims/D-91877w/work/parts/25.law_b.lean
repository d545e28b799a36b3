set_option maxRecDepth 100000
/-! the world at the law's start -/
def xl_snl : List String := ["KINDS", "HAND_NAMES", "TERM_NAMES", "WAYS", "WHENS", "RULE_NAMES", "YES_WAYS", "HOLDS", "BUTS", "FORMS", "DEEDS", "RISKS"]
def xl_sn (j : Nat) : String := xl_snl.getD j ""
def xl_flat : List Cond := flatC (Jvm.Cond.and given_1 narrow_1)
theorem xl_acm : ∀ j, j < 12 → ∀ i, i < xw_kn (200 + j) → Cond.eq (.elem (.static "CrossingWords" (xl_sn j) "[J") (.int (Int32.ofNat i))) (.long (xw_kc (200 + j) i)) ∈ xl_flat := by decide +kernel
theorem xl_aom : ∀ j, j < 12 → Cond.arrayOf (.static "CrossingWords" (xl_sn j) "[J") .long ∈ xl_flat := by decide +kernel
theorem xl_alm : ∀ j, j < 12 → Cond.eq (.length (.static "CrossingWords" (xl_sn j) "[J")) (.int (Int32.ofNat (xw_kn (200 + j)))) ∈ xl_flat := by decide +kernel
theorem xl_llm : ∀ e ∈ xw_ll, Cond.eq (.static "CrossingWords" e.1 "J") (.long e.2) ∈ xl_flat := by decide +kernel
theorem xl_exm : Cond.exactly (.static "CrossingWords" "AT_ONCE" "LCrossingWords$Span;") "CrossingWords$Span" ∈ xl_flat := by decide +kernel
theorem xl_fdm : ∀ k, k < 2 → Cond.eq (.field (.static "CrossingWords" "AT_ONCE" "LCrossingWords$Span;") (xw_Tc 13 k).1 (xw_Tc 13 k).2.1 (xw_Tc 13 k).2.2.1) (.int 0) ∈ xl_flat := by decide +kernel
theorem xl_ksm : ∀ j, j < 12 → xw_kn (200 + j) < 2 ^ 31 := by decide +kernel
theorem xl_ls : ∀ j, j < 12 → Cond.laysStatic "CrossingWords" (xl_sn j) "[J" ∈ lw_tbl := by
  intro j hj
  match j, hj with
  | 0, _ => exact q396
  | 1, _ => exact q422
  | 2, _ => exact q476
  | 3, _ => exact q669
  | 4, _ => exact q762
  | 5, _ => exact q750
  | 6, _ => exact q760
  | 7, _ => exact q768
  | 8, _ => exact q773
  | 9, _ => exact q775
  | 10, _ => exact q777
  | 11, _ => exact q779
  | j + 12, h => omega
theorem xl_lsl : ∀ e ∈ xw_ll, Cond.laysStatic "CrossingWords" e.1 "J" ∈ lw_tbl := by
  intro e he
  simp only [xw_ll, List.mem_cons, List.not_mem_nil, or_false] at he
  rcases he with h | h | h | h | h | h | h | h
  · rw [h]; exact q511
  · rw [h]; exact q519
  · rw [h]; exact q585
  · rw [h]; exact q671
  · rw [h]; exact q739
  · rw [h]; exact q741
  · rw [h]; exact q743
  · rw [h]; exact q685
theorem xl_lso : Cond.laysStatic "CrossingWords" "AT_ONCE" "LCrossingWords$Span;" ∈ lw_tbl := q704
theorem xl_ini : Cond.initialized "CrossingWords" ∈ lw_tbl := (lw_all_tbl q95)
theorem xl_ins : ∀ c, c < 19 → Cond.instantiable (xw_cn c) (xw_nf c) ∈ lw_all := by
  intro c hc
  match c, hc with
  | 0, _ => exact q121
  | 1, _ => exact q136
  | 2, _ => exact q1335
  | 3, _ => exact q248
  | 4, _ => exact q272
  | 5, _ => exact q437
  | 6, _ => exact q470
  | 7, _ => exact q613
  | 8, _ => exact q591
  | 9, _ => exact q621
  | 10, _ => exact q632
  | 11, _ => exact q643
  | 12, _ => exact q654
  | 13, _ => exact q683
  | 14, _ => exact q702
  | 15, _ => exact q757
  | 16, _ => exact q817
  | 17, _ => exact q970
  | 18, _ => exact q1240
  | c + 19, h => omega
theorem xl_arc : ∀ j, j < 4 → Cond.arrayClass (xw_aT j) ∈ lw_tbl := by
  intro j hj
  match j, hj with
  | 0, _ => exact (lw_all_tbl q183)
  | 1, _ => exact (lw_all_tbl q182)
  | 2, _ => exact (lw_all_tbl q181)
  | 3, _ => exact (lw_all_tbl q1945)
  | j + 4, h => omega
theorem xl_aro : ∀ j, 4 ≤ j → j < 9 → Cond.arrayOver (xw_aT j) ∈ lw_tbl := by
  intro j h4 hj
  match j, h4, hj with
  | 4, _, _ => exact q278
  | 5, _, _ => exact q129
  | 6, _, _ => exact q131
  | 7, _, _ => exact q133
  | 8, _, _ => exact q135
  | j + 9, _, h => omega
theorem xl_sel {y : MethodName} {C : String} {s : State} {args : Array Value} {n : Nat} (hy : y.cls ≠ "java/lang/invoke/MethodHandle" ∧ y.cls ≠ "java/lang/invoke/VarHandle")
    (hins : (Cond.instantiable C n).before args s = true) (hpriv : (Cond.privateMethod y).before args s = true) (hinst : (Cond.instanceMethod y).before args s = true) (hsame : (Cond.sameMethod y.cls y.cls y.name y.desc).before args s = true) :
    (Cond.selects C y y).before args s = true := by
  obtain ⟨c, k, hc, hk, -, -, -, -⟩ := Cond.instantiable_spec hins
  obtain ⟨mk, methM, hnamed, hmethM, -, -⟩ := Cond.instanceMethod_spec hinst
  obtain ⟨cn, ck, r1, hcn, hck, hni, hf, hn1⟩ := Cond.sameMethod_found hsame
  have hfound : s.methodFound? y.cls y.name y.desc = some mk := State.methodFound?_of_named hnamed hy
  have hcls : mk.cls = cn := Option.some.inj ((findClass_of_methodNamed hnamed).symm.trans hcn)
  have hsel : selectMethod {} s.vm c mk = .method mk := selectMethod_private hmethM (Cond.privateMethod_at hpriv mk methM hnamed hmethM)
  simp only [Cond.before, Cond.holds, Cond.value, hc, hfound, hnamed, hsel, hcls, hck]
  simp; exact hni
theorem xl_np {s : State} {args : Array Value} (hts : ∀ w ∈ lw_tbl, w.before args s = true) : ∀ w ∈ xw_np, va_Nw w s := by
  intro w h
  simp only [xw_np, List.mem_cons, List.not_mem_nil, or_false] at h
  rcases h with h | h | h | h | h | h
  · rw [h]; exact va_Nw.of rfl (xl_sel (n := 10) ⟨by decide, by decide⟩ (hts _ (lw_all_tbl q248)) (hts _ q257) (hts _ (lw_all_tbl q258)) (hts _ (lw_all_tbl q1934)))
  · rw [h]; exact va_Nw.of rfl (xl_sel (n := 9) ⟨by decide, by decide⟩ (hts _ (lw_all_tbl q757)) (hts _ q257) (hts _ (lw_all_tbl q258)) (hts _ (lw_all_tbl q1934)))
  · rw [h]; exact va_Nw.of rfl (xl_sel (n := 10) ⟨by decide, by decide⟩ (hts _ (lw_all_tbl q248)) (hts _ q261) (hts _ (lw_all_tbl q262)) (hts _ (lw_all_tbl q1935)))
  · rw [h]; exact va_Nw.of rfl (xl_sel (n := 9) ⟨by decide, by decide⟩ (hts _ (lw_all_tbl q757)) (hts _ q261) (hts _ (lw_all_tbl q262)) (hts _ (lw_all_tbl q1935)))
  · rw [h]; exact va_Nw.of rfl (xl_sel (n := 10) ⟨by decide, by decide⟩ (hts _ (lw_all_tbl q248)) (hts _ q266) (hts _ (lw_all_tbl q267)) (hts _ (lw_all_tbl q1936)))
  · rw [h]; exact va_Nw.of rfl (xl_sel (n := 9) ⟨by decide, by decide⟩ (hts _ (lw_all_tbl q757)) (hts _ q266) (hts _ (lw_all_tbl q267)) (hts _ (lw_all_tbl q1936)))
/-- the constants: where they lie, what they hold -/
def xl_Fr (s : State) : Nat → Prop := fun q => s.heap.size ≤ q
theorem xl_arr {s : State} {args : Array Value} (hgv : (Jvm.Cond.and given_1 narrow_1).before args s = true) (hts : ∀ w ∈ lw_tbl, w.before args s = true) (j : Nat) : ∃ t : Nat, j < 12 → va_Z "CrossingWords" (xl_sn j) "[J" (.ref t) (xl_Fr s) s s.heap ∧ va_T .long t (xw_kn (200 + j)) (fun i => .long (xw_kc (200 + j) i)) (xl_Fr s) s s.heap := by
  have hA : ∀ a : Nat, a < s.heap.size → ¬ xl_Fr s a := fun a h h2 => Nat.not_le.mpr h h2
  have hs := flat_of_before _ hgv
  by_cases hj : j < 12
  · obtain ⟨t, h1, h2⟩ := va_Tof (f := fun i => Value.long (xw_kc (200 + j) i)) (xl_ksm j hj) (hs _ (xl_aom j hj)) (va_eqt (hs _ (xl_alm j hj))) (fun i hi => va_eqtl (hs _ (xl_acm j hj i hi))) hA
    exact ⟨t, fun _ => ⟨va_Zref (hts _ (xl_ls j hj)) (hts _ xl_ini) h1 hA, h2⟩⟩
  · exact ⟨0, fun h => absurd h hj⟩
theorem xl_span {s : State} {args : Array Value} (hgv : (Jvm.Cond.and given_1 narrow_1).before args s = true) (hts : ∀ w ∈ lw_tbl, w.before args s = true) {cC : ClassId} {iS : Nat → Nat} (hK : u_Kn s (xw_cn 13) (xw_Tc 13) (xw_nf 13) cC iS) : ∃ t : Nat, va_Z "CrossingWords" "AT_ONCE" "LCrossingWords$Span;" (.ref t) (xl_Fr s) s s.heap ∧ xw_ob t cC 2 iS s.heap (fun _ => .int 0) := by
  have hA : ∀ a : Nat, a < s.heap.size → ¬ xl_Fr s a := fun a h h2 => Nat.not_le.mpr h h2
  have hs := flat_of_before _ hgv
  obtain ⟨a, c, cell, k, q1, q2, q3, q4, q5, q6, -⟩ := Cond.exactly_spec (hs _ xl_exm)
  have hcls : cell.cls = cC := by rw [q6]; exact Option.some.inj (q2.symm.trans hK.2.1)
  have key : ∀ k, k < 2 → cell.vm ≠ .unknown ∧ cell.slots[iS k]? = some (.int 0) := by
    intro k hk
    obtain ⟨cf, kf, fi, fd, hi, hsl⟩ := hK.1 k (show k < xw_nf 13 from hk)
    have hv := va_eqt (hs _ (xl_fdm k hk))
    obtain ⟨g1, cell2, g2, g3, -, -, g6⟩ := Term.field_spec hi q1 hv
    cases q3.symm.trans g2
    rw [hsl] at g6
    exact ⟨g3, g6⟩
  exact ⟨a, va_Zref (hts _ xl_lso) (hts _ xl_ini) q1 hA, cell, q3, hcls, q5, (key 0 (by decide)).1, fun k hk => (key k hk).2⟩
/-- two constant arrays hold different rows -/
theorem xl_dif : ∀ i, i < 12 → ∀ j, j < 12 → i ≠ j → xw_kn (200 + i) ≠ xw_kn (200 + j) ∨ ∃ e, e < 12 ∧ e < xw_kn (200 + i) ∧ e < xw_kn (200 + j) ∧ xw_kc (200 + i) e ≠ xw_kc (200 + j) e := by decide +kernel
theorem xl_inj {s : State} {A : Nat → Prop} {i j t : Nat} (hi : i < 12) (hj : j < 12) (h1 : va_T .long t (xw_kn (200 + i)) (fun e => .long (xw_kc (200 + i) e)) A s s.heap) (h2 : va_T .long t (xw_kn (200 + j)) (fun e => .long (xw_kc (200 + j) e)) A s s.heap) : i = j := by
  refine Classical.byContradiction fun hij => ?_
  obtain ⟨c1, a1, a2, a3, a4, a5, a6, a7⟩ := h1
  obtain ⟨c2, b1, b2, b3, b4, b5, b6, b7⟩ := h2
  cases a1.symm.trans b1
  rcases xl_dif i hi j hj hij with h | ⟨e, -, h1, h2, h3⟩
  · have h5 := a5.symm.trans b5
    have e1 : (Int32.ofNat (xw_kn (200 + i))).toNatClampNeg = xw_kn (200 + i) := Int32.toNatClampNeg_ofNat_of_lt (xl_ksm i hi)
    have e2 : (Int32.ofNat (xw_kn (200 + j))).toNatClampNeg = xw_kn (200 + j) := Int32.toNatClampNeg_ofNat_of_lt (xl_ksm j hj)
    rw [h5] at e1
    exact h (e1.symm.trans e2)
  · have := (a6 e h1).symm.trans (b6 e h2)
    simp at this
    exact h3 this
/-- the state at the start: the constants alone -/
def xl_T0 (ka : Nat → Nat) (q : Nat) : Nat := if q = ka 12 then 32 else match (List.range 12).find? (fun j => ka j == q) with
  | some j => 200 + j
  | none => 0
def xl_s0 (ka : Nat → Nat) (N : Nat) : xw_St := (xl_T0 ka, fun q => xw_kn (xl_T0 ka q), fun _ _ => 0, fun _ _ => 0, fun _ _ => none, fun _ _ _ => 0, fun _ _ _ => none, ka, N)
theorem xl_T0_spec {ka : Nat → Nat} {q : Nat} : (q = ka 12 ∧ xl_T0 ka q = 32) ∨ (∃ j, j < 12 ∧ q = ka j ∧ xl_T0 ka q = 200 + j) ∨ (xl_T0 ka q = 0 ∧ q ≠ ka 12 ∧ ∀ j, j < 12 → q ≠ ka j) := by
  unfold xl_T0
  by_cases h : q = ka 12
  · rw [if_pos h]; exact Or.inl ⟨h, rfl⟩
  · rw [if_neg h]
    cases hf : (List.range 12).find? (fun j => ka j == q) with
    | some j =>
      have h1 := List.find?_some hf
      have h2 := List.mem_range.mp (List.mem_of_find?_eq_some hf)
      exact Or.inr (Or.inl ⟨j, h2, (eq_of_beq h1).symm, rfl⟩)
    | none =>
      refine Or.inr (Or.inr ⟨rfl, h, fun j hj e => ?_⟩)
      have := List.find?_eq_none.mp hf j (List.mem_range.mpr hj)
      exact this (by rw [e]; exact BEq.rfl)
theorem xl_start {b : Nat} {s : State} (hgv : (Jvm.Cond.and given_1 narrow_1).before #[Value.ref b] s = true) (hts : ∀ w ∈ lw_tbl, w.before #[Value.ref b] s = true) :
    ∃ G : xw_G, xw_hb G = s.heap ∧ xw_ac G = false ∧ xw_K G s ∧ (∀ j, j < 12 → xl_T0 (xw_ka G) (xw_ka G j) = 200 + j) ∧ (∀ μ, xw_HH G (xl_s0 (xw_ka G) s.heap.size) μ s.heap) := by
  -- classes
  have hcl : ∀ c : Nat, ∃ x : ClassId × (Nat → Nat), c < 19 → u_Kn s (xw_cn c) (xw_Tc c) (xw_nf c) x.1 x.2 := by
    intro c
    by_cases hc : c < 19
    · obtain ⟨cC, iS, h⟩ := u_known (C := xw_cn c) (T := xw_Tc c) (N := xw_nf c) (n := xw_nf c) (ws := lw_all) (fun w h => hts w (lw_all_tbl h)) (xw_inA c hc) (hts _ (lw_all_tbl (xl_ins c hc)))
      exact ⟨(cC, iS), fun _ => h⟩
    · exact ⟨(0, fun _ => 0), fun h => absurd h hc⟩
  obtain ⟨fC, hfC⟩ := Classical.axiomOfChoice hcl
  -- arrays
  have har : ∀ j : Nat, ∃ c : ClassId, j < 9 → ArrOfT s c (xw_aT j) ∧ va_RA s c (xw_aT j) := by
    intro j
    by_cases h4 : j < 4
    · obtain ⟨c, k, comp, a1, a2, a3⟩ := Cond.arrayClass_spec (hts _ (xl_arc j h4))
      refine ⟨c, fun _ => ⟨fun n z => ⟨fun k h => (by cases h), k, a2, comp, a3⟩, ?_⟩⟩
      match j, h4, a1 with
      | 0, _, a1 => exact a1
      | 1, _, a1 => exact a1
      | 2, _, a1 => exact a1
      | 3, _, a1 => exact a1
      | j + 4, h, _ => omega
    · by_cases h9 : j < 9
      · obtain ⟨C, hC⟩ := xw_aTR (j := j) ⟨by omega, h9⟩
        have h := hts _ (xl_aro j (by omega) h9)
        rw [hC] at h ⊢
        obtain ⟨comp, c, k, a1, a2, a3, a4, a5⟩ := Cond.arrayOver_spec h
        exact ⟨c, fun _ => ⟨fun n z => ⟨fun k h => (by cases h), k, a3, comp, a4⟩, k, comp, a3, a4, a1, a5⟩⟩
      · exact ⟨0, fun h => absurd h h9⟩
  obtain ⟨fA, hfA⟩ := Classical.axiomOfChoice har
  obtain ⟨ka0, hka⟩ := Classical.axiomOfChoice (xl_arr hgv hts)
  obtain ⟨t, ht1, ht2⟩ := xl_span hgv hts (hfC 13 (by decide))
  obtain ⟨ka, hk1, hk2⟩ : ∃ ka : Nat → Nat, (∀ j, j < 12 → ka j = ka0 j) ∧ ka 12 = t := ⟨fun j => if j < 12 then ka0 j else t, fun j hj => if_pos hj, rfl⟩
  have hA : ∀ a : Nat, a < s.heap.size → ¬ xl_Fr s a := fun a h h2 => Nat.not_le.mpr h h2
  have hgT := flat_of_before _ hgv
  have hinj : ∀ i j, i < 12 → j < 12 → ka i = ka j → i = j := by
    intro i j hi hj e
    have h1 := (hka i hi).2
    have h2 := (hka j hj).2
    rw [← hk1 i hi] at h1
    rw [← hk1 j hj, ← e] at h2
    exact xl_inj hi hj h1 h2
  have hne : ∀ j, j < 12 → ka j ≠ ka 12 := by
    intro j hj e
    obtain ⟨c1, a1, a2, -⟩ := (hka j hj).2
    obtain ⟨c2, b1, b2, b3, -⟩ := ht2
    rw [← hk1 j hj, e, hk2] at a1
    cases a1.symm.trans b1
    obtain ⟨-, k, hk, comp, hkind⟩ := a2
    obtain ⟨k2, hk2', hkind2⟩ := (hfC 13 (by decide)).2.2
    rw [b2] at hk
    cases hk.symm.trans hk2'
    rw [hkind] at hkind2
    cases hkind2
  have hT : ∀ j, j < 12 → xl_T0 ka (ka j) = 200 + j := by
    intro j hj
    rcases xl_T0_spec (ka := ka) (q := ka j) with ⟨h, -⟩ | ⟨i, hi, h1, h2⟩ | ⟨-, -, h⟩
    · exact absurd h (hne j hj)
    · rw [h2, hinj j i hj hi h1]
    · exact absurd rfl (h j hj)
  have hlt : ∀ q, 1 ≤ xl_T0 ka q → q < s.heap.size := by
    intro q hq
    rcases xl_T0_spec (ka := ka) (q := q) with ⟨h, -⟩ | ⟨i, hi, h1, h2⟩ | ⟨h, -⟩
    · obtain ⟨c2, b1, -⟩ := ht2
      rw [h, hk2]
      exact (Array.getElem?_eq_some_iff.mp b1).1
    · obtain ⟨c1, a1, -⟩ := (hka i hi).2
      rw [h1, hk1 i hi]
      exact (Array.getElem?_eq_some_iff.mp a1).1
    · omega
  refine ⟨((fun c => (fC c).1, fun c => (fC c).2), fA, s.heap, ka, 0, fun _ => 0, false), rfl, rfl, ⟨hfC, hfA, fun w hw => ?_, fun j h4 h9 C hC => ?_, fun e he => ?_, fun e he => ?_, fun w hw => ?_, xl_np hts, fun j hj => ?_⟩, hT, fun μ => ⟨rfl, Nat.le_refl _, fun _ _ => rfl, rfl, fun q hq => ?_, fun q hq => ⟨fun hro => ?_, ?_⟩, fun h => by cases h⟩⟩
  · exact va_Nw.of (xw_nk_t (xw_nl_k w hw)) (hts _ (xw_nl_tbl w hw))
  · have h := hts _ (xl_aro j h4 h9)
    rw [hC] at h
    exact h
  · have hj : e.2.2 < 12 ∧ e.1 = xl_sn e.2.2 ∧ e.2.1 = "[J" ∨ e = ("AT_ONCE", "LCrossingWords$Span;", 12) := by
      simp only [xw_sl, List.mem_cons, List.not_mem_nil, or_false] at he
      rcases he with h | h | h | h | h | h | h | h | h | h | h | h | h <;> rw [h] <;> first | exact Or.inl ⟨by decide, rfl, rfl⟩ | exact Or.inr rfl
    rcases hj with ⟨h1, h2, h3⟩ | h
    · rw [h2, h3]
      show va_Z _ _ _ (.ref (ka e.2.2)) _ _ _
      rw [hk1 _ h1]
      exact (hka _ h1).1
    · rw [h]
      show va_Z _ _ _ (.ref (ka 12)) _ _ _
      rw [hk2]
      exact ht1
  · exact va_Zof (hts _ (xl_lsl e he)) (hts _ xl_ini) (va_eql (hgT _ (xl_llm e he))) hA
  · exact va_Nw.of (xw_nk_t (xw_nc_k w hw)) (hts _ (xw_nc_tbl w hw))
  · show va_T .long (ka j) _ _ _ _ _
    rw [hk1 j hj]
    exact (hka j hj).2
  · have hq : s.heap.size ≤ q := hq
    refine ⟨?_, fun _ => rfl, fun _ => rfl, fun _ => rfl, fun _ _ => rfl, fun _ _ => rfl⟩
    show xl_T0 ka q = 0
    refine Nat.eq_zero_of_not_pos fun h => ?_
    have := hlt q h
    omega
  · have hq : 1 ≤ xl_T0 ka q := hq
    have hro : xw_ro (xl_T0 ka q) = false := hro
    rcases xl_T0_spec (ka := ka) (q := q) with ⟨h, h2⟩ | ⟨i, hi, h1, h2⟩ | ⟨h, -⟩
    · rw [h2] at hro; cases hro
    · rw [h2] at hro
      unfold xw_ro at hro
      rw [Bool.or_eq_false_iff] at hro
      have : Nat.ble 200 (200 + i) = true := Nat.ble_eq_true_of_le (by omega)
      rw [this] at hro
      cases hro.2
    · omega
  · have hq : 1 ≤ xl_T0 ka q := hq
    refine ⟨fun h => ?_, fun h h' => ?_, fun h => ?_, fun h => ?_⟩
    · have h : xl_T0 ka q < 32 := h
      rcases xl_T0_spec (ka := ka) (q := q) with ⟨_, h2⟩ | ⟨i, hi, h1, h2⟩ | ⟨h2, -⟩ <;> omega
    · have h : 64 ≤ xl_T0 ka q := h
      have h' : xl_T0 ka q < 200 := h'
      rcases xl_T0_spec (ka := ka) (q := q) with ⟨_, h2⟩ | ⟨i, hi, h1, h2⟩ | ⟨h2, -⟩ <;> omega
    · have h : xl_T0 ka q = 32 := h
      rcases xl_T0_spec (ka := ka) (q := q) with ⟨h1, h2⟩ | ⟨i, hi, h1, h2⟩ | ⟨h2, -⟩
      · have e1 : ∀ k, k < 2 → xw_val (xl_s0 ka s.heap.size) (xw_fid 13 k) q = .int 0 := by
          intro k hk
          have : k = 0 ∨ k = 1 := by omega
          rcases this with h | h <;> rw [h] <;> rfl
        obtain ⟨cell, c1, c2, c3, c4, c5⟩ := ht2
        rw [h1, hk2]
        rw [h1, hk2] at e1
        exact ⟨cell, c1, c2, c3, c4, fun k hk => (c5 k hk).trans (congrArg some (e1 k hk).symm)⟩
      · omega
      · omega
    · have h : 200 ≤ xl_T0 ka q := h
      rcases xl_T0_spec (ka := ka) (q := q) with ⟨h1, h2⟩ | ⟨i, hi, h1, h2⟩ | ⟨h2, -⟩
      · omega
      · show xl_T0 ka q < 212 ∧ q = ka (xl_T0 ka q - 200) ∧ xw_kn (xl_T0 ka q) = xw_kn (xl_T0 ka q)
        rw [h2]
        exact ⟨by omega, by rw [show 200 + i - 200 = i by omega]; exact h1, rfl⟩
      · omega
