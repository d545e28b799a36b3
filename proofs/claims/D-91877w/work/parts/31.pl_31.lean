/-! what a run of a case is, by its words alone: D k f says of the saying k 0 what it is, 1 its hand, 2 to whom, 3 what it answers, 4 its way, 5 hold, 6 given, 7 loss (0 none, 1 may be, 2 is), 8.. words, 13.. low, 16.. high; R f the rules; pk the digits of what is asked -/
set_option maxRecDepth 100000
def qb (b : Bool) : Int32 := if b then 1 else 0
theorem qb_0 (b : Bool) : (qb b = 0) = (b = false) := by cases b <;> decide
theorem qb_1 (b : Bool) : (qb b = 1) = (b = true) := by cases b <;> decide
theorem qb_or (b : Bool) : qb b = 0 ∨ qb b = 1 := by cases b <;> decide
theorem qb_t : qb true = 1 := rfl
theorem qb_f : qb false = 0 := rfl
def dn (v : Int32) : Nat := v.toNatClampNeg
theorem dn_qn {a : Nat} (ha : a < 2147483648) : dn (qn a) = a := qn_nat ha
/-- a number from 0 to m -/
def qr (m : Nat) (v : Int32) : Prop := v = qn (dn v) ∧ dn v ≤ m
/-- such a number, or -1 -/
def qo (m : Nat) (v : Int32) : Prop := v = -1 ∨ qr m v
theorem qr_qn {a m : Nat} (h : a ≤ m) (hm : m < 2147483648 := by omega) : qr m (qn a) := by
  unfold qr
  rw [dn_qn (by omega)]
  exact ⟨rfl, h⟩
theorem qo_lt0 {m : Nat} {v : Int32} (h : qo m v) (hm : m < 2147483648 := by omega) : (v < 0) = (v = -1) := by
  rcases h with rfl | ⟨h1, h2⟩
  · simp
  · rw [h1, qn_ne1 (by omega)]
    have := qn_ge0 (a := dn v) (by omega)
    simp [this]
theorem qo_ge0 {m : Nat} {v : Int32} (h : qo m v) (hm : m < 2147483648 := by omega) : (0 ≤ v) = (v ≠ -1) := by
  rcases h with rfl | ⟨h1, h2⟩
  · simp
  · rw [h1]
    have h3 : (0 : Int32) ≤ qn (dn v) := by
      rw [show (0 : Int32) = qn 0 from rfl, qn_le (by omega) (by omega)]
      omega
    have h4 : qn (dn v) ≠ -1 := fun h => by rw [qn_ne1 (by omega)] at h; exact h
    simp [h3, h4]
def sp_okR (R : Nat → Int32) : Prop := (∀ f, f < 6 → qr 2 (R f)) ∧ qr 1 (R 6) ∧ qo 999 (R 7) ∧ qo 999 (R 8) ∧ qr 1 (R 9) ∧ qr 2 (R 10) ∧ qr 1 (R 11) ∧ qr 2 (R 12)
def sp_isOf (v : Int32) : Bool := v = 0 || v = 3
/-- a saying that may be the k-th of the case c -/
def sp_ok1 (c : Nat) (D : Nat → Nat → Int32) (k : Nat) : Prop :=
  qr 7 (D k 0) ∧ qr 2 (D k 1) ∧ qo 2 (D k 2) ∧ qr 3 (D k 4) ∧ qo 1999 (D k 5) ∧ (D k 6 = -1 ∨ ∃ g, g < c ∧ D k 6 = qn g) ∧ qr 2 (D k 7) ∧
  (∀ j, j < 5 → qo 999 (D k (8 + j))) ∧
  (∀ j, j < 3 → qr 1999 (D k (13 + j)) ∧ qr 2999 (D k (16 + j)) ∧ dn (D k (13 + j)) ≤ dn (D k (16 + j)) ∧ dn (D k (16 + j)) ≤ dn (D k (13 + j)) + 15) ∧
  (if D k 0 = 0 ∨ D k 0 = 1 then D k 3 = -1 ∧ qr 2 (D k 2) else
    ∃ s, s < k ∧ D k 3 = qn s ∧ (if D k 0 = 5 then sp_isOf (D s 0) = true ∨ D s 0 = 2 else sp_isOf (D s 0) = true)) ∧
  (D k 0 = 3 → qr 2 (D k 2)) ∧ (D k 0 ≠ 0 → D k 5 = -1 ∧ D k 6 = -1) ∧ (D k 0 ≠ 0 → D k 0 ≠ 3 → ∀ j, j < 5 → D k (8 + j) = -1) ∧ dn (D k 14) ≤ 999 ∧ dn (D k 15) ≤ 999
def sp_ok (c n : Nat) (D : Nat → Nat → Int32) : Prop := n ≤ 12 ∧ ∀ k, k < n → sp_ok1 c D k
def sp_lost (D : Nat → Nat → Int32) (pk : Nat → Nat) (k : Nat) : Bool := D k 7 = 2 || pk (4 * k + 3) = 1
def sp_h0 (D : Nat → Nat → Int32) (pk : Nat → Nat) (k : Nat) : Nat := min 2100 (dn (D k 13) + pk (4 * k))
def sp_h1 (D : Nat → Nat → Int32) (pk : Nat → Nat) (k : Nat) : Nat := if sp_lost D pk k then 9999 else min 3100 (sp_h0 D pk k + dn (D k 14) + pk (4 * k + 1))
def sp_h2 (D : Nat → Nat → Int32) (pk : Nat → Nat) (k : Nat) : Nat := if sp_lost D pk k then 9999 else min 4100 (sp_h1 D pk k + dn (D k 15) + pk (4 * k + 2))
/-- the hours of sayings: when they're sent, come, are read -/
def sp_H (D : Nat → Nat → Int32) (pk : Nat → Nat) (k w : Nat) : Nat := if w = 0 then sp_h0 D pk k else if w = 1 then sp_h1 D pk k else sp_h2 D pk k
def sp_small (D : Nat → Nat → Int32) (R : Nat → Int32) (k : Nat) : Bool := D k 0 = 3 && R 9 = 1 && D k 8 = -1 && D k 9 = -1 && D k 10 = -1
def sp_off (D : Nat → Nat → Int32) (R : Nat → Int32) (k : Nat) : Bool := D k 0 = 0 || (D k 0 = 3 && !sp_small D R k)
def sp_isno (D : Nat → Nat → Int32) (R : Nat → Int32) (k : Nat) : Bool := D k 0 = 4 || (D k 0 = 3 && !sp_small D R k)
def sp_isyes (D : Nat → Nat → Int32) (R : Nat → Int32) (k : Nat) : Bool := D k 0 = 2 || sp_small D R k || (D k 0 = 6 && R 11 = 1)
def sp_answ (D : Nat → Nat → Int32) (k : Nat) : Bool := D k 0 = 2 || D k 0 = 3 || D k 0 = 4 || D k 0 = 6
/-! of hours H: H k w -/
def sp_from (R : Nat → Int32) (bar : Nat → Bool) (H : Nat → Nat → Nat) (o : Nat) : Nat := if bar o then 9999 else H o (dn (R 3))
def sp_back (D : Nat → Nat → Int32) (R : Nat → Int32) (H : Nat → Nat → Nat) (o j : Nat) : Nat :=
  if D j 0 = 5 ∧ D j 3 = qn o then (if D o 5 ≠ -1 ∧ R 6 = 1 ∧ H j (dn (R 4)) ≤ dn (D o 5) then 9999 else H j (dn (R 4))) else 9999
def sp_no (D : Nat → Nat → Int32) (R : Nat → Int32) (H : Nat → Nat → Nat) (o j : Nat) : Nat :=
  if sp_isno D R j = true ∧ D j 3 = qn o then H j (dn (R 5)) else 9999
/-- the least of f 0 .. f (n-1) and 9999 for no cause -/
def sp_M (f : Nat → Nat) : Nat → Nat
  | 0 => 79992
  | n + 1 => min (sp_M f n) (f n)
def sp_tail (D : Nat → Nat → Int32) (R : Nat → Int32) (H : Nat → Nat → Nat) (o : Nat) : Nat :=
  if D o 5 ≠ -1 then 8 * (dn (D o 5) + 1) + 3 else if R 7 ≠ -1 ∧ H o 1 < 9999 then 8 * min 9998 (H o 1 + dn (R 7) + 1) + 4 else 79992
/-- when an offer ends, and why -/
def sp_E (n : Nat) (D : Nat → Nat → Int32) (R : Nat → Int32) (H : Nat → Nat → Nat) (o : Nat) : Nat :=
  min (sp_M (fun j => min (8 * sp_back D R H o j + 1) (8 * sp_no D R H o j + 2)) n) (sp_tail D R H o)
theorem sp_M_le (f : Nat → Nat) (n : Nat) : sp_M f n ≤ 79992 := by
  induction n with
  | zero => exact Nat.le_refl _
  | succ n ih => unfold sp_M; omega
theorem sp_E_le (n : Nat) (D : Nat → Nat → Int32) (R : Nat → Int32) (H : Nat → Nat → Nat) (o : Nat) : sp_E n D R H o ≤ 79992 := by
  unfold sp_E
  have := sp_M_le (fun j => min (8 * sp_back D R H o j + 1) (8 * sp_no D R H o j + 2)) n
  omega
theorem sp_M_md (f : Nat → Nat) (n : Nat) (h : ∀ j, j < n → 1 ≤ f j % 8) : 1 ≤ sp_M f n % 8 ∨ sp_M f n = 79992 := by
  induction n with
  | zero => exact Or.inr rfl
  | succ n ih =>
    have h1 := h n (by omega)
    have h2 := ih (fun j hj => h j (by omega))
    unfold sp_M
    rcases Nat.le_total (sp_M f n) (f n) with h3 | h3
    · rw [Nat.min_eq_left h3]; exact h2
    · rw [Nat.min_eq_right h3]; exact Or.inl h1
theorem sp_M_start (f : Nat → Nat) (n : Nat) (h : ∀ j, j < n → 79992 ≤ f j) : sp_M f n = 79992 := by
  induction n with
  | zero => rfl
  | succ n ih =>
    unfold sp_M
    rw [ih (fun j hj => h j (by omega))]
    have := h n (by omega)
    omega
theorem sp_M_min (f g : Nat → Nat) (n : Nat) : sp_M (fun j => min (f j) (g j)) n = min (sp_M f n) (sp_M g n) := by
  induction n with
  | zero => rfl
  | succ n ih =>
    unfold sp_M
    rw [ih]
    omega
def sp_open (from0 ends : Nat → Nat) (o h : Nat) : Bool := h < 9999 && from0 o ≤ h && h < ends o
/-- by which hour a yes counts -/
def sp_yh (D : Nat → Nat → Int32) (R : Nat → Int32) (H : Nat → Nat → Nat) (k : Nat) : Nat := if D k 0 = 6 then H k 0 else H k (dn (R (min 2 (dn (D k 4)))))
def sp_tb (n : Nat) (D : Nat → Nat → Int32) (R : Nat → Int32) (H : Nat → Nat → Nat) (k h : Nat) : Bool := (List.range n).any fun j => D j 0 = 5 && D j 3 = qn k && H j (dn (R 4)) < h
def sp_ans (n : Nat) (D : Nat → Nat → Int32) (H : Nat → Nat → Nat) (o h : Nat) : Bool := (List.range n).any fun j => sp_answ D j && D j 3 = qn o && H j 0 ≤ h
/-- the hour at which a yes makes a bargain; 9999: never -/
def sp_mk (n : Nat) (D : Nat → Nat → Int32) (R : Nat → Int32) (H : Nat → Nat → Nat) (F E : Nat → Nat) (k : Nat) : Nat :=
  if sp_off D R (dn (D k 3)) = true ∧ H (dn (D k 3)) 1 ≤ H k 0 ∧ sp_open F E (dn (D k 3)) (sp_yh D R H k) = true ∧ sp_tb n D R H k (sp_yh D R H k) = false then sp_yh D R H k else 9999
def sp_si (n : Nat) (D : Nat → Nat → Int32) (R : Nat → Int32) (H : Nat → Nat → Nat) (F E : Nat → Nat) (o : Nat) : Nat :=
  if R 8 ≠ -1 ∧ H o 2 < 9999 ∧ sp_open F E o (H o 2 + dn (R 8)) = true ∧ sp_ans n D H o (H o 2 + dn (R 8)) = false then H o 2 + dn (R 8) else 9999
/-- since when, by which yes, of which offer -/
def sp_tk (h : Nat) (y : Int32) (o : Nat) (b : Nat × Int32 × Nat) : Nat × Int32 × Nat := if h < b.1 then (h, y, o) else b
def sp_B1 (n : Nat) (D : Nat → Nat → Int32) (R : Nat → Int32) (H : Nat → Nat → Nat) (F E : Nat → Nat) : Nat → Nat × Int32 × Nat
  | 0 => (9999, -1, 0)
  | k + 1 => if sp_isyes D R k then sp_tk (sp_mk n D R H F E k) (qn k) (dn (D k 3)) (sp_B1 n D R H F E k) else sp_B1 n D R H F E k
def sp_B2 (n : Nat) (D : Nat → Nat → Int32) (R : Nat → Int32) (H : Nat → Nat → Nat) (F E : Nat → Nat) : Nat → Nat × Int32 × Nat
  | 0 => sp_B1 n D R H F E n
  | k + 1 => if sp_off D R k then sp_tk (sp_si n D R H F E k) (-1) k (sp_B2 n D R H F E k) else sp_B2 n D R H F E k
/-- an hour as the reference keeps it -/
def rv (h : Nat) : Int32 := if h < 9999 then qn h else -1
theorem rv_lt0 (h : Nat) : (rv h < 0) = (9999 ≤ h) := by
  unfold rv
  split
  · rename_i h1
    have := qn_ge0 (a := h) (by omega)
    apply propext
    constructor
    · intro h2; exact absurd h2 this
    · intro h2; omega
  · apply propext
    constructor
    · intro; omega
    · intro; decide
theorem rv_ge0 (h : Nat) : (0 ≤ rv h) = (h < 9999) := by
  unfold rv
  split
  · rename_i h1
    rw [show (0 : Int32) = qn 0 from rfl, qn_le (by omega) (by omega)]
    apply propext
    constructor
    · intro; exact h1
    · intro; omega
  · rename_i h1
    apply propext
    constructor
    · intro h2; exact absurd h2 (by decide)
    · intro h2; exact absurd h2 h1
theorem rv_qn {h : Nat} (hh : h < 9999) : rv h = qn h := if_pos hh
theorem rv_m1 {h : Nat} (hh : 9999 ≤ h) : rv h = -1 := if_neg (by omega)
theorem sp_h0_lt (D : Nat → Nat → Int32) (pk : Nat → Nat) (k : Nat) : sp_h0 D pk k < 9999 := by unfold sp_h0; omega
theorem sp_h1_le (D : Nat → Nat → Int32) (pk : Nat → Nat) (k : Nat) : sp_h1 D pk k ≤ 9999 := by unfold sp_h1; split <;> omega
theorem sp_h2_le (D : Nat → Nat → Int32) (pk : Nat → Nat) (k : Nat) : sp_h2 D pk k ≤ 9999 := by unfold sp_h2; split <;> omega
theorem sp_H_le (D : Nat → Nat → Int32) (pk : Nat → Nat) (k w : Nat) : sp_H D pk k w ≤ 9999 := by
  unfold sp_H
  have := sp_h0_lt D pk k
  have := sp_h1_le D pk k
  have := sp_h2_le D pk k
  split
  · omega
  · split <;> omega
