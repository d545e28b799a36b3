/-! xw: an abstract heap (one map per field, arrays by allocation site), programs over it, and the judgement X that ties a program to bytecode -/
set_option maxRecDepth 100000
/-- tags, lengths, int fields, long fields, reference fields, int elements, reference elements, constants' addresses, the next address -/
abbrev xw_St : Type := (Nat → Nat) × (Nat → Nat) × (Nat → Nat → Int32) × (Nat → Nat → Int64) × (Nat → Nat → Option Nat) × (Nat → Nat → Nat → Int32) × (Nat → Nat → Nat → Option Nat) × (Nat → Nat) × Nat
def xw_T (σ : xw_St) : Nat → Nat := σ.1
def xw_L (σ : xw_St) : Nat → Nat := σ.2.1
def xw_I (σ : xw_St) : Nat → Nat → Int32 := σ.2.2.1
def xw_J (σ : xw_St) : Nat → Nat → Int64 := σ.2.2.2.1
def xw_R (σ : xw_St) : Nat → Nat → Option Nat := σ.2.2.2.2.1
def xw_A (σ : xw_St) : Nat → Nat → Nat → Int32 := σ.2.2.2.2.2.1
def xw_B (σ : xw_St) : Nat → Nat → Nat → Option Nat := σ.2.2.2.2.2.2.1
def xw_C (σ : xw_St) : Nat → Nat := σ.2.2.2.2.2.2.2.1
def xw_N (σ : xw_St) : Nat := σ.2.2.2.2.2.2.2.2
def xw_u1 {α : Type} (g : Nat → α) (q : Nat) (v : α) : Nat → α := fun q' => if q' = q then v else g q'
def xw_u2 {α : Type} (g : Nat → Nat → α) (f q : Nat) (v : α) : Nat → Nat → α := fun f' => if f' = f then xw_u1 (g f') q v else g f'
def xw_u3 {α : Type} (g : Nat → Nat → Nat → α) (t q i : Nat) (v : α) : Nat → Nat → Nat → α := fun t' => if t' = t then xw_u2 (g t') q i v else g t'
def xw_sI (σ : xw_St) (f q : Nat) (v : Int32) : xw_St := (xw_T σ, xw_L σ, xw_u2 (xw_I σ) f q v, xw_J σ, xw_R σ, xw_A σ, xw_B σ, xw_C σ, xw_N σ)
def xw_sJ (σ : xw_St) (f q : Nat) (v : Int64) : xw_St := (xw_T σ, xw_L σ, xw_I σ, xw_u2 (xw_J σ) f q v, xw_R σ, xw_A σ, xw_B σ, xw_C σ, xw_N σ)
def xw_sR (σ : xw_St) (f q : Nat) (v : Option Nat) : xw_St := (xw_T σ, xw_L σ, xw_I σ, xw_J σ, xw_u2 (xw_R σ) f q v, xw_A σ, xw_B σ, xw_C σ, xw_N σ)
def xw_sA (σ : xw_St) (t q i : Nat) (v : Int32) : xw_St := (xw_T σ, xw_L σ, xw_I σ, xw_J σ, xw_R σ, xw_u3 (xw_A σ) t q i v, xw_B σ, xw_C σ, xw_N σ)
def xw_sB (σ : xw_St) (t q i : Nat) (v : Option Nat) : xw_St := (xw_T σ, xw_L σ, xw_I σ, xw_J σ, xw_R σ, xw_A σ, xw_u3 (xw_B σ) t q i v, xw_C σ, xw_N σ)
/-- a new cell of tag t, length n: what it holds is blank already (xw_wf) -/
def xw_nw (σ : xw_St) (t n : Nat) : xw_St := (xw_u1 (xw_T σ) (xw_N σ) t, xw_u1 (xw_L σ) (xw_N σ) n, xw_I σ, xw_J σ, xw_R σ, xw_A σ, xw_B σ, xw_C σ, xw_N σ + 1)
/-- what isn't made yet is blank -/
def xw_wf (σ : xw_St) : Prop := ∀ q, xw_N σ ≤ q → xw_T σ q = 0 ∧ (∀ f, xw_I σ f q = 0) ∧ (∀ f, xw_J σ f q = 0) ∧ (∀ f, xw_R σ f q = none) ∧ (∀ t i, xw_A σ t q i = 0) ∧ (∀ t i, xw_B σ t q i = none)
/-! programs: what they answer, the state behind them, how many cells of how many slots they made; none: stuck -/
abbrev xw_M (S α : Type) : Type := S → Option (α × S × Nat × Nat)
def xw_bd {S α β : Type} (m : xw_M S α) (f : α → xw_M S β) : xw_M S β := fun s => match m s with
  | none => none
  | some (a, s1, k1, n1) => match f a s1 with
    | none => none
    | some (b, s2, k2, n2) => some (b, s2, k1 + k2, n1 + n2)
def xw_rt {S α : Type} (a : α) : xw_M S α := fun s => some (a, s, 0, 0)
def xw_no {S α : Type} : xw_M S α := fun _ => none
/-- a name for a computed value -/
def xw_lt {S α β : Type} (e : β) (f : β → xw_M S α) : xw_M S α := f e
/-- a place where ways meet -/
def xw_jn {S α β : Type} (rest : β → xw_M S α) (body : (β → xw_M S α) → xw_M S α) : xw_M S α := body rest
def xw_loop {S α β : Type} (body : α → xw_M S (α ⊕ β)) : Nat → α → xw_M S β
  | 0, _ => xw_no
  | n + 1, a => xw_bd (body a) fun r => match r with
    | .inl a' => xw_loop body n a'
    | .inr b => xw_rt b
theorem xw_bd_rt {S α β : Type} (a : α) (f : α → xw_M S β) : xw_bd (xw_rt a) f = f a := by
  funext s
  simp only [xw_bd, xw_rt]
  cases f a s with
  | none => rfl
  | some x => obtain ⟨b, s2, k2, n2⟩ := x; simp
theorem xw_rt_bd {S α : Type} (m : xw_M S α) : xw_bd m xw_rt = m := by
  funext s
  simp only [xw_bd, xw_rt]
  cases m s with
  | none => rfl
  | some x => obtain ⟨b, s2, k2, n2⟩ := x; simp
theorem xw_bd_bd {S α β γ : Type} (m : xw_M S α) (f : α → xw_M S β) (g : β → xw_M S γ) : xw_bd (xw_bd m f) g = xw_bd m fun a => xw_bd (f a) g := by
  funext s
  simp only [xw_bd]
  cases m s with
  | none => rfl
  | some x =>
    obtain ⟨a, s1, k1, n1⟩ := x
    dsimp only
    cases f a s1 with
    | none => rfl
    | some y =>
      obtain ⟨b, s2, k2, n2⟩ := y
      dsimp only
      cases g b s2 with
      | none => rfl
      | some z => obtain ⟨c, s3, k3, n3⟩ := z; simp [Nat.add_assoc]
theorem xw_bd_ite {S α β : Type} (c : Prop) [Decidable c] (A B : xw_M S α) (f : α → xw_M S β) : xw_bd (ite c A B) f = ite c (xw_bd A f) (xw_bd B f) := by
  split <;> rfl
theorem xw_bd_inv {S α β : Type} {m : xw_M S α} {f : α → xw_M S β} {s s' : S} {b : β} {k n : Nat} (h : xw_bd m f s = some (b, s', k, n)) :
    ∃ a s1 k1 n1 k2 n2, m s = some (a, s1, k1, n1) ∧ f a s1 = some (b, s', k2, n2) ∧ k = k1 + k2 ∧ n = n1 + n2 := by
  simp only [xw_bd] at h
  cases hm : m s with
  | none => rw [hm] at h; cases h
  | some x =>
    obtain ⟨a, s1, k1, n1⟩ := x
    rw [hm] at h
    dsimp only at h
    cases hf : f a s1 with
    | none => rw [hf] at h; cases h
    | some y =>
      obtain ⟨b2, s2, k2, n2⟩ := y
      rw [hf] at h
      cases h
      exact ⟨a, s1, k1, n1, k2, n2, rfl, hf, rfl, rfl⟩
/-! tables: fields by number, a class's fields, allocation sites, constants -/
def xw_fdl : List (String × String × String × Bool) := [("CrossingWords", "cases", "[LCrossingWords$Case;", true), ("CrossingWords", "laws", "[LCrossingWords$Text;", true), ("CrossingWords", "clauses", "[LCrossingWords$Text;", true), ("CrossingWords", "tape", "[B", true), ("CrossingWords", "runs", "[LCrossingWords$Run;", true), ("CrossingWords", "taped", "I", false), ("CrossingWords", "caseMany", "I", false), ("CrossingWords", "lawMany", "I", false), ("CrossingWords", "clauseMany", "I", false), ("CrossingWords", "fault", "I", false), ("CrossingWords", "deep", "I", false), ("CrossingWords", "images", "[LCrossingWords$Image;", true), ("CrossingWords", "imageMany", "I", false), ("CrossingWords", "outcome", "[Z", true), ("CrossingWords", "told", "[I", true), ("CrossingWords$Run", "hours", "[I", true), ("CrossingWords$Run", "from", "[I", true), ("CrossingWords$Run", "ends", "[I", true), ("CrossingWords$Run", "why", "[I", true), ("CrossingWords$Run", "digits", "[I", true), ("CrossingWords$Run", "own", "LCrossingWords$Case;", false), ("CrossingWords$Run", "rules", "LCrossingWords$Rules;", false), ("CrossingWords$Run", "yes", "I", false), ("CrossingWords$Run", "since", "I", false), ("CrossingWords$Run", "offer", "LCrossingWords$Saying;", false), ("CrossingWords$Run", "this$0", "LCrossingWords;", true), ("CrossingWordsModel", "cases", "[I", true), ("CrossingWordsModel", "laws", "[I", true), ("CrossingWordsModel", "clauses", "[I", true), ("CrossingWordsModel", "many", "[I", true), ("CrossingWordsModel", "what", "[I", true), ("CrossingWordsModel", "hand", "[I", true), ("CrossingWordsModel", "whom", "[I", true), ("CrossingWordsModel", "said", "[I", true), ("CrossingWordsModel", "way", "[I", true), ("CrossingWordsModel", "hold", "[I", true), ("CrossingWordsModel", "given", "[I", true), ("CrossingWordsModel", "loss", "[I", true), ("CrossingWordsModel", "word", "[I", true), ("CrossingWordsModel", "low", "[I", true), ("CrossingWordsModel", "high", "[I", true), ("CrossingWordsModel", "rule", "[I", true), ("CrossingWordsModel", "tape", "[B", true), ("CrossingWordsModel", "taped", "I", false), ("CrossingWordsModel", "faultAt", "I", false), ("CrossingWordsModel", "limit", "I", false), ("CrossingWordsModel", "point", "I", false), ("CrossingWordsModel", "from", "I", false), ("CrossingWordsModel", "token", "I", false), ("CrossingWordsModel", "value", "I", false), ("CrossingWordsModel", "text", "J", false), ("CrossingWordsModel", "isWrong", "Z", false), ("CrossingWordsModel", "rules", "[I", true), ("CrossingWordsModel", "n", "I", false), ("CrossingWordsModel", "asked0", "I", false), ("CrossingWordsModel", "combos", "I", false), ("CrossingWordsModel", "wWhat", "[I", true), ("CrossingWordsModel", "wWay", "[I", true), ("CrossingWordsModel", "wLoss", "[I", true), ("CrossingWordsModel", "wHold", "[I", true), ("CrossingWordsModel", "wSaid", "[I", true), ("CrossingWordsModel", "wHand", "[I", true), ("CrossingWordsModel", "wWhom", "[I", true), ("CrossingWordsModel", "isBarred", "[Z", true), ("CrossingWordsModel", "wWord", "[I", true), ("CrossingWordsModel", "wLow", "[I", true), ("CrossingWordsModel", "wHigh", "[I", true), ("CrossingWordsModel", "askedOf", "[I", true), ("CrossingWordsModel", "radix", "[I", true), ("CrossingWordsModel", "sent", "[I", true), ("CrossingWordsModel", "comes", "[I", true), ("CrossingWordsModel", "isRead", "[I", true), ("CrossingWordsModel", "pick", "[I", true), ("CrossingWordsModel", "opens", "[I", true), ("CrossingWordsModel", "endsAt", "[I", true), ("CrossingWordsModel", "why", "[I", true), ("CrossingWordsModel", "has", "Z", false), ("CrossingWordsModel", "byYes", "I", false), ("CrossingWordsModel", "byOffer", "I", false), ("CrossingWordsModel", "atHour", "I", false), ("CrossingWordsModel", "isSure", "[Z", true), ("CrossingWordsModel", "isNeeded", "[Z", true), ("CrossingWordsModel", "hasBy", "[Z", true), ("CrossingWordsModel", "met", "[I", true), ("CrossingWordsModel", "firstYes", "[I", true), ("CrossingWordsModel", "firstWords", "[I", true), ("CrossingWordsModel", "apartCount", "I", false), ("CrossingWordsModel", "apartFirst", "I", false), ("CrossingWordsModel", "images", "I", false), ("CrossingWords$Reader", "text", "[B", true), ("CrossingWords$Reader", "size", "I", true), ("CrossingWords$Reader", "at", "I", false), ("CrossingWords$Reader", "end", "I", false), ("CrossingWords$Reader", "kind", "I", false), ("CrossingWords$Reader", "word", "J", false), ("CrossingWords$Reader", "wrong", "Z", false), ("CrossingWords$CaseReader", "own", "LCrossingWords$Case;", true), ("CrossingWords$CaseReader", "cases", "I", true), ("CrossingWords$CaseReader", "had", "I", true), ("CrossingWords$Case", "sayings", "[LCrossingWords$Saying;", true), ("CrossingWords$Case", "askedOf", "[I", true), ("CrossingWords$Case", "askedWhat", "[I", true), ("CrossingWords$Case", "askedMany", "[I", true), ("CrossingWords$Case", "many", "I", false), ("CrossingWords$Case", "asked", "I", false), ("CrossingWords$Case", "combos", "J", false), ("CrossingWords$Saying", "index", "I", true), ("CrossingWords$Saying", "hand", "I", true), ("CrossingWords$Saying", "times", "LCrossingWords$Times;", false), ("CrossingWords$Ask", "to", "I", true), ("CrossingWords$Offer", "to", "I", true), ("CrossingWords$Offer", "terms", "[I", true), ("CrossingWords$Offer", "hold", "I", false), ("CrossingWords$Offer", "given", "I", false), ("CrossingWords$Answer", "said", "LCrossingWords$Saying;", true), ("CrossingWords$But", "terms", "[I", true), ("CrossingWords$Span", "low", "I", true), ("CrossingWords$Span", "high", "I", true), ("CrossingWords$Times", "way", "I", true), ("CrossingWords$Times", "at", "LCrossingWords$Span;", true), ("CrossingWords$Times", "after", "LCrossingWords$Span;", true), ("CrossingWords$Times", "read", "LCrossingWords$Span;", true), ("CrossingWords$Times", "mayBeLost", "Z", true), ("CrossingWords$Times", "isLost", "Z", true), ("CrossingWords$LawReader", "own", "LCrossingWords$Text;", true), ("CrossingWords$LawReader", "least", "I", true), ("CrossingWords$Text", "fields", "[I", true), ("CrossingWords$Text", "values", "[I", true), ("CrossingWords$Text", "many", "I", false), ("CrossingWords$Text", "rules", "I", false), ("CrossingWords$Rules", "row", "[I", true), ("CrossingWords$Rules", "given", "[I", true), ("CrossingWords$Image", "cases", "[LCrossingWords$Case;", true), ("CrossingWords$Image", "caseMany", "I", true), ("CrossingWords$Image", "lawMany", "I", true), ("CrossingWords$Image", "clauseMany", "I", true), ("CrossingWords$Image", "laws", "[LCrossingWords$Text;", true), ("CrossingWords$Image", "clauses", "[LCrossingWords$Text;", true)]
def xw_fd (f : Nat) : String × String × String × Bool := xw_fdl.getD f ("", "", "", false)
def xw_ftl : List Nat := [3, 3, 3, 3, 3, 0, 0, 0, 0, 0, 0, 3, 0, 3, 3, 3, 3, 3, 3, 3, 3, 3, 0, 0, 3, 3, 3, 3, 3, 3, 3, 3, 3, 3, 3, 3, 3, 3, 3, 3, 3, 3, 3, 0, 0, 0, 0, 0, 0, 0, 2, 1, 3, 0, 0, 0, 3, 3, 3, 3, 3, 3, 3, 3, 3, 3, 3, 3, 3, 3, 3, 3, 3, 3, 3, 3, 1, 0, 0, 0, 3, 3, 3, 3, 3, 3, 0, 0, 0, 3, 0, 0, 0, 0, 2, 1, 3, 0, 0, 3, 3, 3, 3, 0, 0, 2, 0, 0, 3, 0, 0, 3, 0, 0, 3, 3, 0, 0, 0, 3, 3, 3, 1, 1, 3, 0, 3, 3, 0, 0, 3, 3, 3, 0, 0, 0, 3, 3]
/-- a field's kind: 0 int, 1 boolean, 2 long, 3 reference -/
def xw_ft (f : Nat) : Nat := xw_ftl.getD f 9
def xw_fTl : List FieldType := [.array (.object "CrossingWords$Case"), .array (.object "CrossingWords$Text"), .array (.object "CrossingWords$Text"), .array (.byte), .array (.object "CrossingWords$Run"), .int, .int, .int, .int, .int, .int, .array (.object "CrossingWords$Image"), .int, .array (.boolean), .array (.int), .array (.int), .array (.int), .array (.int), .array (.int), .array (.int), .object "CrossingWords$Case", .object "CrossingWords$Rules", .int, .int, .object "CrossingWords$Saying", .object "CrossingWords", .array (.int), .array (.int), .array (.int), .array (.int), .array (.int), .array (.int), .array (.int), .array (.int), .array (.int), .array (.int), .array (.int), .array (.int), .array (.int), .array (.int), .array (.int), .array (.int), .array (.byte), .int, .int, .int, .int, .int, .int, .int, .long, .boolean, .array (.int), .int, .int, .int, .array (.int), .array (.int), .array (.int), .array (.int), .array (.int), .array (.int), .array (.int), .array (.boolean), .array (.int), .array (.int), .array (.int), .array (.int), .array (.int), .array (.int), .array (.int), .array (.int), .array (.int), .array (.int), .array (.int), .array (.int), .boolean, .int, .int, .int, .array (.boolean), .array (.boolean), .array (.boolean), .array (.int), .array (.int), .array (.int), .int, .int, .int, .array (.byte), .int, .int, .int, .int, .long, .boolean, .object "CrossingWords$Case", .int, .int, .array (.object "CrossingWords$Saying"), .array (.int), .array (.int), .array (.int), .int, .int, .long, .int, .int, .object "CrossingWords$Times", .int, .int, .array (.int), .int, .int, .object "CrossingWords$Saying", .array (.int), .int, .int, .int, .object "CrossingWords$Span", .object "CrossingWords$Span", .object "CrossingWords$Span", .boolean, .boolean, .object "CrossingWords$Text", .int, .array (.int), .array (.int), .int, .int, .array (.int), .array (.int), .array (.object "CrossingWords$Case"), .int, .int, .int, .array (.object "CrossingWords$Text"), .array (.object "CrossingWords$Text")]
def xw_fT (f : Nat) : FieldType := xw_fTl.getD f .int
def xw_fids : List (List Nat) := [[0, 1, 2, 3, 4, 5, 6, 7, 8, 9, 10, 11, 12, 13, 14], [15, 16, 17, 18, 19, 20, 21, 22, 23, 24, 25], [26, 27, 28, 29, 30, 31, 32, 33, 34, 35, 36, 37, 38, 39, 40, 41, 42, 43, 44, 45, 46, 47, 48, 49, 50, 51, 52, 53, 54, 55, 56, 57, 58, 59, 60, 61, 62, 63, 64, 65, 66, 67, 68, 69, 70, 71, 72, 73, 74, 75, 76, 77, 78, 79, 80, 81, 82, 83, 84, 85, 86, 87, 88], [89, 90, 91, 92, 93, 94, 95, 96, 97, 98], [99, 100, 101, 102, 103, 104, 105], [106, 107, 108, 109], [106, 107, 108, 110, 111, 112, 113], [114, 106, 107, 108], [114, 106, 107, 108, 115], [114, 106, 107, 108], [114, 106, 107, 108], [114, 106, 107, 108], [114, 106, 107, 108], [116, 117], [118, 119, 120, 121, 122, 123], [89, 90, 91, 92, 93, 94, 95, 124, 125], [126, 127, 128, 129], [130, 131], [132, 133, 134, 135, 136, 137]]
def xw_fid (c k : Nat) : Nat := (xw_fids.getD c []).getD k 9999
def xw_nf (c : Nat) : Nat := (xw_fids.getD c []).length
def xw_Tc (c : Nat) : u_T := fun k => xw_fd (xw_fid c k)
def xw_cnl : List String := ["CrossingWords", "CrossingWords$Run", "CrossingWordsModel", "CrossingWords$CaseReader", "CrossingWords$Case", "CrossingWords$Ask", "CrossingWords$Offer", "CrossingWords$Yes", "CrossingWords$But", "CrossingWords$No", "CrossingWords$Back", "CrossingWords$Deed", "CrossingWords$Send", "CrossingWords$Span", "CrossingWords$Times", "CrossingWords$LawReader", "CrossingWords$Text", "CrossingWords$Rules", "CrossingWords$Image"]
def xw_cn (c : Nat) : String := xw_cnl.getD c ""
/-- the classes that can be made: 0 CrossingWords, 1 CrossingWords$Run, 2 CrossingWordsModel, 3 CrossingWords$CaseReader, 4 CrossingWords$Case, 5 CrossingWords$Ask, 6 CrossingWords$Offer, 7 CrossingWords$Yes, 8 CrossingWords$But, 9 CrossingWords$No, 10 CrossingWords$Back, 11 CrossingWords$Deed, 12 CrossingWords$Send, 13 CrossingWords$Span, 14 CrossingWords$Times, 15 CrossingWords$LawReader, 16 CrossingWords$Text, 17 CrossingWords$Rules, 18 CrossingWords$Image -/
def xw_cl : List vw_C := (List.range 19).map fun c => (xw_cn c, xw_Tc c, xw_nf c)
/-- a tag's class: 1 .. of objects; 32 the constant Span -/
def xw_ci (t : Nat) : Nat := if t = 32 then 13 else t - 1
def xw_isC (c t : Nat) : Bool := t == c + 1 || (t == 32 && c == 13)
def xw_hf (f t : Nat) : Bool := Nat.ble 1 t && Nat.ble t 32 && (xw_fids.getD (xw_ci t) []).contains f
/-- what is never written: the constants -/
def xw_ro (t : Nat) : Bool := t == 32 || Nat.ble 200 t
def xw_ayl : List Nat := [5, 6, 6, 2, 7, 8, 1, 0, 0, 0, 0, 0, 0, 0, 0, 0, 0, 0, 0, 0, 0, 0, 0, 0, 0, 2, 0, 0, 0, 0, 0, 0, 0, 0, 1, 0, 0, 0, 0, 0, 0, 0, 0, 0, 0, 0, 0, 1, 1, 1, 0, 0, 0, 4, 0, 0, 0, 0, 5, 6, 6, 0, 0, 0, 0, 0, 0, 0, 0, 0]
/-- the elements of an array, by its site: 0 int, 1 boolean, 2 byte, 3 long, 4 .. references; sites: 64 CW.<init> 7, 65 CW.<init> 16, 66 CW.<init> 25, 67 CW.<init> 35, 68 CW.<init> 43, 69 CW.<init> 56, 70 CW.<init> 66, 71 CW.<init> 75, 72 CW.feed 16, 73 CWModel.<init> 6, 74 CWModel.<init> 13, 75 CWModel.<init> 20, 76 CWModel.<init> 28, 77 CWModel.<init> 37, 78 CWModel.<init> 46, 79 CWModel.<init> 55, 80 CWModel.<init> 64, 81 CWModel.<init> 73, 82 CWModel.<init> 82, 83 CWModel.<init> 91, 84 CWModel.<init> 100, 85 CWModel.<init> 109, 86 CWModel.<init> 118, 87 CWModel.<init> 127, 88 CWModel.<init> 136, 89 CWModel.<init> 145, 90 CWModel.<init> 158, 91 CWModel.<init> 166, 92 CWModel.<init> 174, 93 CWModel.<init> 182, 94 CWModel.<init> 190, 95 CWModel.<init> 198, 96 CWModel.<init> 206, 97 CWModel.<init> 214, 98 CWModel.<init> 222, 99 CWModel.<init> 230, 100 CWModel.<init> 238, 101 CWModel.<init> 246, 102 CWModel.<init> 254, 103 CWModel.<init> 262, 104 CWModel.<init> 270, 105 CWModel.<init> 278, 106 CWModel.<init> 286, 107 CWModel.<init> 294, 108 CWModel.<init> 302, 109 CWModel.<init> 310, 110 CWModel.<init> 318, 111 CWModel.<init> 326, 112 CWModel.<init> 334, 113 CWModel.<init> 343, 114 CWModel.<init> 352, 115 CWModel.<init> 361, 116 CWModel.<init> 370, 117 CW$Case.<init> 7, 118 CW$Case.<init> 16, 119 CW$Case.<init> 24, 120 CW$Case.<init> 32, 121 CW$CaseReader.terms 1, 122 CW$Image.<init> 7, 123 CW$Image.<init> 16, 124 CW$Image.<init> 25, 125 CW$Rules.<init> 7, 126 CW$Rules.<init> 74, 127 CW$Run.<init> 12, 128 CW$Run.<init> 20, 129 CW$Run.<init> 28, 130 CW$Run.<init> 36, 131 CW$Run.<init> 44, 132 CW$Text.<init> 7, 133 CW$Text.<init> 15 -/
def xw_ay (t : Nat) : Nat := if 200 ≤ t then 3 else xw_ayl.getD (t - 64) 9
def xw_aTl : List FieldType := [.int, .boolean, .byte, .long, .object "CrossingWords$Saying", .object "CrossingWords$Case", .object "CrossingWords$Text", .object "CrossingWords$Run", .object "CrossingWords$Image"]
def xw_aT (j : Nat) : FieldType := xw_aTl.getD j .int
def xw_kl : List (List Int64) := [[478459356530, 6386539, 7955827, 0, 28271, 1650549611, 1684366692, 1936027236], [97, 98, 99], [482955846501, 1836409704, 6578553, 1886351988, 427071730292], [1886352244, 2003399269, 470021403752, 1684366692], [1936027252, 1668246885, 1919246692], [7955827, 478459356530, 1650549611, 28271, 1752132708, 465491227493, 32485536600843109, 6452596, 1718579821, 1684366692, 1919513451], [1886352244, 2003399269, 470021403752, 6384748], [1718773093, 422675637363], [28271, 495756340332], [439855772532, 1818325876, 1852796517], [1852796517, 7955827], [27691691706247534, 1936027252, 1668246885]]
/-- the constant arrays: tag 200 + j: 0 KINDS, 1 HAND_NAMES, 2 TERM_NAMES, 3 WAYS, 4 WHENS, 5 RULE_NAMES, 6 YES_WAYS, 7 HOLDS, 8 BUTS, 9 FORMS, 10 DEEDS, 11 RISKS -/
def xw_kc (t i : Nat) : Int64 := (xw_kl.getD (t - 200) []).getD i 0
def xw_kn (t : Nat) : Nat := (xw_kl.getD (t - 200) []).length
/-- words of the tables that don't ride in lw_all -/
def xw_nl : List Cond := [.methodLinkNest "CrossingWords" 62 ⟨"CrossingWords$Run", "<init>", "(LCrossingWords;)V"⟩ "CrossingWords", .fieldLinkNest "CrossingWords" 234 "CrossingWords$Run" "from" "[I" "CrossingWords", .fieldLinkNest "CrossingWords" 237 "CrossingWords$Run" "ends" "[I" "CrossingWords", .fieldLinkNest "CrossingWords" 240 "CrossingWords$Run" "why" "[I" "CrossingWords", .fieldLinkNest "CrossingWords" 285 "CrossingWords$Case" "askedMany" "[I" "CrossingWords", .methodLinkNest "CrossingWords" 86 ⟨"CrossingWords$Rules", "<init>", "()V"⟩ "CrossingWords", .fieldLinkNest "CrossingWords" 65 "CrossingWords$Rules" "given" "[I" "CrossingWords", .methodLinkNest "CrossingWords" 259 ⟨"CrossingWords$Case", "<init>", "()V"⟩ "CrossingWords", .fieldLinkNest "CrossingWords$Run" 41 "CrossingWords$Case" "askedOf" "[I" "CrossingWords", .fieldLinkNest "CrossingWords$Run" 44 "CrossingWords$Case" "askedWhat" "[I" "CrossingWords", .methodLinkNest "CrossingWords$Run" 96 ⟨"CrossingWords", "hasGiven", "(ILCrossingWords$Rules;)Z"⟩ "CrossingWords", .fieldLinkNest "CrossingWords$Times" 35 "CrossingWords" "AT_ONCE" "LCrossingWords$Span;" "CrossingWords", .fieldLinkNest "CrossingWords$LawReader" 27 "CrossingWords" "RULE_NAMES" "[J" "CrossingWords", .fieldLinkNest "CrossingWords$LawReader" 70 "CrossingWords" "YES_WAYS" "[J" "CrossingWords", .fieldLinkNest "CrossingWords$LawReader" 38 "CrossingWords" "WHENS" "[J" "CrossingWords", .fieldLinkNest "CrossingWords$LawReader" 45 "CrossingWords" "HOLDS" "[J" "CrossingWords", .fieldLinkNest "CrossingWords$LawReader" 52 "CrossingWords" "BUTS" "[J" "CrossingWords", .fieldLinkNest "CrossingWords$LawReader" 55 "CrossingWords" "FORMS" "[J" "CrossingWords", .fieldLinkNest "CrossingWords$LawReader" 58 "CrossingWords" "DEEDS" "[J" "CrossingWords", .fieldLinkNest "CrossingWords$LawReader" 61 "CrossingWords" "RISKS" "[J" "CrossingWords", .methodLinkNest "CrossingWords$LawReader" 11 ⟨"CrossingWords$Text", "<init>", "()V"⟩ "CrossingWords", .fieldLinkNest "CrossingWords$Image" 39 "CrossingWords" "cases" "[LCrossingWords$Case;" "CrossingWords", .fieldLinkNest "CrossingWords$Image" 46 "CrossingWords" "laws" "[LCrossingWords$Text;" "CrossingWords", .fieldLinkNest "CrossingWords$Image" 47 "CrossingWords" "clauses" "[LCrossingWords$Text;" "CrossingWords", .fieldLinkNest "CrossingWords$Image" 26 "CrossingWords" "caseMany" "I" "CrossingWords", .fieldLinkNest "CrossingWords$Image" 31 "CrossingWords" "lawMany" "I" "CrossingWords", .fieldLinkNest "CrossingWords$Image" 35 "CrossingWords" "clauseMany" "I" "CrossingWords", .declares ⟨"CrossingWords$Reader", "hasRoom", "()Z"⟩, .declares ⟨"CrossingWords$Reader", "statement", "()V"⟩, .declares ⟨"CrossingWords$Reader", "name", "([J)I"⟩, .methodLinkNest "CrossingWords$Reader" 59 ⟨"CrossingWords", "find", "([JJ)I"⟩ "CrossingWords", .declares ⟨"CrossingWords$Reader", "pass", "()V"⟩, .declares ⟨"CrossingWords$Reader", "maybe", "([J)I"⟩, .declares ⟨"CrossingWords$Reader", "number", "(II)I"⟩, .methodLinkNest "CrossingWords$Reader" 55 ⟨"CrossingWords", "isIn", "(III)Z"⟩ "CrossingWords", .declares ⟨"CrossingWords$Reader", "takes", "(J)Z"⟩, .declares ⟨"CrossingWords$Reader", "needs", "(IJ)V"⟩, .declares ⟨"CrossingWords$Reader", "isWhole", "()Z"⟩, .methodLinkNest "CrossingWords$CaseReader" 11 ⟨"CrossingWords$Case", "<init>", "()V"⟩ "CrossingWords", .fieldLinkNest "CrossingWords$CaseReader" 34 "CrossingWords" "KINDS" "[J" "CrossingWords", .fieldLinkNest "CrossingWords$CaseReader" 42 "CrossingWords" "HAND_NAMES" "[J" "CrossingWords", .methodLinkNest "CrossingWords$CaseReader" 120 ⟨"CrossingWords", "find", "([JJ)I"⟩ "CrossingWords", .fieldLinkNest "CrossingWords$CaseReader" 127 "CrossingWords" "TERM_NAMES" "[J" "CrossingWords", .fieldLinkNest "CrossingWords$CaseReader" 93 "CrossingWords" "HOLD" "J" "CrossingWords", .fieldLinkNest "CrossingWords$CaseReader" 108 "CrossingWords" "GIVEN" "J" "CrossingWords", .methodLinkNest "CrossingWords$CaseReader" 142 ⟨"CrossingWords", "isIn", "(III)Z"⟩ "CrossingWords", .fieldLinkNest "CrossingWords$CaseReader" 157 "CrossingWords" "BUT_WORD" "J" "CrossingWords", .fieldLinkNest "CrossingWords$CaseReader" 199 "CrossingWords" "WAYS" "[J" "CrossingWords", .fieldLinkNest "CrossingWords$CaseReader" 202 "CrossingWords" "AT" "J" "CrossingWords", .fieldLinkNest "CrossingWords$CaseReader" 188 "CrossingWords" "TO" "J" "CrossingWords", .fieldLinkNest "CrossingWords$CaseReader" 211 "CrossingWords" "AT_ONCE" "LCrossingWords$Span;" "CrossingWords", .fieldLinkNest "CrossingWords$CaseReader" 218 "CrossingWords" "AFTER" "J" "CrossingWords", .fieldLinkNest "CrossingWords$CaseReader" 221 "CrossingWords" "READ_WORD" "J" "CrossingWords", .fieldLinkNest "CrossingWords$CaseReader" 224 "CrossingWords" "LOST" "J" "CrossingWords", .declares ⟨"CrossingWords$Saying", "kind", "()I"⟩, .declares ⟨"CrossingWords$Answer", "said", "()LCrossingWords$Saying;"⟩]
theorem xw_nl_tbl : ∀ w ∈ xw_nl, w ∈ lw_tbl := by
  intro w h
  simp only [xw_nl, List.mem_cons, List.not_mem_nil, or_false] at h
  rcases h with h | h | h | h | h | h | h | h | h | h | h | h | h | h | h | h | h | h | h | h | h | h | h | h | h | h | h | h | h | h | h | h | h | h | h | h | h | h | h | h | h | h | h | h | h | h | h | h | h | h | h | h | h | h | h | h
  · rw [h]; exact q137
  · rw [h]; exact q143
  · rw [h]; exact q145
  · rw [h]; exact q147
  · rw [h]; exact q288
  · rw [h]; exact q971
  · rw [h]; exact q977
  · rw [h]; exact q1225
  · rw [h]; exact q284
  · rw [h]; exact q286
  · rw [h]; exact q1037
  · rw [h]; exact q1235
  · rw [h]; exact q749
  · rw [h]; exact q759
  · rw [h]; exact q761
  · rw [h]; exact q767
  · rw [h]; exact q772
  · rw [h]; exact q774
  · rw [h]; exact q776
  · rw [h]; exact q778
  · rw [h]; exact q818
  · rw [h]; exact q184
  · rw [h]; exact q186
  · rw [h]; exact q188
  · rw [h]; exact q193
  · rw [h]; exact q195
  · rw [h]; exact q197
  · rw [h]; exact q381
  · rw [h]; exact q390
  · rw [h]; exact q399
  · rw [h]; exact q409
  · rw [h]; exact q434
  · rw [h]; exact q479
  · rw [h]; exact q483
  · rw [h]; exact q487
  · rw [h]; exact q514
  · rw [h]; exact q674
  · rw [h]; exact q785
  · rw [h]; exact q273
  · rw [h]; exact q395
  · rw [h]; exact q421
  · rw [h]; exact q431
  · rw [h]; exact q475
  · rw [h]; exact q510
  · rw [h]; exact q518
  · rw [h]; exact q528
  · rw [h]; exact q584
  · rw [h]; exact q668
  · rw [h]; exact q670
  · rw [h]; exact q684
  · rw [h]; exact q703
  · rw [h]; exact q738
  · rw [h]; exact q740
  · rw [h]; exact q742
  · rw [h]; exact q534
  · rw [h]; exact q572
theorem xw_eq0 : u_ws (xw_cn 0) (xw_Tc 0) (xw_nf 0) = wsX00 := by decide +kernel
theorem xw_in0 : ∀ w ∈ u_ws (xw_cn 0) (xw_Tc 0) (xw_nf 0), w ∈ lw_all := fun w h => in_X0 w (by rw [← xw_eq0]; exact h)
theorem xw_eq1 : u_ws (xw_cn 1) (xw_Tc 1) (xw_nf 1) = wsX10 := by decide +kernel
theorem xw_in1 : ∀ w ∈ u_ws (xw_cn 1) (xw_Tc 1) (xw_nf 1), w ∈ lw_all := fun w h => in_X1 w (by rw [← xw_eq1]; exact h)
theorem xw_eq2 : u_ws (xw_cn 2) (xw_Tc 2) (xw_nf 2) = wsX20 := by decide +kernel
theorem xw_in2 : ∀ w ∈ u_ws (xw_cn 2) (xw_Tc 2) (xw_nf 2), w ∈ lw_all := fun w h => in_X2 w (by rw [← xw_eq2]; exact h)
theorem xw_eq3 : u_ws (xw_cn 3) (xw_Tc 3) (xw_nf 3) = wsX40 := by decide +kernel
theorem xw_in3 : ∀ w ∈ u_ws (xw_cn 3) (xw_Tc 3) (xw_nf 3), w ∈ lw_all := fun w h => in_X4 w (by rw [← xw_eq3]; exact h)
theorem xw_eq4 : u_ws (xw_cn 4) (xw_Tc 4) (xw_nf 4) = wsX50 := by decide +kernel
theorem xw_in4 : ∀ w ∈ u_ws (xw_cn 4) (xw_Tc 4) (xw_nf 4), w ∈ lw_all := fun w h => in_X5 w (by rw [← xw_eq4]; exact h)
theorem xw_eq5 : u_ws (xw_cn 5) (xw_Tc 5) (xw_nf 5) = wsX70 := by decide +kernel
theorem xw_in5 : ∀ w ∈ u_ws (xw_cn 5) (xw_Tc 5) (xw_nf 5), w ∈ lw_all := fun w h => in_X7 w (by rw [← xw_eq5]; exact h)
theorem xw_eq6 : u_ws (xw_cn 6) (xw_Tc 6) (xw_nf 6) = wsX80 := by decide +kernel
theorem xw_in6 : ∀ w ∈ u_ws (xw_cn 6) (xw_Tc 6) (xw_nf 6), w ∈ lw_all := fun w h => in_X8 w (by rw [← xw_eq6]; exact h)
theorem xw_eq7 : u_ws (xw_cn 7) (xw_Tc 7) (xw_nf 7) = wsX100 := by decide +kernel
theorem xw_in7 : ∀ w ∈ u_ws (xw_cn 7) (xw_Tc 7) (xw_nf 7), w ∈ lw_all := fun w h => in_X10 w (by rw [← xw_eq7]; exact h)
theorem xw_eq8 : u_ws (xw_cn 8) (xw_Tc 8) (xw_nf 8) = wsX110 := by decide +kernel
theorem xw_in8 : ∀ w ∈ u_ws (xw_cn 8) (xw_Tc 8) (xw_nf 8), w ∈ lw_all := fun w h => in_X11 w (by rw [← xw_eq8]; exact h)
theorem xw_eq9 : u_ws (xw_cn 9) (xw_Tc 9) (xw_nf 9) = wsX120 := by decide +kernel
theorem xw_in9 : ∀ w ∈ u_ws (xw_cn 9) (xw_Tc 9) (xw_nf 9), w ∈ lw_all := fun w h => in_X12 w (by rw [← xw_eq9]; exact h)
theorem xw_eq10 : u_ws (xw_cn 10) (xw_Tc 10) (xw_nf 10) = wsX130 := by decide +kernel
theorem xw_in10 : ∀ w ∈ u_ws (xw_cn 10) (xw_Tc 10) (xw_nf 10), w ∈ lw_all := fun w h => in_X13 w (by rw [← xw_eq10]; exact h)
theorem xw_eq11 : u_ws (xw_cn 11) (xw_Tc 11) (xw_nf 11) = wsX140 := by decide +kernel
theorem xw_in11 : ∀ w ∈ u_ws (xw_cn 11) (xw_Tc 11) (xw_nf 11), w ∈ lw_all := fun w h => in_X14 w (by rw [← xw_eq11]; exact h)
theorem xw_eq12 : u_ws (xw_cn 12) (xw_Tc 12) (xw_nf 12) = wsX150 := by decide +kernel
theorem xw_in12 : ∀ w ∈ u_ws (xw_cn 12) (xw_Tc 12) (xw_nf 12), w ∈ lw_all := fun w h => in_X15 w (by rw [← xw_eq12]; exact h)
theorem xw_eq13 : u_ws (xw_cn 13) (xw_Tc 13) (xw_nf 13) = wsX160 := by decide +kernel
theorem xw_in13 : ∀ w ∈ u_ws (xw_cn 13) (xw_Tc 13) (xw_nf 13), w ∈ lw_all := fun w h => in_X16 w (by rw [← xw_eq13]; exact h)
theorem xw_eq14 : u_ws (xw_cn 14) (xw_Tc 14) (xw_nf 14) = wsX170 := by decide +kernel
theorem xw_in14 : ∀ w ∈ u_ws (xw_cn 14) (xw_Tc 14) (xw_nf 14), w ∈ lw_all := fun w h => in_X17 w (by rw [← xw_eq14]; exact h)
theorem xw_eq15 : u_ws (xw_cn 15) (xw_Tc 15) (xw_nf 15) = wsX180 := by decide +kernel
theorem xw_in15 : ∀ w ∈ u_ws (xw_cn 15) (xw_Tc 15) (xw_nf 15), w ∈ lw_all := fun w h => in_X18 w (by rw [← xw_eq15]; exact h)
theorem xw_eq16 : u_ws (xw_cn 16) (xw_Tc 16) (xw_nf 16) = wsX190 := by decide +kernel
theorem xw_in16 : ∀ w ∈ u_ws (xw_cn 16) (xw_Tc 16) (xw_nf 16), w ∈ lw_all := fun w h => in_X19 w (by rw [← xw_eq16]; exact h)
theorem xw_eq17 : u_ws (xw_cn 17) (xw_Tc 17) (xw_nf 17) = wsX200 := by decide +kernel
theorem xw_in17 : ∀ w ∈ u_ws (xw_cn 17) (xw_Tc 17) (xw_nf 17), w ∈ lw_all := fun w h => in_X20 w (by rw [← xw_eq17]; exact h)
theorem xw_eq18 : u_ws (xw_cn 18) (xw_Tc 18) (xw_nf 18) = wsX210 := by decide +kernel
theorem xw_in18 : ∀ w ∈ u_ws (xw_cn 18) (xw_Tc 18) (xw_nf 18), w ∈ lw_all := fun w h => in_X21 w (by rw [← xw_eq18]; exact h)
theorem xw_inA : ∀ c, c < 19 → ∀ w ∈ u_ws (xw_cn c) (xw_Tc c) (xw_nf c), w ∈ lw_all := by
  intro c hc
  match c, hc with
  | 0, _ => exact xw_in0
  | 1, _ => exact xw_in1
  | 2, _ => exact xw_in2
  | 3, _ => exact xw_in3
  | 4, _ => exact xw_in4
  | 5, _ => exact xw_in5
  | 6, _ => exact xw_in6
  | 7, _ => exact xw_in7
  | 8, _ => exact xw_in8
  | 9, _ => exact xw_in9
  | 10, _ => exact xw_in10
  | 11, _ => exact xw_in11
  | 12, _ => exact xw_in12
  | 13, _ => exact xw_in13
  | 14, _ => exact xw_in14
  | 15, _ => exact xw_in15
  | 16, _ => exact xw_in16
  | 17, _ => exact xw_in17
  | 18, _ => exact xw_in18
  | c + 19, h => omega
theorem xw_tyA : ∀ c, c < 19 → ∀ k, k < xw_nf c → parseFieldDescriptor (xw_Tc c k).2.2.1 = some (xw_fT (xw_fid c k)) := by decide +kernel
theorem xw_nmA : ∀ c, c < 19 → ∀ a, a < xw_nf c → ∀ b, b < xw_nf c → a ≠ b → (xw_Tc c a).2.1 ≠ (xw_Tc c b).2.1 := by decide +kernel
theorem xw_dvA : ∀ c, c < 19 → ∀ k, k < xw_nf c → defaultValue (xw_fT (xw_fid c k)) = (match xw_ft (xw_fid c k) with | 0 => .int 0 | 1 => .int 0 | 2 => .long 0 | _ => .null) := by decide +kernel
theorem xw_fuA : ∀ c, c < 19 → ∀ a, a < xw_nf c → ∀ b, b < xw_nf c → xw_fid c a = xw_fid c b → a = b := by decide +kernel

/-- the reference's fields: 0 int, 1 boolean, 2 long, 3 an array -/
def ym_tyl : List Nat := [3, 3, 3, 3, 3, 3, 3, 3, 3, 3, 3, 3, 3, 3, 3, 3, 3, 0, 0, 0, 0, 0, 0, 0, 2, 1, 3, 0, 0, 0, 3, 3, 3, 3, 3, 3, 3, 3, 3, 3, 3, 3, 3, 3, 3, 3, 3, 3, 3, 3, 1, 0, 0, 0, 3, 3, 3, 3, 3, 3, 0, 0, 0]
def ym_ty (k : Nat) : Nat := ym_tyl.getD k 0
def ym_ayl : List Nat := [0, 0, 0, 0, 0, 0, 0, 0, 0, 0, 0, 0, 0, 0, 0, 0, 2, 0, 0, 0, 0, 0, 0, 0, 0, 0, 0, 0, 0, 0, 0, 0, 0, 0, 0, 0, 0, 1, 0, 0, 0, 0, 0, 0, 0, 0, 0, 0, 0, 0, 0, 0, 0, 0, 1, 1, 1, 0, 0, 0, 0, 0, 0]
def ym_ay (k : Nat) : Nat := ym_ayl.getD k 0
/-- its arrays' lengths: 0 cases 5, 1 laws 5, 2 clauses 5, 3 many 80, 4 what 960, 5 hand 960, 6 whom 960, 7 said 960, 8 way 960, 9 hold 960, 10 given 960, 11 loss 960, 12 word 4800, 13 low 2880, 14 high 2880, 15 rule 980, 16 tape 900, 26 rules 13, 30 wWhat 12, 31 wWay 12, 32 wLoss 12, 33 wHold 12, 34 wSaid 12, 35 wHand 12, 36 wWhom 12, 37 isBarred 12, 38 wWord 60, 39 wLow 36, 40 wHigh 36, 41 askedOf 48, 42 radix 48, 43 sent 12, 44 comes 12, 45 isRead 12, 46 pick 48, 47 opens 12, 48 endsAt 12, 49 why 12, 54 isSure 16, 55 isNeeded 16, 56 hasBy 1024, 57 met 1024, 58 firstYes 1024, 59 firstWords 5120 -/
def ym_lnl : List Nat := [5, 5, 5, 80, 960, 960, 960, 960, 960, 960, 960, 960, 4800, 2880, 2880, 980, 900, 0, 0, 0, 0, 0, 0, 0, 0, 0, 13, 0, 0, 0, 12, 12, 12, 12, 12, 12, 12, 12, 60, 36, 36, 48, 48, 12, 12, 12, 48, 12, 12, 12, 0, 0, 0, 0, 16, 16, 1024, 1024, 1024, 5120, 0, 0, 0]
def ym_ln (k : Nat) : Nat := ym_lnl.getD k 0
def xw_nk (w : Cond) : Bool := match w with
  | .fieldLinkNest .. => true
  | .methodLinkNest .. => true
  | .castable .. => true
  | .declares .. => true
  | _ => false
def xw_nc : List Cond := [.castable "CrossingWords$Yes" "CrossingWords$Saying", .castable "CrossingWords$But" "CrossingWords$Saying", .castable "CrossingWords$No" "CrossingWords$Saying", .castable "CrossingWords$Back" "CrossingWords$Saying", .castable "CrossingWords$Deed" "CrossingWords$Saying", .castable "CrossingWords$Send" "CrossingWords$Saying", .castable "CrossingWords$Ask" "CrossingWords$Saying", .castable "CrossingWords$Offer" "CrossingWords$Saying"]
theorem xw_nc_tbl : ∀ w ∈ xw_nc, w ∈ lw_tbl := by
  intro w h
  simp only [xw_nc, List.mem_cons, List.not_mem_nil, or_false] at h
  rcases h with h | h | h | h | h | h | h | h
  · rw [h]; exact q1940
  · rw [h]; exact q1939
  · rw [h]; exact q1941
  · rw [h]; exact q1942
  · rw [h]; exact q1943
  · rw [h]; exact q1944
  · rw [h]; exact q1937
  · rw [h]; exact q1938
/-- private methods of the abstract Reader, on its two kinds -/
def xw_np : List Cond := [.selects "CrossingWords$CaseReader" ⟨"CrossingWords$Reader", "look", "()V"⟩ ⟨"CrossingWords$Reader", "look", "()V"⟩, .selects "CrossingWords$LawReader" ⟨"CrossingWords$Reader", "look", "()V"⟩ ⟨"CrossingWords$Reader", "look", "()V"⟩, .selects "CrossingWords$CaseReader" ⟨"CrossingWords$Reader", "isLetter", "(I)Z"⟩ ⟨"CrossingWords$Reader", "isLetter", "(I)Z"⟩, .selects "CrossingWords$LawReader" ⟨"CrossingWords$Reader", "isLetter", "(I)Z"⟩ ⟨"CrossingWords$Reader", "isLetter", "(I)Z"⟩, .selects "CrossingWords$CaseReader" ⟨"CrossingWords$Reader", "isDigit", "(I)Z"⟩ ⟨"CrossingWords$Reader", "isDigit", "(I)Z"⟩, .selects "CrossingWords$LawReader" ⟨"CrossingWords$Reader", "isDigit", "(I)Z"⟩ ⟨"CrossingWords$Reader", "isDigit", "(I)Z"⟩]
/-! the world: what the heap holds by the abstract state -/
/-- classes' ids and slots, arrays' classes, the heap at the law's start, constants' addresses, the reference's object and arrays, whether it is made -/
abbrev xw_G : Type := va_G × (Nat → ClassId) × Heap × (Nat → Nat) × Nat × (Nat → Nat) × Bool
def xw_D (G : xw_G) : va_G := G.1
def xw_dA (G : xw_G) : Nat → ClassId := G.2.1
def xw_hb (G : xw_G) : Heap := G.2.2.1
def xw_ka (G : xw_G) : Nat → Nat := G.2.2.2.1
def xw_hm (G : xw_G) : Nat := G.2.2.2.2.1
def xw_am (G : xw_G) : Nat → Nat := G.2.2.2.2.2.1
def xw_ac (G : xw_G) : Bool := G.2.2.2.2.2.2
/-- what may be written: all that the law made -/
def xw_Fr (G : xw_G) : Nat → Prop := fun q => (xw_hb G).size ≤ q
def xw_val (σ : xw_St) (f q : Nat) : Value := match xw_ft f with
  | 0 => .int (xw_I σ f q)
  | 1 => .int (xw_I σ f q)
  | 2 => .long (xw_J σ f q)
  | _ => va_rf (xw_R σ f q)
def xw_elt (σ : xw_St) (t q i : Nat) : Value := match xw_ay t with
  | 0 => .int (xw_A σ t q i)
  | 1 => .int (xw_A σ t q i)
  | 2 => .int (xw_A σ t q i)
  | 3 => .long (xw_kc t i)
  | _ => va_rf (xw_B σ t q i)
/-- a constant object: it's only read -/
def xw_ob (o : Nat) (cC : ClassId) (N : Nat) (iS : Nat → Nat) (H : Heap) (V : Nat → Value) : Prop :=
  ∃ cell : Cell, H[o]? = some cell ∧ cell.cls = cC ∧ cell.vm.isStatics = false ∧ cell.vm ≠ .unknown ∧ ∀ k, k < N → cell.slots[iS k]? = some (V k)
def xw_cell (G : xw_G) (σ : xw_St) (q : Nat) (H : Heap) : Prop :=
  (xw_T σ q < 32 → t_OB q ((xw_D G).1 (xw_ci (xw_T σ q))) (xw_nf (xw_ci (xw_T σ q))) ((xw_D G).2 (xw_ci (xw_T σ q))) H (fun k => xw_val σ (xw_fid (xw_ci (xw_T σ q)) k) q)) ∧
  (64 ≤ xw_T σ q → xw_T σ q < 200 → H[q]? = some (arrV (xw_dA G (xw_ay (xw_T σ q))) (xw_L σ q) (xw_elt σ (xw_T σ q) q))) ∧
  (xw_T σ q = 32 → xw_ob q ((xw_D G).1 13) 2 ((xw_D G).2 13) H (fun k => xw_val σ (xw_fid 13 k) q)) ∧
  (200 ≤ xw_T σ q → xw_T σ q < 212 ∧ q = xw_ka G (xw_T σ q - 200) ∧ xw_L σ q = xw_kn (xw_T σ q))
/-- the reference's state: its ints (by field), its text, its arrays (by field) -/
abbrev xw_Mu : Type := (Nat → Int32) × Int64 × (Nat → Nat → Int32)
def xw_mv (G : xw_G) (μ : xw_Mu) (k : Nat) : Value := match ym_ty k with
  | 0 => .int (μ.1 k)
  | 1 => .int (μ.1 k)
  | 2 => .long μ.2.1
  | _ => .ref (xw_am G k)
def xw_MH (G : xw_G) (σ : xw_St) (μ : xw_Mu) (H : Heap) : Prop :=
  (xw_hm G < H.size ∧ (xw_hb G).size ≤ xw_hm G ∧ xw_T σ (xw_hm G) = 0 ∧ t_OB (xw_hm G) ((xw_D G).1 2) 63 ((xw_D G).2 2) H (xw_mv G μ)) ∧
  (∀ j, 3 ≤ ym_ty j → xw_am G j < H.size ∧ (xw_hb G).size ≤ xw_am G j ∧ xw_T σ (xw_am G j) = 0 ∧ xw_am G j ≠ xw_hm G ∧ H[xw_am G j]? = some (arrV (xw_dA G (ym_ay j)) (ym_ln j) (fun i => .int (μ.2.2 j i)))) ∧
  (∀ i j, 3 ≤ ym_ty i → 3 ≤ ym_ty j → xw_am G i = xw_am G j → i = j)
def xw_HH (G : xw_G) (σ : xw_St) (μ : xw_Mu) (H : Heap) : Prop :=
  xw_N σ = H.size ∧ (xw_hb G).size ≤ H.size ∧ (∀ a, a < (xw_hb G).size → H[a]? = (xw_hb G)[a]?) ∧ xw_C σ = xw_ka G ∧ xw_wf σ ∧
  (∀ q, 1 ≤ xw_T σ q → (xw_ro (xw_T σ q) = false → (xw_hb G).size ≤ q) ∧ xw_cell G σ q H) ∧
  (xw_ac G = true → xw_MH G σ μ H)
/-- what the tables and the law's start say, all through -/
def xw_sl : List (String × String × Nat) := [("KINDS", "[J", 0), ("HAND_NAMES", "[J", 1), ("TERM_NAMES", "[J", 2), ("WAYS", "[J", 3), ("WHENS", "[J", 4), ("RULE_NAMES", "[J", 5), ("YES_WAYS", "[J", 6), ("HOLDS", "[J", 7), ("BUTS", "[J", 8), ("FORMS", "[J", 9), ("DEEDS", "[J", 10), ("RISKS", "[J", 11), ("AT_ONCE", "LCrossingWords$Span;", 12)]
def xw_ll : List (String × Int64) := [("HOLD", 1752132708), ("GIVEN", 444150998382), ("BUT_WORD", 6452596), ("AT", 24948), ("AFTER", 418330731890), ("READ_WORD", 1919246692), ("LOST", 1819243380), ("TO", 29807)]
def xw_K (G : xw_G) (U : State) : Prop :=
  (∀ c, c < 19 → u_Kn U (xw_cn c) (xw_Tc c) (xw_nf c) ((xw_D G).1 c) ((xw_D G).2 c)) ∧
  (∀ j, j < 9 → ArrOfT U (xw_dA G j) (xw_aT j) ∧ va_RA U (xw_dA G j) (xw_aT j)) ∧
  (∀ w ∈ xw_nl, va_Nw w U) ∧
  (∀ j, 4 ≤ j → j < 9 → ∀ C, xw_aT j = .object C → va_AO C U) ∧
  (∀ e ∈ xw_sl, va_Z "CrossingWords" e.1 e.2.1 (.ref (xw_ka G e.2.2)) (xw_Fr G) U (xw_hb G)) ∧
  (∀ e ∈ xw_ll, va_Z "CrossingWords" e.1 "J" (.long e.2) (xw_Fr G) U (xw_hb G)) ∧
  (∀ w ∈ xw_nc, va_Nw w U) ∧
  (∀ w ∈ xw_np, va_Nw w U) ∧
  (∀ j, j < 12 → va_T .long (xw_ka G j) (xw_kn (200 + j)) (fun i => .long (xw_kc (200 + j) i)) (xw_Fr G) U (xw_hb G))
theorem xw_np_k : ∀ w ∈ xw_np, (w.onTables && w.keeps) = true := by decide +kernel
theorem xw_np_t : ∀ w ∈ xw_np, w.onTables = true := by decide +kernel
theorem xw_nw_warm {w : Cond} {s U : State} (h1 : xw_nk w = true) (hW : s.WarmedH U.vm) (h : va_Nw w s) : va_Nw w U := by
  cases w <;> first | exact absurd h1 Bool.noConfusion | exact va_Nw.warmF hW h | exact va_Nw.warmM hW h | exact va_Nw.warmC hW h | exact va_Nw.warmD hW h | simp [xw_nk] at h1
theorem xw_nl_k : ∀ w ∈ xw_nl, xw_nk w = true := by decide +kernel
theorem xw_nc_k : ∀ w ∈ xw_nc, xw_nk w = true := by decide +kernel
theorem xw_nk_t {w : Cond} (h : xw_nk w = true) : w.onTables = true := by
  cases w <;> first | rfl | simp [xw_nk] at h
theorem xw_K.warm {G : xw_G} {s U : State} (hW : s.WarmedH U.vm) (h : xw_K G s) : xw_K G U := by
  obtain ⟨h1, h2, h3, h4, h5, h6, h7, h8, h9⟩ := h
  exact ⟨fun c hc => u_Kn_moved hW.alike (h1 c hc), fun j hj => ⟨arrOfT_moved hW.alike (h2 j hj).1, (h2 j hj).2.moved hW.alike⟩, fun w hw => xw_nw_warm (xw_nl_k w hw) hW (h3 w hw), fun j a b C e => (h4 j a b C e).moved hW.alike, fun e he => (h5 e he).moved hW.alike, fun e he => (h6 e he).moved hW.alike, fun w hw => xw_nw_warm (xw_nc_k w hw) hW (h7 w hw), fun w hw => word_at hW (Or.inl (xw_np_k w hw)) (h8 w hw), fun j hj => (h9 j hj).moved hW.alike⟩
theorem xw_K.same {G : xw_G} {s U : State} (hv : s.vm = U.vm) (h : xw_K G s) : xw_K G U := by
  have ha : s.vm.Alike U.vm := by rw [hv]; exact Vm.Alike.refl _
  obtain ⟨h1, h2, h3, h4, h5, h6, h7, h8, h9⟩ := h
  exact ⟨fun c hc => u_Kn_moved ha (h1 c hc), fun j hj => ⟨arrOfT_moved ha (h2 j hj).1, (h2 j hj).2.moved ha⟩, fun w hw => va_Nw.same (xw_nk_t (xw_nl_k w hw)) hv (h3 w hw), fun j a b C e => (h4 j a b C e).moved ha, fun e he => (h5 e he).moved ha, fun e he => (h6 e he).moved ha, fun w hw => va_Nw.same (xw_nk_t (xw_nc_k w hw)) hv (h7 w hw), fun w hw => va_Nw.same (xw_np_t w hw) hv (h8 w hw), fun j hj => (h9 j hj).moved ha⟩
/-! the judgement -/
abbrev xw_E : Type := Program × Launch × Env × Room × State × MethodId × Array Value × List Frame × Method × Code × xw_G
def xe_p (E : xw_E) : Program := E.1
def xe_l (E : xw_E) : Launch := E.2.1
def xe_e (E : xw_E) : Env := E.2.2.1
def xe_R (E : xw_E) : Room := E.2.2.2.1
def xe_s (E : xw_E) : State := E.2.2.2.2.1
def xe_m (E : xw_E) : MethodId := E.2.2.2.2.2.1
def xe_a (E : xw_E) : Array Value := E.2.2.2.2.2.2.1
def xe_b (E : xw_E) : List Frame := E.2.2.2.2.2.2.2.1
def xe_M (E : xw_E) : Method := E.2.2.2.2.2.2.2.2.1
def xe_c (E : xw_E) : Code := E.2.2.2.2.2.2.2.2.2.1
def xe_G (E : xw_E) : xw_G := E.2.2.2.2.2.2.2.2.2.2
abbrev xw_W (E : xw_E) (H : Heap) (locs : List Loc) (cells slots : Nat) (Q : State → Prop) (g : JFrame) : Prop := W (xe_p E) (xe_l E) (xe_e E) (xe_R E) (xe_s E) (xe_m E) (xe_a E) (xe_b E) (xe_M E) (xe_c E) H locs cells slots Q g
def xw_ok (E : xw_E) (own : String) (cc : ByteArray) (nL : Nat) (ret : Option FieldType) (lam : Nat) : Prop :=
  (xe_p E).tables.exec = Jvm.exec ∧ (xe_c E).code = cc ∧ (xe_c E).maxLocals = nL ∧ (xe_s E).vm.findClass own = some (xe_m E).cls ∧ (∀ w ∈ lw_all, w.before (xe_a E) (xe_s E) = true) ∧ xw_K (xe_G E) (xe_s E) ∧ (xe_M E).locks = false ∧ (xe_M E).sig.returnType = ret ∧ lam ≤ (xe_R E).frames ∧ 60 * lam ≤ (xe_R E).locals
/-- the program P, then K, from here: whatever they answer, the machine comes to its end with it -/
def xw_X {S α γ : Type} (E : xw_E) (nL : Nat) (wr : S → Heap → Prop) (Q : γ → S → Nat → Nat → State → Prop) (pc : Nat) (lv : List (Nat × Value)) (st : List Value) (P : xw_M S α) (K : α → xw_M S γ) : Prop :=
  ∀ (ls : Array Slot) (H : Heap) (locs : List Loc) (cells slots : Nat) (σ : S) (r : γ) (σ' : S) (k n : Nat), xw_bd P K σ = some (r, σ', k, n) → lv_has ls nL lv → wr σ H → va_S (xw_Fr (xe_G E)) (xe_s E).heap H locs → cells + k ≤ (xe_R E).cells → slots + n ≤ (xe_R E).slots → xw_W E H locs cells slots (Q r σ' (cells + k) (slots + n)) (F0 (xe_m E) pc ls st)
section XR
variable {S α β γ δ : Type} {E : xw_E} {own : String} {cc : ByteArray} {nL lam pc : Nat} {ret : Option FieldType} {wr : S → Heap → Prop} {Q : γ → S → Nat → Nat → State → Prop} {lv lv' : List (Nat × Value)} {st st' : List Value} {P : xw_M S α} {K : α → xw_M S γ}
theorem xw_pure (pc' : Nat) (h : ∀ (ls : Array Slot) (H : Heap) (locs : List Loc) (cells slots : Nat) (Qs : State → Prop), lv_has ls nL lv → (∀ ls' : Array Slot, lv_has ls' nL lv' → xw_W E H locs cells slots Qs (F0 (xe_m E) pc' ls' st')) → xw_W E H locs cells slots Qs (F0 (xe_m E) pc ls st)) (k : xw_X E nL wr Q pc' lv' st' P K) : xw_X E nL wr Q pc lv st P K := by
  intro ls H locs cells slots σ r σ' a b h1 h2 h3 h4 h5 h6
  exact h ls H locs cells slots _ h2 fun ls' h2' => k ls' H locs cells slots σ r σ' a b h1 h2' h3 h4 h5 h6
theorem x_iconst (pc' : Nat) (hE : xw_ok E own cc nL ret lam) {n : Int} {v : Int32} (hdg : decode cc pc = .ok (.iconst n, 1)) (hp : pc + 1 = pc') (hv : Int32.ofInt n = v) (k : xw_X E nL wr Q pc' lv (.int v :: st) P K) : xw_X E nL wr Q pc lv st P K :=
  xw_pure pc' (fun ls H locs cells slots Qs hl kk => by subst hp; exact lv_iconst hE.1 hE.2.1 hdg hv (kk ls hl)) k
theorem x_bipush (pc' : Nat) (hE : xw_ok E own cc nL ret lam) {n : Int} {v : Int32} (hdg : decode cc pc = .ok (.bipush n, 2)) (hp : pc + 2 = pc') (hv : (Int8.ofInt n).toInt32 = v) (k : xw_X E nL wr Q pc' lv (.int v :: st) P K) : xw_X E nL wr Q pc lv st P K :=
  xw_pure pc' (fun ls H locs cells slots Qs hl kk => by subst hp; exact lv_bipush hE.1 hE.2.1 hdg hv (kk ls hl)) k
theorem x_sipush (pc' : Nat) (hE : xw_ok E own cc nL ret lam) {n : Int} {v : Int32} (hdg : decode cc pc = .ok (.sipush n, 3)) (hp : pc + 3 = pc') (hv : (Int16.ofInt n).toInt32 = v) (k : xw_X E nL wr Q pc' lv (.int v :: st) P K) : xw_X E nL wr Q pc lv st P K :=
  xw_pure pc' (fun ls H locs cells slots Qs hl kk => by subst hp; exact lv_sipush hE.1 hE.2.1 hdg hv (kk ls hl)) k
theorem x_lconst (pc' : Nat) (hE : xw_ok E own cc nL ret lam) {n : Fin 2} {v : Int64} (hdg : decode cc pc = .ok (.lconst n, 1)) (hp : pc + 1 = pc') (hv : Int64.ofNat n.val = v) (k : xw_X E nL wr Q pc' lv (.long v :: st) P K) : xw_X E nL wr Q pc lv st P K :=
  xw_pure pc' (fun ls H locs cells slots Qs hl kk => by subst hp; exact lv_lconst hE.1 hE.2.1 hdg hv (kk ls hl)) k
theorem x_ldc (pc' : Nat) (hE : xw_ok E own cc nL ret lam) {i : Nat} {v : Int32} (hw : Jvm.Cond.constant own i v ∈ lw_all) (hdg : decode cc pc = .ok (.ldc i, 2)) (hp : pc + 2 = pc') (k : xw_X E nL wr Q pc' lv (.int v :: st) P K) : xw_X E nL wr Q pc lv st P K :=
  xw_pure pc' (fun ls H locs cells slots Qs hl kk => by subst hp; exact lv_ldc hE.1 hE.2.1 hE.2.2.2.1 (hE.2.2.2.2.1 _ hw) hdg (kk ls hl)) k
theorem x_ldc2 (pc' : Nat) (hE : xw_ok E own cc nL ret lam) {i : Nat} {v : Int64} (hw : Jvm.Cond.constantLong own i v ∈ lw_all) (hdg : decode cc pc = .ok (.ldc2_w i, 3)) (hp : pc + 3 = pc') (k : xw_X E nL wr Q pc' lv (.long v :: st) P K) : xw_X E nL wr Q pc lv st P K :=
  xw_pure pc' (fun ls H locs cells slots Qs hl kk => by subst hp; exact lv_ldc2 hE.1 hE.2.1 hE.2.2.2.1 (hE.2.2.2.2.1 _ hw) hdg (kk ls hl)) k
theorem x_null (pc' : Nat) (hE : xw_ok E own cc nL ret lam) (hdg : decode cc pc = .ok (.aconst_null, 1)) (hp : pc + 1 = pc') (k : xw_X E nL wr Q pc' lv (va_rf none :: st) P K) : xw_X E nL wr Q pc lv st P K :=
  xw_pure pc' (fun ls H locs cells slots Qs hl kk => by subst hp; exact lv_null hE.1 hE.2.1 hdg (kk ls hl)) k
theorem x_iload_n (pc' : Nat) (hE : xw_ok E own cc nL ret lam) {k : Fin 4} {x : Int32} (hdg : decode cc pc = .ok (.iload_n k, 1)) (hp : pc + 1 = pc') (i : Nat) (hv : lv[i]? = some (k.val, .int x)) (kk : xw_X E nL wr Q pc' lv (.int x :: st) P K) : xw_X E nL wr Q pc lv st P K :=
  xw_pure pc' (fun ls H locs cells slots Qs hl kk => by subst hp; exact lv_iload_n hE.1 hE.2.1 hdg rfl (lv_at hl i hv) (kk ls hl)) kk
theorem x_iload (pc' : Nat) (hE : xw_ok E own cc nL ret lam) {k : Nat} {x : Int32} (hdg : decode cc pc = .ok (.iload k, 2)) (hp : pc + 2 = pc') (i : Nat) (hv : lv[i]? = some (k, .int x)) (kk : xw_X E nL wr Q pc' lv (.int x :: st) P K) : xw_X E nL wr Q pc lv st P K :=
  xw_pure pc' (fun ls H locs cells slots Qs hl kk => by subst hp; exact lv_iload hE.1 hE.2.1 hdg (lv_at hl i hv) (kk ls hl)) kk
theorem x_lload_n (pc' : Nat) (hE : xw_ok E own cc nL ret lam) {k : Fin 4} {x : Int64} (hdg : decode cc pc = .ok (.lload_n k, 1)) (hp : pc + 1 = pc') (i : Nat) (hv : lv[i]? = some (k.val, .long x)) (kk : xw_X E nL wr Q pc' lv (.long x :: st) P K) : xw_X E nL wr Q pc lv st P K :=
  xw_pure pc' (fun ls H locs cells slots Qs hl kk => by subst hp; exact lv_lload_n hE.1 hE.2.1 hdg rfl (lv_at hl i hv) (kk ls hl)) kk
theorem x_lload (pc' : Nat) (hE : xw_ok E own cc nL ret lam) {k : Nat} {x : Int64} (hdg : decode cc pc = .ok (.lload k, 2)) (hp : pc + 2 = pc') (i : Nat) (hv : lv[i]? = some (k, .long x)) (kk : xw_X E nL wr Q pc' lv (.long x :: st) P K) : xw_X E nL wr Q pc lv st P K :=
  xw_pure pc' (fun ls H locs cells slots Qs hl kk => by subst hp; exact lv_lload hE.1 hE.2.1 hdg (lv_at hl i hv) (kk ls hl)) kk
theorem x_aload_n (pc' : Nat) (hE : xw_ok E own cc nL ret lam) {k : Fin 4} {x : Option Nat} (hdg : decode cc pc = .ok (.aload_n k, 1)) (hp : pc + 1 = pc') (i : Nat) (hv : lv[i]? = some (k.val, va_rf x)) (kk : xw_X E nL wr Q pc' lv (va_rf x :: st) P K) : xw_X E nL wr Q pc lv st P K :=
  xw_pure pc' (fun ls H locs cells slots Qs hl kk => by
    subst hp
    cases x with
    | none => exact lv_aload_nN hE.1 hE.2.1 hdg rfl (lv_at hl i hv) (kk ls hl)
    | some y => exact lv_aload_n hE.1 hE.2.1 hdg rfl (lv_at hl i hv) (kk ls hl)) kk
theorem x_aload (pc' : Nat) (hE : xw_ok E own cc nL ret lam) {k : Nat} {x : Option Nat} (hdg : decode cc pc = .ok (.aload k, 2)) (hp : pc + 2 = pc') (i : Nat) (hv : lv[i]? = some (k, va_rf x)) (kk : xw_X E nL wr Q pc' lv (va_rf x :: st) P K) : xw_X E nL wr Q pc lv st P K :=
  xw_pure pc' (fun ls H locs cells slots Qs hl kk => by
    subst hp
    cases x with
    | none => exact lv_aloadN hE.1 hE.2.1 hdg (lv_at hl i hv) (kk ls hl)
    | some y => exact lv_aload hE.1 hE.2.1 hdg (lv_at hl i hv) (kk ls hl)) kk
theorem x_istore_n (pc' : Nat) (lv' : List (Nat × Value)) (hE : xw_ok E own cc nL ret lam) {k : Fin 4} {i : Nat} {x : Int32} (hdg : decode cc pc = .ok (.istore_n k, 1)) (hp : pc + 1 = pc') (hi : k.val = i) (hn : i < nL) (hl : (i, Value.int x) :: lv.filter (fun q => !(q.1 == i) && !(q.1 + 1 == i && q.2.category == 2)) = lv') (kk : xw_X E nL wr Q pc' lv' st P K) : xw_X E nL wr Q pc lv (.int x :: st) P K :=
  xw_pure pc' (fun ls H locs cells slots Qs h kk => by subst hp; exact lv_istore_n hE.1 hE.2.1 hdg hi h hn hl kk) kk
theorem x_istore (pc' : Nat) (lv' : List (Nat × Value)) (hE : xw_ok E own cc nL ret lam) {i : Nat} {x : Int32} (hdg : decode cc pc = .ok (.istore i, 2)) (hp : pc + 2 = pc') (hn : i < nL) (hl : (i, Value.int x) :: lv.filter (fun q => !(q.1 == i) && !(q.1 + 1 == i && q.2.category == 2)) = lv') (kk : xw_X E nL wr Q pc' lv' st P K) : xw_X E nL wr Q pc lv (.int x :: st) P K :=
  xw_pure pc' (fun ls H locs cells slots Qs h kk => by subst hp; exact lv_istore hE.1 hE.2.1 hdg h hn hl kk) kk
theorem x_astore_n (pc' : Nat) (lv' : List (Nat × Value)) (hE : xw_ok E own cc nL ret lam) {k : Fin 4} {i : Nat} {x : Option Nat} (hdg : decode cc pc = .ok (.astore_n k, 1)) (hp : pc + 1 = pc') (hi : k.val = i) (hn : i < nL) (hl : (i, va_rf x) :: lv.filter (fun q => !(q.1 == i) && !(q.1 + 1 == i && q.2.category == 2)) = lv') (kk : xw_X E nL wr Q pc' lv' st P K) : xw_X E nL wr Q pc lv (va_rf x :: st) P K :=
  xw_pure pc' (fun ls H locs cells slots Qs h kk => by
    subst hp
    cases x with
    | none => exact lv_astore_nN hE.1 hE.2.1 hdg hi h hn hl kk
    | some y => exact lv_astore_n hE.1 hE.2.1 hdg hi h hn hl kk) kk
theorem x_astore (pc' : Nat) (lv' : List (Nat × Value)) (hE : xw_ok E own cc nL ret lam) {i : Nat} {x : Option Nat} (hdg : decode cc pc = .ok (.astore i, 2)) (hp : pc + 2 = pc') (hn : i < nL) (hl : (i, va_rf x) :: lv.filter (fun q => !(q.1 == i) && !(q.1 + 1 == i && q.2.category == 2)) = lv') (kk : xw_X E nL wr Q pc' lv' st P K) : xw_X E nL wr Q pc lv (va_rf x :: st) P K :=
  xw_pure pc' (fun ls H locs cells slots Qs h kk => by
    subst hp
    cases x with
    | none => exact lv_astoreN hE.1 hE.2.1 hdg h hn hl kk
    | some y => exact lv_astore hE.1 hE.2.1 hdg h hn hl kk) kk
theorem x_iinc (pc' : Nat) (lv' : List (Nat × Value)) (hE : xw_ok E own cc nL ret lam) {i : Nat} {n : Int} {x d : Int32} (hdg : decode cc pc = .ok (.iinc i n, 3)) (hp : pc + 3 = pc') (j : Nat) (hk : lv[j]? = some (i, .int x)) (hv : Int32.ofInt n = d) (hn : i < nL) (hl : (i, Value.int (x + d)) :: lv.filter (fun q => !(q.1 == i) && !(q.1 + 1 == i && q.2.category == 2)) = lv') (kk : xw_X E nL wr Q pc' lv' st P K) : xw_X E nL wr Q pc lv st P K :=
  xw_pure pc' (fun ls H locs cells slots Qs h kk => by subst hp; subst hv; exact lv_iinc hE.1 hE.2.1 hdg h hk rfl hn hl kk) kk
theorem x_iadd (pc' : Nat) (hE : xw_ok E own cc nL ret lam) {x y : Int32} (hdg : decode cc pc = .ok (.iadd, 1)) (hp : pc + 1 = pc') (k : xw_X E nL wr Q pc' lv (.int (x + y) :: st) P K) : xw_X E nL wr Q pc lv (.int y :: .int x :: st) P K :=
  xw_pure pc' (fun ls H locs cells slots Qs hl kk => by subst hp; exact lv_iadd hE.1 hE.2.1 hdg (kk ls hl)) k
theorem x_isub (pc' : Nat) (hE : xw_ok E own cc nL ret lam) {x y : Int32} (hdg : decode cc pc = .ok (.isub, 1)) (hp : pc + 1 = pc') (k : xw_X E nL wr Q pc' lv (.int (x - y) :: st) P K) : xw_X E nL wr Q pc lv (.int y :: .int x :: st) P K :=
  xw_pure pc' (fun ls H locs cells slots Qs hl kk => by subst hp; exact lv_isub hE.1 hE.2.1 hdg (kk ls hl)) k
theorem x_imul (pc' : Nat) (hE : xw_ok E own cc nL ret lam) {x y : Int32} (hdg : decode cc pc = .ok (.imul, 1)) (hp : pc + 1 = pc') (k : xw_X E nL wr Q pc' lv (.int (x * y) :: st) P K) : xw_X E nL wr Q pc lv (.int y :: .int x :: st) P K :=
  xw_pure pc' (fun ls H locs cells slots Qs hl kk => by subst hp; exact lv_imul hE.1 hE.2.1 hdg (kk ls hl)) k
theorem x_iand (pc' : Nat) (hE : xw_ok E own cc nL ret lam) {x y : Int32} (hdg : decode cc pc = .ok (.iand, 1)) (hp : pc + 1 = pc') (k : xw_X E nL wr Q pc' lv (.int (x &&& y) :: st) P K) : xw_X E nL wr Q pc lv (.int y :: .int x :: st) P K :=
  xw_pure pc' (fun ls H locs cells slots Qs hl kk => by subst hp; exact lv_iand hE.1 hE.2.1 hdg (kk ls hl)) k
theorem x_ior (pc' : Nat) (hE : xw_ok E own cc nL ret lam) {x y : Int32} (hdg : decode cc pc = .ok (.ior, 1)) (hp : pc + 1 = pc') (k : xw_X E nL wr Q pc' lv (.int (x ||| y) :: st) P K) : xw_X E nL wr Q pc lv (.int y :: .int x :: st) P K :=
  xw_pure pc' (fun ls H locs cells slots Qs hl kk => by subst hp; exact lv_ior hE.1 hE.2.1 hdg (kk ls hl)) k
theorem x_ishl (pc' : Nat) (hE : xw_ok E own cc nL ret lam) {x y : Int32} (hdg : decode cc pc = .ok (.ishl, 1)) (hp : pc + 1 = pc') (k : xw_X E nL wr Q pc' lv (.int (x <<< (y &&& 31)) :: st) P K) : xw_X E nL wr Q pc lv (.int y :: .int x :: st) P K :=
  xw_pure pc' (fun ls H locs cells slots Qs hl kk => by subst hp; exact lv_ishl hE.1 hE.2.1 hdg (kk ls hl)) k
theorem x_ishr (pc' : Nat) (hE : xw_ok E own cc nL ret lam) {x y : Int32} (hdg : decode cc pc = .ok (.ishr, 1)) (hp : pc + 1 = pc') (k : xw_X E nL wr Q pc' lv (.int (x >>> (y &&& 31)) :: st) P K) : xw_X E nL wr Q pc lv (.int y :: .int x :: st) P K :=
  xw_pure pc' (fun ls H locs cells slots Qs hl kk => by subst hp; exact lv_ishr hE.1 hE.2.1 hdg (kk ls hl)) k
theorem x_iushr (pc' : Nat) (hE : xw_ok E own cc nL ret lam) {x y : Int32} (hdg : decode cc pc = .ok (.iushr, 1)) (hp : pc + 1 = pc') (k : xw_X E nL wr Q pc' lv (.int ((x.toUInt32 >>> (y.toUInt32 &&& Int32.toUInt32 31)).toInt32) :: st) P K) : xw_X E nL wr Q pc lv (.int y :: .int x :: st) P K :=
  xw_pure pc' (fun ls H locs cells slots Qs hl kk => by subst hp; exact lv_iushr hE.1 hE.2.1 hdg rfl (kk ls hl)) k
theorem x_ladd (pc' : Nat) (hE : xw_ok E own cc nL ret lam) {x y : Int64} (hdg : decode cc pc = .ok (.ladd, 1)) (hp : pc + 1 = pc') (k : xw_X E nL wr Q pc' lv (.long (x + y) :: st) P K) : xw_X E nL wr Q pc lv (.long y :: .long x :: st) P K :=
  xw_pure pc' (fun ls H locs cells slots Qs hl kk => by subst hp; exact lv_ladd hE.1 hE.2.1 hdg (kk ls hl)) k
theorem x_lsub (pc' : Nat) (hE : xw_ok E own cc nL ret lam) {x y : Int64} (hdg : decode cc pc = .ok (.lsub, 1)) (hp : pc + 1 = pc') (k : xw_X E nL wr Q pc' lv (.long (x - y) :: st) P K) : xw_X E nL wr Q pc lv (.long y :: .long x :: st) P K :=
  xw_pure pc' (fun ls H locs cells slots Qs hl kk => by subst hp; exact lv_lsub hE.1 hE.2.1 hdg (kk ls hl)) k
theorem x_lmul (pc' : Nat) (hE : xw_ok E own cc nL ret lam) {x y : Int64} (hdg : decode cc pc = .ok (.lmul, 1)) (hp : pc + 1 = pc') (k : xw_X E nL wr Q pc' lv (.long (x * y) :: st) P K) : xw_X E nL wr Q pc lv (.long y :: .long x :: st) P K :=
  xw_pure pc' (fun ls H locs cells slots Qs hl kk => by subst hp; exact lv_lmul hE.1 hE.2.1 hdg (kk ls hl)) k
theorem x_lor (pc' : Nat) (hE : xw_ok E own cc nL ret lam) {x y : Int64} (hdg : decode cc pc = .ok (.lor, 1)) (hp : pc + 1 = pc') (k : xw_X E nL wr Q pc' lv (.long (x ||| y) :: st) P K) : xw_X E nL wr Q pc lv (.long y :: .long x :: st) P K :=
  xw_pure pc' (fun ls H locs cells slots Qs hl kk => by subst hp; exact lv_lor hE.1 hE.2.1 hdg (kk ls hl)) k
theorem x_lshl (pc' : Nat) (hE : xw_ok E own cc nL ret lam) {x : Int64} {y : Int32} (hdg : decode cc pc = .ok (.lshl, 1)) (hp : pc + 1 = pc') (k : xw_X E nL wr Q pc' lv (.long (x <<< (y.toInt64 &&& 63)) :: st) P K) : xw_X E nL wr Q pc lv (.int y :: .long x :: st) P K :=
  xw_pure pc' (fun ls H locs cells slots Qs hl kk => by subst hp; exact lv_lshl hE.1 hE.2.1 hdg rfl (kk ls hl)) k
theorem x_i2l (pc' : Nat) (hE : xw_ok E own cc nL ret lam) {x : Int32} (hdg : decode cc pc = .ok (.i2l, 1)) (hp : pc + 1 = pc') (k : xw_X E nL wr Q pc' lv (.long x.toInt64 :: st) P K) : xw_X E nL wr Q pc lv (.int x :: st) P K :=
  xw_pure pc' (fun ls H locs cells slots Qs hl kk => by subst hp; exact lv_i2l hE.1 hE.2.1 hdg rfl (kk ls hl)) k
theorem x_l2i (pc' : Nat) (hE : xw_ok E own cc nL ret lam) {x : Int64} (hdg : decode cc pc = .ok (.l2i, 1)) (hp : pc + 1 = pc') (k : xw_X E nL wr Q pc' lv (.int x.toInt32 :: st) P K) : xw_X E nL wr Q pc lv (.long x :: st) P K :=
  xw_pure pc' (fun ls H locs cells slots Qs hl kk => by subst hp; exact lv_l2i hE.1 hE.2.1 hdg rfl (kk ls hl)) k
theorem x_i2b (pc' : Nat) (hE : xw_ok E own cc nL ret lam) {x : Int32} (hdg : decode cc pc = .ok (.i2b, 1)) (hp : pc + 1 = pc') (k : xw_X E nL wr Q pc' lv (.int x.toInt8.toInt32 :: st) P K) : xw_X E nL wr Q pc lv (.int x :: st) P K :=
  xw_pure pc' (fun ls H locs cells slots Qs hl kk => by subst hp; exact lv_i2b hE.1 hE.2.1 hdg rfl (kk ls hl)) k
theorem x_lcmp (pc' : Nat) (hE : xw_ok E own cc nL ret lam) {x y : Int64} (hdg : decode cc pc = .ok (.lcmp, 1)) (hp : pc + 1 = pc') (k : xw_X E nL wr Q pc' lv (.int (lg_cmp x y) :: st) P K) : xw_X E nL wr Q pc lv (.long y :: .long x :: st) P K :=
  xw_pure pc' (fun ls H locs cells slots Qs hl kk => by subst hp; exact W.lcmp hE.1 hE.2.1 hdg (kk ls hl)) k
theorem x_dup (pc' : Nat) (hE : xw_ok E own cc nL ret lam) {v : Value} (hdg : decode cc pc = .ok (.dup, 1)) (hp : pc + 1 = pc') (hv : v.category = 1) (k : xw_X E nL wr Q pc' lv (v :: v :: st) P K) : xw_X E nL wr Q pc lv (v :: st) P K :=
  xw_pure pc' (fun ls H locs cells slots Qs hl kk => by subst hp; exact lv_dup hE.1 hE.2.1 hdg hv (kk ls hl)) k
theorem x_rfc (r : Option Nat) : (va_rf r).category = 1 := by cases r <;> rfl
theorem x_dup2 (pc' : Nat) (hE : xw_ok E own cc nL ret lam) {v w : Value} (hdg : decode cc pc = .ok (.dup2, 1)) (hp : pc + 1 = pc') (hv : v.category = 1) (hw : w.category = 1) (k : xw_X E nL wr Q pc' lv (v :: w :: v :: w :: st) P K) : xw_X E nL wr Q pc lv (v :: w :: st) P K :=
  xw_pure pc' (fun ls H locs cells slots Qs hl kk => by subst hp; exact lv_dup2_11 hE.1 hE.2.1 hdg hv hw (kk ls hl)) k
theorem x_goto (pc' : Nat) (hE : xw_ok E own cc nL ret lam) {off : Int} (hdg : decode cc pc = .ok (.goto off, 3)) (ht : (pc : Int) + off = (pc' : Int)) (k : xw_X E nL wr Q pc' lv st P K) : xw_X E nL wr Q pc lv st P K :=
  xw_pure pc' (fun ls H locs cells slots Qs hl kk => lv_goto hE.1 hE.2.1 hdg ht (kk ls hl)) k
/-- the top of the stack gets a name -/
theorem x_lti {f : Int32 → xw_M S α} {x : Int32} (k : ∀ y : Int32, xw_X E nL wr Q pc lv (.int y :: st) (f y) K) : xw_X E nL wr Q pc lv (.int x :: st) (xw_lt x f) K := k x
theorem x_ltl {f : Int64 → xw_M S α} {x : Int64} (k : ∀ y : Int64, xw_X E nL wr Q pc lv (.long y :: st) (f y) K) : xw_X E nL wr Q pc lv (.long x :: st) (xw_lt x f) K := k x
theorem x_iteF {c : Prop} [Decidable c] {A B : xw_M S α} (ls : Array Slot) (H : Heap) (locs : List Loc) (cells slots : Nat) (σ : S) (r : γ) (σ' : S) (k n : Nat) (h1 : xw_bd (ite c A B) K σ = some (r, σ', k, n)) : (c → xw_bd A K σ = some (r, σ', k, n)) ∧ (¬ c → xw_bd B K σ = some (r, σ', k, n)) := by
  constructor
  · intro hc; rwa [if_pos hc] at h1
  · intro hc; rwa [if_neg hc] at h1
theorem x_if_eq (pcT pcF : Nat) (hE : xw_ok E own cc nL ret lam) {x : Int32} {off : Int} {hd : Decidable (x = 0)} {A B : xw_M S α} (hdg : decode cc pc = .ok (.ifCond .eq off, 3)) (ht : (pc : Int) + off = (pcT : Int)) (hf : pc + 3 = pcF) (ka : xw_X E nL wr Q pcT lv st A K) (kb : xw_X E nL wr Q pcF lv st B K) : xw_X E nL wr Q pc lv (.int x :: st) (@ite _ (x = 0) hd A B) K := by
  intro ls H locs cells slots σ r σ' a b h1 h2 h3 h4 h5 h6
  subst hf
  obtain ⟨q1, q2⟩ := x_iteF ls H locs cells slots σ r σ' a b h1
  exact lv_if_eq hE.1 hE.2.1 hdg ht (fun hc => ka ls H locs cells slots σ r σ' a b (q1 hc) h2 h3 h4 h5 h6) (fun hc => kb ls H locs cells slots σ r σ' a b (q2 hc) h2 h3 h4 h5 h6)
theorem x_icmp_eq (pcT pcF : Nat) (hE : xw_ok E own cc nL ret lam) {x y : Int32} {off : Int} {hd : Decidable (x = y)} {A B : xw_M S α} (hdg : decode cc pc = .ok (.if_icmp .eq off, 3)) (ht : (pc : Int) + off = (pcT : Int)) (hf : pc + 3 = pcF) (ka : xw_X E nL wr Q pcT lv st A K) (kb : xw_X E nL wr Q pcF lv st B K) : xw_X E nL wr Q pc lv (.int y :: .int x :: st) (@ite _ (x = y) hd A B) K := by
  intro ls H locs cells slots σ r σ' a b h1 h2 h3 h4 h5 h6
  subst hf
  obtain ⟨q1, q2⟩ := x_iteF ls H locs cells slots σ r σ' a b h1
  exact lv_icmp_eq hE.1 hE.2.1 hdg ht (fun hc => ka ls H locs cells slots σ r σ' a b (q1 hc) h2 h3 h4 h5 h6) (fun hc => kb ls H locs cells slots σ r σ' a b (q2 hc) h2 h3 h4 h5 h6)
theorem x_if_ne (pcT pcF : Nat) (hE : xw_ok E own cc nL ret lam) {x : Int32} {off : Int} {hd : Decidable (x = 0)} {A B : xw_M S α} (hdg : decode cc pc = .ok (.ifCond .ne off, 3)) (ht : (pc : Int) + off = (pcT : Int)) (hf : pc + 3 = pcF) (ka : xw_X E nL wr Q pcF lv st A K) (kb : xw_X E nL wr Q pcT lv st B K) : xw_X E nL wr Q pc lv (.int x :: st) (@ite _ (x = 0) hd A B) K := by
  intro ls H locs cells slots σ r σ' a b h1 h2 h3 h4 h5 h6
  subst hf
  obtain ⟨q1, q2⟩ := x_iteF ls H locs cells slots σ r σ' a b h1
  exact lv_if_ne hE.1 hE.2.1 hdg ht (fun hc => kb ls H locs cells slots σ r σ' a b (q2 hc) h2 h3 h4 h5 h6) (fun hc => ka ls H locs cells slots σ r σ' a b (q1 hc) h2 h3 h4 h5 h6)
theorem x_icmp_ne (pcT pcF : Nat) (hE : xw_ok E own cc nL ret lam) {x y : Int32} {off : Int} {hd : Decidable (x = y)} {A B : xw_M S α} (hdg : decode cc pc = .ok (.if_icmp .ne off, 3)) (ht : (pc : Int) + off = (pcT : Int)) (hf : pc + 3 = pcF) (ka : xw_X E nL wr Q pcF lv st A K) (kb : xw_X E nL wr Q pcT lv st B K) : xw_X E nL wr Q pc lv (.int y :: .int x :: st) (@ite _ (x = y) hd A B) K := by
  intro ls H locs cells slots σ r σ' a b h1 h2 h3 h4 h5 h6
  subst hf
  obtain ⟨q1, q2⟩ := x_iteF ls H locs cells slots σ r σ' a b h1
  exact lv_icmp_ne hE.1 hE.2.1 hdg ht (fun hc => kb ls H locs cells slots σ r σ' a b (q2 hc) h2 h3 h4 h5 h6) (fun hc => ka ls H locs cells slots σ r σ' a b (q1 hc) h2 h3 h4 h5 h6)
theorem x_if_lt (pcT pcF : Nat) (hE : xw_ok E own cc nL ret lam) {x : Int32} {off : Int} {hd : Decidable (x < 0)} {A B : xw_M S α} (hdg : decode cc pc = .ok (.ifCond .lt off, 3)) (ht : (pc : Int) + off = (pcT : Int)) (hf : pc + 3 = pcF) (ka : xw_X E nL wr Q pcT lv st A K) (kb : xw_X E nL wr Q pcF lv st B K) : xw_X E nL wr Q pc lv (.int x :: st) (@ite _ (x < 0) hd A B) K := by
  intro ls H locs cells slots σ r σ' a b h1 h2 h3 h4 h5 h6
  subst hf
  obtain ⟨q1, q2⟩ := x_iteF ls H locs cells slots σ r σ' a b h1
  exact lv_if_lt hE.1 hE.2.1 hdg ht (fun hc => ka ls H locs cells slots σ r σ' a b (q1 hc) h2 h3 h4 h5 h6) (fun hc => kb ls H locs cells slots σ r σ' a b (q2 hc) h2 h3 h4 h5 h6)
theorem x_icmp_lt (pcT pcF : Nat) (hE : xw_ok E own cc nL ret lam) {x y : Int32} {off : Int} {hd : Decidable (x < y)} {A B : xw_M S α} (hdg : decode cc pc = .ok (.if_icmp .lt off, 3)) (ht : (pc : Int) + off = (pcT : Int)) (hf : pc + 3 = pcF) (ka : xw_X E nL wr Q pcT lv st A K) (kb : xw_X E nL wr Q pcF lv st B K) : xw_X E nL wr Q pc lv (.int y :: .int x :: st) (@ite _ (x < y) hd A B) K := by
  intro ls H locs cells slots σ r σ' a b h1 h2 h3 h4 h5 h6
  subst hf
  obtain ⟨q1, q2⟩ := x_iteF ls H locs cells slots σ r σ' a b h1
  exact lv_icmp_lt hE.1 hE.2.1 hdg ht (fun hc => ka ls H locs cells slots σ r σ' a b (q1 hc) h2 h3 h4 h5 h6) (fun hc => kb ls H locs cells slots σ r σ' a b (q2 hc) h2 h3 h4 h5 h6)
theorem x_if_ge (pcT pcF : Nat) (hE : xw_ok E own cc nL ret lam) {x : Int32} {off : Int} {hd : Decidable (0 ≤ x)} {A B : xw_M S α} (hdg : decode cc pc = .ok (.ifCond .ge off, 3)) (ht : (pc : Int) + off = (pcT : Int)) (hf : pc + 3 = pcF) (ka : xw_X E nL wr Q pcT lv st A K) (kb : xw_X E nL wr Q pcF lv st B K) : xw_X E nL wr Q pc lv (.int x :: st) (@ite _ (0 ≤ x) hd A B) K := by
  intro ls H locs cells slots σ r σ' a b h1 h2 h3 h4 h5 h6
  subst hf
  obtain ⟨q1, q2⟩ := x_iteF ls H locs cells slots σ r σ' a b h1
  exact lv_if_ge hE.1 hE.2.1 hdg ht (fun hc => ka ls H locs cells slots σ r σ' a b (q1 hc) h2 h3 h4 h5 h6) (fun hc => kb ls H locs cells slots σ r σ' a b (q2 hc) h2 h3 h4 h5 h6)
theorem x_icmp_ge (pcT pcF : Nat) (hE : xw_ok E own cc nL ret lam) {x y : Int32} {off : Int} {hd : Decidable (y ≤ x)} {A B : xw_M S α} (hdg : decode cc pc = .ok (.if_icmp .ge off, 3)) (ht : (pc : Int) + off = (pcT : Int)) (hf : pc + 3 = pcF) (ka : xw_X E nL wr Q pcT lv st A K) (kb : xw_X E nL wr Q pcF lv st B K) : xw_X E nL wr Q pc lv (.int y :: .int x :: st) (@ite _ (y ≤ x) hd A B) K := by
  intro ls H locs cells slots σ r σ' a b h1 h2 h3 h4 h5 h6
  subst hf
  obtain ⟨q1, q2⟩ := x_iteF ls H locs cells slots σ r σ' a b h1
  exact lv_icmp_ge hE.1 hE.2.1 hdg ht (fun hc => ka ls H locs cells slots σ r σ' a b (q1 hc) h2 h3 h4 h5 h6) (fun hc => kb ls H locs cells slots σ r σ' a b (q2 hc) h2 h3 h4 h5 h6)
theorem x_if_gt (pcT pcF : Nat) (hE : xw_ok E own cc nL ret lam) {x : Int32} {off : Int} {hd : Decidable (0 < x)} {A B : xw_M S α} (hdg : decode cc pc = .ok (.ifCond .gt off, 3)) (ht : (pc : Int) + off = (pcT : Int)) (hf : pc + 3 = pcF) (ka : xw_X E nL wr Q pcT lv st A K) (kb : xw_X E nL wr Q pcF lv st B K) : xw_X E nL wr Q pc lv (.int x :: st) (@ite _ (0 < x) hd A B) K := by
  intro ls H locs cells slots σ r σ' a b h1 h2 h3 h4 h5 h6
  subst hf
  obtain ⟨q1, q2⟩ := x_iteF ls H locs cells slots σ r σ' a b h1
  exact lv_if_gt hE.1 hE.2.1 hdg ht (fun hc => ka ls H locs cells slots σ r σ' a b (q1 hc) h2 h3 h4 h5 h6) (fun hc => kb ls H locs cells slots σ r σ' a b (q2 hc) h2 h3 h4 h5 h6)
theorem x_icmp_gt (pcT pcF : Nat) (hE : xw_ok E own cc nL ret lam) {x y : Int32} {off : Int} {hd : Decidable (y < x)} {A B : xw_M S α} (hdg : decode cc pc = .ok (.if_icmp .gt off, 3)) (ht : (pc : Int) + off = (pcT : Int)) (hf : pc + 3 = pcF) (ka : xw_X E nL wr Q pcT lv st A K) (kb : xw_X E nL wr Q pcF lv st B K) : xw_X E nL wr Q pc lv (.int y :: .int x :: st) (@ite _ (y < x) hd A B) K := by
  intro ls H locs cells slots σ r σ' a b h1 h2 h3 h4 h5 h6
  subst hf
  obtain ⟨q1, q2⟩ := x_iteF ls H locs cells slots σ r σ' a b h1
  exact lv_icmp_gt hE.1 hE.2.1 hdg ht (fun hc => ka ls H locs cells slots σ r σ' a b (q1 hc) h2 h3 h4 h5 h6) (fun hc => kb ls H locs cells slots σ r σ' a b (q2 hc) h2 h3 h4 h5 h6)
theorem x_if_le (pcT pcF : Nat) (hE : xw_ok E own cc nL ret lam) {x : Int32} {off : Int} {hd : Decidable (x ≤ 0)} {A B : xw_M S α} (hdg : decode cc pc = .ok (.ifCond .le off, 3)) (ht : (pc : Int) + off = (pcT : Int)) (hf : pc + 3 = pcF) (ka : xw_X E nL wr Q pcT lv st A K) (kb : xw_X E nL wr Q pcF lv st B K) : xw_X E nL wr Q pc lv (.int x :: st) (@ite _ (x ≤ 0) hd A B) K := by
  intro ls H locs cells slots σ r σ' a b h1 h2 h3 h4 h5 h6
  subst hf
  obtain ⟨q1, q2⟩ := x_iteF ls H locs cells slots σ r σ' a b h1
  exact lv_if_le hE.1 hE.2.1 hdg ht (fun hc => ka ls H locs cells slots σ r σ' a b (q1 hc) h2 h3 h4 h5 h6) (fun hc => kb ls H locs cells slots σ r σ' a b (q2 hc) h2 h3 h4 h5 h6)
theorem x_icmp_le (pcT pcF : Nat) (hE : xw_ok E own cc nL ret lam) {x y : Int32} {off : Int} {hd : Decidable (x ≤ y)} {A B : xw_M S α} (hdg : decode cc pc = .ok (.if_icmp .le off, 3)) (ht : (pc : Int) + off = (pcT : Int)) (hf : pc + 3 = pcF) (ka : xw_X E nL wr Q pcT lv st A K) (kb : xw_X E nL wr Q pcF lv st B K) : xw_X E nL wr Q pc lv (.int y :: .int x :: st) (@ite _ (x ≤ y) hd A B) K := by
  intro ls H locs cells slots σ r σ' a b h1 h2 h3 h4 h5 h6
  subst hf
  obtain ⟨q1, q2⟩ := x_iteF ls H locs cells slots σ r σ' a b h1
  exact lv_icmp_le hE.1 hE.2.1 hdg ht (fun hc => ka ls H locs cells slots σ r σ' a b (q1 hc) h2 h3 h4 h5 h6) (fun hc => kb ls H locs cells slots σ r σ' a b (q2 hc) h2 h3 h4 h5 h6)
theorem x_acmp_ne (pcT pcF : Nat) (hE : xw_ok E own cc nL ret lam) {x y : Option Nat} {off : Int} {hd : Decidable (x = y)} {A B : xw_M S α} (hdg : decode cc pc = .ok (.if_acmp .ne off, 3)) (ht : (pc : Int) + off = (pcT : Int)) (hf : pc + 3 = pcF) (ka : xw_X E nL wr Q pcF lv st A K) (kb : xw_X E nL wr Q pcT lv st B K) : xw_X E nL wr Q pc lv (va_rf y :: va_rf x :: st) (@ite _ (x = y) hd A B) K := by
  intro ls H locs cells slots σ r σ' a b h1 h2 h3 h4 h5 h6
  subst hf
  obtain ⟨q1, q2⟩ := x_iteF ls H locs cells slots σ r σ' a b h1
  exact lv_acmp_ne hE.1 hE.2.1 hdg ht (fun hc => kb ls H locs cells slots σ r σ' a b (q2 hc) h2 h3 h4 h5 h6) (fun hc => ka ls H locs cells slots σ r σ' a b (q1 hc) h2 h3 h4 h5 h6)
theorem x_ifnull (pcT pcF : Nat) (hE : xw_ok E own cc nL ret lam) {x : Option Nat} {off : Int} {hd : Decidable (x = none)} {A B : xw_M S α} (hdg : decode cc pc = .ok (.ifnull off, 3)) (ht : (pc : Int) + off = (pcT : Int)) (hf : pc + 3 = pcF) (ka : xw_X E nL wr Q pcT lv st A K) (kb : xw_X E nL wr Q pcF lv st B K) : xw_X E nL wr Q pc lv (va_rf x :: st) (@ite _ (x = none) hd A B) K := by
  intro ls H locs cells slots σ r σ' a b h1 h2 h3 h4 h5 h6
  subst hf
  obtain ⟨q1, q2⟩ := x_iteF ls H locs cells slots σ r σ' a b h1
  cases x with
  | none => exact lv_ifnullN hE.1 hE.2.1 hdg ht (ka ls H locs cells slots σ r σ' a b (q1 rfl) h2 h3 h4 h5 h6)
  | some y => exact lv_ifnull hE.1 hE.2.1 hdg (kb ls H locs cells slots σ r σ' a b (q2 (fun h => by cases h)) h2 h3 h4 h5 h6)
theorem x_ifnonnull (pcT pcF : Nat) (hE : xw_ok E own cc nL ret lam) {x : Option Nat} {off : Int} {hd : Decidable (x = none)} {A B : xw_M S α} (hdg : decode cc pc = .ok (.ifnonnull off, 3)) (ht : (pc : Int) + off = (pcT : Int)) (hf : pc + 3 = pcF) (ka : xw_X E nL wr Q pcF lv st A K) (kb : xw_X E nL wr Q pcT lv st B K) : xw_X E nL wr Q pc lv (va_rf x :: st) (@ite _ (x = none) hd A B) K := by
  intro ls H locs cells slots σ r σ' a b h1 h2 h3 h4 h5 h6
  subst hf
  obtain ⟨q1, q2⟩ := x_iteF ls H locs cells slots σ r σ' a b h1
  cases x with
  | none => exact lv_ifnonnullN hE.1 hE.2.1 hdg (ka ls H locs cells slots σ r σ' a b (q1 rfl) h2 h3 h4 h5 h6)
  | some y => exact lv_ifnonnull hE.1 hE.2.1 hdg ht (kb ls H locs cells slots σ r σ' a b (q2 (fun h => by cases h)) h2 h3 h4 h5 h6)
/-- a switch's ways, one by one -/
theorem x_sw {c : Prop} {hd : Decidable c} {A B : xw_M S α} (ka : c → xw_X E nL wr Q pc lv st A K) (kb : ¬ c → xw_X E nL wr Q pc lv st B K) : xw_X E nL wr Q pc lv st (@ite _ c hd A B) K := by
  intro ls H locs cells slots σ r σ' a b h1 h2 h3 h4 h5 h6
  obtain ⟨q1, q2⟩ := x_iteF ls H locs cells slots σ r σ' a b h1
  by_cases hc : c
  · exact ka hc ls H locs cells slots σ r σ' a b (q1 hc) h2 h3 h4 h5 h6
  · exact kb hc ls H locs cells slots σ r σ' a b (q2 hc) h2 h3 h4 h5 h6
theorem x_swIn (pc' : Nat) (hE : xw_ok E own cc nL ret lam) {dflt lo hi : Int} {offs : Array Int} {len : Nat} {x v : Int32} {off : Int} (hdg : decode cc pc = .ok (.tableswitch dflt lo hi offs, len)) (hx : x = v) (h1 : ¬ v.toInt < lo ∧ ¬ hi < v.toInt ∧ offs[(v.toInt - lo).toNat]? = some off) (ht : (pc : Int) + off = (pc' : Int)) (k : xw_X E nL wr Q pc' lv st P K) : xw_X E nL wr Q pc lv (.int x :: st) P K :=
  xw_pure pc' (fun ls H locs cells slots Qs hl kk => by subst hx; exact lv_tableIn hE.1 hE.2.1 hdg h1.1 h1.2.1 h1.2.2 ht (kk ls hl)) k
theorem x_swOut (pc' : Nat) (hE : xw_ok E own cc nL ret lam) {dflt lo hi : Int} {offs : Array Int} {len : Nat} {x : Int32} (hdg : decode cc pc = .ok (.tableswitch dflt lo hi offs, len)) (hx : x.toInt < lo ∨ hi < x.toInt) (ht : (pc : Int) + dflt = (pc' : Int)) (k : xw_X E nL wr Q pc' lv st P K) : xw_X E nL wr Q pc lv (.int x :: st) P K :=
  xw_pure pc' (fun ls H locs cells slots Qs hl kk => lv_tableOut hE.1 hE.2.1 hdg hx ht (kk ls hl)) k
/-! parts of programs -/
theorem x_rt {a : α} {f : α → xw_M S β} {K' : β → xw_M S γ} (k : xw_X E nL wr Q pc lv st (f a) K') : xw_X E nL wr Q pc lv st (xw_rt a) (fun a => xw_bd (f a) K') := by
  intro ls H locs cells slots σ r σ' x y h1
  rw [xw_bd_rt] at h1
  exact k ls H locs cells slots σ r σ' x y h1
/-- a part that ends at one place -/
theorem x_sq {A : xw_M S β} {f : β → xw_M S α} (jpc : Nat) (lvf : β → List (Nat × Value)) (stf : β → List Value) (h1 : ∀ v, xw_X E nL wr Q jpc (lvf v) (stf v) (f v) K) (h2 : ∀ J : β → xw_M S γ, (∀ v, xw_X E nL wr Q jpc (lvf v) (stf v) (xw_rt v) J) → xw_X E nL wr Q pc lv st A J) : xw_X E nL wr Q pc lv st (xw_bd A f) K := by
  intro ls H locs cells slots σ r σ' x y q1
  rw [xw_bd_bd] at q1
  refine h2 (fun a => xw_bd (f a) K) (fun v => ?_) ls H locs cells slots σ r σ' x y q1
  exact x_rt (h1 v)
theorem x_jn {rest : β → xw_M S α} {body : (β → xw_M S α) → xw_M S α} (jpc : Nat) (lvf : β → List (Nat × Value)) (stf : β → List Value) (h1 : ∀ v, xw_X E nL wr Q jpc (lvf v) (stf v) (rest v) K) (h2 : ∀ J : β → xw_M S α, (∀ v, xw_X E nL wr Q jpc (lvf v) (stf v) (J v) K) → xw_X E nL wr Q pc lv st (body J) K) : xw_X E nL wr Q pc lv st (xw_jn rest body) K := h2 rest h1
/-- a loop: hc goes round, hx leaves it -/
theorem x_loop {body : α → xw_M S (α ⊕ β)} {K : β → xw_M S γ} (lvf : α → List (Nat × Value))
    (hs : ∀ J : α ⊕ β → xw_M S γ, (∀ a, xw_X E nL wr Q pc (lvf a) st (xw_rt (.inl a)) J) → (∀ (pc' : Nat) (lv' : List (Nat × Value)) (st' : List Value) (b : β), xw_X E nL wr Q pc' lv' st' (xw_rt b) K → xw_X E nL wr Q pc' lv' st' (xw_rt (.inr b)) J) → ∀ a, xw_X E nL wr Q pc (lvf a) st (body a) J) :
    ∀ (n : Nat) (a : α), xw_X E nL wr Q pc (lvf a) st (xw_loop body n a) K := by
  intro n
  induction n with
  | zero =>
    intro a ls H locs cells slots σ r σ' x y q1
    simp [xw_bd, xw_loop, xw_no] at q1
  | succ n ih =>
    intro a ls H locs cells slots σ r σ' x y q1
    have q2 : xw_bd (body a) (fun z => xw_bd ((fun r : α ⊕ β => match r with | .inl a' => xw_loop body n a' | .inr b => xw_rt b) z) K) σ = some (r, σ', x, y) := by
      rw [← xw_bd_bd]; exact q1
    refine hs _ (fun a' => ?_) (fun pc' lv' st' b hb => ?_) a ls H locs cells slots σ r σ' x y q2
    · exact x_rt (f := fun z : α ⊕ β => match z with | .inl a' => xw_loop body n a' | .inr b => xw_rt b) (ih a')
    · exact x_rt (f := fun z : α ⊕ β => match z with | .inl a' => xw_loop body n a' | .inr b => xw_rt b) hb
/-- reading: the state stays -/
theorem xw_rd {A : xw_M S β} {f : β → xw_M S α} (pc' : Nat) (stf : β → List Value)
    (h : ∀ (ls : Array Slot) (H : Heap) (locs : List Loc) (cells slots : Nat) (σ : S) (v : β) (σ1 : S) (k1 n1 : Nat), A σ = some (v, σ1, k1, n1) → lv_has ls nL lv → wr σ H → va_S (xw_Fr (xe_G E)) (xe_s E).heap H locs → σ1 = σ ∧ k1 = 0 ∧ n1 = 0 ∧ ∀ Qs, xw_W E H locs cells slots Qs (F0 (xe_m E) pc' ls (stf v)) → xw_W E H locs cells slots Qs (F0 (xe_m E) pc ls st))
    (kk : ∀ v, xw_X E nL wr Q pc' lv (stf v) (f v) K) : xw_X E nL wr Q pc lv st (xw_bd A f) K := by
  intro ls H locs cells slots σ r σ' x y q1 q2 q3 q4 q5 q6
  rw [xw_bd_bd] at q1
  obtain ⟨v, σ1, k1, n1, k2, n2, e1, e2, e3, e4⟩ := xw_bd_inv q1
  obtain ⟨rfl, rfl, rfl, hW⟩ := h ls H locs cells slots σ v σ1 k1 n1 e1 q2 q3 q4
  simp only [Nat.zero_add] at e3 e4
  subst e3; subst e4
  exact hW _ (kk v ls H locs cells slots σ1 r σ' x y e2 q2 q3 q4 q5 q6)
/-- writing: the heap goes on to what holds the next state; nothing is made -/
theorem xw_wt {A : xw_M S Unit} {f : Unit → xw_M S α} (pc' : Nat)
    (h : ∀ (ls : Array Slot) (H : Heap) (locs : List Loc) (cells slots : Nat) (σ σ1 : S) (k1 n1 : Nat), A σ = some ((), σ1, k1, n1) → lv_has ls nL lv → wr σ H → va_S (xw_Fr (xe_G E)) (xe_s E).heap H locs → k1 = 0 ∧ n1 = 0 ∧ ∀ Qs, (∀ (H1 : Heap) (locs1 : List Loc), wr σ1 H1 → va_S (xw_Fr (xe_G E)) (xe_s E).heap H1 locs1 → xw_W E H1 locs1 cells slots Qs (F0 (xe_m E) pc' ls st')) → xw_W E H locs cells slots Qs (F0 (xe_m E) pc ls st))
    (kk : xw_X E nL wr Q pc' lv st' (f ()) K) : xw_X E nL wr Q pc lv st (xw_bd A f) K := by
  intro ls H locs cells slots σ r σ' x y q1 q2 q3 q4 q5 q6
  rw [xw_bd_bd] at q1
  obtain ⟨v, σ1, k1, n1, k2, n2, e1, e2, e3, e4⟩ := xw_bd_inv q1
  obtain ⟨rfl, rfl, hW⟩ := h ls H locs cells slots σ σ1 k1 n1 e1 q2 q3 q4
  simp only [Nat.zero_add] at e3 e4
  subst e3; subst e4
  exact hW _ fun H1 locs1 w1 s1 => kk ls H1 locs1 cells slots σ1 r σ' x y e2 q2 w1 s1 q5 q6
/-- making a cell of n slots -/
theorem xw_mk {A : xw_M S β} {f : β → xw_M S α} (pc' : Nat) (stf : β → List Value)
    (h : ∀ (ls : Array Slot) (H : Heap) (locs : List Loc) (cells slots : Nat) (σ : S) (v : β) (σ1 : S) (k1 n1 : Nat), A σ = some (v, σ1, k1, n1) → lv_has ls nL lv → wr σ H → va_S (xw_Fr (xe_G E)) (xe_s E).heap H locs → cells + k1 ≤ (xe_R E).cells → slots + n1 ≤ (xe_R E).slots → ∀ Qs, (∀ (H1 : Heap) (locs1 : List Loc), wr σ1 H1 → va_S (xw_Fr (xe_G E)) (xe_s E).heap H1 locs1 → xw_W E H1 locs1 (cells + k1) (slots + n1) Qs (F0 (xe_m E) pc' ls (stf v))) → xw_W E H locs cells slots Qs (F0 (xe_m E) pc ls st))
    (kk : ∀ v, xw_X E nL wr Q pc' lv (stf v) (f v) K) : xw_X E nL wr Q pc lv st (xw_bd A f) K := by
  intro ls H locs cells slots σ r σ' x y q1 q2 q3 q4 q5 q6
  rw [xw_bd_bd] at q1
  obtain ⟨v, σ1, k1, n1, k2, n2, e1, e2, rfl, rfl⟩ := xw_bd_inv q1
  refine h ls H locs cells slots σ v σ1 k1 n1 e1 q2 q3 q4 (by omega) (by omega) _ fun H1 locs1 w1 s1 => ?_
  have := kk v ls H1 locs1 (cells + k1) (slots + n1) σ1 r σ' k2 n2 e2 q2 w1 s1 (by omega) (by omega)
  rw [Nat.add_assoc, Nat.add_assoc] at this
  exact this
end XR
