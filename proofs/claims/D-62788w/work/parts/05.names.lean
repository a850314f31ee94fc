/-! Names of classes, their fields; the words of the tables: printed by wip/gen.py -/
def R_Mill : String := "PatternMill"
def R_Text : String := "PatternMill$Text"
def R_Nodes : String := "PatternMill$Nodes"
def R_Matcher : String := "PatternMill$Matcher"
def R_Goals : String := "PatternMill$Goals"
def R_Choices : String := "PatternMill$Choices"
def R_Kept : String := "PatternMill$Kept"
def R_Model : String := "PatternMillModel"
def R_Kind : String := "PatternMill$Kind"
def R_Enum : String := "java/lang/Enum"
def R_Object : String := "java/lang/Object"
def R_LawC : String := "PatternMillLaw"
def F_Mill : u_T := fun k => match k with
  | 0 => ("PatternMill", "slip", "LPatternMill$Text;", true)
  | 1 => ("PatternMill", "made", "LPatternMill$Text;", true)
  | 2 => ("PatternMill", "variables", "[LPatternMill$Text;", true)
  | 3 => ("PatternMill", "nodes", "LPatternMill$Nodes;", true)
  | 4 => ("PatternMill", "matcher", "LPatternMill$Matcher;", true)
  | _ => ("PatternMill", "matched", "Z", false)
def t_Mill : Nat → FieldType := fun k => match k with
  | 0 => .object "PatternMill$Text"
  | 1 => .object "PatternMill$Text"
  | 2 => .array (.object "PatternMill$Text")
  | 3 => .object "PatternMill$Nodes"
  | 4 => .object "PatternMill$Matcher"
  | _ => .boolean
def F_Text : u_T := fun k => match k with
  | 0 => ("PatternMill$Text", "signs", "[B", true)
  | _ => ("PatternMill$Text", "size", "I", false)
def t_Text : Nat → FieldType := fun k => match k with
  | 0 => .array (.byte)
  | _ => .int
def F_Nodes : u_T := fun k => match k with
  | 0 => ("PatternMill$Nodes", "kinds", "[LPatternMill$Kind;", true)
  | 1 => ("PatternMill$Nodes", "firsts", "[I", true)
  | 2 => ("PatternMill$Nodes", "seconds", "[I", true)
  | 3 => ("PatternMill$Nodes", "texts", "[LPatternMill$Text;", true)
  | _ => ("PatternMill$Nodes", "count", "I", false)
def t_Nodes : Nat → FieldType := fun k => match k with
  | 0 => .array (.object "PatternMill$Kind")
  | 1 => .array (.int)
  | 2 => .array (.int)
  | 3 => .array (.object "PatternMill$Text")
  | _ => .int
def F_Matcher : u_T := fun k => match k with
  | 0 => ("PatternMill$Matcher", "nodes", "LPatternMill$Nodes;", true)
  | 1 => ("PatternMill$Matcher", "variables", "[LPatternMill$Text;", true)
  | 2 => ("PatternMill$Matcher", "subject", "LPatternMill$Text;", true)
  | 3 => ("PatternMill$Matcher", "goals", "LPatternMill$Goals;", true)
  | 4 => ("PatternMill$Matcher", "choices", "LPatternMill$Choices;", true)
  | 5 => ("PatternMill$Matcher", "kept", "LPatternMill$Kept;", true)
  | 6 => ("PatternMill$Matcher", "steps", "I", false)
  | 7 => ("PatternMill$Matcher", "place", "I", false)
  | 8 => ("PatternMill$Matcher", "goal", "I", false)
  | 9 => ("PatternMill$Matcher", "result", "I", false)
  | 10 => ("PatternMill$Matcher", "begin", "I", false)
  | _ => ("PatternMill$Matcher", "outcome", "I", false)
def t_Matcher : Nat → FieldType := fun k => match k with
  | 0 => .object "PatternMill$Nodes"
  | 1 => .array (.object "PatternMill$Text")
  | 2 => .object "PatternMill$Text"
  | 3 => .object "PatternMill$Goals"
  | 4 => .object "PatternMill$Choices"
  | 5 => .object "PatternMill$Kept"
  | 6 => .int
  | 7 => .int
  | 8 => .int
  | 9 => .int
  | 10 => .int
  | _ => .int
def F_Goals : u_T := fun k => match k with
  | 0 => ("PatternMill$Goals", "whats", "[B", true)
  | 1 => ("PatternMill$Goals", "abouts", "[I", true)
  | 2 => ("PatternMill$Goals", "froms", "[I", true)
  | 3 => ("PatternMill$Goals", "nexts", "[I", true)
  | _ => ("PatternMill$Goals", "top", "I", false)
def t_Goals : Nat → FieldType := fun k => match k with
  | 0 => .array (.byte)
  | 1 => .array (.int)
  | 2 => .array (.int)
  | 3 => .array (.int)
  | _ => .int
def F_Choices : u_T := fun k => match k with
  | 0 => ("PatternMill$Choices", "kinds", "[B", true)
  | 1 => ("PatternMill$Choices", "places", "[I", true)
  | 2 => ("PatternMill$Choices", "goals", "[I", true)
  | 3 => ("PatternMill$Choices", "tops", "[I", true)
  | 4 => ("PatternMill$Choices", "kepts", "[I", true)
  | 5 => ("PatternMill$Choices", "depths", "[I", true)
  | _ => ("PatternMill$Choices", "size", "I", false)
def t_Choices : Nat → FieldType := fun k => match k with
  | 0 => .array (.byte)
  | 1 => .array (.int)
  | 2 => .array (.int)
  | 3 => .array (.int)
  | 4 => .array (.int)
  | 5 => .array (.int)
  | _ => .int
def F_Kept : u_T := fun k => match k with
  | 0 => ("PatternMill$Kept", "variables", "[I", true)
  | 1 => ("PatternMill$Kept", "froms", "[I", true)
  | 2 => ("PatternMill$Kept", "untils", "[I", true)
  | _ => ("PatternMill$Kept", "size", "I", false)
def t_Kept : Nat → FieldType := fun k => match k with
  | 0 => .array (.int)
  | 1 => .array (.int)
  | 2 => .array (.int)
  | _ => .int
def F_Model : u_T := fun k => match k with
  | 0 => ("PatternMillModel", "thrown", "I", false)
  | 1 => ("PatternMillModel", "slip", "[B", true)
  | 2 => ("PatternMillModel", "slipSize", "I", false)
  | 3 => ("PatternMillModel", "texts", "[B", true)
  | 4 => ("PatternMillModel", "sizes", "[I", true)
  | 5 => ("PatternMillModel", "nodes", "I", false)
  | 6 => ("PatternMillModel", "kinds", "[I", true)
  | 7 => ("PatternMillModel", "firsts", "[I", true)
  | 8 => ("PatternMillModel", "seconds", "[I", true)
  | 9 => ("PatternMillModel", "words", "[B", true)
  | 10 => ("PatternMillModel", "wordSizes", "[I", true)
  | 11 => ("PatternMillModel", "matched", "Z", false)
  | 12 => ("PatternMillModel", "from", "I", false)
  | 13 => ("PatternMillModel", "to", "I", false)
  | 14 => ("PatternMillModel", "steps", "I", false)
  | 15 => ("PatternMillModel", "subject", "[B", true)
  | 16 => ("PatternMillModel", "n", "I", false)
  | 17 => ("PatternMillModel", "node", "[I", true)
  | 18 => ("PatternMillModel", "start", "[I", true)
  | 19 => ("PatternMillModel", "end", "[I", true)
  | 20 => ("PatternMillModel", "up", "[I", true)
  | 21 => ("PatternMillModel", "one", "[I", true)
  | 22 => ("PatternMillModel", "two", "[I", true)
  | 23 => ("PatternMillModel", "second", "[Z", true)
  | 24 => ("PatternMillModel", "stamp", "[I", true)
  | 25 => ("PatternMillModel", "clock", "I", false)
  | 26 => ("PatternMillModel", "row", "I", false)
  | 27 => ("PatternMillModel", "mode", "I", false)
  | 28 => ("PatternMillModel", "aborted", "Z", false)
  | 29 => ("PatternMillModel", "over", "Z", false)
  | _ => ("PatternMillModel", "parts", "[I", true)
def t_Model : Nat → FieldType := fun k => match k with
  | 0 => .int
  | 1 => .array (.byte)
  | 2 => .int
  | 3 => .array (.byte)
  | 4 => .array (.int)
  | 5 => .int
  | 6 => .array (.int)
  | 7 => .array (.int)
  | 8 => .array (.int)
  | 9 => .array (.byte)
  | 10 => .array (.int)
  | 11 => .boolean
  | 12 => .int
  | 13 => .int
  | 14 => .int
  | 15 => .array (.byte)
  | 16 => .int
  | 17 => .array (.int)
  | 18 => .array (.int)
  | 19 => .array (.int)
  | 20 => .array (.int)
  | 21 => .array (.int)
  | 22 => .array (.int)
  | 23 => .array (.boolean)
  | 24 => .array (.int)
  | 25 => .int
  | 26 => .int
  | 27 => .int
  | 28 => .boolean
  | 29 => .boolean
  | _ => .array (.int)
def gw : List Cond := lw_tbl.filter goodWord
theorem gw_mem {w : Cond} (h : w ∈ lw_tbl) (g : goodWord w = true) : w ∈ gw := List.mem_filter.mpr ⟨h, g⟩
theorem gw_all {l : List Cond} (h : l.all (fun w => decide (w ∈ lw_tbl) && goodWord w) = true) : ∀ w ∈ l, w ∈ gw := fun w hw => by
  have h1 := List.all_eq_true.mp h w hw
  simp only [Bool.and_eq_true, decide_eq_true_eq] at h1
  exact gw_mem h1.1 h1.2
theorem n_Mill : ∀ a, a < 6 → ∀ b, b < 6 → a ≠ b → (F_Mill a).2.1 ≠ (F_Mill b).2.1 := by decide +kernel
theorem t_Mill_ok : ∀ k, k < 6 → parseFieldDescriptor (F_Mill k).2.2.1 = some (t_Mill k) := by decide +kernel
theorem i_Mill : ∀ w ∈ u_ws R_Mill F_Mill 6, w ∈ gw := gw_all (by decide +kernel)
theorem n_Text : ∀ a, a < 2 → ∀ b, b < 2 → a ≠ b → (F_Text a).2.1 ≠ (F_Text b).2.1 := by decide +kernel
theorem t_Text_ok : ∀ k, k < 2 → parseFieldDescriptor (F_Text k).2.2.1 = some (t_Text k) := by decide +kernel
theorem i_Text : ∀ w ∈ u_ws R_Text F_Text 2, w ∈ gw := gw_all (by decide +kernel)
theorem n_Nodes : ∀ a, a < 5 → ∀ b, b < 5 → a ≠ b → (F_Nodes a).2.1 ≠ (F_Nodes b).2.1 := by decide +kernel
theorem t_Nodes_ok : ∀ k, k < 5 → parseFieldDescriptor (F_Nodes k).2.2.1 = some (t_Nodes k) := by decide +kernel
theorem i_Nodes : ∀ w ∈ u_ws R_Nodes F_Nodes 5, w ∈ gw := gw_all (by decide +kernel)
theorem n_Matcher : ∀ a, a < 12 → ∀ b, b < 12 → a ≠ b → (F_Matcher a).2.1 ≠ (F_Matcher b).2.1 := by decide +kernel
theorem t_Matcher_ok : ∀ k, k < 12 → parseFieldDescriptor (F_Matcher k).2.2.1 = some (t_Matcher k) := by decide +kernel
theorem i_Matcher : ∀ w ∈ u_ws R_Matcher F_Matcher 12, w ∈ gw := gw_all (by decide +kernel)
theorem n_Goals : ∀ a, a < 5 → ∀ b, b < 5 → a ≠ b → (F_Goals a).2.1 ≠ (F_Goals b).2.1 := by decide +kernel
theorem t_Goals_ok : ∀ k, k < 5 → parseFieldDescriptor (F_Goals k).2.2.1 = some (t_Goals k) := by decide +kernel
theorem i_Goals : ∀ w ∈ u_ws R_Goals F_Goals 5, w ∈ gw := gw_all (by decide +kernel)
theorem n_Choices : ∀ a, a < 7 → ∀ b, b < 7 → a ≠ b → (F_Choices a).2.1 ≠ (F_Choices b).2.1 := by decide +kernel
theorem t_Choices_ok : ∀ k, k < 7 → parseFieldDescriptor (F_Choices k).2.2.1 = some (t_Choices k) := by decide +kernel
theorem i_Choices : ∀ w ∈ u_ws R_Choices F_Choices 7, w ∈ gw := gw_all (by decide +kernel)
theorem n_Kept : ∀ a, a < 4 → ∀ b, b < 4 → a ≠ b → (F_Kept a).2.1 ≠ (F_Kept b).2.1 := by decide +kernel
theorem t_Kept_ok : ∀ k, k < 4 → parseFieldDescriptor (F_Kept k).2.2.1 = some (t_Kept k) := by decide +kernel
theorem i_Kept : ∀ w ∈ u_ws R_Kept F_Kept 4, w ∈ gw := gw_all (by decide +kernel)
theorem n_Model : ∀ a, a < 31 → ∀ b, b < 31 → a ≠ b → (F_Model a).2.1 ≠ (F_Model b).2.1 := by decide +kernel
theorem t_Model_ok : ∀ k, k < 31 → parseFieldDescriptor (F_Model k).2.2.1 = some (t_Model k) := by decide +kernel
theorem i_Model : ∀ w ∈ u_ws R_Model F_Model 31, w ∈ gw := gw_all (by decide +kernel)
abbrev classes : List vw_C := [(R_Mill, F_Mill, 6), (R_Text, F_Text, 2), (R_Nodes, F_Nodes, 5), (R_Matcher, F_Matcher, 12), (R_Goals, F_Goals, 5), (R_Choices, F_Choices, 7), (R_Kept, F_Kept, 4), (R_Model, F_Model, 31)]
/-- a class by its number -/
def cnL : List String := ["PatternMill", "PatternMill$Text", "PatternMill$Nodes", "PatternMill$Matcher", "PatternMill$Goals", "PatternMill$Choices", "PatternMill$Kept", "PatternMillModel", "PatternMill$Kind", "java/lang/Enum", "java/lang/Object", "PatternMillLaw"]
/-- a field: the class that declares it, its name and its descriptor -/
def fdL : List (List (String × String × String)) := [[("PatternMill", "slip", "LPatternMill$Text;"), ("PatternMill", "made", "LPatternMill$Text;"), ("PatternMill", "variables", "[LPatternMill$Text;"), ("PatternMill", "nodes", "LPatternMill$Nodes;"), ("PatternMill", "matcher", "LPatternMill$Matcher;"), ("PatternMill", "matched", "Z")],
  [("PatternMill$Text", "signs", "[B"), ("PatternMill$Text", "size", "I")],
  [("PatternMill$Nodes", "kinds", "[LPatternMill$Kind;"), ("PatternMill$Nodes", "firsts", "[I"), ("PatternMill$Nodes", "seconds", "[I"), ("PatternMill$Nodes", "texts", "[LPatternMill$Text;"), ("PatternMill$Nodes", "count", "I")],
  [("PatternMill$Matcher", "nodes", "LPatternMill$Nodes;"), ("PatternMill$Matcher", "variables", "[LPatternMill$Text;"), ("PatternMill$Matcher", "subject", "LPatternMill$Text;"), ("PatternMill$Matcher", "goals", "LPatternMill$Goals;"), ("PatternMill$Matcher", "choices", "LPatternMill$Choices;"), ("PatternMill$Matcher", "kept", "LPatternMill$Kept;"), ("PatternMill$Matcher", "steps", "I"), ("PatternMill$Matcher", "place", "I"), ("PatternMill$Matcher", "goal", "I"), ("PatternMill$Matcher", "result", "I"), ("PatternMill$Matcher", "begin", "I"), ("PatternMill$Matcher", "outcome", "I")],
  [("PatternMill$Goals", "whats", "[B"), ("PatternMill$Goals", "abouts", "[I"), ("PatternMill$Goals", "froms", "[I"), ("PatternMill$Goals", "nexts", "[I"), ("PatternMill$Goals", "top", "I")],
  [("PatternMill$Choices", "kinds", "[B"), ("PatternMill$Choices", "places", "[I"), ("PatternMill$Choices", "goals", "[I"), ("PatternMill$Choices", "tops", "[I"), ("PatternMill$Choices", "kepts", "[I"), ("PatternMill$Choices", "depths", "[I"), ("PatternMill$Choices", "size", "I")],
  [("PatternMill$Kept", "variables", "[I"), ("PatternMill$Kept", "froms", "[I"), ("PatternMill$Kept", "untils", "[I"), ("PatternMill$Kept", "size", "I")],
  [("PatternMillModel", "thrown", "I"), ("PatternMillModel", "slip", "[B"), ("PatternMillModel", "slipSize", "I"), ("PatternMillModel", "texts", "[B"), ("PatternMillModel", "sizes", "[I"), ("PatternMillModel", "nodes", "I"), ("PatternMillModel", "kinds", "[I"), ("PatternMillModel", "firsts", "[I"), ("PatternMillModel", "seconds", "[I"), ("PatternMillModel", "words", "[B"), ("PatternMillModel", "wordSizes", "[I"), ("PatternMillModel", "matched", "Z"), ("PatternMillModel", "from", "I"), ("PatternMillModel", "to", "I"), ("PatternMillModel", "steps", "I"), ("PatternMillModel", "subject", "[B"), ("PatternMillModel", "n", "I"), ("PatternMillModel", "node", "[I"), ("PatternMillModel", "start", "[I"), ("PatternMillModel", "end", "[I"), ("PatternMillModel", "up", "[I"), ("PatternMillModel", "one", "[I"), ("PatternMillModel", "two", "[I"), ("PatternMillModel", "second", "[Z"), ("PatternMillModel", "stamp", "[I"), ("PatternMillModel", "clock", "I"), ("PatternMillModel", "row", "I"), ("PatternMillModel", "mode", "I"), ("PatternMillModel", "aborted", "Z"), ("PatternMillModel", "over", "Z"), ("PatternMillModel", "parts", "[I")],
  [("PatternMill$Kind", "text", "Z"), ("PatternMill$Kind", "first", "I"), ("PatternMill$Kind", "second", "I"), ("java/lang/Enum", "ordinal", "I")]]
def fd (ci j : Nat) : String × String × String := ((nth fdL ci).bind (fun l => nth l j)).getD ("", "", "")
theorem lk_mem {α : Type} {l : List (Nat × α)} {k : Nat} {v : α} (h : lk l k = some v) : (k, v) ∈ l := by
  induction l with
  | nil => cases h
  | cons q r ih =>
    unfold lk at h
    cases hb : Nat.beq q.1 k
    · rw [hb] at h
      exact List.mem_cons_of_mem _ (ih h)
    · rw [hb] at h
      have e := Nat.eq_of_beq_eq_true hb
      cases h
      rw [← e]
      exact List.mem_cons_self
def okF (own : String) (k ci j : Nat) : Bool := decide (j < ((nth fdL ci).map List.length).getD 0) && ((decide (Cond.fieldLink own k (fd ci j).1 (fd ci j).2.1 (fd ci j).2.2 ∈ lw_tbl) && goodWord (Cond.fieldLink own k (fd ci j).1 (fd ci j).2.1 (fd ci j).2.2)) || decide (Cond.fieldLinkNest own k (fd ci j).1 (fd ci j).2.1 (fd ci j).2.2 "PatternMill" ∈ lw_tbl))
/-- the fields' links of a class are in the tables -/
def FlOK (own : String) (fl : Fl) : Prop := ∀ k ci j, fl k = some (ci, j) → j < ((nth fdL ci).map List.length).getD 0 ∧ (Cond.fieldLink own k (fd ci j).1 (fd ci j).2.1 (fd ci j).2.2 ∈ gw ∨ Cond.fieldLinkNest own k (fd ci j).1 (fd ci j).2.1 (fd ci j).2.2 "PatternMill" ∈ lw_tbl)
theorem fl_of {own : String} {l : List (Nat × Nat × Nat)} (h : l.all (fun q => okF own q.1 q.2.1 q.2.2) = true) : FlOK own (lk l) := by
  intro k ci j hk
  have h1 := List.all_eq_true.mp h _ (lk_mem hk)
  simp only [okF, Bool.and_eq_true, Bool.or_eq_true, decide_eq_true_eq] at h1
  exact ⟨h1.1, h1.2.imp (fun q => gw_mem q.1 q.2) (fun q => q)⟩
def KlOK (own : String) (kl : Nat → Option Nat) : Prop := ∀ k ci, kl k = some ci → Cond.classLink own k ((nth cnL ci).getD "") ∈ gw
theorem kl_of {own : String} {l : List (Nat × Nat)} (h : (l.map (fun q => Cond.classLink own q.1 ((nth cnL q.2).getD ""))).all (fun w => decide (w ∈ lw_tbl) && goodWord w) = true) : KlOK own (lk l) := fun k ci hk => gw_all h _ (List.mem_map.mpr ⟨(k, ci), lk_mem hk, rfl⟩)

theorem fo_Mill : FlOK R_Mill fl_Mill := fl_of (by decide +kernel)
theorem ko_Mill : KlOK R_Mill kl_Mill := kl_of (by decide +kernel)
theorem fo_Text : FlOK R_Text fl_Text := fl_of (by decide +kernel)
theorem ko_Text : KlOK R_Text kl_Text := kl_of (by decide +kernel)
theorem fo_Nodes : FlOK R_Nodes fl_Nodes := fl_of (by decide +kernel)
theorem ko_Nodes : KlOK R_Nodes kl_Nodes := kl_of (by decide +kernel)
theorem fo_Matcher : FlOK R_Matcher fl_Matcher := fl_of (by decide +kernel)
theorem ko_Matcher : KlOK R_Matcher kl_Matcher := kl_of (by decide +kernel)
theorem fo_Goals : FlOK R_Goals fl_Goals := fl_of (by decide +kernel)
theorem ko_Goals : KlOK R_Goals kl_Goals := kl_of (by decide +kernel)
theorem fo_Choices : FlOK R_Choices fl_Choices := fl_of (by decide +kernel)
theorem ko_Choices : KlOK R_Choices kl_Choices := kl_of (by decide +kernel)
theorem fo_Kept : FlOK R_Kept fl_Kept := fl_of (by decide +kernel)
theorem ko_Kept : KlOK R_Kept kl_Kept := kl_of (by decide +kernel)
theorem fo_Model : FlOK R_Model fl_Model := fl_of (by decide +kernel)
theorem ko_Model : KlOK R_Model kl_Model := kl_of (by decide +kernel)
theorem fo_Kind : FlOK R_Kind fl_Kind := fl_of (by decide +kernel)
theorem ko_Kind : KlOK R_Kind kl_Kind := kl_of (by decide +kernel)
theorem fo_Enum : FlOK R_Enum fl_Enum := fl_of (by decide +kernel)
theorem ko_Enum : KlOK R_Enum kl_Enum := kl_of (by decide +kernel)
theorem fo_Object : FlOK R_Object fl_Object := fl_of (by decide +kernel)
theorem ko_Object : KlOK R_Object kl_Object := kl_of (by decide +kernel)
theorem fo_Law : FlOK R_LawC fl_Law := fl_of (by decide +kernel)
theorem ko_Law : KlOK R_LawC kl_Law := kl_of (by decide +kernel)
