/-! Soundness: what a step says holds of the machine. First the codes. -/
def ilen : Instr → Nat
  | .bipush _ => 2
  | .sipush _ => 3
  | .iload _ => 2
  | .aload _ => 2
  | .istore _ => 2
  | .astore _ => 2
  | .iinc _ _ => 3
  | .goto _ => 3
  | .ifCond _ _ => 3
  | .if_icmp _ _ => 3
  | .if_acmp _ _ => 3
  | .ifnonnull _ => 3
  | .getfield _ => 3
  | .putfield _ => 3
  | .getstatic _ => 3
  | .invokevirtual _ => 3
  | .invokespecial _ => 3
  | .invokestatic _ => 3
  | .new _ => 3
  | .newarray _ => 2
  | .anewarray _ => 3
  | _ => 1
def rngB (n : Int) : Bool := decide (-2147483648 ≤ n) && decide (n < 2147483648)
def okE (pc : Nat) (i : Instr) (nx tg : Nat) (cas : List (Int × Nat)) : Bool := match i with
  | .iconst n => decide (nx = pc + 1) && rngB n
  | .bipush n => decide (nx = pc + 2) && rngB n && decide ((Int8.ofInt n).toInt32 = Int32.ofInt n)
  | .sipush n => decide (nx = pc + 3) && rngB n && decide ((Int16.ofInt n).toInt32 = Int32.ofInt n)
  | .iinc _ n => decide (nx = pc + 3) && rngB n
  | .goto off => decide (nx = pc + 3) && decide ((pc : Int) + off = tg)
  | .ifCond _ off => decide (nx = pc + 3) && decide ((pc : Int) + off = tg)
  | .if_icmp _ off => decide (nx = pc + 3) && decide ((pc : Int) + off = tg)
  | .if_acmp _ off => decide (nx = pc + 3) && decide ((pc : Int) + off = tg)
  | .ifnonnull off => decide (nx = pc + 3) && decide ((pc : Int) + off = tg)
  | .tableswitch d lo hi offs => decide ((pc : Int) + d = tg) && decide (hi = lo + offs.size - 1) && decide (cas = (List.range offs.size).map (fun j : Nat => (lo + (j : Int), ((pc : Int) + offs.getD j 0).toNat))) && (List.range offs.size).all (fun j => decide (0 ≤ (pc : Int) + offs.getD j 0))
  | .lookupswitch d ps => decide ((pc : Int) + d = tg) && (ps.toList.zip (ps.toList.drop 1)).all (fun (a, next) => a.1 < next.1) && decide (cas = ps.toList.map (fun q => (q.1, ((pc : Int) + q.2).toNat))) && ps.toList.all (fun q => decide (0 ≤ (pc : Int) + q.2))
  | i => decide (nx = pc + ilen i)
/-- a code's table is the code's -/
def CodeOK (cc : ByteArray) (code : Nat → Option En) : Prop := ∀ pc i nx tg cas, code pc = some (i, nx, tg, cas) → decode cc pc = .ok (i, nx - pc) ∧ okE pc i nx tg cas = true
def chkE (cc : ByteArray) (q : Nat × En) : Bool := decide (decode cc q.1 = .ok (q.2.1, q.2.2.1 - q.1)) && okE q.1 q.2.1 q.2.2.1 q.2.2.2.1 q.2.2.2.2
theorem code_of {cc : ByteArray} {l : List (Nat × En)} (h : l.all (chkE cc) = true) : CodeOK cc (lk l) := by
  intro pc i nx tg cas hk
  have h1 := List.all_eq_true.mp h _ (lk_mem hk)
  simp only [chkE, Bool.and_eq_true, decide_eq_true_eq] at h1
  exact h1
/-! Classes' facts by number -/
def clr (ci : Nat) : vw_C := (classes[ci]?).getD ("", fun _ => ("", "", "", false), 0)
theorem c8 {ci : Nat} (h : ci < 8) : ci = 0 ∨ ci = 1 ∨ ci = 2 ∨ ci = 3 ∨ ci = 4 ∨ ci = 5 ∨ ci = 6 ∨ ci = 7 := by omega
theorem cl_at {ci : Nat} (h : ci < 8) : classes[ci]? = some (clr ci) := by rcases c8 h with rfl | rfl | rfl | rfl | rfl | rfl | rfl | rfl <;> rfl
theorem cl_N : ∀ ci, ci < 8 → (clr ci).2.2 = nF ci := by decide +kernel
theorem cl_nm : ∀ ci, ci < 8 → (clr ci).1 = (nth cnL ci).getD "" := by decide +kernel
theorem cl_in {ci : Nat} (h : ci < 8) : ∀ w ∈ u_ws (clr ci).1 (clr ci).2.1 (clr ci).2.2, w ∈ gw := by
  rcases c8 h with rfl | rfl | rfl | rfl | rfl | rfl | rfl | rfl
  · exact i_Mill
  · exact i_Text
  · exact i_Nodes
  · exact i_Matcher
  · exact i_Goals
  · exact i_Choices
  · exact i_Kept
  · exact i_Model
theorem cl_nd {ci : Nat} (h : ci < 8) : ∀ a, a < (clr ci).2.2 → ∀ b, b < (clr ci).2.2 → a ≠ b → ((clr ci).2.1 a).2.1 ≠ ((clr ci).2.1 b).2.1 := by
  rcases c8 h with rfl | rfl | rfl | rfl | rfl | rfl | rfl | rfl
  · exact n_Mill
  · exact n_Text
  · exact n_Nodes
  · exact n_Matcher
  · exact n_Goals
  · exact n_Choices
  · exact n_Kept
  · exact n_Model
def cty (ci : Nat) : Nat → FieldType := match ci with
  | 0 => t_Mill
  | 1 => t_Text
  | 2 => t_Nodes
  | 3 => t_Matcher
  | 4 => t_Goals
  | 5 => t_Choices
  | 6 => t_Kept
  | _ => t_Model
theorem cl_ty {ci : Nat} (h : ci < 8) : ∀ k, k < (clr ci).2.2 → parseFieldDescriptor ((clr ci).2.1 k).2.2.1 = some (cty ci k) := by
  rcases c8 h with rfl | rfl | rfl | rfl | rfl | rfl | rfl | rfl
  · exact t_Mill_ok
  · exact t_Text_ok
  · exact t_Nodes_ok
  · exact t_Matcher_ok
  · exact t_Goals_ok
  · exact t_Choices_ok
  · exact t_Kept_ok
  · exact t_Model_ok
theorem cl_fd1 : ∀ ci, ci < 8 → ∀ j, j < nF ci → ((clr ci).2.1 j).1 = (fd ci j).1 ∧ ((clr ci).2.1 j).2.1 = (fd ci j).2.1 ∧ ((clr ci).2.1 j).2.2.1 = (fd ci j).2.2 ∧ (((clr ci).2.1 j).2.2.2 = (fk ci j == 1)) ∧ (fk ci j = 0 ∨ fk ci j = 1 ∨ fk ci j = 2) := by decide +kernel
theorem cl_fd2 : ∀ ci, ci < 8 → ∀ j, j < nF ci → (fk ci j = 0 → cty ci j = .int) ∧ (fk ci j = 2 → cty ci j = .boolean) ∧ (fk ci j = 1 → (cty ci j).isReference = true) ∧ (fk ci j = 1 → ((clr ci).2.1 j).1 = (nth cnL ci).getD "") := by decide +kernel
theorem cl_in2 : ∀ ci, ci < 8 → Cond.instantiable ((nth cnL ci).getD "") (nF ci) ∈ gw ∧ Cond.initialized ((nth cnL ci).getD "") ∈ gw := by
  have h : ((List.range 8).flatMap (fun ci => [Cond.instantiable ((nth cnL ci).getD "") (nF ci), Cond.initialized ((nth cnL ci).getD "")])).all (fun w => decide (w ∈ lw_tbl) && goodWord w) = true := by decide +kernel
  intro ci hc
  exact ⟨gw_all h _ (List.mem_flatMap.mpr ⟨ci, List.mem_range.mpr hc, by simp⟩), gw_all h _ (List.mem_flatMap.mpr ⟨ci, List.mem_range.mpr hc, by simp⟩)⟩
theorem fd_len : ∀ ci, ci < 8 → ((nth fdL ci).map List.length).getD 0 = nF ci := by decide +kernel
/-- what the numbers of classes are -/
theorem shp_cl : ∀ a, a < 46 → (match shp a with | .inl ci => decide ((ci < 8 ∧ a < 45 ∧ nth oaL ci = some a) ∨ (ci = 8 ∧ a = 45)) | .inr (t, _) => decide (t < 5 ∧ a < 45)) = true := by decide +kernel
theorem shp_out {a : Nat} (h : ¬ a < 46) : shp a = .inl 99 := by
  unfold shp
  rw [nth_get, List.getElem?_eq_none (by show 46 ≤ a; omega)]
theorem shp_obj {a ci : Nat} (h : shp a = .inl ci) (h9 : ci < 9) : (ci < 8 ∧ a < 45) ∨ (ci = 8 ∧ a = 45) := by
  by_cases ha : a < 46
  · have := shp_cl a ha
    rw [h] at this
    simp only [decide_eq_true_eq] at this
    rcases this with q | q
    · exact Or.inl ⟨q.1, q.2.1⟩
    · exact Or.inr q
  · rw [shp_out ha] at h
    cases h
    omega
theorem shp_arr {a t n : Nat} (h : shp a = .inr (t, n)) : a < 45 ∧ t < 5 := by
  by_cases ha : a < 46
  · have := shp_cl a ha
    rw [h] at this
    simp only [decide_eq_true_eq] at this
    exact ⟨this.2, this.1⟩
  · rw [shp_out ha] at h
    cases h
theorem okr_our {s : St} {a b : Nat} (h : okr s (a, b)) (ha : a < 45) : idq a b = true ∧ ad a b < s.1 := by
  rcases h with h | ⟨h, -⟩ | ⟨h, -⟩ | ⟨h, -⟩
  · exact h
  · simp only at h; omega
  · simp only at h; omega
  · simp only at h; omega
theorem adr_our {G : Gp} {a b : Nat} (ha : a < 45) : adr G (a, b) = G.1 + ad a b := by simp [adr, ha]
/-! the constants -/
def kNames : List String := ["WORD", "ANY", "NOT", "SPAN", "BREAK", "LEN", "FROM", "BEFORE", "TAB", "BACK", "REST", "ARB", "BALANCED", "FAIL", "FENCE", "ABORT", "MANY", "THEN", "OR", "KEEP", "NOW", "PLACE", "VALUE", "LATER"]
def kTab : List (String × String × String × List Int32) := [("PatternMill$Kind", "text", "Z", [1, 1, 1, 1, 1, 0, 0, 0, 0, 0, 0, 0, 0, 0, 0, 0, 0, 0, 0, 0, 0, 0, 0, 0]), ("PatternMill$Kind", "first", "I", [0, 0, 0, 0, 0, 1, 1, 1, 1, 1, 0, 0, 0, 0, 0, 0, 2, 2, 2, 2, 2, 3, 3, 4]),
  ("PatternMill$Kind", "second", "I", [0, 0, 0, 0, 0, 0, 0, 0, 0, 0, 0, 0, 0, 0, 0, 0, 0, 2, 2, 3, 3, 0, 0, 0]), ("java/lang/Enum", "ordinal", "I", [0, 1, 2, 3, 4, 5, 6, 7, 8, 9, 10, 11, 12, 13, 14, 15, 16, 17, 18, 19, 20, 21, 22, 23])]
def kRow (j : Nat) : String × String × String × List Int32 := (nth kTab j).getD ("", "", "", [])
theorem kTab_ok : ∀ j, j < 4 → kRow j ∈ kTab ∧ (kRow j).1 = (fd 8 j).1 ∧ (kRow j).2.1 = (fd 8 j).2.1 ∧ (kRow j).2.2.1 = (fd 8 j).2.2 ∧ ∀ b, b < 24 → (kRow j).2.2.2.getD b 0 = Int32.ofInt (kF j b) ∧ -5 < kF j b ∧ kF j b < 30 := by decide +kernel
def isNest : Cond → Bool
  | .fieldLinkNest .. => true
  | .methodLinkNest .. => true
  | _ => false
def tysL (G : Gp) : List (ClassId × FieldType) := [(G.2.2.2 0, .int), (G.2.2.2 1, .byte), (G.2.2.2 2, .boolean), (G.2.2.2 3, .object "PatternMill$Kind"), (G.2.2.2 4, .object "PatternMill$Text")]
/-- what is known of classes in a state -/
def KK (G : Gp) (U : State) : Prop := va_K G.2.2.1 classes (tysL G) U ∧ (∀ w ∈ lw_tbl, isNest w = true → va_Nw w U) ∧ va_AO "PatternMill$Kind" U ∧ va_AO "PatternMill$Text" U ∧ ∃ (cK : ClassId) (k : Class), U.vm.findClass "PatternMill$Kind" = some cK ∧ U.vm.classes[cK]? = some k ∧ U.vm.assignable cK cK = true
/-- the constants in a heap -/
def CN (G : Gp) (SL : Nat) (xs : Nat → Int) (U : State) (H : Heap) : Prop := va_En "PatternMill$Kind" "LPatternMill$Kind;" kNames kTab (G.2.1 45) (fun q => G.1 ≤ q) U H ∧ va_Z "PatternMill" "KINDS" "[LPatternMill$Kind;" (.ref (G.2.1 46 0)) (fun q => G.1 ≤ q) U H ∧ va_T (.object "PatternMill$Kind") (G.2.1 46 0) 24 (fun i => .ref (G.2.1 45 i)) (fun q => G.1 ≤ q) U H ∧
  va_X (G.2.1 47 0) SL (fun j => Int32.ofInt (xs j)) U H ∧ G.2.1 47 0 < G.1 ∧ ∀ j, rng (xs j)
theorem KK.warm {G : Gp} {s U : State} (hW : s.WarmedH U.vm) (h : KK G s) : KK G U := by
  obtain ⟨h1, h2, h3, h4, cK, k, h5, h6, h7⟩ := h
  have hal := hW.alike
  obtain ⟨k', hk', -⟩ := hal.2.2 _ _ h6
  refine ⟨va_K.moved hal h1, fun w hw hn => ?_, h3.moved hal, h4.moved hal, cK, k', by rw [hal.findClass]; exact h5, hk', by rw [hal.assignable]; exact h7⟩
  have := h2 w hw hn
  cases w <;> first | (cases hn; done) | exact va_Nw.warmF hW this | exact va_Nw.warmM hW this
theorem KK.calling {G : Gp} {U : State} {g : JFrame} {mk : MethodId} {a : Array Value} (h : KK G U) : KK G (U.calling g mk a) := by
  obtain ⟨h1, h2, h3, h4, h5⟩ := h
  refine ⟨va_K.moved (u := U) (U := U.calling g mk a) (Vm.Alike.refl U.vm) h1, fun w hw hn => ?_, h3.moved (u := U) (U := U.calling g mk a) (Vm.Alike.refl U.vm), h4.moved (u := U) (U := U.calling g mk a) (Vm.Alike.refl U.vm), h5⟩
  refine va_Nw.same ?_ (u := U) (U := U.calling g mk a) rfl (h2 w hw hn)
  cases w <;> first | (cases hn; done) | rfl
theorem CN.moved {G : Gp} {SL : Nat} {xs : Nat → Int} {u U : State} {H : Heap} (hvm : u.vm.Alike U.vm) (h : CN G SL xs u H) : CN G SL xs U H := ⟨h.1.moved hvm, h.2.1.moved hvm, h.2.2.1.moved hvm, h.2.2.2.1.moved hvm, h.2.2.2.2⟩
theorem CN.kept {G : Gp} {SL : Nat} {xs : Nat → Int} {U : State} {H H1 : Heap} (h : CN G SL xs U H) (hz : G.1 ≤ H.size) (hq : ∀ a : Nat, a < H.size → ¬ G.1 ≤ a → H1[a]? = H[a]?) : CN G SL xs U H1 := ⟨h.1.kept hq, h.2.1.kept hq, h.2.2.1.kept hq, h.2.2.2.1.kept (hq _ (by have := h.2.2.2.2.1; omega) (by have := h.2.2.2.2.1; omega)), h.2.2.2.2⟩
