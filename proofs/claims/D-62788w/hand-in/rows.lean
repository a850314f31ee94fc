section
-- ===== PART A: goes FIRST, ahead of the names: the tables' words, and 'selects' of the private methods out of them =====
/-- a private method of a class that the tables say can be made, by its rows of tables_1 -/
def lw_okq (q : MethodName × Nat) : Prop := (q.1.cls ≠ "java/lang/invoke/MethodHandle" ∧ q.1.cls ≠ "java/lang/invoke/VarHandle") ∧ Cond.instantiable q.1.cls q.2 ∈ tables_1 ∧ Cond.privateMethod q.1 ∈ tables_1 ∧ Cond.instanceMethod q.1 ∈ tables_1
theorem lw_p0 : lw_okq (⟨"PatternMill$Matcher", "from", "(II)I"⟩, 12) := ⟨⟨by decide +kernel, by decide +kernel⟩, List.mem_of_getElem? (i := 75) (by decide +kernel), List.mem_of_getElem? (i := 309) (by decide +kernel), List.mem_of_getElem? (i := 310) (by decide +kernel)⟩
theorem lw_p1 : lw_okq (⟨"PatternMill$Matcher", "works", "()Z"⟩, 12) := ⟨⟨by decide +kernel, by decide +kernel⟩, List.mem_of_getElem? (i := 75) (by decide +kernel), List.mem_of_getElem? (i := 317) (by decide +kernel), List.mem_of_getElem? (i := 318) (by decide +kernel)⟩
theorem lw_p2 : lw_okq (⟨"PatternMill$Matcher", "begins", "(I)Z"⟩, 12) := ⟨⟨by decide +kernel, by decide +kernel⟩, List.mem_of_getElem? (i := 75) (by decide +kernel), List.mem_of_getElem? (i := 326) (by decide +kernel), List.mem_of_getElem? (i := 327) (by decide +kernel)⟩
theorem lw_p3 : lw_okq (⟨"PatternMill$Matcher", "goes", "(ZI)Z"⟩, 12) := ⟨⟨by decide +kernel, by decide +kernel⟩, List.mem_of_getElem? (i := 75) (by decide +kernel), List.mem_of_getElem? (i := 335) (by decide +kernel), List.mem_of_getElem? (i := 336) (by decide +kernel)⟩
theorem lw_p4 : lw_okq (⟨"PatternMill$Matcher", "back", "()Z"⟩, 12) := ⟨⟨by decide +kernel, by decide +kernel⟩, List.mem_of_getElem? (i := 75) (by decide +kernel), List.mem_of_getElem? (i := 339) (by decide +kernel), List.mem_of_getElem? (i := 340) (by decide +kernel)⟩
theorem lw_p5 : lw_okq (⟨"PatternMill$Matcher", "further", "()V"⟩, 12) := ⟨⟨by decide +kernel, by decide +kernel⟩, List.mem_of_getElem? (i := 75) (by decide +kernel), List.mem_of_getElem? (i := 343) (by decide +kernel), List.mem_of_getElem? (i := 344) (by decide +kernel)⟩
theorem lw_p6 : lw_okq (⟨"PatternMill$Matcher", "choose", "(IIII)V"⟩, 12) := ⟨⟨by decide +kernel, by decide +kernel⟩, List.mem_of_getElem? (i := 75) (by decide +kernel), List.mem_of_getElem? (i := 347) (by decide +kernel), List.mem_of_getElem? (i := 348) (by decide +kernel)⟩
theorem lw_p7 : lw_okq (⟨"PatternMill$Matcher", "balances", "(I)Z"⟩, 12) := ⟨⟨by decide +kernel, by decide +kernel⟩, List.mem_of_getElem? (i := 75) (by decide +kernel), List.mem_of_getElem? (i := 351) (by decide +kernel), List.mem_of_getElem? (i := 352) (by decide +kernel)⟩
theorem lw_p8 : lw_okq (⟨"PatternMill$Matcher", "isSign", "(LPatternMill$Text;Z)Z"⟩, 12) := ⟨⟨by decide +kernel, by decide +kernel⟩, List.mem_of_getElem? (i := 75) (by decide +kernel), List.mem_of_getElem? (i := 355) (by decide +kernel), List.mem_of_getElem? (i := 356) (by decide +kernel)⟩
theorem lw_p9 : lw_okq (⟨"PatternMill$Matcher", "run", "(LPatternMill$Text;)I"⟩, 12) := ⟨⟨by decide +kernel, by decide +kernel⟩, List.mem_of_getElem? (i := 75) (by decide +kernel), List.mem_of_getElem? (i := 363) (by decide +kernel), List.mem_of_getElem? (i := 364) (by decide +kernel)⟩
theorem lw_p10 : lw_okq (⟨"PatternMill$Matcher", "breaks", "(LPatternMill$Text;)I"⟩, 12) := ⟨⟨by decide +kernel, by decide +kernel⟩, List.mem_of_getElem? (i := 75) (by decide +kernel), List.mem_of_getElem? (i := 367) (by decide +kernel), List.mem_of_getElem? (i := 368) (by decide +kernel)⟩
theorem lw_p11 : lw_okq (⟨"PatternMill$Matcher", "composes", "(III)Z"⟩, 12) := ⟨⟨by decide +kernel, by decide +kernel⟩, List.mem_of_getElem? (i := 75) (by decide +kernel), List.mem_of_getElem? (i := 371) (by decide +kernel), List.mem_of_getElem? (i := 372) (by decide +kernel)⟩
theorem lw_p12 : lw_okq (⟨"PatternMill", "isWell", "()Z"⟩, 6) := ⟨⟨by decide +kernel, by decide +kernel⟩, List.mem_of_getElem? (i := 13) (by decide +kernel), List.mem_of_getElem? (i := 387) (by decide +kernel), List.mem_of_getElem? (i := 388) (by decide +kernel)⟩
theorem lw_p13 : lw_okq (⟨"PatternMillModel", "can", "(III)Z"⟩, 31) := ⟨⟨by decide +kernel, by decide +kernel⟩, List.mem_of_getElem? (i := 397) (by decide +kernel), List.mem_of_getElem? (i := 521) (by decide +kernel), List.mem_of_getElem? (i := 522) (by decide +kernel)⟩
theorem lw_p14 : lw_okq (⟨"PatternMillModel", "isNode", "(I)Z"⟩, 31) := ⟨⟨by decide +kernel, by decide +kernel⟩, List.mem_of_getElem? (i := 397) (by decide +kernel), List.mem_of_getElem? (i := 525) (by decide +kernel), List.mem_of_getElem? (i := 526) (by decide +kernel)⟩
theorem lw_p15 : lw_okq (⟨"PatternMillModel", "tries", "(II)I"⟩, 31) := ⟨⟨by decide +kernel, by decide +kernel⟩, List.mem_of_getElem? (i := 397) (by decide +kernel), List.mem_of_getElem? (i := 541) (by decide +kernel), List.mem_of_getElem? (i := 542) (by decide +kernel)⟩
def lw_privs_1 : List (MethodName × Nat) := [(⟨"PatternMill$Matcher", "from", "(II)I"⟩, 12), (⟨"PatternMill$Matcher", "works", "()Z"⟩, 12), (⟨"PatternMill$Matcher", "begins", "(I)Z"⟩, 12), (⟨"PatternMill$Matcher", "goes", "(ZI)Z"⟩, 12), (⟨"PatternMill$Matcher", "back", "()Z"⟩, 12), (⟨"PatternMill$Matcher", "further", "()V"⟩, 12), (⟨"PatternMill$Matcher", "choose", "(IIII)V"⟩, 12), (⟨"PatternMill$Matcher", "balances", "(I)Z"⟩, 12), (⟨"PatternMill$Matcher", "isSign", "(LPatternMill$Text;Z)Z"⟩, 12), (⟨"PatternMill$Matcher", "run", "(LPatternMill$Text;)I"⟩, 12), (⟨"PatternMill$Matcher", "breaks", "(LPatternMill$Text;)I"⟩, 12), (⟨"PatternMill$Matcher", "composes", "(III)Z"⟩, 12), (⟨"PatternMill", "isWell", "()Z"⟩, 6), (⟨"PatternMillModel", "can", "(III)Z"⟩, 31), (⟨"PatternMillModel", "isNode", "(I)Z"⟩, 31), (⟨"PatternMillModel", "tries", "(II)I"⟩, 31)]
theorem lw_r1 : ∀ q ∈ lw_privs_1, lw_okq q := List.forall_mem_cons.mpr ⟨lw_p0, List.forall_mem_cons.mpr ⟨lw_p1, List.forall_mem_cons.mpr ⟨lw_p2, List.forall_mem_cons.mpr ⟨lw_p3, List.forall_mem_cons.mpr ⟨lw_p4, List.forall_mem_cons.mpr ⟨lw_p5, List.forall_mem_cons.mpr ⟨lw_p6, List.forall_mem_cons.mpr ⟨lw_p7, List.forall_mem_cons.mpr ⟨lw_p8, List.forall_mem_cons.mpr ⟨lw_p9, List.forall_mem_cons.mpr ⟨lw_p10, List.forall_mem_cons.mpr ⟨lw_p11, List.forall_mem_cons.mpr ⟨lw_p12, List.forall_mem_cons.mpr ⟨lw_p13, List.forall_mem_cons.mpr ⟨lw_p14, List.forall_mem_cons.mpr ⟨lw_p15, fun _ h => absurd h List.not_mem_nil⟩⟩⟩⟩⟩⟩⟩⟩⟩⟩⟩⟩⟩⟩⟩⟩
theorem lw_p16 : lw_okq (⟨"PatternMillModel", "begin", "(III)V"⟩, 31) := ⟨⟨by decide +kernel, by decide +kernel⟩, List.mem_of_getElem? (i := 397) (by decide +kernel), List.mem_of_getElem? (i := 545) (by decide +kernel), List.mem_of_getElem? (i := 546) (by decide +kernel)⟩
theorem lw_p17 : lw_okq (⟨"PatternMillModel", "begins", "()V"⟩, 31) := ⟨⟨by decide +kernel, by decide +kernel⟩, List.mem_of_getElem? (i := 397) (by decide +kernel), List.mem_of_getElem? (i := 549) (by decide +kernel), List.mem_of_getElem? (i := 550) (by decide +kernel)⟩
theorem lw_p18 : lw_okq (⟨"PatternMillModel", "succeeds", "(I)V"⟩, 31) := ⟨⟨by decide +kernel, by decide +kernel⟩, List.mem_of_getElem? (i := 397) (by decide +kernel), List.mem_of_getElem? (i := 553) (by decide +kernel), List.mem_of_getElem? (i := 554) (by decide +kernel)⟩
theorem lw_p19 : lw_okq (⟨"PatternMillModel", "plain", "(II)I"⟩, 31) := ⟨⟨by decide +kernel, by decide +kernel⟩, List.mem_of_getElem? (i := 397) (by decide +kernel), List.mem_of_getElem? (i := 557) (by decide +kernel), List.mem_of_getElem? (i := 558) (by decide +kernel)⟩
theorem lw_p20 : lw_okq (⟨"PatternMillModel", "isIn", "(II)Z"⟩, 31) := ⟨⟨by decide +kernel, by decide +kernel⟩, List.mem_of_getElem? (i := 397) (by decide +kernel), List.mem_of_getElem? (i := 561) (by decide +kernel), List.mem_of_getElem? (i := 562) (by decide +kernel)⟩
theorem lw_p21 : lw_okq (⟨"PatternMillModel", "behind", "([BIII)I"⟩, 31) := ⟨⟨by decide +kernel, by decide +kernel⟩, List.mem_of_getElem? (i := 397) (by decide +kernel), List.mem_of_getElem? (i := 565) (by decide +kernel), List.mem_of_getElem? (i := 566) (by decide +kernel)⟩
theorem lw_p22 : lw_okq (⟨"PatternMillModel", "span", "(II)I"⟩, 31) := ⟨⟨by decide +kernel, by decide +kernel⟩, List.mem_of_getElem? (i := 397) (by decide +kernel), List.mem_of_getElem? (i := 569) (by decide +kernel), List.mem_of_getElem? (i := 570) (by decide +kernel)⟩
theorem lw_p23 : lw_okq (⟨"PatternMillModel", "stop", "(II)I"⟩, 31) := ⟨⟨by decide +kernel, by decide +kernel⟩, List.mem_of_getElem? (i := 397) (by decide +kernel), List.mem_of_getElem? (i := 573) (by decide +kernel), List.mem_of_getElem? (i := 574) (by decide +kernel)⟩
theorem lw_p24 : lw_okq (⟨"PatternMillModel", "balanced", "(II)I"⟩, 31) := ⟨⟨by decide +kernel, by decide +kernel⟩, List.mem_of_getElem? (i := 397) (by decide +kernel), List.mem_of_getElem? (i := 577) (by decide +kernel), List.mem_of_getElem? (i := 578) (by decide +kernel)⟩
theorem lw_p25 : lw_okq (⟨"PatternMillModel", "told", "(II)I"⟩, 31) := ⟨⟨by decide +kernel, by decide +kernel⟩, List.mem_of_getElem? (i := 397) (by decide +kernel), List.mem_of_getElem? (i := 581) (by decide +kernel), List.mem_of_getElem? (i := 582) (by decide +kernel)⟩
theorem lw_p26 : lw_okq (⟨"PatternMillModel", "goesBack", "()V"⟩, 31) := ⟨⟨by decide +kernel, by decide +kernel⟩, List.mem_of_getElem? (i := 397) (by decide +kernel), List.mem_of_getElem? (i := 585) (by decide +kernel), List.mem_of_getElem? (i := 586) (by decide +kernel)⟩
theorem lw_p27 : lw_okq (⟨"PatternMillModel", "hasSucceeded", "(I)V"⟩, 31) := ⟨⟨by decide +kernel, by decide +kernel⟩, List.mem_of_getElem? (i := 397) (by decide +kernel), List.mem_of_getElem? (i := 589) (by decide +kernel), List.mem_of_getElem? (i := 590) (by decide +kernel)⟩
theorem lw_p28 : lw_okq (⟨"PatternMillModel", "becomes", "(II)V"⟩, 31) := ⟨⟨by decide +kernel, by decide +kernel⟩, List.mem_of_getElem? (i := 397) (by decide +kernel), List.mem_of_getElem? (i := 593) (by decide +kernel), List.mem_of_getElem? (i := 594) (by decide +kernel)⟩
theorem lw_p29 : lw_okq (⟨"PatternMillModel", "hasFailed", "(I)V"⟩, 31) := ⟨⟨by decide +kernel, by decide +kernel⟩, List.mem_of_getElem? (i := 397) (by decide +kernel), List.mem_of_getElem? (i := 597) (by decide +kernel), List.mem_of_getElem? (i := 598) (by decide +kernel)⟩
theorem lw_p30 : lw_okq (⟨"PatternMillModel", "keep", "(I)V"⟩, 31) := ⟨⟨by decide +kernel, by decide +kernel⟩, List.mem_of_getElem? (i := 397) (by decide +kernel), List.mem_of_getElem? (i := 601) (by decide +kernel), List.mem_of_getElem? (i := 602) (by decide +kernel)⟩
def lw_privs_2 : List (MethodName × Nat) := [(⟨"PatternMillModel", "begin", "(III)V"⟩, 31), (⟨"PatternMillModel", "begins", "()V"⟩, 31), (⟨"PatternMillModel", "succeeds", "(I)V"⟩, 31), (⟨"PatternMillModel", "plain", "(II)I"⟩, 31), (⟨"PatternMillModel", "isIn", "(II)Z"⟩, 31), (⟨"PatternMillModel", "behind", "([BIII)I"⟩, 31), (⟨"PatternMillModel", "span", "(II)I"⟩, 31), (⟨"PatternMillModel", "stop", "(II)I"⟩, 31), (⟨"PatternMillModel", "balanced", "(II)I"⟩, 31), (⟨"PatternMillModel", "told", "(II)I"⟩, 31), (⟨"PatternMillModel", "goesBack", "()V"⟩, 31), (⟨"PatternMillModel", "hasSucceeded", "(I)V"⟩, 31), (⟨"PatternMillModel", "becomes", "(II)V"⟩, 31), (⟨"PatternMillModel", "hasFailed", "(I)V"⟩, 31), (⟨"PatternMillModel", "keep", "(I)V"⟩, 31)]
theorem lw_r2 : ∀ q ∈ lw_privs_2, lw_okq q := List.forall_mem_cons.mpr ⟨lw_p16, List.forall_mem_cons.mpr ⟨lw_p17, List.forall_mem_cons.mpr ⟨lw_p18, List.forall_mem_cons.mpr ⟨lw_p19, List.forall_mem_cons.mpr ⟨lw_p20, List.forall_mem_cons.mpr ⟨lw_p21, List.forall_mem_cons.mpr ⟨lw_p22, List.forall_mem_cons.mpr ⟨lw_p23, List.forall_mem_cons.mpr ⟨lw_p24, List.forall_mem_cons.mpr ⟨lw_p25, List.forall_mem_cons.mpr ⟨lw_p26, List.forall_mem_cons.mpr ⟨lw_p27, List.forall_mem_cons.mpr ⟨lw_p28, List.forall_mem_cons.mpr ⟨lw_p29, List.forall_mem_cons.mpr ⟨lw_p30, fun _ h => absurd h List.not_mem_nil⟩⟩⟩⟩⟩⟩⟩⟩⟩⟩⟩⟩⟩⟩⟩
def lw_privs : List (MethodName × Nat) := lw_privs_1 ++ (lw_privs_2)
def lw_tbl : List Cond := k2_sels lw_privs ++ tables_1
theorem lw_privs_ok : ∀ q ∈ lw_privs, lw_okq q := by
  show ∀ q ∈ lw_privs_1 ++ (lw_privs_2), lw_okq q
  exact List.forall_mem_append.mpr ⟨lw_r1, lw_r2⟩
end
section
/-! A small machine over the bytecode: values are mathematical integers (in the range of int) or references (a number of a class, a copy); one step as a predicate transformer; its least fixed point. -/
abbrev Rf : Type := Option (Nat × Nat)
abbrev Av : Type := Int ⊕ Rf
abbrev Sg : Type := Nat → Nat → Nat → Int
abbrev Rh : Type := Nat → Nat → Nat → Rf
/-- cells made so far, what the int places hold, what the reference places hold -/
abbrev St : Type := Nat × Sg × Rh
/-- an instruction, the pc behind it, its target (a switch: the default), a switch's cases -/
abbrev En : Type := Instr × Nat × Nat × List (Int × Nat)
def lk {α : Type} : List (Nat × α) → Nat → Option α
  | [], _ => none
  | q :: r, i => bif Nat.beq q.1 i then some q.2 else lk r i
def wr (x : Int) : Int := (Int32.ofInt x).toInt
def w_and (x y : Int) : Int := (Int32.ofInt x &&& Int32.ofInt y).toInt
def w_or (x y : Int) : Int := (Int32.ofInt x ||| Int32.ofInt y).toInt
def w_div (x y : Int) : Int := (Int32.ofInt x / Int32.ofInt y).toInt
def w_rem (x y : Int) : Int := (Int32.ofInt x - Int32.ofInt x / Int32.ofInt y * Int32.ofInt y).toInt
def b8 (x : Int) : Int := ((Int32.ofInt x).toInt8.toInt32).toInt
def rng (x : Int) : Prop := -2147483648 ≤ x ∧ x < 2147483648
def upS (f : Sg) (a b j : Nat) (v : Int) : Sg := fun a' b' j' => if a' = a ∧ b' = b ∧ j' = j then v else f a' b' j'
def upR (f : Rh) (a b j : Nat) (v : Rf) : Rh := fun a' b' j' => if a' = a ∧ b' = b ∧ j' = j then v else f a' b' j'
/-- a cell's places as they are at first -/
def zrS (f : Sg) (a b : Nat) : Sg := fun a' b' j' => if a' = a ∧ b' = b then 0 else f a' b' j'
def zrR (f : Rh) (a b : Nat) : Rh := fun a' b' j' => if a' = a ∧ b' = b then none else f a' b' j'
/-- a run of places copied -/
def cpS (f : Sg) (a b i a1 b1 i1 n : Nat) : Sg := fun a' b' j' => if a' = a1 ∧ b' = b1 ∧ i1 ≤ j' ∧ j' < i1 + n then f a b (i + (j' - i1)) else f a' b' j'
/-! what the numbers of classes mean: an object of a class of the list 'classes', or an array (kind 0 int, 1 byte, 2 boolean, 3 of Kind, 4 of Text; its length) -/
def shpL : List (Nat ⊕ (Nat × Nat)) := [.inl 0, .inl 1, .inr (1, 64), .inr (4, 8), .inl 2, .inr (3, 64), .inr (0, 64), .inr (0, 64), .inr (4, 64), .inl 3,
  .inl 4, .inr (1, 8192), .inr (0, 8192), .inr (0, 8192), .inr (0, 8192), .inl 5, .inr (1, 4096), .inr (0, 4096), .inr (0, 4096), .inr (0, 4096), .inr (0, 4096), .inr (0, 4096),
  .inl 6, .inr (0, 8192), .inr (0, 8192), .inr (0, 8192), .inl 7, .inr (1, 64), .inr (1, 512), .inr (0, 8), .inr (0, 64), .inr (0, 64), .inr (0, 64), .inr (1, 4096), .inr (0, 64), .inr (1, 64),
  .inr (0, 3000), .inr (0, 3000), .inr (0, 3000), .inr (0, 3000), .inr (0, 3000), .inr (0, 3000), .inr (2, 3000), .inr (0, 3000), .inr (0, 3000), .inl 8]
def nth {α : Type} : List α → Nat → Option α
  | [], _ => none
  | q :: _, 0 => some q
  | _ :: r, i + 1 => nth r i
def shp (a : Nat) : Nat ⊕ (Nat × Nat) := match nth shpL a with
  | some x => x
  | none => .inl 99
/-- the number of the class of which objects of the i-th class are -/
def oaL : List Nat := [0, 1, 4, 9, 10, 15, 22, 26]
/-- fields that hold references -/
def frL : List (List Nat) := [[1, 1, 1, 1, 1, 2], [1, 0], [1, 1, 1, 1, 0], [1, 1, 1, 1, 1, 1, 0, 0, 0, 0, 0, 0], [1, 1, 1, 1, 0], [1, 1, 1, 1, 1, 1, 0], [1, 1, 1, 0],
  [0, 1, 0, 1, 1, 0, 1, 1, 1, 1, 1, 2, 0, 0, 0, 1, 0, 1, 1, 1, 1, 1, 1, 1, 1, 0, 0, 0, 2, 2, 1]]
/-- a field's kind: 0 an int, 1 a reference, 2 a boolean -/
def fk (ci j : Nat) : Nat := ((nth frL ci).bind (fun l => nth l j)).getD 9
/-- where cells stand, by the order in which they are made -/
def adL : List Nat := [0, 0, 0, 5, 6, 7, 8, 9, 10, 27, 30, 31, 32, 33, 34, 35, 36, 37, 38, 39, 40, 41, 42, 43, 44, 45, 46, 47, 48, 49, 50, 51, 52, 53, 54, 55, 56, 57, 58, 59, 60, 61, 62, 63, 64]
def adT (b : Nat) : Nat := if b = 0 then 1 else if b = 1 then 3 else if b = 2 then 28 else if b < 11 then 5 + 2 * b else 43 + 2 * b
def ad (a b : Nat) : Nat := if a = 1 then adT b else if a = 2 then adT b + 1 else (nth adL a).getD 0
/-- a cell of ours -/
def idq (a b : Nat) : Bool := if a = 1 ∨ a = 2 then decide (b < 75) else decide (a < 45 ∧ b = 0)
def idL : List (Nat × Nat) := [(0, 0), (1, 0), (2, 0), (1, 1), (2, 1), (3, 0), (4, 0), (5, 0), (6, 0), (7, 0), (8, 0), (1, 3), (2, 3), (1, 4), (2, 4), (1, 5), (2, 5), (1, 6), (2, 6), (1, 7), (2, 7), (1, 8), (2, 8), (1, 9), (2, 9), (1, 10), (2, 10), (9, 0), (1, 2), (2, 2),
  (10, 0), (11, 0), (12, 0), (13, 0), (14, 0), (15, 0), (16, 0), (17, 0), (18, 0), (19, 0), (20, 0), (21, 0), (22, 0), (23, 0), (24, 0), (25, 0), (26, 0), (27, 0), (28, 0), (29, 0), (30, 0), (31, 0), (32, 0), (33, 0), (34, 0), (35, 0), (36, 0), (37, 0), (38, 0), (39, 0), (40, 0), (41, 0), (42, 0), (43, 0), (44, 0)]
def idof (k : Nat) : Nat × Nat := if k < 65 then (nth idL k).getD (0, 0) else if (k - 65) % 2 = 0 then (1, 11 + (k - 65) / 2) else (2, 11 + (k - 65) / 2)
theorem idof_ad1 : ∀ b, b < 75 → idof (ad 1 b) = (1, b) ∧ idof (ad 2 b) = (2, b) := by decide +kernel
theorem idof_ad0 : ∀ a, a < 45 → idq a 0 = true → idof (ad a 0) = (a, 0) := by decide +kernel
theorem idof_ad {a b : Nat} (h : idq a b = true) : idof (ad a b) = (a, b) := by
  by_cases h1 : a = 1
  · subst h1
    exact (idof_ad1 b (by simpa [idq] using h)).1
  · by_cases h2 : a = 2
    · subst h2
      exact (idof_ad1 b (by simpa [idq] using h)).2
    · have h3 : a < 45 ∧ b = 0 := by simpa [idq, h1, h2] using h
      obtain ⟨h4, rfl⟩ := h3
      exact idof_ad0 a h4 h
/-! the constants of Kind: text, first, second, ordinal -/
def kF (j i : Nat) : Int := match j with
  | 0 => if i < 5 then 1 else 0
  | 1 => ([0, 0, 0, 0, 0, 1, 1, 1, 1, 1, 0, 0, 0, 0, 0, 0, 2, 2, 2, 2, 2, 3, 3, 4] : List Int).getD i 0
  | 2 => ([0, 0, 0, 0, 0, 0, 0, 0, 0, 0, 0, 0, 0, 0, 0, 0, 0, 2, 2, 3, 3, 0, 0, 0] : List Int).getD i 0
  | _ => i
/-- a switch -/
def swt (x : Int) (P : Nat → Prop) (d : Nat) : List (Int × Nat) → Prop
  | [] => P d
  | (k, t) :: r => (x = k → P t) ∧ (¬ x = k → swt x P d r)
abbrev Tr : Type := List Av → St → (Option Av → St → Prop) → Prop
/-- a call: how many values it takes (the object too), cells and slots that it may make, what it does -/
abbrev Cs : Type := Nat → Option (Nat × Nat × Nat × Tr)
/-- pc, locals, stack, state, cells and slots made so far -/
abbrev Cf : Type := Nat × List (Option Av) × List Av × St × Nat × Nat
def popn : Nat → List Av → List Av → Option (List Av × List Av)
  | 0, acc, st => some (acc, st)
  | _ + 1, _, [] => none
  | n + 1, acc, v :: r => popn n (v :: acc) r
def cnd (c : ClassFile.Cond) (x y : Int) : Prop := match c with
  | .eq => x = y
  | .ne => ¬ x = y
  | .lt => x < y
  | .ge => y ≤ x
  | .gt => y < x
  | .le => x ≤ y
def atk : ArrayType → Nat
  | .int => 0
  | .byte => 1
  | .boolean => 2
  | _ => 9
/-- fields by the class that links them and the place of the link: the class, the field -/
abbrev Fl : Type := Nat → Option (Nat × Nat)
/-- a method: its fields' links, its classes' links, statics' links (what they hold), code, calls; locals; cells and slots that it may make; a constructor of which class (99: none); its answer (0 none, 1 int, 2 boolean) -/
abbrev Me : Type := Fl × (Nat → Option Nat) × (Nat → Option (Nat × Nat)) × (Nat → Option En) × Cs × Nat × Nat × Nat × Nat × Nat
section
variable (SL : Nat) (xs : Nat → Int)
def stp (M : Me) (F : Option Av → St → Prop) (P : Cf → Prop) (c : Cf) : Prop :=
  match M with
  | (fl, kl, sl, code, cs, nL, MC, MS, ini, rt) =>
  match c with
  | (pc, lv, st, s, kc, ks) =>
  match code pc with
  | none => False
  | some (i, nx, tg, cas) =>
  match i with
  | .iconst n => P (nx, lv, .inl n :: st, s, kc, ks)
  | .bipush n => P (nx, lv, .inl n :: st, s, kc, ks)
  | .sipush n => P (nx, lv, .inl n :: st, s, kc, ks)
  | .iload_n k => match nth lv k.val with
    | some (some (.inl x)) => P (nx, lv, .inl x :: st, s, kc, ks)
    | _ => False
  | .iload k => match nth lv k with
    | some (some (.inl x)) => P (nx, lv, .inl x :: st, s, kc, ks)
    | _ => False
  | .aload_n k => match nth lv k.val with
    | some (some (.inr x)) => P (nx, lv, .inr x :: st, s, kc, ks)
    | _ => False
  | .aload k => match nth lv k with
    | some (some (.inr x)) => P (nx, lv, .inr x :: st, s, kc, ks)
    | _ => False
  | .istore_n k => match st with
    | .inl x :: r => bif Nat.blt k.val nL then P (nx, lv.set k.val (some (.inl x)), r, s, kc, ks) else False
    | _ => False
  | .istore k => match st with
    | .inl x :: r => bif Nat.blt k nL then P (nx, lv.set k (some (.inl x)), r, s, kc, ks) else False
    | _ => False
  | .astore_n k => match st with
    | .inr x :: r => bif Nat.blt k.val nL then P (nx, lv.set k.val (some (.inr x)), r, s, kc, ks) else False
    | _ => False
  | .astore k => match st with
    | .inr x :: r => bif Nat.blt k nL then P (nx, lv.set k (some (.inr x)), r, s, kc, ks) else False
    | _ => False
  | .iinc k n => match nth lv k with
    | some (some (.inl x)) => bif Nat.blt k nL then P (nx, lv.set k (some (.inl (wr (x + n)))), st, s, kc, ks) else False
    | _ => False
  | .iadd => match st with
    | .inl y :: .inl x :: r => P (nx, lv, .inl (wr (x + y)) :: r, s, kc, ks)
    | _ => False
  | .isub => match st with
    | .inl y :: .inl x :: r => P (nx, lv, .inl (wr (x - y)) :: r, s, kc, ks)
    | _ => False
  | .imul => match st with
    | .inl y :: .inl x :: r => P (nx, lv, .inl (wr (x * y)) :: r, s, kc, ks)
    | _ => False
  | .idiv => match st with
    | .inl y :: .inl x :: r => ¬ y = 0 ∧ P (nx, lv, .inl (w_div x y) :: r, s, kc, ks)
    | _ => False
  | .irem => match st with
    | .inl y :: .inl x :: r => ¬ y = 0 ∧ P (nx, lv, .inl (w_rem x y) :: r, s, kc, ks)
    | _ => False
  | .iand => match st with
    | .inl y :: .inl x :: r => P (nx, lv, .inl (w_and x y) :: r, s, kc, ks)
    | _ => False
  | .ior => match st with
    | .inl y :: .inl x :: r => P (nx, lv, .inl (w_or x y) :: r, s, kc, ks)
    | _ => False
  | .i2b => match st with
    | .inl x :: r => P (nx, lv, .inl (b8 x) :: r, s, kc, ks)
    | _ => False
  | .dup => match st with
    | v :: r => P (nx, lv, v :: v :: r, s, kc, ks)
    | _ => False
  | .goto _ => P (tg, lv, st, s, kc, ks)
  | .ifCond cd _ => match st with
    | .inl x :: r => (cnd cd x 0 → P (tg, lv, r, s, kc, ks)) ∧ (¬ cnd cd x 0 → P (nx, lv, r, s, kc, ks))
    | _ => False
  | .if_icmp cd _ => match st with
    | .inl y :: .inl x :: r => (cnd cd x y → P (tg, lv, r, s, kc, ks)) ∧ (¬ cnd cd x y → P (nx, lv, r, s, kc, ks))
    | _ => False
  | .ifnonnull _ => match st with
    | .inr x :: r => (¬ x = none → P (tg, lv, r, s, kc, ks)) ∧ (x = none → P (nx, lv, r, s, kc, ks))
    | _ => False
  | .if_acmp .ne _ => match st with
    | .inr (some (a1, b1)) :: .inr (some (a, b)) :: r => bif Nat.beq a1 45 && Nat.beq a 45 then ((¬ b = b1 → P (tg, lv, r, s, kc, ks)) ∧ (b = b1 → P (nx, lv, r, s, kc, ks))) else False
    | _ => False
  | .tableswitch _ _ _ _ => match st with
    | .inl x :: r => swt x (fun t => P (t, lv, r, s, kc, ks)) tg cas
    | _ => False
  | .lookupswitch _ _ => match st with
    | .inl x :: r => swt x (fun t => P (t, lv, r, s, kc, ks)) tg cas
    | _ => False
  | .getfield k => match st with
    | .inr (some (a, b)) :: r => match fl k with
      | some (ci, j) => match shp a with
        | .inl cj => bif Nat.beq ci cj then (bif Nat.beq ci 8 then P (nx, lv, .inl (kF j b) :: r, s, kc, ks) else
            match fk ci j with
            | 1 => P (nx, lv, .inr (s.2.2 a b j) :: r, s, kc, ks)
            | _ => P (nx, lv, .inl (s.2.1 a b j) :: r, s, kc, ks)) else False
        | _ => False
      | _ => False
    | _ => False
  | .putfield k => match st with
    | .inl x :: .inr (some (a, b)) :: r => match fl k with
      | some (ci, j) => match shp a with
        | .inl cj => bif Nat.beq ci cj then
            match fk ci j with
            | 0 => P (nx, lv, r, (s.1, upS s.2.1 a b j x, s.2.2), kc, ks)
            | 2 => (x = 0 ∨ x = 1) ∧ P (nx, lv, r, (s.1, upS s.2.1 a b j x, s.2.2), kc, ks)
            | _ => False else False
        | _ => False
      | _ => False
    | .inr x :: .inr (some (a, b)) :: r => match fl k with
      | some (ci, j) => match shp a with
        | .inl cj => bif Nat.beq ci cj && Nat.beq ini ci then
            match fk ci j with
            | 1 => P (nx, lv, r, (s.1, s.2.1, upR s.2.2 a b j x), kc, ks)
            | _ => False else False
        | _ => False
      | _ => False
    | _ => False
  | .getstatic k => match sl k with
    | some q => P (nx, lv, .inr (some q) :: st, s, kc, ks)
    | none => False
  | .iaload => match st with
    | .inl x :: .inr (some (a, b)) :: r => bif Nat.beq a 47 then ((0 ≤ x ∧ x < SL) ∧ P (nx, lv, .inl (xs x.toNat) :: r, s, kc, ks)) else
      match shp a with
      | .inr (0, n) => (0 ≤ x ∧ x < n) ∧ P (nx, lv, .inl (s.2.1 a b x.toNat) :: r, s, kc, ks)
      | _ => False
    | _ => False
  | .baload => match st with
    | .inl x :: .inr (some (a, b)) :: r => match shp a with
      | .inr (1, n) => (0 ≤ x ∧ x < n) ∧ P (nx, lv, .inl (s.2.1 a b x.toNat) :: r, s, kc, ks)
      | .inr (2, n) => (0 ≤ x ∧ x < n) ∧ P (nx, lv, .inl (s.2.1 a b x.toNat) :: r, s, kc, ks)
      | _ => False
    | _ => False
  | .aaload => match st with
    | .inl x :: .inr (some (a, b)) :: r => bif Nat.beq a 46 then ((0 ≤ x ∧ x < 24) ∧ P (nx, lv, .inr (some (45, x.toNat)) :: r, s, kc, ks)) else
      match shp a with
      | .inr (3, n) => (0 ≤ x ∧ x < n) ∧ P (nx, lv, .inr (s.2.2 a b x.toNat) :: r, s, kc, ks)
      | .inr (4, n) => (0 ≤ x ∧ x < n) ∧ P (nx, lv, .inr (s.2.2 a b x.toNat) :: r, s, kc, ks)
      | _ => False
    | _ => False
  | .iastore => match st with
    | .inl v :: .inl x :: .inr (some (a, b)) :: r => match shp a with
      | .inr (0, n) => (0 ≤ x ∧ x < n) ∧ P (nx, lv, r, (s.1, upS s.2.1 a b x.toNat v, s.2.2), kc, ks)
      | _ => False
    | _ => False
  | .bastore => match st with
    | .inl v :: .inl x :: .inr (some (a, b)) :: r => match shp a with
      | .inr (1, n) => (0 ≤ x ∧ x < n) ∧ P (nx, lv, r, (s.1, upS s.2.1 a b x.toNat (b8 v), s.2.2), kc, ks)
      | .inr (2, n) => (0 ≤ x ∧ x < n) ∧ (v = 0 ∨ v = 1) ∧ P (nx, lv, r, (s.1, upS s.2.1 a b x.toNat v, s.2.2), kc, ks)
      | _ => False
    | _ => False
  | .aastore => match st with
    | .inr (some (a1, b1)) :: .inl x :: .inr (some (a, b)) :: r => match shp a with
      | .inr (3, n) => bif Nat.beq a1 45 then ((0 ≤ x ∧ x < n) ∧ P (nx, lv, r, (s.1, s.2.1, upR s.2.2 a b x.toNat (some (a1, b1))), kc, ks)) else False
      | .inr (4, n) => bif Nat.beq a1 1 then ((0 ≤ x ∧ x < n) ∧ P (nx, lv, r, (s.1, s.2.1, upR s.2.2 a b x.toNat (some (a1, b1))), kc, ks)) else False
      | _ => False
    | _ => False
  | .arraylength => match st with
    | .inr (some (a, _)) :: r => bif Nat.beq a 47 then P (nx, lv, .inl SL :: r, s, kc, ks) else bif Nat.beq a 46 then P (nx, lv, .inl 24 :: r, s, kc, ks) else False
    | _ => False
  | .new k => match kl k with
    | some ci => match nth oaL ci, nth frL ci with
      | some a, some l => ∃ b, (idq a b = true ∧ ad a b = s.1) ∧ bif Nat.ble (kc + 1) MC && Nat.ble (ks + l.length) MS then P (nx, lv, .inr (some (a, b)) :: st, (s.1 + 1, zrS s.2.1 a b, zrR s.2.2 a b), kc + 1, ks + l.length) else False
      | _, _ => False
    | none => False
  | .newarray ty => match st with
    | .inl n :: r => ∃ a b, (shp a = .inr (atk ty, n.toNat) ∧ 0 ≤ n ∧ idq a b = true ∧ ad a b = s.1) ∧ bif Nat.ble (kc + 1) MC && Nat.ble (ks + n.toNat) MS then P (nx, lv, .inr (some (a, b)) :: r, (s.1 + 1, zrS s.2.1 a b, zrR s.2.2 a b), kc + 1, ks + n.toNat) else False
    | _ => False
  | .anewarray k => match st with
    | .inl n :: r => match kl k with
      | some ci => ∃ a b t, (shp a = .inr (t, n.toNat) ∧ ((ci = 8 ∧ t = 3) ∨ (ci = 1 ∧ t = 4)) ∧ 0 ≤ n ∧ idq a b = true ∧ ad a b = s.1) ∧ bif Nat.ble (kc + 1) MC && Nat.ble (ks + n.toNat) MS then P (nx, lv, .inr (some (a, b)) :: r, (s.1 + 1, zrS s.2.1 a b, zrR s.2.2 a b), kc + 1, ks + n.toNat) else False
      | none => False
    | _ => False
  | .invokevirtual k => match cs k with
    | some (n, mc, ms, T) => match popn n [] st with
      | some (av, r) => bif Nat.ble r.length 8 && Nat.ble (kc + mc) MC && Nat.ble (ks + ms) MS then
          (∃ Y : Option Av → St → Prop, T av s Y ∧ ∀ v s', Y v s' → P (nx, lv, v.toList ++ r, s', kc + mc, ks + ms)) else False
      | none => False
    | none => False
  | .invokespecial k => match cs k with
    | some (n, mc, ms, T) => match popn n [] st with
      | some (av, r) => bif Nat.ble r.length 8 && Nat.ble (kc + mc) MC && Nat.ble (ks + ms) MS then
          (∃ Y : Option Av → St → Prop, T av s Y ∧ ∀ v s', Y v s' → P (nx, lv, v.toList ++ r, s', kc + mc, ks + ms)) else False
      | none => False
    | none => False
  | .invokestatic k => match cs k with
    | some (n, mc, ms, T) => match popn n [] st with
      | some (av, r) => bif Nat.ble r.length 8 && Nat.ble (kc + mc) MC && Nat.ble (ks + ms) MS then
          (∃ Y : Option Av → St → Prop, T av s Y ∧ ∀ v s', Y v s' → P (nx, lv, v.toList ++ r, s', kc + mc, ks + ms)) else False
      | none => False
    | none => False
  | .ireturn => match st with
    | [.inl x] => match rt with
      | 1 => F (some (.inl x)) s
      | 2 => (x = 0 ∨ x = 1) ∧ F (some (.inl x)) s
      | _ => False
    | _ => False
  | .return_ => match st with
    | [] => match rt with
      | 0 => F none s
      | _ => False
    | _ => False
  | _ => False
end
end
section
/-! The least fixed point, and n steps at once -/
section
variable {SL : Nat} {xs : Nat → Int} {F : Option Av → St → Prop}
theorem cond_mono {b : Bool} {A B : Prop} (h : A → B) (H : bif b then A else False) : bif b then B else False := by
  cases b
  · exact H
  · exact h H
theorem swt_mono {x : Int} {P Q : Nat → Prop} {d : Nat} (h : ∀ t, P t → Q t) : ∀ (l : List (Int × Nat)), swt x P d l → swt x Q d l
  | [], H => h _ H
  | (k, t) :: r, H => ⟨fun e => h _ (H.1 e), fun e => swt_mono h r (H.2 e)⟩
set_option maxHeartbeats 4000000 in
theorem stp_mono {M : Me} {P Q : Cf → Prop} (h : ∀ c, P c → Q c) (c : Cf) (H : stp SL xs M F P c) : stp SL xs M F Q c := by
  obtain ⟨fl, kl, sl, code, cs, nL, MC, MS, ini, rt⟩ := M
  obtain ⟨pc, lv, st, s, kc, ks⟩ := c
  simp only [stp] at H ⊢
  revert H
  generalize code pc = z
  intro H
  rcases z with _ | ⟨i, nx, tg, cas⟩
  · exact H
  · cases i
    all_goals first
      | exact H
      | exact h _ H
      | (simp only at H ⊢
         split at H <;> first | exact h _ H | exact H.elim)
      | (simp only at H ⊢
         split at H <;> first | exact H.elim | exact cond_mono (h _) H)
      | (simp only at H ⊢
         revert H
         generalize nth lv _ = z
         intro H
         split at H <;> first | exact h _ H | exact H.elim | exact cond_mono (h _) H)
      | (simp only at H ⊢
         split at H <;> first | exact H.elim | exact ⟨H.1, h _ H.2⟩)
      | (simp only at H ⊢
         split at H <;> first | exact H.elim | exact ⟨fun e => h _ (H.1 e), fun e => h _ (H.2 e)⟩)
      | (simp only at H ⊢
         split at H <;> first | exact H.elim | exact swt_mono (fun t => h _) _ H)
      | skip
    case aaload =>
      simp only at H ⊢
      split at H
      · rename_i x a b r
        cases hb : Nat.beq a 46
        · simp only [hb, cond_false] at H ⊢
          revert H
          generalize shp a = z
          intro H
          split at H <;> first | exact H.elim | exact ⟨H.1, h _ H.2⟩
        · simp only [hb, cond_true] at H ⊢
          exact ⟨H.1, h _ H.2⟩
      · exact H.elim
    case iaload =>
      simp only at H ⊢
      split at H
      · rename_i x a b r
        cases hb : Nat.beq a 47
        · simp only [hb, cond_false] at H ⊢
          revert H
          generalize shp a = z
          intro H
          split at H <;> first | exact H.elim | exact ⟨H.1, h _ H.2⟩
        · simp only [hb, cond_true] at H ⊢
          exact ⟨H.1, h _ H.2⟩
      · exact H.elim
    case baload =>
      simp only at H ⊢
      split at H
      · rename_i x a b r
        revert H
        generalize shp a = z
        intro H
        split at H <;> first | exact H.elim | exact ⟨H.1, h _ H.2⟩
      · exact H.elim
    case iastore =>
      simp only at H ⊢
      split at H
      · rename_i v x a b r
        revert H
        generalize shp a = z
        intro H
        split at H <;> first | exact H.elim | exact ⟨H.1, h _ H.2⟩
      · exact H.elim
    case bastore =>
      simp only at H ⊢
      split at H
      · rename_i v x a b r
        revert H
        generalize shp a = z
        intro H
        split at H <;> first | exact H.elim | exact ⟨H.1, h _ H.2⟩ | exact ⟨H.1, H.2.1, h _ H.2.2⟩
      · exact H.elim
    case aastore =>
      simp only at H ⊢
      split at H
      · rename_i a1 b1 x a b r
        revert H
        generalize shp a = z
        intro H
        split at H <;> first | exact H.elim | exact cond_mono (fun K => ⟨K.1, h _ K.2⟩) H
      · exact H.elim
    case arraylength =>
      simp only at H ⊢
      split at H
      · rename_i a b r
        cases hb : Nat.beq a 47
        · simp only [hb, cond_false] at H ⊢
          exact cond_mono (h _) H
        · simp only [hb, cond_true] at H ⊢
          exact h _ H
      · exact H.elim
    case getfield k =>
      simp only at H ⊢
      split at H
      · rename_i a b r
        revert H
        generalize fl k = y
        generalize shp a = z
        intro H
        split at H
        · rename_i ci j
          split at H
          · rename_i cj
            refine cond_mono (fun K => ?_) H
            cases hb : Nat.beq ci 8
            · simp only [hb, cond_false] at K ⊢
              revert K
              generalize fk ci j = y
              intro K
              split at K <;> exact h _ K
            · simp only [hb, cond_true] at K ⊢
              exact h _ K
          · exact H.elim
        · exact H.elim
      · exact H.elim
    case putfield k =>
      simp only at H ⊢
      split at H
      · rename_i x a b r
        revert H
        generalize fl k = y
        generalize shp a = z
        intro H
        split at H
        · rename_i ci j
          split at H
          · rename_i cj
            refine cond_mono (fun K => ?_) H
            revert K
            generalize fk ci j = y
            intro K
            split at K <;> first | exact h _ K | exact ⟨K.1, h _ K.2⟩ | exact K.elim
          · exact H.elim
        · exact H.elim
      · rename_i x a b r
        revert H
        generalize fl k = y
        generalize shp a = z
        intro H
        split at H
        · rename_i ci j
          split at H
          · rename_i cj
            refine cond_mono (fun K => ?_) H
            revert K
            generalize fk ci j = y
            intro K
            split at K <;> first | exact h _ K | exact ⟨K.1, h _ K.2⟩ | exact K.elim
          · exact H.elim
        · exact H.elim
      · exact H.elim
    case if_acmp cd off =>
      cases cd
      · exact H
      · simp only at H ⊢
        split at H <;> first | exact H.elim | exact cond_mono (fun K => ⟨fun e => h _ (K.1 e), fun e => h _ (K.2 e)⟩) H
    case new k =>
      simp only at H ⊢
      revert H
      generalize kl k = y
      intro H
      split at H
      · rename_i ci
        revert H
        generalize nth oaL ci = y
        generalize nth frL ci = z
        intro H
        split at H
        · obtain ⟨b, h1, h2⟩ := H
          exact ⟨b, h1, cond_mono (h _) h2⟩
        · exact H.elim
      · exact H.elim
    case newarray ty =>
      simp only at H ⊢
      split at H
      · obtain ⟨a, b, h1, h2⟩ := H
        exact ⟨a, b, h1, cond_mono (h _) h2⟩
      · exact H.elim
    case anewarray k =>
      simp only at H ⊢
      split at H
      · revert H
        generalize kl k = y
        intro H
        split at H
        · obtain ⟨a, b, t, h1, h2⟩ := H
          exact ⟨a, b, t, h1, cond_mono (h _) h2⟩
        · exact H.elim
      · exact H.elim
    case invokevirtual k =>
      simp only at H ⊢
      revert H
      generalize cs k = y
      intro H
      split at H
      · rename_i n mc ms T
        revert H
        generalize popn n [] st = y
        intro H
        split at H
        · refine cond_mono (fun K => ?_) H
          obtain ⟨Y, k1, k2⟩ := K
          exact ⟨Y, k1, fun v s' e => h _ (k2 v s' e)⟩
        · exact H.elim
      · exact H.elim
    case invokespecial k =>
      simp only at H ⊢
      revert H
      generalize cs k = y
      intro H
      split at H
      · rename_i n mc ms T
        revert H
        generalize popn n [] st = y
        intro H
        split at H
        · refine cond_mono (fun K => ?_) H
          obtain ⟨Y, k1, k2⟩ := K
          exact ⟨Y, k1, fun v s' e => h _ (k2 v s' e)⟩
        · exact H.elim
      · exact H.elim
    case invokestatic k =>
      simp only at H ⊢
      revert H
      generalize cs k = y
      intro H
      split at H
      · rename_i n mc ms T
        revert H
        generalize popn n [] st = y
        intro H
        split at H
        · refine cond_mono (fun K => ?_) H
          obtain ⟨Y, k1, k2⟩ := K
          exact ⟨Y, k1, fun v s' e => h _ (k2 v s' e)⟩
        · exact H.elim
      · exact H.elim
end
/-- the least fixed point: it comes to its end, and F holds there -/
def Xz (SL : Nat) (xs : Nat → Int) (M : Me) (F : Option Av → St → Prop) (c : Cf) : Prop := ∀ P : Cf → Prop, (∀ c, stp SL xs M F P c → P c) → P c
def wpg (SL : Nat) (xs : Nat → Int) (M : Me) (F : Option Av → St → Prop) : Nat → Cf → Prop
  | 0, c => Xz SL xs M F c
  | n + 1, c => stp SL xs M F (wpg SL xs M F n) c
section
variable {SL : Nat} {xs : Nat → Int} {F : Option Av → St → Prop} {M : Me}
theorem Xz_in {c : Cf} (h : stp SL xs M F (Xz SL xs M F) c) : Xz SL xs M F c := fun P hP => hP c (stp_mono (fun _ h' => h' P hP) c h)
theorem Xz_out {c : Cf} (h : Xz SL xs M F c) : stp SL xs M F (Xz SL xs M F) c := h (fun c => stp SL xs M F (Xz SL xs M F) c) (fun c h' => stp_mono (fun _ h2 => Xz_in h2) c h')
theorem run {c : Cf} (n : Nat) (h : wpg SL xs M F n c) : Xz SL xs M F c := by
  induction n generalizing c with
  | zero => exact h
  | succ n ih => exact Xz_in (stp_mono (fun c' h' => ih h') c h)
theorem leaf {n : Nat} {c : Cf} (h : Xz SL xs M F c) : wpg SL xs M F n c := by
  induction n generalizing c with
  | zero => exact h
  | succ n ih => exact stp_mono (fun c' h' => ih h') c (Xz_out h)
end
theorem stp_post {SL : Nat} {xs : Nat → Int} {M : Me} {F F' : Option Av → St → Prop} {P : Cf → Prop} (h : ∀ v s, F v s → F' v s) (c : Cf) (H : stp SL xs M F P c) : stp SL xs M F' P c := by
  obtain ⟨fl, kl, sl, code, cs, nL, MC, MS, ini, rt⟩ := M
  obtain ⟨pc, lv, st, s, kc, ks⟩ := c
  simp only [stp] at H ⊢
  revert H
  generalize code pc = z
  intro H
  rcases z with _ | ⟨i, nx, tg, cas⟩
  · exact H
  · cases i
    case ireturn =>
      simp only at H ⊢
      split at H
      · split at H <;> first | exact h _ _ H | exact ⟨H.1, h _ _ H.2⟩ | exact H.elim
      · exact H.elim
    case return_ =>
      simp only at H ⊢
      split at H
      · split at H <;> first | exact h _ _ H | exact H.elim
      · exact H.elim
    case if_acmp cd off => cases cd <;> exact H
    all_goals exact H
theorem Xz_post {SL : Nat} {xs : Nat → Int} {M : Me} {F F' : Option Av → St → Prop} (h : ∀ v s, F v s → F' v s) {c : Cf} (H : Xz SL xs M F c) : Xz SL xs M F' c := fun P hP => H P (fun c' h' => hP c' (stp_post h c' h'))
end
section
/-! The codes, and what the classes link: printed by wip/gen.py -/
def fl_Mill : Fl := lk [(10, 0, 0), (16, 0, 1), (19, 0, 2), (26, 0, 3), (35, 0, 4), (47, 1, 1), (59, 1, 0), (67, 2, 4), (76, 2, 0), (79, 2, 1), (83, 8, 1), (86, 2, 2), (89, 8, 2), (92, 2, 3), (95, 8, 0), (106, 0, 5), (113, 3, 11), (119, 3, 10), (122, 3, 7), (125, 3, 6)]
def kl_Mill : Nat → Option Nat := lk [(7, 1), (23, 2), (30, 3)]
def sl_Mill : Nat → Option (Nat × Nat) := lk [(63, 46, 0)]
def fl_Text : Fl := lk [(9, 1, 0), (15, 1, 1)]
def kl_Text : Nat → Option Nat := lk []
def sl_Text : Nat → Option (Nat × Nat) := lk []
def fl_Nodes : Fl := lk [(11, 2, 0), (15, 2, 1), (19, 2, 2), (24, 2, 3), (28, 2, 4)]
def kl_Nodes : Nat → Option Nat := lk [(9, 8), (22, 1)]
def sl_Nodes : Nat → Option (Nat × Nat) := lk []
def fl_Matcher : Fl := lk [(10, 3, 2), (19, 3, 3), (26, 3, 4), (33, 3, 5), (37, 3, 0), (41, 3, 1), (45, 5, 0), (49, 5, 6), (53, 5, 1), (57, 5, 2), (59, 5, 3), (62, 4, 4), (65, 5, 4), (68, 6, 3), (69, 5, 5), (72, 3, 9), (75, 3, 7), (78, 3, 8), (92, 1, 1), (97, 1, 0), (104, 3, 6), (107, 2, 1), (112, 2, 3), (115, 2, 0), (143, 2, 2), (165, 4, 1), (168, 4, 3), (171, 4, 0), (174, 4, 2), (194, 3, 11), (197, 3, 10), (204, 6, 0), (206, 6, 1), (207, 6, 2)]
def kl_Matcher : Nat → Option Nat := lk [(7, 1), (16, 4), (23, 5), (30, 6)]
def sl_Matcher : Nat → Option (Nat × Nat) := lk [(154, 45, 19)]
def fl_Goals : Fl := lk [(9, 4, 0), (13, 4, 1), (17, 4, 2), (20, 4, 3), (23, 4, 4)]
def kl_Goals : Nat → Option Nat := lk []
def sl_Goals : Nat → Option (Nat × Nat) := lk []
def fl_Choices : Fl := lk [(9, 5, 0), (13, 5, 1), (17, 5, 2), (20, 5, 3), (23, 5, 4), (26, 5, 5)]
def kl_Choices : Nat → Option Nat := lk []
def sl_Choices : Nat → Option (Nat × Nat) := lk []
def fl_Kept : Fl := lk [(9, 6, 0), (15, 6, 1), (18, 6, 2), (21, 6, 3)]
def kl_Kept : Nat → Option Nat := lk []
def sl_Kept : Nat → Option (Nat × Nat) := lk []
def fl_Model : Fl := lk [(7, 7, 1), (13, 7, 3), (16, 7, 4), (20, 7, 6), (23, 7, 7), (26, 7, 8), (29, 7, 9), (32, 7, 10), (35, 7, 15), (38, 7, 17), (41, 7, 18), (44, 7, 19), (47, 7, 20), (50, 7, 21), (53, 7, 22), (56, 7, 23), (60, 7, 24), (63, 7, 30), (66, 7, 0), (70, 7, 2), (77, 7, 5), (87, 7, 16), (111, 7, 14), (114, 7, 29), (118, 7, 26), (121, 7, 27), (124, 7, 28), (138, 7, 25), (157, 7, 11), (160, 7, 12), (163, 7, 13)]
def kl_Model : Nat → Option Nat := lk []
def sl_Model : Nat → Option (Nat × Nat) := lk []
def fl_Kind : Fl := lk [(101, 8, 1), (105, 8, 2)]
def kl_Kind : Nat → Option Nat := lk []
def sl_Kind : Nat → Option (Nat × Nat) := lk []
def fl_Enum : Fl := lk [(7, 8, 3)]
def kl_Enum : Nat → Option Nat := lk []
def sl_Enum : Nat → Option (Nat × Nat) := lk []
def fl_Object : Fl := lk []
def kl_Object : Nat → Option Nat := lk []
def sl_Object : Nat → Option (Nat × Nat) := lk []
def fl_Law : Fl := lk []
def kl_Law : Nat → Option Nat := lk [(7, 0), (10, 7)]
def sl_Law : Nat → Option (Nat × Nat) := lk []
def c_Mill_init : Nat → Option En := lk [(0, .aload_n 0, 1, 0, []),
  (1, .invokespecial 1, 4, 0, []),
  (4, .aload_n 0, 5, 0, []),
  (5, .new 7, 8, 0, []),
  (8, .dup, 9, 0, []),
  (9, .invokespecial 9, 12, 0, []),
  (12, .putfield 10, 15, 0, []),
  (15, .aload_n 0, 16, 0, []),
  (16, .new 7, 19, 0, []),
  (19, .dup, 20, 0, []),
  (20, .invokespecial 9, 23, 0, []),
  (23, .putfield 16, 26, 0, []),
  (26, .aload_n 0, 27, 0, []),
  (27, .bipush 8, 29, 0, []),
  (29, .anewarray 7, 32, 0, []),
  (32, .putfield 19, 35, 0, []),
  (35, .aload_n 0, 36, 0, []),
  (36, .new 23, 39, 0, []),
  (39, .dup, 40, 0, []),
  (40, .invokespecial 25, 43, 0, []),
  (43, .putfield 26, 46, 0, []),
  (46, .iconst 0, 47, 0, []),
  (47, .istore_n 1, 48, 0, []),
  (48, .iload_n 1, 49, 0, []),
  (49, .bipush 8, 51, 0, []),
  (51, .if_icmp .ge 22, 54, 73, []),
  (54, .aload_n 0, 55, 0, []),
  (55, .getfield 19, 58, 0, []),
  (58, .iload_n 1, 59, 0, []),
  (59, .new 7, 62, 0, []),
  (62, .dup, 63, 0, []),
  (63, .invokespecial 9, 66, 0, []),
  (66, .aastore, 67, 0, []),
  (67, .iinc 1 1, 70, 0, []),
  (70, .goto (-22), 73, 48, []),
  (73, .aload_n 0, 74, 0, []),
  (74, .new 30, 77, 0, []),
  (77, .dup, 78, 0, []),
  (78, .aload_n 0, 79, 0, []),
  (79, .getfield 26, 82, 0, []),
  (82, .aload_n 0, 83, 0, []),
  (83, .getfield 19, 86, 0, []),
  (86, .invokespecial 32, 89, 0, []),
  (89, .putfield 35, 92, 0, []),
  (92, .return_, 93, 0, [])]
def c_Mill_sign : Nat → Option En := lk [(0, .aload_n 0, 1, 0, []),
  (1, .getfield 10, 4, 0, []),
  (4, .invokevirtual 39, 7, 0, []),
  (7, .ifCond .eq 5, 10, 12, []),
  (10, .iconst (-1), 11, 0, []),
  (11, .ireturn, 12, 0, []),
  (12, .aload_n 0, 13, 0, []),
  (13, .getfield 10, 16, 0, []),
  (16, .iload_n 1, 17, 0, []),
  (17, .invokevirtual 43, 20, 0, []),
  (20, .aload_n 0, 21, 0, []),
  (21, .getfield 10, 24, 0, []),
  (24, .getfield 47, 27, 0, []),
  (27, .ireturn, 28, 0, [])]
def c_Mill_isVariable : Nat → Option En := lk [(0, .iload_n 0, 1, 0, []),
  (1, .ifCond .lt 13, 4, 14, []),
  (4, .iload_n 0, 5, 0, []),
  (5, .bipush 8, 7, 0, []),
  (7, .if_icmp .ge 7, 10, 14, []),
  (10, .iconst 1, 11, 0, []),
  (11, .goto 4, 14, 15, []),
  (14, .iconst 0, 15, 0, []),
  (15, .ireturn, 16, 0, [])]
def c_Mill_let : Nat → Option En := lk [(0, .iload_n 1, 1, 0, []),
  (1, .invokestatic 51, 4, 0, []),
  (4, .ifCond .ne 5, 7, 9, []),
  (7, .iconst 0, 8, 0, []),
  (8, .ireturn, 9, 0, []),
  (9, .aload_n 0, 10, 0, []),
  (10, .getfield 19, 13, 0, []),
  (13, .iload_n 1, 14, 0, []),
  (14, .aaload, 15, 0, []),
  (15, .aload_n 0, 16, 0, []),
  (16, .getfield 10, 19, 0, []),
  (19, .invokevirtual 55, 22, 0, []),
  (22, .iconst 1, 23, 0, []),
  (23, .ireturn, 24, 0, [])]
def c_Mill_value : Nat → Option En := lk [(0, .iload_n 1, 1, 0, []),
  (1, .invokestatic 51, 4, 0, []),
  (4, .ifCond .eq 38, 7, 42, []),
  (7, .iload_n 2, 8, 0, []),
  (8, .ifCond .lt 34, 11, 42, []),
  (11, .iload_n 2, 12, 0, []),
  (12, .aload_n 0, 13, 0, []),
  (13, .getfield 19, 16, 0, []),
  (16, .iload_n 1, 17, 0, []),
  (17, .aaload, 18, 0, []),
  (18, .getfield 47, 21, 0, []),
  (21, .if_icmp .ge 21, 24, 42, []),
  (24, .aload_n 0, 25, 0, []),
  (25, .getfield 19, 28, 0, []),
  (28, .iload_n 1, 29, 0, []),
  (29, .aaload, 30, 0, []),
  (30, .getfield 59, 33, 0, []),
  (33, .iload_n 2, 34, 0, []),
  (34, .baload, 35, 0, []),
  (35, .sipush 255, 38, 0, []),
  (38, .iand, 39, 0, []),
  (39, .goto 4, 42, 43, []),
  (42, .iconst (-1), 43, 0, []),
  (43, .ireturn, 44, 0, [])]
def c_Mill_length : Nat → Option En := lk [(0, .iload_n 1, 1, 0, []),
  (1, .invokestatic 51, 4, 0, []),
  (4, .ifCond .eq 15, 7, 19, []),
  (7, .aload_n 0, 8, 0, []),
  (8, .getfield 19, 11, 0, []),
  (11, .iload_n 1, 12, 0, []),
  (12, .aaload, 13, 0, []),
  (13, .getfield 47, 16, 0, []),
  (16, .goto 4, 19, 20, []),
  (19, .iconst (-1), 20, 0, []),
  (20, .ireturn, 21, 0, [])]
def c_Mill_node : Nat → Option En := lk [(0, .iload_n 1, 1, 0, []),
  (1, .ifCond .lt 23, 4, 24, []),
  (4, .iload_n 1, 5, 0, []),
  (5, .getstatic 63, 8, 0, []),
  (8, .arraylength, 9, 0, []),
  (9, .if_icmp .ge 15, 12, 24, []),
  (12, .aload_n 0, 13, 0, []),
  (13, .getfield 26, 16, 0, []),
  (16, .getfield 67, 19, 0, []),
  (19, .bipush 64, 21, 0, []),
  (21, .if_icmp .ne 5, 24, 26, []),
  (24, .iconst (-1), 25, 0, []),
  (25, .ireturn, 26, 0, []),
  (26, .getstatic 63, 29, 0, []),
  (29, .iload_n 1, 30, 0, []),
  (30, .aaload, 31, 0, []),
  (31, .astore 4, 33, 0, []),
  (33, .aload 4, 35, 0, []),
  (35, .iload_n 2, 36, 0, []),
  (36, .iload_n 3, 37, 0, []),
  (37, .aload_n 0, 38, 0, []),
  (38, .getfield 26, 41, 0, []),
  (41, .getfield 67, 44, 0, []),
  (44, .invokevirtual 70, 47, 0, []),
  (47, .ifCond .ne 5, 50, 52, []),
  (50, .iconst (-1), 51, 0, []),
  (51, .ireturn, 52, 0, []),
  (52, .aload_n 0, 53, 0, []),
  (53, .getfield 26, 56, 0, []),
  (56, .getfield 67, 59, 0, []),
  (59, .istore 5, 61, 0, []),
  (61, .aload_n 0, 62, 0, []),
  (62, .getfield 26, 65, 0, []),
  (65, .getfield 76, 68, 0, []),
  (68, .iload 5, 70, 0, []),
  (70, .aload 4, 72, 0, []),
  (72, .aastore, 73, 0, []),
  (73, .aload_n 0, 74, 0, []),
  (74, .getfield 26, 77, 0, []),
  (77, .getfield 79, 80, 0, []),
  (80, .iload 5, 82, 0, []),
  (82, .aload 4, 84, 0, []),
  (84, .getfield 83, 87, 0, []),
  (87, .ifCond .ne 7, 90, 94, []),
  (90, .iconst 0, 91, 0, []),
  (91, .goto 4, 94, 95, []),
  (94, .iload_n 2, 95, 0, []),
  (95, .iastore, 96, 0, []),
  (96, .aload_n 0, 97, 0, []),
  (97, .getfield 26, 100, 0, []),
  (100, .getfield 86, 103, 0, []),
  (103, .iload 5, 105, 0, []),
  (105, .aload 4, 107, 0, []),
  (107, .getfield 89, 110, 0, []),
  (110, .ifCond .ne 7, 113, 117, []),
  (113, .iconst 0, 114, 0, []),
  (114, .goto 4, 117, 118, []),
  (117, .iload_n 3, 118, 0, []),
  (118, .iastore, 119, 0, []),
  (119, .aload_n 0, 120, 0, []),
  (120, .getfield 26, 123, 0, []),
  (123, .getfield 92, 126, 0, []),
  (126, .iload 5, 128, 0, []),
  (128, .aaload, 129, 0, []),
  (129, .ifnonnull 20, 132, 149, []),
  (132, .aload_n 0, 133, 0, []),
  (133, .getfield 26, 136, 0, []),
  (136, .getfield 92, 139, 0, []),
  (139, .iload 5, 141, 0, []),
  (141, .new 7, 144, 0, []),
  (144, .dup, 145, 0, []),
  (145, .invokespecial 9, 148, 0, []),
  (148, .aastore, 149, 0, []),
  (149, .aload_n 0, 150, 0, []),
  (150, .getfield 26, 153, 0, []),
  (153, .getfield 92, 156, 0, []),
  (156, .iload 5, 158, 0, []),
  (158, .aaload, 159, 0, []),
  (159, .iconst 0, 160, 0, []),
  (160, .putfield 47, 163, 0, []),
  (163, .aload 4, 165, 0, []),
  (165, .getfield 95, 168, 0, []),
  (168, .ifCond .eq 20, 171, 188, []),
  (171, .aload_n 0, 172, 0, []),
  (172, .getfield 26, 175, 0, []),
  (175, .getfield 92, 178, 0, []),
  (178, .iload 5, 180, 0, []),
  (180, .aaload, 181, 0, []),
  (181, .aload_n 0, 182, 0, []),
  (182, .getfield 10, 185, 0, []),
  (185, .invokevirtual 55, 188, 0, []),
  (188, .aload_n 0, 189, 0, []),
  (189, .getfield 26, 192, 0, []),
  (192, .dup, 193, 0, []),
  (193, .getfield 67, 196, 0, []),
  (196, .iconst 1, 197, 0, []),
  (197, .iadd, 198, 0, []),
  (198, .putfield 67, 201, 0, []),
  (201, .iload 5, 203, 0, []),
  (203, .ireturn, 204, 0, [])]
def c_Mill_clear : Nat → Option En := lk [(0, .aload_n 0, 1, 0, []),
  (1, .getfield 26, 4, 0, []),
  (4, .iconst 0, 5, 0, []),
  (5, .putfield 67, 8, 0, []),
  (8, .return_, 9, 0, [])]
def c_Mill_about : Nat → Option En := lk [(0, .aload_n 0, 1, 0, []),
  (1, .getfield 26, 4, 0, []),
  (4, .iload_n 1, 5, 0, []),
  (5, .invokevirtual 99, 8, 0, []),
  (8, .ifCond .ne 5, 11, 13, []),
  (11, .iconst (-1), 12, 0, []),
  (12, .ireturn, 13, 0, []),
  (13, .iload_n 2, 14, 0, []),
  (14, .tableswitch 76 0 3 #[30, 43, 53, 63], 44, 90, [(0, 44), (1, 57), (2, 67), (3, 77)]),
  (44, .aload_n 0, 45, 0, []),
  (45, .getfield 26, 48, 0, []),
  (48, .getfield 76, 51, 0, []),
  (51, .iload_n 1, 52, 0, []),
  (52, .aaload, 53, 0, []),
  (53, .invokevirtual 102, 56, 0, []),
  (56, .ireturn, 57, 0, []),
  (57, .aload_n 0, 58, 0, []),
  (58, .getfield 26, 61, 0, []),
  (61, .getfield 79, 64, 0, []),
  (64, .iload_n 1, 65, 0, []),
  (65, .iaload, 66, 0, []),
  (66, .ireturn, 67, 0, []),
  (67, .aload_n 0, 68, 0, []),
  (68, .getfield 26, 71, 0, []),
  (71, .getfield 86, 74, 0, []),
  (74, .iload_n 1, 75, 0, []),
  (75, .iaload, 76, 0, []),
  (76, .ireturn, 77, 0, []),
  (77, .aload_n 0, 78, 0, []),
  (78, .getfield 26, 81, 0, []),
  (81, .getfield 92, 84, 0, []),
  (84, .iload_n 1, 85, 0, []),
  (85, .aaload, 86, 0, []),
  (86, .getfield 47, 89, 0, []),
  (89, .ireturn, 90, 0, []),
  (90, .iconst (-1), 91, 0, []),
  (91, .ireturn, 92, 0, [])]
def c_Mill_match : Nat → Option En := lk [(0, .iload_n 1, 1, 0, []),
  (1, .invokestatic 51, 4, 0, []),
  (4, .ifCond .eq 14, 7, 18, []),
  (7, .aload_n 0, 8, 0, []),
  (8, .getfield 26, 11, 0, []),
  (11, .iload_n 2, 12, 0, []),
  (12, .invokevirtual 99, 15, 0, []),
  (15, .ifCond .ne 5, 18, 20, []),
  (18, .iconst (-1), 19, 0, []),
  (19, .ireturn, 20, 0, []),
  (20, .aload_n 0, 21, 0, []),
  (21, .iconst 1, 22, 0, []),
  (22, .putfield 106, 25, 0, []),
  (25, .aload_n 0, 26, 0, []),
  (26, .getfield 35, 29, 0, []),
  (29, .aload_n 0, 30, 0, []),
  (30, .getfield 19, 33, 0, []),
  (33, .iload_n 1, 34, 0, []),
  (34, .aaload, 35, 0, []),
  (35, .iload_n 2, 36, 0, []),
  (36, .iload_n 3, 37, 0, []),
  (37, .invokevirtual 109, 40, 0, []),
  (40, .ireturn, 41, 0, [])]
def c_Mill_isWell : Nat → Option En := lk [(0, .aload_n 0, 1, 0, []),
  (1, .getfield 106, 4, 0, []),
  (4, .ifCond .eq 18, 7, 22, []),
  (7, .aload_n 0, 8, 0, []),
  (8, .getfield 35, 11, 0, []),
  (11, .getfield 113, 14, 0, []),
  (14, .iconst 1, 15, 0, []),
  (15, .if_icmp .ne 7, 18, 22, []),
  (18, .iconst 1, 19, 0, []),
  (19, .goto 4, 22, 23, []),
  (22, .iconst 0, 23, 0, []),
  (23, .ireturn, 24, 0, [])]
def c_Mill_latest : Nat → Option En := lk [(0, .aload_n 0, 1, 0, []),
  (1, .getfield 106, 4, 0, []),
  (4, .ifCond .ne 5, 7, 9, []),
  (7, .iconst (-1), 8, 0, []),
  (8, .ireturn, 9, 0, []),
  (9, .iload_n 1, 10, 0, []),
  (10, .ifCond .ne 24, 13, 34, []),
  (13, .aload_n 0, 14, 0, []),
  (14, .invokevirtual 116, 17, 0, []),
  (17, .ifCond .eq 13, 20, 30, []),
  (20, .aload_n 0, 21, 0, []),
  (21, .getfield 35, 24, 0, []),
  (24, .getfield 119, 27, 0, []),
  (27, .goto 49, 30, 76, []),
  (30, .iconst (-1), 31, 0, []),
  (31, .goto 45, 34, 76, []),
  (34, .iload_n 1, 35, 0, []),
  (35, .iconst 1, 36, 0, []),
  (36, .if_icmp .ne 24, 39, 60, []),
  (39, .aload_n 0, 40, 0, []),
  (40, .invokevirtual 116, 43, 0, []),
  (43, .ifCond .eq 13, 46, 56, []),
  (46, .aload_n 0, 47, 0, []),
  (47, .getfield 35, 50, 0, []),
  (50, .getfield 122, 53, 0, []),
  (53, .goto 23, 56, 76, []),
  (56, .iconst (-1), 57, 0, []),
  (57, .goto 19, 60, 76, []),
  (60, .iload_n 1, 61, 0, []),
  (61, .iconst 2, 62, 0, []),
  (62, .if_icmp .ne 13, 65, 75, []),
  (65, .aload_n 0, 66, 0, []),
  (66, .getfield 35, 69, 0, []),
  (69, .getfield 125, 72, 0, []),
  (72, .goto 4, 75, 76, []),
  (75, .iconst (-1), 76, 0, []),
  (76, .ireturn, 77, 0, [])]
def c_Mill_replace : Nat → Option En := lk [(0, .iload_n 1, 1, 0, []),
  (1, .invokestatic 51, 4, 0, []),
  (4, .ifCond .eq 10, 7, 14, []),
  (7, .aload_n 0, 8, 0, []),
  (8, .invokevirtual 116, 11, 0, []),
  (11, .ifCond .ne 5, 14, 16, []),
  (14, .iconst 0, 15, 0, []),
  (15, .ireturn, 16, 0, []),
  (16, .aload_n 0, 17, 0, []),
  (17, .getfield 19, 20, 0, []),
  (20, .iload_n 1, 21, 0, []),
  (21, .aaload, 22, 0, []),
  (22, .astore_n 2, 23, 0, []),
  (23, .aload_n 2, 24, 0, []),
  (24, .getfield 47, 27, 0, []),
  (27, .aload_n 0, 28, 0, []),
  (28, .getfield 35, 31, 0, []),
  (31, .getfield 122, 34, 0, []),
  (34, .isub, 35, 0, []),
  (35, .istore_n 3, 36, 0, []),
  (36, .iload_n 3, 37, 0, []),
  (37, .ifCond .lt 25, 40, 62, []),
  (40, .aload_n 0, 41, 0, []),
  (41, .getfield 35, 44, 0, []),
  (44, .getfield 119, 47, 0, []),
  (47, .aload_n 0, 48, 0, []),
  (48, .getfield 10, 51, 0, []),
  (51, .getfield 47, 54, 0, []),
  (54, .iadd, 55, 0, []),
  (55, .iload_n 3, 56, 0, []),
  (56, .iadd, 57, 0, []),
  (57, .bipush 64, 59, 0, []),
  (59, .if_icmp .le 5, 62, 64, []),
  (62, .iconst 0, 63, 0, []),
  (63, .ireturn, 64, 0, []),
  (64, .aload_n 0, 65, 0, []),
  (65, .getfield 16, 68, 0, []),
  (68, .aload_n 2, 69, 0, []),
  (69, .getfield 59, 72, 0, []),
  (72, .iconst 0, 73, 0, []),
  (73, .aload_n 0, 74, 0, []),
  (74, .getfield 35, 77, 0, []),
  (77, .getfield 119, 80, 0, []),
  (80, .invokevirtual 128, 83, 0, []),
  (83, .iconst 0, 84, 0, []),
  (84, .istore 4, 86, 0, []),
  (86, .iload 4, 88, 0, []),
  (88, .aload_n 0, 89, 0, []),
  (89, .getfield 10, 92, 0, []),
  (92, .getfield 47, 95, 0, []),
  (95, .if_icmp .ge 26, 98, 121, []),
  (98, .aload_n 0, 99, 0, []),
  (99, .getfield 16, 102, 0, []),
  (102, .aload_n 0, 103, 0, []),
  (103, .getfield 10, 106, 0, []),
  (106, .getfield 59, 109, 0, []),
  (109, .iload 4, 111, 0, []),
  (111, .baload, 112, 0, []),
  (112, .invokevirtual 43, 115, 0, []),
  (115, .iinc 4 1, 118, 0, []),
  (118, .goto (-32), 121, 86, []),
  (121, .aload_n 0, 122, 0, []),
  (122, .getfield 35, 125, 0, []),
  (125, .getfield 122, 128, 0, []),
  (128, .istore 4, 130, 0, []),
  (130, .iload 4, 132, 0, []),
  (132, .aload_n 2, 133, 0, []),
  (133, .getfield 47, 136, 0, []),
  (136, .if_icmp .ge 23, 139, 159, []),
  (139, .aload_n 0, 140, 0, []),
  (140, .getfield 16, 143, 0, []),
  (143, .aload_n 2, 144, 0, []),
  (144, .getfield 59, 147, 0, []),
  (147, .iload 4, 149, 0, []),
  (149, .baload, 150, 0, []),
  (150, .invokevirtual 43, 153, 0, []),
  (153, .iinc 4 1, 156, 0, []),
  (156, .goto (-26), 159, 130, []),
  (159, .aload_n 0, 160, 0, []),
  (160, .getfield 10, 163, 0, []),
  (163, .iconst 0, 164, 0, []),
  (164, .putfield 47, 167, 0, []),
  (167, .aload_n 2, 168, 0, []),
  (168, .aload_n 0, 169, 0, []),
  (169, .getfield 16, 172, 0, []),
  (172, .invokevirtual 132, 175, 0, []),
  (175, .iconst 1, 176, 0, []),
  (176, .ireturn, 177, 0, [])]
def c_Model_init : Nat → Option En := lk [(0, .aload_n 0, 1, 0, []),
  (1, .invokespecial 1, 4, 0, []),
  (4, .aload_n 0, 5, 0, []),
  (5, .bipush 64, 7, 0, []),
  (7, .newarray .byte, 9, 0, []),
  (9, .putfield 7, 12, 0, []),
  (12, .aload_n 0, 13, 0, []),
  (13, .sipush 512, 16, 0, []),
  (16, .newarray .byte, 18, 0, []),
  (18, .putfield 13, 21, 0, []),
  (21, .aload_n 0, 22, 0, []),
  (22, .bipush 8, 24, 0, []),
  (24, .newarray .int, 26, 0, []),
  (26, .putfield 16, 29, 0, []),
  (29, .aload_n 0, 30, 0, []),
  (30, .bipush 64, 32, 0, []),
  (32, .newarray .int, 34, 0, []),
  (34, .putfield 20, 37, 0, []),
  (37, .aload_n 0, 38, 0, []),
  (38, .bipush 64, 40, 0, []),
  (40, .newarray .int, 42, 0, []),
  (42, .putfield 23, 45, 0, []),
  (45, .aload_n 0, 46, 0, []),
  (46, .bipush 64, 48, 0, []),
  (48, .newarray .int, 50, 0, []),
  (50, .putfield 26, 53, 0, []),
  (53, .aload_n 0, 54, 0, []),
  (54, .sipush 4096, 57, 0, []),
  (57, .newarray .byte, 59, 0, []),
  (59, .putfield 29, 62, 0, []),
  (62, .aload_n 0, 63, 0, []),
  (63, .bipush 64, 65, 0, []),
  (65, .newarray .int, 67, 0, []),
  (67, .putfield 32, 70, 0, []),
  (70, .aload_n 0, 71, 0, []),
  (71, .bipush 64, 73, 0, []),
  (73, .newarray .byte, 75, 0, []),
  (75, .putfield 35, 78, 0, []),
  (78, .aload_n 0, 79, 0, []),
  (79, .sipush 3000, 82, 0, []),
  (82, .newarray .int, 84, 0, []),
  (84, .putfield 38, 87, 0, []),
  (87, .aload_n 0, 88, 0, []),
  (88, .sipush 3000, 91, 0, []),
  (91, .newarray .int, 93, 0, []),
  (93, .putfield 41, 96, 0, []),
  (96, .aload_n 0, 97, 0, []),
  (97, .sipush 3000, 100, 0, []),
  (100, .newarray .int, 102, 0, []),
  (102, .putfield 44, 105, 0, []),
  (105, .aload_n 0, 106, 0, []),
  (106, .sipush 3000, 109, 0, []),
  (109, .newarray .int, 111, 0, []),
  (111, .putfield 47, 114, 0, []),
  (114, .aload_n 0, 115, 0, []),
  (115, .sipush 3000, 118, 0, []),
  (118, .newarray .int, 120, 0, []),
  (120, .putfield 50, 123, 0, []),
  (123, .aload_n 0, 124, 0, []),
  (124, .sipush 3000, 127, 0, []),
  (127, .newarray .int, 129, 0, []),
  (129, .putfield 53, 132, 0, []),
  (132, .aload_n 0, 133, 0, []),
  (133, .sipush 3000, 136, 0, []),
  (136, .newarray .boolean, 138, 0, []),
  (138, .putfield 56, 141, 0, []),
  (141, .aload_n 0, 142, 0, []),
  (142, .sipush 3000, 145, 0, []),
  (145, .newarray .int, 147, 0, []),
  (147, .putfield 60, 150, 0, []),
  (150, .aload_n 0, 151, 0, []),
  (151, .sipush 3000, 154, 0, []),
  (154, .newarray .int, 156, 0, []),
  (156, .putfield 63, 159, 0, []),
  (159, .return_, 160, 0, [])]
def c_Model_sign : Nat → Option En := lk [(0, .aload_n 0, 1, 0, []),
  (1, .iconst 0, 2, 0, []),
  (2, .putfield 66, 5, 0, []),
  (5, .aload_n 0, 6, 0, []),
  (6, .getfield 70, 9, 0, []),
  (9, .bipush 64, 11, 0, []),
  (11, .if_icmp .ne 5, 14, 16, []),
  (14, .iconst (-1), 15, 0, []),
  (15, .ireturn, 16, 0, []),
  (16, .aload_n 0, 17, 0, []),
  (17, .getfield 7, 20, 0, []),
  (20, .aload_n 0, 21, 0, []),
  (21, .getfield 70, 24, 0, []),
  (24, .iload_n 1, 25, 0, []),
  (25, .i2b, 26, 0, []),
  (26, .bastore, 27, 0, []),
  (27, .aload_n 0, 28, 0, []),
  (28, .dup, 29, 0, []),
  (29, .getfield 70, 32, 0, []),
  (32, .iconst 1, 33, 0, []),
  (33, .iadd, 34, 0, []),
  (34, .putfield 70, 37, 0, []),
  (37, .aload_n 0, 38, 0, []),
  (38, .getfield 70, 41, 0, []),
  (41, .ireturn, 42, 0, [])]
def c_Model_isVariable : Nat → Option En := lk [(0, .iload_n 0, 1, 0, []),
  (1, .ifCond .lt 13, 4, 14, []),
  (4, .iload_n 0, 5, 0, []),
  (5, .bipush 8, 7, 0, []),
  (7, .if_icmp .ge 7, 10, 14, []),
  (10, .iconst 1, 11, 0, []),
  (11, .goto 4, 14, 15, []),
  (14, .iconst 0, 15, 0, []),
  (15, .ireturn, 16, 0, [])]
def c_Model_let : Nat → Option En := lk [(0, .aload_n 0, 1, 0, []),
  (1, .iconst 0, 2, 0, []),
  (2, .putfield 66, 5, 0, []),
  (5, .iload_n 1, 6, 0, []),
  (6, .invokestatic 73, 9, 0, []),
  (9, .ifCond .ne 5, 12, 14, []),
  (12, .iconst 0, 13, 0, []),
  (13, .ireturn, 14, 0, []),
  (14, .iconst 0, 15, 0, []),
  (15, .istore_n 2, 16, 0, []),
  (16, .iload_n 2, 17, 0, []),
  (17, .aload_n 0, 18, 0, []),
  (18, .getfield 70, 21, 0, []),
  (21, .if_icmp .ge 26, 24, 47, []),
  (24, .aload_n 0, 25, 0, []),
  (25, .getfield 13, 28, 0, []),
  (28, .bipush 64, 30, 0, []),
  (30, .iload_n 1, 31, 0, []),
  (31, .imul, 32, 0, []),
  (32, .iload_n 2, 33, 0, []),
  (33, .iadd, 34, 0, []),
  (34, .aload_n 0, 35, 0, []),
  (35, .getfield 7, 38, 0, []),
  (38, .iload_n 2, 39, 0, []),
  (39, .baload, 40, 0, []),
  (40, .bastore, 41, 0, []),
  (41, .iinc 2 1, 44, 0, []),
  (44, .goto (-28), 47, 16, []),
  (47, .aload_n 0, 48, 0, []),
  (48, .getfield 16, 51, 0, []),
  (51, .iload_n 1, 52, 0, []),
  (52, .aload_n 0, 53, 0, []),
  (53, .getfield 70, 56, 0, []),
  (56, .iastore, 57, 0, []),
  (57, .aload_n 0, 58, 0, []),
  (58, .iconst 0, 59, 0, []),
  (59, .putfield 70, 62, 0, []),
  (62, .iconst 1, 63, 0, []),
  (63, .ireturn, 64, 0, [])]
def c_Model_value : Nat → Option En := lk [(0, .aload_n 0, 1, 0, []),
  (1, .iconst 0, 2, 0, []),
  (2, .putfield 66, 5, 0, []),
  (5, .iload_n 1, 6, 0, []),
  (6, .invokestatic 73, 9, 0, []),
  (9, .ifCond .eq 35, 12, 44, []),
  (12, .iload_n 2, 13, 0, []),
  (13, .ifCond .lt 31, 16, 44, []),
  (16, .iload_n 2, 17, 0, []),
  (17, .aload_n 0, 18, 0, []),
  (18, .getfield 16, 21, 0, []),
  (21, .iload_n 1, 22, 0, []),
  (22, .iaload, 23, 0, []),
  (23, .if_icmp .ge 21, 26, 44, []),
  (26, .aload_n 0, 27, 0, []),
  (27, .getfield 13, 30, 0, []),
  (30, .bipush 64, 32, 0, []),
  (32, .iload_n 1, 33, 0, []),
  (33, .imul, 34, 0, []),
  (34, .iload_n 2, 35, 0, []),
  (35, .iadd, 36, 0, []),
  (36, .baload, 37, 0, []),
  (37, .sipush 255, 40, 0, []),
  (40, .iand, 41, 0, []),
  (41, .goto 4, 44, 45, []),
  (44, .iconst (-1), 45, 0, []),
  (45, .ireturn, 46, 0, [])]
def c_Model_length : Nat → Option En := lk [(0, .aload_n 0, 1, 0, []),
  (1, .iconst 0, 2, 0, []),
  (2, .putfield 66, 5, 0, []),
  (5, .iload_n 1, 6, 0, []),
  (6, .invokestatic 73, 9, 0, []),
  (9, .ifCond .eq 12, 12, 21, []),
  (12, .aload_n 0, 13, 0, []),
  (13, .getfield 16, 16, 0, []),
  (16, .iload_n 1, 17, 0, []),
  (17, .iaload, 18, 0, []),
  (18, .goto 4, 21, 22, []),
  (21, .iconst (-1), 22, 0, []),
  (22, .ireturn, 23, 0, [])]
def c_Model_isNode : Nat → Option En := lk [(0, .iload_n 1, 1, 0, []),
  (1, .ifCond .lt 15, 4, 16, []),
  (4, .iload_n 1, 5, 0, []),
  (5, .aload_n 0, 6, 0, []),
  (6, .getfield 77, 9, 0, []),
  (9, .if_icmp .ge 7, 12, 16, []),
  (12, .iconst 1, 13, 0, []),
  (13, .goto 4, 16, 17, []),
  (16, .iconst 0, 17, 0, []),
  (17, .ireturn, 18, 0, [])]
def c_Model_can : Nat → Option En := lk [(0, .iload_n 1, 1, 0, []),
  (1, .ifCond .lt 18, 4, 19, []),
  (4, .iload_n 1, 5, 0, []),
  (5, .bipush 23, 7, 0, []),
  (7, .if_icmp .gt 12, 10, 19, []),
  (10, .aload_n 0, 11, 0, []),
  (11, .getfield 77, 14, 0, []),
  (14, .bipush 64, 16, 0, []),
  (16, .if_icmp .ne 5, 19, 21, []),
  (19, .iconst 0, 20, 0, []),
  (20, .ireturn, 21, 0, []),
  (21, .iload_n 1, 22, 0, []),
  (22, .tableswitch 170 5 23 #[90, 90, 90, 90, 90, 170, 170, 170, 170, 170, 170, 100, 106, 106, 128, 128, 149, 149, 154], 112, 192, [(5, 112), (6, 112), (7, 112), (8, 112), (9, 112), (10, 192), (11, 192), (12, 192), (13, 192), (14, 192), (15, 192), (16, 122), (17, 128), (18, 128), (19, 150), (20, 150), (21, 171), (22, 171), (23, 176)]),
  (112, .iload_n 2, 113, 0, []),
  (113, .ifCond .lt 7, 116, 120, []),
  (116, .iconst 1, 117, 0, []),
  (117, .goto 4, 120, 121, []),
  (120, .iconst 0, 121, 0, []),
  (121, .ireturn, 122, 0, []),
  (122, .aload_n 0, 123, 0, []),
  (123, .iload_n 2, 124, 0, []),
  (124, .invokevirtual 80, 127, 0, []),
  (127, .ireturn, 128, 0, []),
  (128, .aload_n 0, 129, 0, []),
  (129, .iload_n 2, 130, 0, []),
  (130, .invokevirtual 80, 133, 0, []),
  (133, .ifCond .eq 15, 136, 148, []),
  (136, .aload_n 0, 137, 0, []),
  (137, .iload_n 3, 138, 0, []),
  (138, .invokevirtual 80, 141, 0, []),
  (141, .ifCond .eq 7, 144, 148, []),
  (144, .iconst 1, 145, 0, []),
  (145, .goto 4, 148, 149, []),
  (148, .iconst 0, 149, 0, []),
  (149, .ireturn, 150, 0, []),
  (150, .aload_n 0, 151, 0, []),
  (151, .iload_n 2, 152, 0, []),
  (152, .invokevirtual 80, 155, 0, []),
  (155, .ifCond .eq 14, 158, 169, []),
  (158, .iload_n 3, 159, 0, []),
  (159, .invokestatic 73, 162, 0, []),
  (162, .ifCond .eq 7, 165, 169, []),
  (165, .iconst 1, 166, 0, []),
  (166, .goto 4, 169, 170, []),
  (169, .iconst 0, 170, 0, []),
  (170, .ireturn, 171, 0, []),
  (171, .iload_n 2, 172, 0, []),
  (172, .invokestatic 73, 175, 0, []),
  (175, .ireturn, 176, 0, []),
  (176, .iload_n 2, 177, 0, []),
  (177, .ifCond .lt 13, 180, 190, []),
  (180, .iload_n 2, 181, 0, []),
  (181, .bipush 64, 183, 0, []),
  (183, .if_icmp .ge 7, 186, 190, []),
  (186, .iconst 1, 187, 0, []),
  (187, .goto 4, 190, 191, []),
  (190, .iconst 0, 191, 0, []),
  (191, .ireturn, 192, 0, []),
  (192, .iconst 1, 193, 0, []),
  (193, .ireturn, 194, 0, [])]
def c_Model_node : Nat → Option En := lk [(0, .aload_n 0, 1, 0, []),
  (1, .iconst 0, 2, 0, []),
  (2, .putfield 66, 5, 0, []),
  (5, .aload_n 0, 6, 0, []),
  (6, .iload_n 1, 7, 0, []),
  (7, .iload_n 2, 8, 0, []),
  (8, .iload_n 3, 9, 0, []),
  (9, .invokevirtual 83, 12, 0, []),
  (12, .ifCond .ne 5, 15, 17, []),
  (15, .iconst (-1), 16, 0, []),
  (16, .ireturn, 17, 0, []),
  (17, .iload_n 1, 18, 0, []),
  (18, .iconst 4, 19, 0, []),
  (19, .if_icmp .le 9, 22, 28, []),
  (22, .iload_n 1, 23, 0, []),
  (23, .bipush 10, 25, 0, []),
  (25, .if_icmp .lt 9, 28, 34, []),
  (28, .iload_n 1, 29, 0, []),
  (29, .bipush 15, 31, 0, []),
  (31, .if_icmp .le 7, 34, 38, []),
  (34, .iconst 1, 35, 0, []),
  (35, .goto 4, 38, 39, []),
  (38, .iconst 0, 39, 0, []),
  (39, .istore 4, 41, 0, []),
  (41, .iload_n 1, 42, 0, []),
  (42, .bipush 16, 44, 0, []),
  (44, .if_icmp .le 13, 47, 57, []),
  (47, .iload_n 1, 48, 0, []),
  (48, .bipush 21, 50, 0, []),
  (50, .if_icmp .ge 7, 53, 57, []),
  (53, .iconst 1, 54, 0, []),
  (54, .goto 4, 57, 58, []),
  (57, .iconst 0, 58, 0, []),
  (58, .istore 5, 60, 0, []),
  (60, .aload_n 0, 61, 0, []),
  (61, .getfield 20, 64, 0, []),
  (64, .aload_n 0, 65, 0, []),
  (65, .getfield 77, 68, 0, []),
  (68, .iload_n 1, 69, 0, []),
  (69, .iastore, 70, 0, []),
  (70, .aload_n 0, 71, 0, []),
  (71, .getfield 23, 74, 0, []),
  (74, .aload_n 0, 75, 0, []),
  (75, .getfield 77, 78, 0, []),
  (78, .iload 4, 80, 0, []),
  (80, .ifCond .eq 7, 83, 87, []),
  (83, .iload_n 2, 84, 0, []),
  (84, .goto 4, 87, 88, []),
  (87, .iconst 0, 88, 0, []),
  (88, .iastore, 89, 0, []),
  (89, .aload_n 0, 90, 0, []),
  (90, .getfield 26, 93, 0, []),
  (93, .aload_n 0, 94, 0, []),
  (94, .getfield 77, 97, 0, []),
  (97, .iload 5, 99, 0, []),
  (99, .ifCond .eq 7, 102, 106, []),
  (102, .iload_n 3, 103, 0, []),
  (103, .goto 4, 106, 107, []),
  (106, .iconst 0, 107, 0, []),
  (107, .iastore, 108, 0, []),
  (108, .aload_n 0, 109, 0, []),
  (109, .getfield 32, 112, 0, []),
  (112, .aload_n 0, 113, 0, []),
  (113, .getfield 77, 116, 0, []),
  (116, .iconst 0, 117, 0, []),
  (117, .iastore, 118, 0, []),
  (118, .iload_n 1, 119, 0, []),
  (119, .iconst 5, 120, 0, []),
  (120, .if_icmp .ge 61, 123, 181, []),
  (123, .iconst 0, 124, 0, []),
  (124, .istore 6, 126, 0, []),
  (126, .iload 6, 128, 0, []),
  (128, .aload_n 0, 129, 0, []),
  (129, .getfield 70, 132, 0, []),
  (132, .if_icmp .ge 31, 135, 163, []),
  (135, .aload_n 0, 136, 0, []),
  (136, .getfield 29, 139, 0, []),
  (139, .bipush 64, 141, 0, []),
  (141, .aload_n 0, 142, 0, []),
  (142, .getfield 77, 145, 0, []),
  (145, .imul, 146, 0, []),
  (146, .iload 6, 148, 0, []),
  (148, .iadd, 149, 0, []),
  (149, .aload_n 0, 150, 0, []),
  (150, .getfield 7, 153, 0, []),
  (153, .iload 6, 155, 0, []),
  (155, .baload, 156, 0, []),
  (156, .bastore, 157, 0, []),
  (157, .iinc 6 1, 160, 0, []),
  (160, .goto (-34), 163, 126, []),
  (163, .aload_n 0, 164, 0, []),
  (164, .getfield 32, 167, 0, []),
  (167, .aload_n 0, 168, 0, []),
  (168, .getfield 77, 171, 0, []),
  (171, .aload_n 0, 172, 0, []),
  (172, .getfield 70, 175, 0, []),
  (175, .iastore, 176, 0, []),
  (176, .aload_n 0, 177, 0, []),
  (177, .iconst 0, 178, 0, []),
  (178, .putfield 70, 181, 0, []),
  (181, .aload_n 0, 182, 0, []),
  (182, .dup, 183, 0, []),
  (183, .getfield 77, 186, 0, []),
  (186, .iconst 1, 187, 0, []),
  (187, .iadd, 188, 0, []),
  (188, .putfield 77, 191, 0, []),
  (191, .aload_n 0, 192, 0, []),
  (192, .getfield 77, 195, 0, []),
  (195, .iconst 1, 196, 0, []),
  (196, .isub, 197, 0, []),
  (197, .ireturn, 198, 0, [])]
def c_Model_clear : Nat → Option En := lk [(0, .aload_n 0, 1, 0, []),
  (1, .iconst 0, 2, 0, []),
  (2, .putfield 66, 5, 0, []),
  (5, .aload_n 0, 6, 0, []),
  (6, .iconst 0, 7, 0, []),
  (7, .putfield 77, 10, 0, []),
  (10, .return_, 11, 0, [])]
def c_Model_about : Nat → Option En := lk [(0, .aload_n 0, 1, 0, []),
  (1, .iconst 0, 2, 0, []),
  (2, .putfield 66, 5, 0, []),
  (5, .aload_n 0, 6, 0, []),
  (6, .iload_n 1, 7, 0, []),
  (7, .invokevirtual 80, 10, 0, []),
  (10, .ifCond .ne 5, 13, 15, []),
  (13, .iconst (-1), 14, 0, []),
  (14, .ireturn, 15, 0, []),
  (15, .iload_n 2, 16, 0, []),
  (16, .ifCond .ne 12, 19, 28, []),
  (19, .aload_n 0, 20, 0, []),
  (20, .getfield 20, 23, 0, []),
  (23, .iload_n 1, 24, 0, []),
  (24, .iaload, 25, 0, []),
  (25, .goto 46, 28, 71, []),
  (28, .iload_n 2, 29, 0, []),
  (29, .iconst 1, 30, 0, []),
  (30, .if_icmp .ne 12, 33, 42, []),
  (33, .aload_n 0, 34, 0, []),
  (34, .getfield 23, 37, 0, []),
  (37, .iload_n 1, 38, 0, []),
  (38, .iaload, 39, 0, []),
  (39, .goto 32, 42, 71, []),
  (42, .iload_n 2, 43, 0, []),
  (43, .iconst 2, 44, 0, []),
  (44, .if_icmp .ne 12, 47, 56, []),
  (47, .aload_n 0, 48, 0, []),
  (48, .getfield 26, 51, 0, []),
  (51, .iload_n 1, 52, 0, []),
  (52, .iaload, 53, 0, []),
  (53, .goto 18, 56, 71, []),
  (56, .iload_n 2, 57, 0, []),
  (57, .iconst 3, 58, 0, []),
  (58, .if_icmp .ne 12, 61, 70, []),
  (61, .aload_n 0, 62, 0, []),
  (62, .getfield 32, 65, 0, []),
  (65, .iload_n 1, 66, 0, []),
  (66, .iaload, 67, 0, []),
  (67, .goto 4, 70, 71, []),
  (70, .iconst (-1), 71, 0, []),
  (71, .ireturn, 72, 0, [])]
def c_Model_isIn : Nat → Option En := lk [(0, .iconst 0, 1, 0, []),
  (1, .istore_n 3, 2, 0, []),
  (2, .iload_n 3, 3, 0, []),
  (3, .aload_n 0, 4, 0, []),
  (4, .getfield 32, 7, 0, []),
  (7, .iload_n 1, 8, 0, []),
  (8, .iaload, 9, 0, []),
  (9, .if_icmp .ge 31, 12, 40, []),
  (12, .aload_n 0, 13, 0, []),
  (13, .getfield 29, 16, 0, []),
  (16, .bipush 64, 18, 0, []),
  (18, .iload_n 1, 19, 0, []),
  (19, .imul, 20, 0, []),
  (20, .iload_n 3, 21, 0, []),
  (21, .iadd, 22, 0, []),
  (22, .baload, 23, 0, []),
  (23, .aload_n 0, 24, 0, []),
  (24, .getfield 35, 27, 0, []),
  (27, .iload_n 2, 28, 0, []),
  (28, .baload, 29, 0, []),
  (29, .if_icmp .ne 5, 32, 34, []),
  (32, .iconst 1, 33, 0, []),
  (33, .ireturn, 34, 0, []),
  (34, .iinc 3 1, 37, 0, []),
  (37, .goto (-35), 40, 2, []),
  (40, .iconst 0, 41, 0, []),
  (41, .ireturn, 42, 0, [])]
def c_Model_behind : Nat → Option En := lk [(0, .iload_n 3, 1, 0, []),
  (1, .aload_n 0, 2, 0, []),
  (2, .getfield 87, 5, 0, []),
  (5, .iload 4, 7, 0, []),
  (7, .isub, 8, 0, []),
  (8, .if_icmp .le 5, 11, 13, []),
  (11, .iconst (-1), 12, 0, []),
  (12, .ireturn, 13, 0, []),
  (13, .iconst 0, 14, 0, []),
  (14, .istore 5, 16, 0, []),
  (16, .iload 5, 18, 0, []),
  (18, .iload_n 3, 19, 0, []),
  (19, .if_icmp .ge 30, 22, 49, []),
  (22, .aload_n 1, 23, 0, []),
  (23, .iload_n 2, 24, 0, []),
  (24, .iload 5, 26, 0, []),
  (26, .iadd, 27, 0, []),
  (27, .baload, 28, 0, []),
  (28, .aload_n 0, 29, 0, []),
  (29, .getfield 35, 32, 0, []),
  (32, .iload 4, 34, 0, []),
  (34, .iload 5, 36, 0, []),
  (36, .iadd, 37, 0, []),
  (37, .baload, 38, 0, []),
  (38, .if_icmp .eq 5, 41, 43, []),
  (41, .iconst (-1), 42, 0, []),
  (42, .ireturn, 43, 0, []),
  (43, .iinc 5 1, 46, 0, []),
  (46, .goto (-30), 49, 16, []),
  (49, .iload 4, 51, 0, []),
  (51, .iload_n 3, 52, 0, []),
  (52, .iadd, 53, 0, []),
  (53, .ireturn, 54, 0, [])]
def c_Model_span : Nat → Option En := lk [(0, .iload_n 2, 1, 0, []),
  (1, .istore_n 3, 2, 0, []),
  (2, .iload_n 3, 3, 0, []),
  (3, .aload_n 0, 4, 0, []),
  (4, .getfield 87, 7, 0, []),
  (7, .if_icmp .ge 18, 10, 25, []),
  (10, .aload_n 0, 11, 0, []),
  (11, .iload_n 1, 12, 0, []),
  (12, .iload_n 3, 13, 0, []),
  (13, .invokevirtual 90, 16, 0, []),
  (16, .ifCond .eq 9, 19, 25, []),
  (19, .iinc 3 1, 22, 0, []),
  (22, .goto (-20), 25, 2, []),
  (25, .iload_n 3, 26, 0, []),
  (26, .iload_n 2, 27, 0, []),
  (27, .if_icmp .le 7, 30, 34, []),
  (30, .iload_n 3, 31, 0, []),
  (31, .goto 4, 34, 35, []),
  (34, .iconst (-1), 35, 0, []),
  (35, .ireturn, 36, 0, [])]
def c_Model_stop : Nat → Option En := lk [(0, .iload_n 2, 1, 0, []),
  (1, .istore_n 3, 2, 0, []),
  (2, .iload_n 3, 3, 0, []),
  (3, .aload_n 0, 4, 0, []),
  (4, .getfield 87, 7, 0, []),
  (7, .if_icmp .ge 18, 10, 25, []),
  (10, .aload_n 0, 11, 0, []),
  (11, .iload_n 1, 12, 0, []),
  (12, .iload_n 3, 13, 0, []),
  (13, .invokevirtual 90, 16, 0, []),
  (16, .ifCond .ne 9, 19, 25, []),
  (19, .iinc 3 1, 22, 0, []),
  (22, .goto (-20), 25, 2, []),
  (25, .iload_n 3, 26, 0, []),
  (26, .aload_n 0, 27, 0, []),
  (27, .getfield 87, 30, 0, []),
  (30, .if_icmp .ge 7, 33, 37, []),
  (33, .iload_n 3, 34, 0, []),
  (34, .goto 4, 37, 38, []),
  (37, .iconst (-1), 38, 0, []),
  (38, .ireturn, 39, 0, [])]
def c_Model_balanced : Nat → Option En := lk [(0, .iconst 0, 1, 0, []),
  (1, .istore_n 3, 2, 0, []),
  (2, .iload_n 1, 3, 0, []),
  (3, .istore 4, 5, 0, []),
  (5, .iload 4, 7, 0, []),
  (7, .aload_n 0, 8, 0, []),
  (8, .getfield 87, 11, 0, []),
  (11, .if_icmp .ge 68, 14, 79, []),
  (14, .iload_n 3, 15, 0, []),
  (15, .aload_n 0, 16, 0, []),
  (16, .getfield 35, 19, 0, []),
  (19, .iload 4, 21, 0, []),
  (21, .baload, 22, 0, []),
  (22, .bipush 40, 24, 0, []),
  (24, .if_icmp .ne 7, 27, 31, []),
  (27, .iconst 1, 28, 0, []),
  (28, .goto 20, 31, 48, []),
  (31, .aload_n 0, 32, 0, []),
  (32, .getfield 35, 35, 0, []),
  (35, .iload 4, 37, 0, []),
  (37, .baload, 38, 0, []),
  (38, .bipush 41, 40, 0, []),
  (40, .if_icmp .ne 7, 43, 47, []),
  (43, .iconst (-1), 44, 0, []),
  (44, .goto 4, 47, 48, []),
  (47, .iconst 0, 48, 0, []),
  (48, .iadd, 49, 0, []),
  (49, .istore_n 3, 50, 0, []),
  (50, .iload_n 3, 51, 0, []),
  (51, .ifCond .ge 5, 54, 56, []),
  (54, .iconst (-1), 55, 0, []),
  (55, .ireturn, 56, 0, []),
  (56, .iload_n 3, 57, 0, []),
  (57, .ifCond .ne 16, 60, 73, []),
  (60, .iload 4, 62, 0, []),
  (62, .iconst 1, 63, 0, []),
  (63, .iadd, 64, 0, []),
  (64, .iload_n 2, 65, 0, []),
  (65, .if_icmp .le 8, 68, 73, []),
  (68, .iload 4, 70, 0, []),
  (70, .iconst 1, 71, 0, []),
  (71, .iadd, 72, 0, []),
  (72, .ireturn, 73, 0, []),
  (73, .iinc 4 1, 76, 0, []),
  (76, .goto (-71), 79, 5, []),
  (79, .iconst (-1), 80, 0, []),
  (80, .ireturn, 81, 0, [])]
def c_Model_plain : Nat → Option En := lk [(0, .aload_n 0, 1, 0, []),
  (1, .getfield 23, 4, 0, []),
  (4, .iload_n 1, 5, 0, []),
  (5, .iaload, 6, 0, []),
  (6, .istore_n 3, 7, 0, []),
  (7, .iload_n 2, 8, 0, []),
  (8, .aload_n 0, 9, 0, []),
  (9, .getfield 87, 12, 0, []),
  (12, .if_icmp .ge 16, 15, 28, []),
  (15, .aload_n 0, 16, 0, []),
  (16, .iload_n 1, 17, 0, []),
  (17, .iload_n 2, 18, 0, []),
  (18, .invokevirtual 90, 21, 0, []),
  (21, .ifCond .eq 7, 24, 28, []),
  (24, .iconst 1, 25, 0, []),
  (25, .goto 4, 28, 29, []),
  (28, .iconst 0, 29, 0, []),
  (29, .istore 4, 31, 0, []),
  (31, .aload_n 0, 32, 0, []),
  (32, .getfield 20, 35, 0, []),
  (35, .iload_n 1, 36, 0, []),
  (36, .iaload, 37, 0, []),
  (37, .tableswitch 301 0 22 #[107, 127, 140, 161, 168, 175, 193, 204, 220, 239, 260, 265, 267, 301, 265, 301, 301, 301, 301, 301, 301, 274, 281], 144, 338, [(0, 144), (1, 164), (2, 177), (3, 198), (4, 205), (5, 212), (6, 230), (7, 241), (8, 257), (9, 276), (10, 297), (11, 302), (12, 304), (13, 338), (14, 302), (15, 338), (16, 338), (17, 338), (18, 338), (19, 338), (20, 338), (21, 311), (22, 318)]),
  (144, .aload_n 0, 145, 0, []),
  (145, .aload_n 0, 146, 0, []),
  (146, .getfield 29, 149, 0, []),
  (149, .bipush 64, 151, 0, []),
  (151, .iload_n 1, 152, 0, []),
  (152, .imul, 153, 0, []),
  (153, .aload_n 0, 154, 0, []),
  (154, .getfield 32, 157, 0, []),
  (157, .iload_n 1, 158, 0, []),
  (158, .iaload, 159, 0, []),
  (159, .iload_n 2, 160, 0, []),
  (160, .invokevirtual 94, 163, 0, []),
  (163, .ireturn, 164, 0, []),
  (164, .iload 4, 166, 0, []),
  (166, .ifCond .eq 9, 169, 175, []),
  (169, .iload_n 2, 170, 0, []),
  (170, .iconst 1, 171, 0, []),
  (171, .iadd, 172, 0, []),
  (172, .goto 4, 175, 176, []),
  (175, .iconst (-1), 176, 0, []),
  (176, .ireturn, 177, 0, []),
  (177, .iload_n 2, 178, 0, []),
  (178, .aload_n 0, 179, 0, []),
  (179, .getfield 87, 182, 0, []),
  (182, .if_icmp .ge 14, 185, 196, []),
  (185, .iload 4, 187, 0, []),
  (187, .ifCond .ne 9, 190, 196, []),
  (190, .iload_n 2, 191, 0, []),
  (191, .iconst 1, 192, 0, []),
  (192, .iadd, 193, 0, []),
  (193, .goto 4, 196, 197, []),
  (196, .iconst (-1), 197, 0, []),
  (197, .ireturn, 198, 0, []),
  (198, .aload_n 0, 199, 0, []),
  (199, .iload_n 1, 200, 0, []),
  (200, .iload_n 2, 201, 0, []),
  (201, .invokevirtual 98, 204, 0, []),
  (204, .ireturn, 205, 0, []),
  (205, .aload_n 0, 206, 0, []),
  (206, .iload_n 1, 207, 0, []),
  (207, .iload_n 2, 208, 0, []),
  (208, .invokevirtual 102, 211, 0, []),
  (211, .ireturn, 212, 0, []),
  (212, .iload_n 3, 213, 0, []),
  (213, .aload_n 0, 214, 0, []),
  (214, .getfield 87, 217, 0, []),
  (217, .iload_n 2, 218, 0, []),
  (218, .isub, 219, 0, []),
  (219, .if_icmp .gt 9, 222, 228, []),
  (222, .iload_n 2, 223, 0, []),
  (223, .iload_n 3, 224, 0, []),
  (224, .iadd, 225, 0, []),
  (225, .goto 4, 228, 229, []),
  (228, .iconst (-1), 229, 0, []),
  (229, .ireturn, 230, 0, []),
  (230, .iload_n 2, 231, 0, []),
  (231, .iload_n 3, 232, 0, []),
  (232, .if_icmp .ne 7, 235, 239, []),
  (235, .iload_n 2, 236, 0, []),
  (236, .goto 4, 239, 240, []),
  (239, .iconst (-1), 240, 0, []),
  (240, .ireturn, 241, 0, []),
  (241, .aload_n 0, 242, 0, []),
  (242, .getfield 87, 245, 0, []),
  (245, .iload_n 2, 246, 0, []),
  (246, .isub, 247, 0, []),
  (247, .iload_n 3, 248, 0, []),
  (248, .if_icmp .ne 7, 251, 255, []),
  (251, .iload_n 2, 252, 0, []),
  (252, .goto 4, 255, 256, []),
  (255, .iconst (-1), 256, 0, []),
  (256, .ireturn, 257, 0, []),
  (257, .iload_n 3, 258, 0, []),
  (258, .iload_n 2, 259, 0, []),
  (259, .if_icmp .lt 15, 262, 274, []),
  (262, .iload_n 3, 263, 0, []),
  (263, .aload_n 0, 264, 0, []),
  (264, .getfield 87, 267, 0, []),
  (267, .if_icmp .gt 7, 270, 274, []),
  (270, .iload_n 3, 271, 0, []),
  (271, .goto 4, 274, 275, []),
  (274, .iconst (-1), 275, 0, []),
  (275, .ireturn, 276, 0, []),
  (276, .iload_n 3, 277, 0, []),
  (277, .aload_n 0, 278, 0, []),
  (278, .getfield 87, 281, 0, []),
  (281, .iload_n 2, 282, 0, []),
  (282, .isub, 283, 0, []),
  (283, .if_icmp .gt 12, 286, 295, []),
  (286, .aload_n 0, 287, 0, []),
  (287, .getfield 87, 290, 0, []),
  (290, .iload_n 3, 291, 0, []),
  (291, .isub, 292, 0, []),
  (292, .goto 4, 295, 296, []),
  (295, .iconst (-1), 296, 0, []),
  (296, .ireturn, 297, 0, []),
  (297, .aload_n 0, 298, 0, []),
  (298, .getfield 87, 301, 0, []),
  (301, .ireturn, 302, 0, []),
  (302, .iload_n 2, 303, 0, []),
  (303, .ireturn, 304, 0, []),
  (304, .aload_n 0, 305, 0, []),
  (305, .iload_n 2, 306, 0, []),
  (306, .iload_n 2, 307, 0, []),
  (307, .invokevirtual 105, 310, 0, []),
  (310, .ireturn, 311, 0, []),
  (311, .aload_n 0, 312, 0, []),
  (312, .iload_n 3, 313, 0, []),
  (313, .iload_n 2, 314, 0, []),
  (314, .invokevirtual 108, 317, 0, []),
  (317, .ireturn, 318, 0, []),
  (318, .aload_n 0, 319, 0, []),
  (319, .aload_n 0, 320, 0, []),
  (320, .getfield 13, 323, 0, []),
  (323, .bipush 64, 325, 0, []),
  (325, .iload_n 3, 326, 0, []),
  (326, .imul, 327, 0, []),
  (327, .aload_n 0, 328, 0, []),
  (328, .getfield 16, 331, 0, []),
  (331, .iload_n 3, 332, 0, []),
  (332, .iaload, 333, 0, []),
  (333, .iload_n 2, 334, 0, []),
  (334, .invokevirtual 94, 337, 0, []),
  (337, .ireturn, 338, 0, []),
  (338, .iconst (-1), 339, 0, []),
  (339, .ireturn, 340, 0, [])]
def c_Model_told : Nat → Option En := lk [(0, .aload_n 0, 1, 0, []),
  (1, .getfield 16, 4, 0, []),
  (4, .iload_n 1, 5, 0, []),
  (5, .iload_n 2, 6, 0, []),
  (6, .bipush 9, 8, 0, []),
  (8, .if_icmp .le 7, 11, 15, []),
  (11, .iconst 2, 12, 0, []),
  (12, .goto 4, 15, 16, []),
  (15, .iconst 1, 16, 0, []),
  (16, .iastore, 17, 0, []),
  (17, .aload_n 0, 18, 0, []),
  (18, .getfield 13, 21, 0, []),
  (21, .bipush 64, 23, 0, []),
  (23, .iload_n 1, 24, 0, []),
  (24, .imul, 25, 0, []),
  (25, .bipush 48, 27, 0, []),
  (27, .iload_n 2, 28, 0, []),
  (28, .bipush 9, 30, 0, []),
  (30, .if_icmp .le 10, 33, 40, []),
  (33, .iload_n 2, 34, 0, []),
  (34, .bipush 10, 36, 0, []),
  (36, .idiv, 37, 0, []),
  (37, .goto 4, 40, 41, []),
  (40, .iload_n 2, 41, 0, []),
  (41, .iadd, 42, 0, []),
  (42, .i2b, 43, 0, []),
  (43, .bastore, 44, 0, []),
  (44, .aload_n 0, 45, 0, []),
  (45, .getfield 13, 48, 0, []),
  (48, .bipush 64, 50, 0, []),
  (50, .iload_n 1, 51, 0, []),
  (51, .imul, 52, 0, []),
  (52, .iconst 1, 53, 0, []),
  (53, .iadd, 54, 0, []),
  (54, .bipush 48, 56, 0, []),
  (56, .iload_n 2, 57, 0, []),
  (57, .bipush 10, 59, 0, []),
  (59, .irem, 60, 0, []),
  (60, .iadd, 61, 0, []),
  (61, .i2b, 62, 0, []),
  (62, .bastore, 63, 0, []),
  (63, .iload_n 2, 64, 0, []),
  (64, .ireturn, 65, 0, [])]
def c_Model_begin : Nat → Option En := lk [(0, .aload_n 0, 1, 0, []),
  (1, .getfield 111, 4, 0, []),
  (4, .sipush 3000, 7, 0, []),
  (7, .if_icmp .ne 9, 10, 16, []),
  (10, .aload_n 0, 11, 0, []),
  (11, .iconst 1, 12, 0, []),
  (12, .putfield 114, 15, 0, []),
  (15, .return_, 16, 0, []),
  (16, .aload_n 0, 17, 0, []),
  (17, .aload_n 0, 18, 0, []),
  (18, .getfield 111, 21, 0, []),
  (21, .putfield 118, 24, 0, []),
  (24, .aload_n 0, 25, 0, []),
  (25, .dup, 26, 0, []),
  (26, .getfield 111, 29, 0, []),
  (29, .iconst 1, 30, 0, []),
  (30, .iadd, 31, 0, []),
  (31, .putfield 111, 34, 0, []),
  (34, .aload_n 0, 35, 0, []),
  (35, .getfield 38, 38, 0, []),
  (38, .aload_n 0, 39, 0, []),
  (39, .getfield 118, 42, 0, []),
  (42, .iload_n 1, 43, 0, []),
  (43, .iastore, 44, 0, []),
  (44, .aload_n 0, 45, 0, []),
  (45, .getfield 41, 48, 0, []),
  (48, .aload_n 0, 49, 0, []),
  (49, .getfield 118, 52, 0, []),
  (52, .iload_n 2, 53, 0, []),
  (53, .iastore, 54, 0, []),
  (54, .aload_n 0, 55, 0, []),
  (55, .getfield 44, 58, 0, []),
  (58, .aload_n 0, 59, 0, []),
  (59, .getfield 118, 62, 0, []),
  (62, .iload_n 2, 63, 0, []),
  (63, .iastore, 64, 0, []),
  (64, .aload_n 0, 65, 0, []),
  (65, .getfield 47, 68, 0, []),
  (68, .aload_n 0, 69, 0, []),
  (69, .getfield 118, 72, 0, []),
  (72, .iload_n 3, 73, 0, []),
  (73, .iastore, 74, 0, []),
  (74, .aload_n 0, 75, 0, []),
  (75, .getfield 50, 78, 0, []),
  (78, .aload_n 0, 79, 0, []),
  (79, .getfield 118, 82, 0, []),
  (82, .iconst (-1), 83, 0, []),
  (83, .iastore, 84, 0, []),
  (84, .aload_n 0, 85, 0, []),
  (85, .getfield 53, 88, 0, []),
  (88, .aload_n 0, 89, 0, []),
  (89, .getfield 118, 92, 0, []),
  (92, .iconst (-1), 93, 0, []),
  (93, .iastore, 94, 0, []),
  (94, .aload_n 0, 95, 0, []),
  (95, .getfield 56, 98, 0, []),
  (98, .aload_n 0, 99, 0, []),
  (99, .getfield 118, 102, 0, []),
  (102, .iconst 0, 103, 0, []),
  (103, .bastore, 104, 0, []),
  (104, .aload_n 0, 105, 0, []),
  (105, .iconst 0, 106, 0, []),
  (106, .putfield 121, 109, 0, []),
  (109, .return_, 110, 0, [])]
def c_Model_succeeds : Nat → Option En := lk [(0, .aload_n 0, 1, 0, []),
  (1, .getfield 44, 4, 0, []),
  (4, .aload_n 0, 5, 0, []),
  (5, .getfield 118, 8, 0, []),
  (8, .iload_n 1, 9, 0, []),
  (9, .iastore, 10, 0, []),
  (10, .aload_n 0, 11, 0, []),
  (11, .iload_n 1, 12, 0, []),
  (12, .iconst (-1), 13, 0, []),
  (13, .if_icmp .ne 7, 16, 20, []),
  (16, .iconst 3, 17, 0, []),
  (17, .goto 4, 20, 21, []),
  (20, .iconst 2, 21, 0, []),
  (21, .putfield 121, 24, 0, []),
  (24, .return_, 25, 0, [])]
def c_Model_begins : Nat → Option En := lk [(0, .aload_n 0, 1, 0, []),
  (1, .getfield 38, 4, 0, []),
  (4, .aload_n 0, 5, 0, []),
  (5, .getfield 118, 8, 0, []),
  (8, .iaload, 9, 0, []),
  (9, .istore_n 1, 10, 0, []),
  (10, .aload_n 0, 11, 0, []),
  (11, .getfield 41, 14, 0, []),
  (14, .aload_n 0, 15, 0, []),
  (15, .getfield 118, 18, 0, []),
  (18, .iaload, 19, 0, []),
  (19, .istore_n 2, 20, 0, []),
  (20, .aload_n 0, 21, 0, []),
  (21, .getfield 118, 24, 0, []),
  (24, .istore_n 3, 25, 0, []),
  (25, .aload_n 0, 26, 0, []),
  (26, .getfield 20, 29, 0, []),
  (29, .iload_n 1, 30, 0, []),
  (30, .iaload, 31, 0, []),
  (31, .tableswitch 136 15 23 #[49, 57, 65, 65, 65, 65, 136, 136, 90], 80, 167, [(15, 80), (16, 88), (17, 96), (18, 96), (19, 96), (20, 96), (21, 167), (22, 167), (23, 121)]),
  (80, .aload_n 0, 81, 0, []),
  (81, .iconst 1, 82, 0, []),
  (82, .putfield 124, 85, 0, []),
  (85, .goto 92, 88, 177, []),
  (88, .aload_n 0, 89, 0, []),
  (89, .iload_n 2, 90, 0, []),
  (90, .invokevirtual 127, 93, 0, []),
  (93, .goto 84, 96, 177, []),
  (96, .aload_n 0, 97, 0, []),
  (97, .aload_n 0, 98, 0, []),
  (98, .getfield 23, 101, 0, []),
  (101, .iload_n 1, 102, 0, []),
  (102, .iaload, 103, 0, []),
  (103, .iload_n 2, 104, 0, []),
  (104, .iload_n 3, 105, 0, []),
  (105, .invokevirtual 131, 108, 0, []),
  (108, .aload_n 0, 109, 0, []),
  (109, .getfield 50, 112, 0, []),
  (112, .iload_n 3, 113, 0, []),
  (113, .aload_n 0, 114, 0, []),
  (114, .getfield 118, 117, 0, []),
  (117, .iastore, 118, 0, []),
  (118, .goto 59, 121, 177, []),
  (121, .aload_n 0, 122, 0, []),
  (122, .aload_n 0, 123, 0, []),
  (123, .getfield 23, 126, 0, []),
  (126, .iload_n 1, 127, 0, []),
  (127, .iaload, 128, 0, []),
  (128, .invokevirtual 80, 131, 0, []),
  (131, .ifCond .eq 28, 134, 159, []),
  (134, .aload_n 0, 135, 0, []),
  (135, .aload_n 0, 136, 0, []),
  (136, .getfield 23, 139, 0, []),
  (139, .iload_n 1, 140, 0, []),
  (140, .iaload, 141, 0, []),
  (141, .iload_n 2, 142, 0, []),
  (142, .iload_n 3, 143, 0, []),
  (143, .invokevirtual 131, 146, 0, []),
  (146, .aload_n 0, 147, 0, []),
  (147, .getfield 50, 150, 0, []),
  (150, .iload_n 3, 151, 0, []),
  (151, .aload_n 0, 152, 0, []),
  (152, .getfield 118, 155, 0, []),
  (155, .iastore, 156, 0, []),
  (156, .goto 21, 159, 177, []),
  (159, .aload_n 0, 160, 0, []),
  (160, .iconst (-1), 161, 0, []),
  (161, .invokevirtual 127, 164, 0, []),
  (164, .goto 13, 167, 177, []),
  (167, .aload_n 0, 168, 0, []),
  (168, .aload_n 0, 169, 0, []),
  (169, .iload_n 1, 170, 0, []),
  (170, .iload_n 2, 171, 0, []),
  (171, .invokevirtual 135, 174, 0, []),
  (174, .invokevirtual 127, 177, 0, []),
  (177, .return_, 178, 0, [])]
def c_Model_goesBack : Nat → Option En := lk [(0, .aload_n 0, 1, 0, []),
  (1, .getfield 38, 4, 0, []),
  (4, .aload_n 0, 5, 0, []),
  (5, .getfield 118, 8, 0, []),
  (8, .iaload, 9, 0, []),
  (9, .istore_n 1, 10, 0, []),
  (10, .aload_n 0, 11, 0, []),
  (11, .getfield 118, 14, 0, []),
  (14, .istore_n 2, 15, 0, []),
  (15, .aload_n 0, 16, 0, []),
  (16, .getfield 20, 19, 0, []),
  (19, .iload_n 1, 20, 0, []),
  (20, .iaload, 21, 0, []),
  (21, .tableswitch 221 11 23 #[67, 105, 221, 134, 221, 142, 195, 208, 208, 208, 221, 221, 208], 88, 242, [(11, 88), (12, 126), (13, 242), (14, 155), (15, 242), (16, 163), (17, 216), (18, 229), (19, 229), (20, 229), (21, 242), (22, 242), (23, 229)]),
  (88, .aload_n 0, 89, 0, []),
  (89, .aload_n 0, 90, 0, []),
  (90, .getfield 44, 93, 0, []),
  (93, .aload_n 0, 94, 0, []),
  (94, .getfield 118, 97, 0, []),
  (97, .iaload, 98, 0, []),
  (98, .aload_n 0, 99, 0, []),
  (99, .getfield 87, 102, 0, []),
  (102, .if_icmp .ge 17, 105, 119, []),
  (105, .aload_n 0, 106, 0, []),
  (106, .getfield 44, 109, 0, []),
  (109, .aload_n 0, 110, 0, []),
  (110, .getfield 118, 113, 0, []),
  (113, .iaload, 114, 0, []),
  (114, .iconst 1, 115, 0, []),
  (115, .iadd, 116, 0, []),
  (116, .goto 4, 119, 120, []),
  (119, .iconst (-1), 120, 0, []),
  (120, .invokevirtual 127, 123, 0, []),
  (123, .goto 124, 126, 247, []),
  (126, .aload_n 0, 127, 0, []),
  (127, .aload_n 0, 128, 0, []),
  (128, .aload_n 0, 129, 0, []),
  (129, .getfield 41, 132, 0, []),
  (132, .aload_n 0, 133, 0, []),
  (133, .getfield 118, 136, 0, []),
  (136, .iaload, 137, 0, []),
  (137, .aload_n 0, 138, 0, []),
  (138, .getfield 44, 141, 0, []),
  (141, .aload_n 0, 142, 0, []),
  (142, .getfield 118, 145, 0, []),
  (145, .iaload, 146, 0, []),
  (146, .invokevirtual 105, 149, 0, []),
  (149, .invokevirtual 127, 152, 0, []),
  (152, .goto 95, 155, 247, []),
  (155, .aload_n 0, 156, 0, []),
  (156, .iconst 1, 157, 0, []),
  (157, .putfield 124, 160, 0, []),
  (160, .goto 87, 163, 247, []),
  (163, .aload_n 0, 164, 0, []),
  (164, .getfield 50, 167, 0, []),
  (167, .iload_n 2, 168, 0, []),
  (168, .iaload, 169, 0, []),
  (169, .iconst (-1), 170, 0, []),
  (170, .if_icmp .ne 33, 173, 203, []),
  (173, .aload_n 0, 174, 0, []),
  (174, .aload_n 0, 175, 0, []),
  (175, .getfield 23, 178, 0, []),
  (178, .iload_n 1, 179, 0, []),
  (179, .iaload, 180, 0, []),
  (180, .aload_n 0, 181, 0, []),
  (181, .getfield 41, 184, 0, []),
  (184, .iload_n 2, 185, 0, []),
  (185, .iaload, 186, 0, []),
  (186, .iload_n 2, 187, 0, []),
  (187, .invokevirtual 131, 190, 0, []),
  (190, .aload_n 0, 191, 0, []),
  (191, .getfield 50, 194, 0, []),
  (194, .iload_n 2, 195, 0, []),
  (195, .aload_n 0, 196, 0, []),
  (196, .getfield 118, 199, 0, []),
  (199, .iastore, 200, 0, []),
  (200, .goto 47, 203, 247, []),
  (203, .aload_n 0, 204, 0, []),
  (204, .aload_n 0, 205, 0, []),
  (205, .getfield 53, 208, 0, []),
  (208, .iload_n 2, 209, 0, []),
  (209, .iaload, 210, 0, []),
  (210, .putfield 118, 213, 0, []),
  (213, .goto 34, 216, 247, []),
  (216, .aload_n 0, 217, 0, []),
  (217, .aload_n 0, 218, 0, []),
  (218, .getfield 53, 221, 0, []),
  (221, .iload_n 2, 222, 0, []),
  (222, .iaload, 223, 0, []),
  (223, .putfield 118, 226, 0, []),
  (226, .goto 21, 229, 247, []),
  (229, .aload_n 0, 230, 0, []),
  (230, .aload_n 0, 231, 0, []),
  (231, .getfield 50, 234, 0, []),
  (234, .iload_n 2, 235, 0, []),
  (235, .iaload, 236, 0, []),
  (236, .putfield 118, 239, 0, []),
  (239, .goto 8, 242, 247, []),
  (242, .aload_n 0, 243, 0, []),
  (243, .iconst (-1), 244, 0, []),
  (244, .invokevirtual 127, 247, 0, []),
  (247, .return_, 248, 0, [])]
def c_Model_becomes : Nat → Option En := lk [(0, .aload_n 0, 1, 0, []),
  (1, .getfield 16, 4, 0, []),
  (4, .iload_n 1, 5, 0, []),
  (5, .aload_n 0, 6, 0, []),
  (6, .getfield 44, 9, 0, []),
  (9, .iload_n 2, 10, 0, []),
  (10, .iaload, 11, 0, []),
  (11, .aload_n 0, 12, 0, []),
  (12, .getfield 41, 15, 0, []),
  (15, .iload_n 2, 16, 0, []),
  (16, .iaload, 17, 0, []),
  (17, .isub, 18, 0, []),
  (18, .iastore, 19, 0, []),
  (19, .iconst 0, 20, 0, []),
  (20, .istore_n 3, 21, 0, []),
  (21, .iload_n 3, 22, 0, []),
  (22, .aload_n 0, 23, 0, []),
  (23, .getfield 16, 26, 0, []),
  (26, .iload_n 1, 27, 0, []),
  (27, .iaload, 28, 0, []),
  (28, .if_icmp .ge 33, 31, 61, []),
  (31, .aload_n 0, 32, 0, []),
  (32, .getfield 13, 35, 0, []),
  (35, .bipush 64, 37, 0, []),
  (37, .iload_n 1, 38, 0, []),
  (38, .imul, 39, 0, []),
  (39, .iload_n 3, 40, 0, []),
  (40, .iadd, 41, 0, []),
  (41, .aload_n 0, 42, 0, []),
  (42, .getfield 35, 45, 0, []),
  (45, .aload_n 0, 46, 0, []),
  (46, .getfield 41, 49, 0, []),
  (49, .iload_n 2, 50, 0, []),
  (50, .iaload, 51, 0, []),
  (51, .iload_n 3, 52, 0, []),
  (52, .iadd, 53, 0, []),
  (53, .baload, 54, 0, []),
  (54, .bastore, 55, 0, []),
  (55, .iinc 3 1, 58, 0, []),
  (58, .goto (-37), 61, 21, []),
  (61, .return_, 62, 0, [])]
def c_Model_hasSucceeded : Nat → Option En := lk [(0, .aload_n 0, 1, 0, []),
  (1, .getfield 118, 4, 0, []),
  (4, .istore_n 2, 5, 0, []),
  (5, .aload_n 0, 6, 0, []),
  (6, .getfield 38, 9, 0, []),
  (9, .iload_n 2, 10, 0, []),
  (10, .iaload, 11, 0, []),
  (11, .istore_n 3, 12, 0, []),
  (12, .aload_n 0, 13, 0, []),
  (13, .getfield 20, 16, 0, []),
  (16, .iload_n 3, 17, 0, []),
  (17, .iaload, 18, 0, []),
  (18, .istore 4, 20, 0, []),
  (20, .iload 4, 22, 0, []),
  (22, .bipush 16, 24, 0, []),
  (24, .if_icmp .eq 10, 27, 34, []),
  (27, .iload 4, 29, 0, []),
  (29, .bipush 17, 31, 0, []),
  (31, .if_icmp .ne 52, 34, 83, []),
  (34, .iload_n 1, 35, 0, []),
  (35, .aload_n 0, 36, 0, []),
  (36, .getfield 50, 39, 0, []),
  (39, .iload_n 2, 40, 0, []),
  (40, .iaload, 41, 0, []),
  (41, .if_icmp .ne 42, 44, 83, []),
  (44, .aload_n 0, 45, 0, []),
  (45, .iload 4, 47, 0, []),
  (47, .bipush 16, 49, 0, []),
  (49, .if_icmp .ne 7, 52, 56, []),
  (52, .iload_n 3, 53, 0, []),
  (53, .goto 9, 56, 62, []),
  (56, .aload_n 0, 57, 0, []),
  (57, .getfield 26, 60, 0, []),
  (60, .iload_n 3, 61, 0, []),
  (61, .iaload, 62, 0, []),
  (62, .aload_n 0, 63, 0, []),
  (63, .getfield 44, 66, 0, []),
  (66, .iload_n 1, 67, 0, []),
  (67, .iaload, 68, 0, []),
  (68, .iload_n 2, 69, 0, []),
  (69, .invokevirtual 131, 72, 0, []),
  (72, .aload_n 0, 73, 0, []),
  (73, .getfield 53, 76, 0, []),
  (76, .iload_n 2, 77, 0, []),
  (77, .aload_n 0, 78, 0, []),
  (78, .getfield 118, 81, 0, []),
  (81, .iastore, 82, 0, []),
  (82, .return_, 83, 0, []),
  (83, .aload_n 0, 84, 0, []),
  (84, .aload_n 0, 85, 0, []),
  (85, .getfield 44, 88, 0, []),
  (88, .iload_n 1, 89, 0, []),
  (89, .iaload, 90, 0, []),
  (90, .invokevirtual 127, 93, 0, []),
  (93, .iload 4, 95, 0, []),
  (95, .bipush 19, 97, 0, []),
  (97, .if_icmp .ne 23, 100, 120, []),
  (100, .aload_n 0, 101, 0, []),
  (101, .dup, 102, 0, []),
  (102, .getfield 138, 105, 0, []),
  (105, .iconst 1, 106, 0, []),
  (106, .iadd, 107, 0, []),
  (107, .putfield 138, 110, 0, []),
  (110, .aload_n 0, 111, 0, []),
  (111, .getfield 60, 114, 0, []),
  (114, .iload_n 2, 115, 0, []),
  (115, .aload_n 0, 116, 0, []),
  (116, .getfield 138, 119, 0, []),
  (119, .iastore, 120, 0, []),
  (120, .iload 4, 122, 0, []),
  (122, .bipush 20, 124, 0, []),
  (124, .if_icmp .ne 14, 127, 138, []),
  (127, .aload_n 0, 128, 0, []),
  (128, .aload_n 0, 129, 0, []),
  (129, .getfield 26, 132, 0, []),
  (132, .iload_n 3, 133, 0, []),
  (133, .iaload, 134, 0, []),
  (134, .iload_n 2, 135, 0, []),
  (135, .invokevirtual 141, 138, 0, []),
  (138, .return_, 139, 0, [])]
def c_Model_hasFailed : Nat → Option En := lk [(0, .aload_n 0, 1, 0, []),
  (1, .getfield 118, 4, 0, []),
  (4, .istore_n 2, 5, 0, []),
  (5, .aload_n 0, 6, 0, []),
  (6, .getfield 38, 9, 0, []),
  (9, .iload_n 2, 10, 0, []),
  (10, .iaload, 11, 0, []),
  (11, .istore_n 3, 12, 0, []),
  (12, .aload_n 0, 13, 0, []),
  (13, .getfield 20, 16, 0, []),
  (16, .iload_n 3, 17, 0, []),
  (17, .iaload, 18, 0, []),
  (18, .istore 4, 20, 0, []),
  (20, .iload 4, 22, 0, []),
  (22, .bipush 16, 24, 0, []),
  (24, .if_icmp .eq 10, 27, 34, []),
  (27, .iload 4, 29, 0, []),
  (29, .bipush 17, 31, 0, []),
  (31, .if_icmp .ne 38, 34, 69, []),
  (34, .iload_n 1, 35, 0, []),
  (35, .aload_n 0, 36, 0, []),
  (36, .getfield 53, 39, 0, []),
  (39, .iload_n 2, 40, 0, []),
  (40, .iaload, 41, 0, []),
  (41, .if_icmp .ne 28, 44, 69, []),
  (44, .aload_n 0, 45, 0, []),
  (45, .getfield 53, 48, 0, []),
  (48, .iload_n 2, 49, 0, []),
  (49, .iconst (-1), 50, 0, []),
  (50, .iastore, 51, 0, []),
  (51, .aload_n 0, 52, 0, []),
  (52, .aload_n 0, 53, 0, []),
  (53, .getfield 50, 56, 0, []),
  (56, .iload_n 2, 57, 0, []),
  (57, .iaload, 58, 0, []),
  (58, .putfield 118, 61, 0, []),
  (61, .aload_n 0, 62, 0, []),
  (62, .iconst 1, 63, 0, []),
  (63, .putfield 121, 66, 0, []),
  (66, .goto 61, 69, 127, []),
  (69, .iload 4, 71, 0, []),
  (71, .bipush 18, 73, 0, []),
  (73, .if_icmp .ne 49, 76, 122, []),
  (76, .aload_n 0, 77, 0, []),
  (77, .getfield 56, 80, 0, []),
  (80, .iload_n 2, 81, 0, []),
  (81, .baload, 82, 0, []),
  (82, .ifCond .ne 40, 85, 122, []),
  (85, .aload_n 0, 86, 0, []),
  (86, .getfield 56, 89, 0, []),
  (89, .iload_n 2, 90, 0, []),
  (90, .iconst 1, 91, 0, []),
  (91, .bastore, 92, 0, []),
  (92, .aload_n 0, 93, 0, []),
  (93, .aload_n 0, 94, 0, []),
  (94, .getfield 26, 97, 0, []),
  (97, .iload_n 3, 98, 0, []),
  (98, .iaload, 99, 0, []),
  (99, .aload_n 0, 100, 0, []),
  (100, .getfield 41, 103, 0, []),
  (103, .iload_n 2, 104, 0, []),
  (104, .iaload, 105, 0, []),
  (105, .iload_n 2, 106, 0, []),
  (106, .invokevirtual 131, 109, 0, []),
  (109, .aload_n 0, 110, 0, []),
  (110, .getfield 50, 113, 0, []),
  (113, .iload_n 2, 114, 0, []),
  (114, .aload_n 0, 115, 0, []),
  (115, .getfield 118, 118, 0, []),
  (118, .iastore, 119, 0, []),
  (119, .goto 8, 122, 127, []),
  (122, .aload_n 0, 123, 0, []),
  (123, .iconst (-1), 124, 0, []),
  (124, .invokevirtual 127, 127, 0, []),
  (127, .return_, 128, 0, [])]
def c_Model_tries : Nat → Option En := lk [(0, .aload_n 0, 1, 0, []),
  (1, .iload_n 1, 2, 0, []),
  (2, .iload_n 2, 3, 0, []),
  (3, .iconst (-1), 4, 0, []),
  (4, .invokevirtual 131, 7, 0, []),
  (7, .aload_n 0, 8, 0, []),
  (8, .getfield 118, 11, 0, []),
  (11, .istore_n 3, 12, 0, []),
  (12, .aload_n 0, 13, 0, []),
  (13, .getfield 124, 16, 0, []),
  (16, .ifCond .ne 106, 19, 122, []),
  (19, .aload_n 0, 20, 0, []),
  (20, .getfield 114, 23, 0, []),
  (23, .ifCond .ne 99, 26, 122, []),
  (26, .aload_n 0, 27, 0, []),
  (27, .getfield 121, 30, 0, []),
  (30, .ifCond .ne 10, 33, 40, []),
  (33, .aload_n 0, 34, 0, []),
  (34, .invokevirtual 145, 37, 0, []),
  (37, .goto (-25), 40, 12, []),
  (40, .aload_n 0, 41, 0, []),
  (41, .getfield 121, 44, 0, []),
  (44, .iconst 1, 45, 0, []),
  (45, .if_icmp .ne 10, 48, 55, []),
  (48, .aload_n 0, 49, 0, []),
  (49, .invokevirtual 148, 52, 0, []),
  (52, .goto (-40), 55, 12, []),
  (55, .aload_n 0, 56, 0, []),
  (56, .getfield 118, 59, 0, []),
  (59, .iload_n 3, 60, 0, []),
  (60, .if_icmp .ne 17, 63, 77, []),
  (63, .aload_n 0, 64, 0, []),
  (64, .getfield 121, 67, 0, []),
  (67, .iconst 2, 68, 0, []),
  (68, .if_icmp .ne 7, 71, 75, []),
  (71, .iload_n 3, 72, 0, []),
  (72, .goto 4, 75, 76, []),
  (75, .iconst (-1), 76, 0, []),
  (76, .ireturn, 77, 0, []),
  (77, .aload_n 0, 78, 0, []),
  (78, .getfield 118, 81, 0, []),
  (81, .istore 4, 83, 0, []),
  (83, .aload_n 0, 84, 0, []),
  (84, .aload_n 0, 85, 0, []),
  (85, .getfield 47, 88, 0, []),
  (88, .aload_n 0, 89, 0, []),
  (89, .getfield 118, 92, 0, []),
  (92, .iaload, 93, 0, []),
  (93, .putfield 118, 96, 0, []),
  (96, .aload_n 0, 97, 0, []),
  (97, .getfield 121, 100, 0, []),
  (100, .iconst 2, 101, 0, []),
  (101, .if_icmp .ne 12, 104, 113, []),
  (104, .aload_n 0, 105, 0, []),
  (105, .iload 4, 107, 0, []),
  (107, .invokevirtual 151, 110, 0, []),
  (110, .goto 9, 113, 119, []),
  (113, .aload_n 0, 114, 0, []),
  (114, .iload 4, 116, 0, []),
  (116, .invokevirtual 154, 119, 0, []),
  (119, .goto (-107), 122, 12, []),
  (122, .iconst (-1), 123, 0, []),
  (123, .ireturn, 124, 0, [])]
def c_Model_keep : Nat → Option En := lk [(0, .iconst 1, 1, 0, []),
  (1, .istore_n 2, 2, 0, []),
  (2, .aload_n 0, 3, 0, []),
  (3, .getfield 63, 6, 0, []),
  (6, .iconst 0, 7, 0, []),
  (7, .iload_n 1, 8, 0, []),
  (8, .iastore, 9, 0, []),
  (9, .iconst 0, 10, 0, []),
  (10, .istore_n 3, 11, 0, []),
  (11, .iload_n 3, 12, 0, []),
  (12, .iload_n 2, 13, 0, []),
  (13, .if_icmp .ge 71, 16, 84, []),
  (16, .aload_n 0, 17, 0, []),
  (17, .getfield 63, 20, 0, []),
  (20, .iload_n 3, 21, 0, []),
  (21, .iaload, 22, 0, []),
  (22, .istore 4, 24, 0, []),
  (24, .aload_n 0, 25, 0, []),
  (25, .getfield 50, 28, 0, []),
  (28, .iload 4, 30, 0, []),
  (30, .iaload, 31, 0, []),
  (31, .iconst (-1), 32, 0, []),
  (32, .if_icmp .eq 19, 35, 51, []),
  (35, .aload_n 0, 36, 0, []),
  (36, .getfield 63, 39, 0, []),
  (39, .iload_n 2, 40, 0, []),
  (40, .aload_n 0, 41, 0, []),
  (41, .getfield 50, 44, 0, []),
  (44, .iload 4, 46, 0, []),
  (46, .iaload, 47, 0, []),
  (47, .iastore, 48, 0, []),
  (48, .iinc 2 1, 51, 0, []),
  (51, .aload_n 0, 52, 0, []),
  (52, .getfield 53, 55, 0, []),
  (55, .iload 4, 57, 0, []),
  (57, .iaload, 58, 0, []),
  (58, .iconst (-1), 59, 0, []),
  (59, .if_icmp .eq 19, 62, 78, []),
  (62, .aload_n 0, 63, 0, []),
  (63, .getfield 63, 66, 0, []),
  (66, .iload_n 2, 67, 0, []),
  (67, .aload_n 0, 68, 0, []),
  (68, .getfield 53, 71, 0, []),
  (71, .iload 4, 73, 0, []),
  (73, .iaload, 74, 0, []),
  (74, .iastore, 75, 0, []),
  (75, .iinc 2 1, 78, 0, []),
  (78, .iinc 3 1, 81, 0, []),
  (81, .goto (-70), 84, 11, []),
  (84, .iconst 1, 85, 0, []),
  (85, .istore_n 3, 86, 0, []),
  (86, .iload_n 3, 87, 0, []),
  (87, .aload_n 0, 88, 0, []),
  (88, .getfield 138, 91, 0, []),
  (91, .if_icmp .gt 79, 94, 170, []),
  (94, .iconst 0, 95, 0, []),
  (95, .istore 4, 97, 0, []),
  (97, .iload 4, 99, 0, []),
  (99, .iload_n 2, 100, 0, []),
  (100, .if_icmp .ge 64, 103, 164, []),
  (103, .aload_n 0, 104, 0, []),
  (104, .getfield 63, 107, 0, []),
  (107, .iload 4, 109, 0, []),
  (109, .iaload, 110, 0, []),
  (110, .istore 5, 112, 0, []),
  (112, .aload_n 0, 113, 0, []),
  (113, .getfield 20, 116, 0, []),
  (116, .aload_n 0, 117, 0, []),
  (117, .getfield 38, 120, 0, []),
  (120, .iload 5, 122, 0, []),
  (122, .iaload, 123, 0, []),
  (123, .iaload, 124, 0, []),
  (124, .bipush 19, 126, 0, []),
  (126, .if_icmp .ne 32, 129, 158, []),
  (129, .aload_n 0, 130, 0, []),
  (130, .getfield 60, 133, 0, []),
  (133, .iload 5, 135, 0, []),
  (135, .iaload, 136, 0, []),
  (136, .iload_n 3, 137, 0, []),
  (137, .if_icmp .ne 21, 140, 158, []),
  (140, .aload_n 0, 141, 0, []),
  (141, .aload_n 0, 142, 0, []),
  (142, .getfield 26, 145, 0, []),
  (145, .aload_n 0, 146, 0, []),
  (146, .getfield 38, 149, 0, []),
  (149, .iload 5, 151, 0, []),
  (151, .iaload, 152, 0, []),
  (152, .iaload, 153, 0, []),
  (153, .iload 5, 155, 0, []),
  (155, .invokevirtual 141, 158, 0, []),
  (158, .iinc 4 1, 161, 0, []),
  (161, .goto (-64), 164, 97, []),
  (164, .iinc 3 1, 167, 0, []),
  (167, .goto (-81), 170, 86, []),
  (170, .return_, 171, 0, [])]
def c_Model_match : Nat → Option En := lk [(0, .aload_n 0, 1, 0, []),
  (1, .iconst 0, 2, 0, []),
  (2, .putfield 66, 5, 0, []),
  (5, .iload_n 1, 6, 0, []),
  (6, .invokestatic 73, 9, 0, []),
  (9, .ifCond .eq 11, 12, 20, []),
  (12, .aload_n 0, 13, 0, []),
  (13, .iload_n 2, 14, 0, []),
  (14, .invokevirtual 80, 17, 0, []),
  (17, .ifCond .ne 5, 20, 22, []),
  (20, .iconst (-1), 21, 0, []),
  (21, .ireturn, 22, 0, []),
  (22, .aload_n 0, 23, 0, []),
  (23, .aload_n 0, 24, 0, []),
  (24, .getfield 16, 27, 0, []),
  (27, .iload_n 1, 28, 0, []),
  (28, .iaload, 29, 0, []),
  (29, .putfield 87, 32, 0, []),
  (32, .iconst 0, 33, 0, []),
  (33, .istore 4, 35, 0, []),
  (35, .iload 4, 37, 0, []),
  (37, .aload_n 0, 38, 0, []),
  (38, .getfield 87, 41, 0, []),
  (41, .if_icmp .ge 28, 44, 69, []),
  (44, .aload_n 0, 45, 0, []),
  (45, .getfield 35, 48, 0, []),
  (48, .iload 4, 50, 0, []),
  (50, .aload_n 0, 51, 0, []),
  (51, .getfield 13, 54, 0, []),
  (54, .bipush 64, 56, 0, []),
  (56, .iload_n 1, 57, 0, []),
  (57, .imul, 58, 0, []),
  (58, .iload 4, 60, 0, []),
  (60, .iadd, 61, 0, []),
  (61, .baload, 62, 0, []),
  (62, .bastore, 63, 0, []),
  (63, .iinc 4 1, 66, 0, []),
  (66, .goto (-31), 69, 35, []),
  (69, .aload_n 0, 70, 0, []),
  (70, .iconst 1, 71, 0, []),
  (71, .putfield 157, 74, 0, []),
  (74, .aload_n 0, 75, 0, []),
  (75, .iconst (-1), 76, 0, []),
  (76, .putfield 160, 79, 0, []),
  (79, .aload_n 0, 80, 0, []),
  (80, .iconst (-1), 81, 0, []),
  (81, .putfield 163, 84, 0, []),
  (84, .aload_n 0, 85, 0, []),
  (85, .iconst 0, 86, 0, []),
  (86, .putfield 111, 89, 0, []),
  (89, .aload_n 0, 90, 0, []),
  (90, .iconst 0, 91, 0, []),
  (91, .putfield 138, 94, 0, []),
  (94, .aload_n 0, 95, 0, []),
  (95, .iconst 0, 96, 0, []),
  (96, .putfield 124, 99, 0, []),
  (99, .aload_n 0, 100, 0, []),
  (100, .iconst 0, 101, 0, []),
  (101, .putfield 114, 104, 0, []),
  (104, .iload_n 3, 105, 0, []),
  (105, .ifCond .eq 7, 108, 112, []),
  (108, .iconst 0, 109, 0, []),
  (109, .goto 7, 112, 116, []),
  (112, .aload_n 0, 113, 0, []),
  (113, .getfield 87, 116, 0, []),
  (116, .istore 4, 118, 0, []),
  (118, .iconst (-1), 119, 0, []),
  (119, .istore 5, 121, 0, []),
  (121, .iconst 0, 122, 0, []),
  (122, .istore 6, 124, 0, []),
  (124, .iload 6, 126, 0, []),
  (126, .iload 4, 128, 0, []),
  (128, .if_icmp .gt 38, 131, 166, []),
  (131, .iload 5, 133, 0, []),
  (133, .iconst (-1), 134, 0, []),
  (134, .if_icmp .ne 32, 137, 166, []),
  (137, .aload_n 0, 138, 0, []),
  (138, .getfield 124, 141, 0, []),
  (141, .ifCond .ne 25, 144, 166, []),
  (144, .aload_n 0, 145, 0, []),
  (145, .getfield 114, 148, 0, []),
  (148, .ifCond .ne 18, 151, 166, []),
  (151, .aload_n 0, 152, 0, []),
  (152, .iload_n 2, 153, 0, []),
  (153, .iload 6, 155, 0, []),
  (155, .invokevirtual 166, 158, 0, []),
  (158, .istore 5, 160, 0, []),
  (160, .iinc 6 1, 163, 0, []),
  (163, .goto (-39), 166, 124, []),
  (166, .iload 5, 168, 0, []),
  (168, .iconst (-1), 169, 0, []),
  (169, .if_icmp .eq 33, 172, 202, []),
  (172, .aload_n 0, 173, 0, []),
  (173, .aload_n 0, 174, 0, []),
  (174, .getfield 41, 177, 0, []),
  (177, .iload 5, 179, 0, []),
  (179, .iaload, 180, 0, []),
  (180, .putfield 160, 183, 0, []),
  (183, .aload_n 0, 184, 0, []),
  (184, .aload_n 0, 185, 0, []),
  (185, .getfield 44, 188, 0, []),
  (188, .iload 5, 190, 0, []),
  (190, .iaload, 191, 0, []),
  (191, .putfield 163, 194, 0, []),
  (194, .aload_n 0, 195, 0, []),
  (195, .iload 5, 197, 0, []),
  (197, .invokevirtual 169, 200, 0, []),
  (200, .iconst 1, 201, 0, []),
  (201, .ireturn, 202, 0, []),
  (202, .aload_n 0, 203, 0, []),
  (203, .getfield 124, 206, 0, []),
  (206, .ifCond .eq 7, 209, 213, []),
  (209, .iconst 2, 210, 0, []),
  (210, .goto 15, 213, 225, []),
  (213, .aload_n 0, 214, 0, []),
  (214, .getfield 114, 217, 0, []),
  (217, .ifCond .eq 7, 220, 224, []),
  (220, .iconst 3, 221, 0, []),
  (221, .goto 4, 224, 225, []),
  (224, .iconst 0, 225, 0, []),
  (225, .ireturn, 226, 0, [])]
def c_Model_latest : Nat → Option En := lk [(0, .aload_n 0, 1, 0, []),
  (1, .iconst 0, 2, 0, []),
  (2, .putfield 66, 5, 0, []),
  (5, .aload_n 0, 6, 0, []),
  (6, .getfield 157, 9, 0, []),
  (9, .ifCond .ne 7, 12, 16, []),
  (12, .iconst (-1), 13, 0, []),
  (13, .goto 39, 16, 52, []),
  (16, .iload_n 1, 17, 0, []),
  (17, .ifCond .ne 10, 20, 27, []),
  (20, .aload_n 0, 21, 0, []),
  (21, .getfield 160, 24, 0, []),
  (24, .goto 28, 27, 52, []),
  (27, .iload_n 1, 28, 0, []),
  (28, .iconst 1, 29, 0, []),
  (29, .if_icmp .ne 10, 32, 39, []),
  (32, .aload_n 0, 33, 0, []),
  (33, .getfield 163, 36, 0, []),
  (36, .goto 16, 39, 52, []),
  (39, .iload_n 1, 40, 0, []),
  (40, .iconst 2, 41, 0, []),
  (41, .if_icmp .ne 10, 44, 51, []),
  (44, .aload_n 0, 45, 0, []),
  (45, .getfield 111, 48, 0, []),
  (48, .goto 4, 51, 52, []),
  (51, .iconst (-1), 52, 0, []),
  (52, .ireturn, 53, 0, [])]
def c_Model_replace : Nat → Option En := lk [(0, .aload_n 0, 1, 0, []),
  (1, .iconst 0, 2, 0, []),
  (2, .putfield 66, 5, 0, []),
  (5, .iload_n 1, 6, 0, []),
  (6, .invokestatic 73, 9, 0, []),
  (9, .ifCond .eq 57, 12, 66, []),
  (12, .aload_n 0, 13, 0, []),
  (13, .getfield 157, 16, 0, []),
  (16, .ifCond .eq 50, 19, 66, []),
  (19, .aload_n 0, 20, 0, []),
  (20, .getfield 163, 23, 0, []),
  (23, .iconst (-1), 24, 0, []),
  (24, .if_icmp .eq 42, 27, 66, []),
  (27, .aload_n 0, 28, 0, []),
  (28, .getfield 16, 31, 0, []),
  (31, .iload_n 1, 32, 0, []),
  (32, .iaload, 33, 0, []),
  (33, .aload_n 0, 34, 0, []),
  (34, .getfield 163, 37, 0, []),
  (37, .if_icmp .lt 29, 40, 66, []),
  (40, .aload_n 0, 41, 0, []),
  (41, .getfield 16, 44, 0, []),
  (44, .iload_n 1, 45, 0, []),
  (45, .iaload, 46, 0, []),
  (46, .aload_n 0, 47, 0, []),
  (47, .getfield 163, 50, 0, []),
  (50, .aload_n 0, 51, 0, []),
  (51, .getfield 160, 54, 0, []),
  (54, .isub, 55, 0, []),
  (55, .isub, 56, 0, []),
  (56, .aload_n 0, 57, 0, []),
  (57, .getfield 70, 60, 0, []),
  (60, .iadd, 61, 0, []),
  (61, .bipush 64, 63, 0, []),
  (63, .if_icmp .le 5, 66, 68, []),
  (66, .iconst 0, 67, 0, []),
  (67, .ireturn, 68, 0, []),
  (68, .aload_n 0, 69, 0, []),
  (69, .getfield 16, 72, 0, []),
  (72, .iload_n 1, 73, 0, []),
  (73, .iaload, 74, 0, []),
  (74, .aload_n 0, 75, 0, []),
  (75, .getfield 163, 78, 0, []),
  (78, .isub, 79, 0, []),
  (79, .istore_n 2, 80, 0, []),
  (80, .iconst 0, 81, 0, []),
  (81, .istore_n 3, 82, 0, []),
  (82, .iload_n 3, 83, 0, []),
  (83, .iload_n 2, 84, 0, []),
  (84, .if_icmp .ge 31, 87, 115, []),
  (87, .aload_n 0, 88, 0, []),
  (88, .getfield 35, 91, 0, []),
  (91, .iload_n 3, 92, 0, []),
  (92, .aload_n 0, 93, 0, []),
  (93, .getfield 13, 96, 0, []),
  (96, .bipush 64, 98, 0, []),
  (98, .iload_n 1, 99, 0, []),
  (99, .imul, 100, 0, []),
  (100, .aload_n 0, 101, 0, []),
  (101, .getfield 163, 104, 0, []),
  (104, .iadd, 105, 0, []),
  (105, .iload_n 3, 106, 0, []),
  (106, .iadd, 107, 0, []),
  (107, .baload, 108, 0, []),
  (108, .bastore, 109, 0, []),
  (109, .iinc 3 1, 112, 0, []),
  (112, .goto (-30), 115, 82, []),
  (115, .iconst 0, 116, 0, []),
  (116, .istore_n 3, 117, 0, []),
  (117, .iload_n 3, 118, 0, []),
  (118, .aload_n 0, 119, 0, []),
  (119, .getfield 70, 122, 0, []),
  (122, .if_icmp .ge 31, 125, 153, []),
  (125, .aload_n 0, 126, 0, []),
  (126, .getfield 13, 129, 0, []),
  (129, .bipush 64, 131, 0, []),
  (131, .iload_n 1, 132, 0, []),
  (132, .imul, 133, 0, []),
  (133, .aload_n 0, 134, 0, []),
  (134, .getfield 160, 137, 0, []),
  (137, .iadd, 138, 0, []),
  (138, .iload_n 3, 139, 0, []),
  (139, .iadd, 140, 0, []),
  (140, .aload_n 0, 141, 0, []),
  (141, .getfield 7, 144, 0, []),
  (144, .iload_n 3, 145, 0, []),
  (145, .baload, 146, 0, []),
  (146, .bastore, 147, 0, []),
  (147, .iinc 3 1, 150, 0, []),
  (150, .goto (-33), 153, 117, []),
  (153, .iconst 0, 154, 0, []),
  (154, .istore_n 3, 155, 0, []),
  (155, .iload_n 3, 156, 0, []),
  (156, .iload_n 2, 157, 0, []),
  (157, .if_icmp .ge 36, 160, 193, []),
  (160, .aload_n 0, 161, 0, []),
  (161, .getfield 13, 164, 0, []),
  (164, .bipush 64, 166, 0, []),
  (166, .iload_n 1, 167, 0, []),
  (167, .imul, 168, 0, []),
  (168, .aload_n 0, 169, 0, []),
  (169, .getfield 160, 172, 0, []),
  (172, .iadd, 173, 0, []),
  (173, .aload_n 0, 174, 0, []),
  (174, .getfield 70, 177, 0, []),
  (177, .iadd, 178, 0, []),
  (178, .iload_n 3, 179, 0, []),
  (179, .iadd, 180, 0, []),
  (180, .aload_n 0, 181, 0, []),
  (181, .getfield 35, 184, 0, []),
  (184, .iload_n 3, 185, 0, []),
  (185, .baload, 186, 0, []),
  (186, .bastore, 187, 0, []),
  (187, .iinc 3 1, 190, 0, []),
  (190, .goto (-35), 193, 155, []),
  (193, .aload_n 0, 194, 0, []),
  (194, .getfield 16, 197, 0, []),
  (197, .iload_n 1, 198, 0, []),
  (198, .aload_n 0, 199, 0, []),
  (199, .getfield 160, 202, 0, []),
  (202, .aload_n 0, 203, 0, []),
  (203, .getfield 70, 206, 0, []),
  (206, .iadd, 207, 0, []),
  (207, .iload_n 2, 208, 0, []),
  (208, .iadd, 209, 0, []),
  (209, .iastore, 210, 0, []),
  (210, .aload_n 0, 211, 0, []),
  (211, .iconst 0, 212, 0, []),
  (212, .putfield 70, 215, 0, []),
  (215, .iconst 1, 216, 0, []),
  (216, .ireturn, 217, 0, [])]
def c_Choices_init : Nat → Option En := lk [(0, .aload_n 0, 1, 0, []),
  (1, .invokespecial 1, 4, 0, []),
  (4, .aload_n 0, 5, 0, []),
  (5, .sipush 4096, 8, 0, []),
  (8, .newarray .byte, 10, 0, []),
  (10, .putfield 9, 13, 0, []),
  (13, .aload_n 0, 14, 0, []),
  (14, .sipush 4096, 17, 0, []),
  (17, .newarray .int, 19, 0, []),
  (19, .putfield 13, 22, 0, []),
  (22, .aload_n 0, 23, 0, []),
  (23, .sipush 4096, 26, 0, []),
  (26, .newarray .int, 28, 0, []),
  (28, .putfield 17, 31, 0, []),
  (31, .aload_n 0, 32, 0, []),
  (32, .sipush 4096, 35, 0, []),
  (35, .newarray .int, 37, 0, []),
  (37, .putfield 20, 40, 0, []),
  (40, .aload_n 0, 41, 0, []),
  (41, .sipush 4096, 44, 0, []),
  (44, .newarray .int, 46, 0, []),
  (46, .putfield 23, 49, 0, []),
  (49, .aload_n 0, 50, 0, []),
  (50, .sipush 4096, 53, 0, []),
  (53, .newarray .int, 55, 0, []),
  (55, .putfield 26, 58, 0, []),
  (58, .return_, 59, 0, [])]
def c_Goals_init : Nat → Option En := lk [(0, .aload_n 0, 1, 0, []),
  (1, .invokespecial 1, 4, 0, []),
  (4, .aload_n 0, 5, 0, []),
  (5, .sipush 8192, 8, 0, []),
  (8, .newarray .byte, 10, 0, []),
  (10, .putfield 9, 13, 0, []),
  (13, .aload_n 0, 14, 0, []),
  (14, .sipush 8192, 17, 0, []),
  (17, .newarray .int, 19, 0, []),
  (19, .putfield 13, 22, 0, []),
  (22, .aload_n 0, 23, 0, []),
  (23, .sipush 8192, 26, 0, []),
  (26, .newarray .int, 28, 0, []),
  (28, .putfield 17, 31, 0, []),
  (31, .aload_n 0, 32, 0, []),
  (32, .sipush 8192, 35, 0, []),
  (35, .newarray .int, 37, 0, []),
  (37, .putfield 20, 40, 0, []),
  (40, .return_, 41, 0, [])]
def c_Goals_add : Nat → Option En := lk [(0, .aload_n 0, 1, 0, []),
  (1, .getfield 9, 4, 0, []),
  (4, .aload_n 0, 5, 0, []),
  (5, .getfield 23, 8, 0, []),
  (8, .iload_n 1, 9, 0, []),
  (9, .i2b, 10, 0, []),
  (10, .bastore, 11, 0, []),
  (11, .aload_n 0, 12, 0, []),
  (12, .getfield 13, 15, 0, []),
  (15, .aload_n 0, 16, 0, []),
  (16, .getfield 23, 19, 0, []),
  (19, .iload_n 2, 20, 0, []),
  (20, .iastore, 21, 0, []),
  (21, .aload_n 0, 22, 0, []),
  (22, .getfield 17, 25, 0, []),
  (25, .aload_n 0, 26, 0, []),
  (26, .getfield 23, 29, 0, []),
  (29, .iload_n 3, 30, 0, []),
  (30, .iastore, 31, 0, []),
  (31, .aload_n 0, 32, 0, []),
  (32, .getfield 20, 35, 0, []),
  (35, .aload_n 0, 36, 0, []),
  (36, .getfield 23, 39, 0, []),
  (39, .iload 4, 41, 0, []),
  (41, .iastore, 42, 0, []),
  (42, .aload_n 0, 43, 0, []),
  (43, .dup, 44, 0, []),
  (44, .getfield 23, 47, 0, []),
  (47, .iconst 1, 48, 0, []),
  (48, .iadd, 49, 0, []),
  (49, .putfield 23, 52, 0, []),
  (52, .aload_n 0, 53, 0, []),
  (53, .getfield 23, 56, 0, []),
  (56, .iconst 1, 57, 0, []),
  (57, .isub, 58, 0, []),
  (58, .ireturn, 59, 0, [])]
def c_Kept_init : Nat → Option En := lk [(0, .aload_n 0, 1, 0, []),
  (1, .invokespecial 1, 4, 0, []),
  (4, .aload_n 0, 5, 0, []),
  (5, .sipush 8192, 8, 0, []),
  (8, .newarray .int, 10, 0, []),
  (10, .putfield 9, 13, 0, []),
  (13, .aload_n 0, 14, 0, []),
  (14, .sipush 8192, 17, 0, []),
  (17, .newarray .int, 19, 0, []),
  (19, .putfield 15, 22, 0, []),
  (22, .aload_n 0, 23, 0, []),
  (23, .sipush 8192, 26, 0, []),
  (26, .newarray .int, 28, 0, []),
  (28, .putfield 18, 31, 0, []),
  (31, .return_, 32, 0, [])]
def c_Kept_add : Nat → Option En := lk [(0, .aload_n 0, 1, 0, []),
  (1, .getfield 9, 4, 0, []),
  (4, .aload_n 0, 5, 0, []),
  (5, .getfield 21, 8, 0, []),
  (8, .iload_n 1, 9, 0, []),
  (9, .iastore, 10, 0, []),
  (10, .aload_n 0, 11, 0, []),
  (11, .getfield 15, 14, 0, []),
  (14, .aload_n 0, 15, 0, []),
  (15, .getfield 21, 18, 0, []),
  (18, .iload_n 2, 19, 0, []),
  (19, .iastore, 20, 0, []),
  (20, .aload_n 0, 21, 0, []),
  (21, .getfield 18, 24, 0, []),
  (24, .aload_n 0, 25, 0, []),
  (25, .getfield 21, 28, 0, []),
  (28, .iload_n 3, 29, 0, []),
  (29, .iastore, 30, 0, []),
  (30, .aload_n 0, 31, 0, []),
  (31, .dup, 32, 0, []),
  (32, .getfield 21, 35, 0, []),
  (35, .iconst 1, 36, 0, []),
  (36, .iadd, 37, 0, []),
  (37, .putfield 21, 40, 0, []),
  (40, .return_, 41, 0, [])]
def c_Kind_fits : Nat → Option En := lk [(0, .iload_n 0, 1, 0, []),
  (1, .tableswitch 74 0 3 #[31, 33, 43, 58], 32, 75, [(0, 32), (1, 34), (2, 44), (3, 59)]),
  (32, .iconst 1, 33, 0, []),
  (33, .ireturn, 34, 0, []),
  (34, .iload_n 1, 35, 0, []),
  (35, .ifCond .lt 7, 38, 42, []),
  (38, .iconst 1, 39, 0, []),
  (39, .goto 4, 42, 43, []),
  (42, .iconst 0, 43, 0, []),
  (43, .ireturn, 44, 0, []),
  (44, .iload_n 1, 45, 0, []),
  (45, .ifCond .lt 12, 48, 57, []),
  (48, .iload_n 1, 49, 0, []),
  (49, .iload_n 2, 50, 0, []),
  (50, .if_icmp .ge 7, 53, 57, []),
  (53, .iconst 1, 54, 0, []),
  (54, .goto 4, 57, 58, []),
  (57, .iconst 0, 58, 0, []),
  (58, .ireturn, 59, 0, []),
  (59, .iload_n 1, 60, 0, []),
  (60, .ifCond .lt 13, 63, 73, []),
  (63, .iload_n 1, 64, 0, []),
  (64, .bipush 8, 66, 0, []),
  (66, .if_icmp .ge 7, 69, 73, []),
  (69, .iconst 1, 70, 0, []),
  (70, .goto 4, 73, 74, []),
  (73, .iconst 0, 74, 0, []),
  (74, .ireturn, 75, 0, []),
  (75, .iload_n 1, 76, 0, []),
  (76, .ifCond .lt 13, 79, 89, []),
  (79, .iload_n 1, 80, 0, []),
  (80, .bipush 64, 82, 0, []),
  (82, .if_icmp .ge 7, 85, 89, []),
  (85, .iconst 1, 86, 0, []),
  (86, .goto 4, 89, 90, []),
  (89, .iconst 0, 90, 0, []),
  (90, .ireturn, 91, 0, [])]
def c_Kind_suits : Nat → Option En := lk [(0, .aload_n 0, 1, 0, []),
  (1, .getfield 101, 4, 0, []),
  (4, .iload_n 1, 5, 0, []),
  (5, .iload_n 3, 6, 0, []),
  (6, .invokestatic 110, 9, 0, []),
  (9, .ifCond .eq 19, 12, 28, []),
  (12, .aload_n 0, 13, 0, []),
  (13, .getfield 105, 16, 0, []),
  (16, .iload_n 2, 17, 0, []),
  (17, .iload_n 3, 18, 0, []),
  (18, .invokestatic 110, 21, 0, []),
  (21, .ifCond .eq 7, 24, 28, []),
  (24, .iconst 1, 25, 0, []),
  (25, .goto 4, 28, 29, []),
  (28, .iconst 0, 29, 0, []),
  (29, .ireturn, 30, 0, [])]
def c_Matcher_init : Nat → Option En := lk [(0, .aload_n 0, 1, 0, []),
  (1, .invokespecial 1, 4, 0, []),
  (4, .aload_n 0, 5, 0, []),
  (5, .new 7, 8, 0, []),
  (8, .dup, 9, 0, []),
  (9, .invokespecial 9, 12, 0, []),
  (12, .putfield 10, 15, 0, []),
  (15, .aload_n 0, 16, 0, []),
  (16, .new 16, 19, 0, []),
  (19, .dup, 20, 0, []),
  (20, .invokespecial 18, 23, 0, []),
  (23, .putfield 19, 26, 0, []),
  (26, .aload_n 0, 27, 0, []),
  (27, .new 23, 30, 0, []),
  (30, .dup, 31, 0, []),
  (31, .invokespecial 25, 34, 0, []),
  (34, .putfield 26, 37, 0, []),
  (37, .aload_n 0, 38, 0, []),
  (38, .new 30, 41, 0, []),
  (41, .dup, 42, 0, []),
  (42, .invokespecial 32, 45, 0, []),
  (45, .putfield 33, 48, 0, []),
  (48, .aload_n 0, 49, 0, []),
  (49, .aload_n 1, 50, 0, []),
  (50, .putfield 37, 53, 0, []),
  (53, .aload_n 0, 54, 0, []),
  (54, .aload_n 2, 55, 0, []),
  (55, .putfield 41, 58, 0, []),
  (58, .return_, 59, 0, [])]
def c_Matcher_choose : Nat → Option En := lk [(0, .aload_n 0, 1, 0, []),
  (1, .getfield 26, 4, 0, []),
  (4, .astore 5, 6, 0, []),
  (6, .aload 5, 8, 0, []),
  (8, .getfield 45, 11, 0, []),
  (11, .aload 5, 13, 0, []),
  (13, .getfield 49, 16, 0, []),
  (16, .iload_n 1, 17, 0, []),
  (17, .i2b, 18, 0, []),
  (18, .bastore, 19, 0, []),
  (19, .aload 5, 21, 0, []),
  (21, .getfield 53, 24, 0, []),
  (24, .aload 5, 26, 0, []),
  (26, .getfield 49, 29, 0, []),
  (29, .iload_n 2, 30, 0, []),
  (30, .iastore, 31, 0, []),
  (31, .aload 5, 33, 0, []),
  (33, .getfield 57, 36, 0, []),
  (36, .aload 5, 38, 0, []),
  (38, .getfield 49, 41, 0, []),
  (41, .iload_n 3, 42, 0, []),
  (42, .iastore, 43, 0, []),
  (43, .aload 5, 45, 0, []),
  (45, .getfield 59, 48, 0, []),
  (48, .aload 5, 50, 0, []),
  (50, .getfield 49, 53, 0, []),
  (53, .aload_n 0, 54, 0, []),
  (54, .getfield 19, 57, 0, []),
  (57, .getfield 62, 60, 0, []),
  (60, .iastore, 61, 0, []),
  (61, .aload 5, 63, 0, []),
  (63, .getfield 65, 66, 0, []),
  (66, .aload 5, 68, 0, []),
  (68, .getfield 49, 71, 0, []),
  (71, .aload_n 0, 72, 0, []),
  (72, .getfield 33, 75, 0, []),
  (75, .getfield 68, 78, 0, []),
  (78, .iastore, 79, 0, []),
  (79, .aload 5, 81, 0, []),
  (81, .getfield 69, 84, 0, []),
  (84, .aload 5, 86, 0, []),
  (86, .getfield 49, 89, 0, []),
  (89, .iload 4, 91, 0, []),
  (91, .iastore, 92, 0, []),
  (92, .aload 5, 94, 0, []),
  (94, .dup, 95, 0, []),
  (95, .getfield 49, 98, 0, []),
  (98, .iconst 1, 99, 0, []),
  (99, .iadd, 100, 0, []),
  (100, .putfield 49, 103, 0, []),
  (103, .return_, 104, 0, [])]
def c_Matcher_back : Nat → Option En := lk [(0, .aload_n 0, 1, 0, []),
  (1, .getfield 26, 4, 0, []),
  (4, .getfield 49, 7, 0, []),
  (7, .ifCond .ne 10, 10, 17, []),
  (10, .aload_n 0, 11, 0, []),
  (11, .iconst 0, 12, 0, []),
  (12, .putfield 72, 15, 0, []),
  (15, .iconst 0, 16, 0, []),
  (16, .ireturn, 17, 0, []),
  (17, .aload_n 0, 18, 0, []),
  (18, .getfield 26, 21, 0, []),
  (21, .astore_n 1, 22, 0, []),
  (22, .aload_n 1, 23, 0, []),
  (23, .dup, 24, 0, []),
  (24, .getfield 49, 27, 0, []),
  (27, .iconst 1, 28, 0, []),
  (28, .isub, 29, 0, []),
  (29, .putfield 49, 32, 0, []),
  (32, .aload_n 1, 33, 0, []),
  (33, .getfield 49, 36, 0, []),
  (36, .istore_n 2, 37, 0, []),
  (37, .aload_n 0, 38, 0, []),
  (38, .getfield 19, 41, 0, []),
  (41, .aload_n 1, 42, 0, []),
  (42, .getfield 59, 45, 0, []),
  (45, .iload_n 2, 46, 0, []),
  (46, .iaload, 47, 0, []),
  (47, .putfield 62, 50, 0, []),
  (50, .aload_n 0, 51, 0, []),
  (51, .getfield 33, 54, 0, []),
  (54, .aload_n 1, 55, 0, []),
  (55, .getfield 65, 58, 0, []),
  (58, .iload_n 2, 59, 0, []),
  (59, .iaload, 60, 0, []),
  (60, .putfield 68, 63, 0, []),
  (63, .aload_n 0, 64, 0, []),
  (64, .aload_n 1, 65, 0, []),
  (65, .getfield 53, 68, 0, []),
  (68, .iload_n 2, 69, 0, []),
  (69, .iaload, 70, 0, []),
  (70, .putfield 75, 73, 0, []),
  (73, .aload_n 0, 74, 0, []),
  (74, .aload_n 1, 75, 0, []),
  (75, .getfield 57, 78, 0, []),
  (78, .iload_n 2, 79, 0, []),
  (79, .iaload, 80, 0, []),
  (80, .putfield 78, 83, 0, []),
  (83, .aload_n 1, 84, 0, []),
  (84, .getfield 45, 87, 0, []),
  (87, .iload_n 2, 88, 0, []),
  (88, .baload, 89, 0, []),
  (89, .tableswitch 66 1 3 #[34, 40, 27], 116, 155, [(1, 123), (2, 129), (3, 116)]),
  (116, .aload_n 0, 117, 0, []),
  (117, .iconst 2, 118, 0, []),
  (118, .putfield 72, 121, 0, []),
  (121, .iconst 0, 122, 0, []),
  (122, .ireturn, 123, 0, []),
  (123, .aload_n 0, 124, 0, []),
  (124, .invokevirtual 81, 127, 0, []),
  (127, .iconst 1, 128, 0, []),
  (128, .ireturn, 129, 0, []),
  (129, .aload_n 0, 130, 0, []),
  (130, .aload_n 1, 131, 0, []),
  (131, .getfield 69, 134, 0, []),
  (134, .iload_n 2, 135, 0, []),
  (135, .iaload, 136, 0, []),
  (136, .invokevirtual 84, 139, 0, []),
  (139, .ifCond .ne 10, 142, 149, []),
  (142, .aload_n 0, 143, 0, []),
  (143, .invokevirtual 88, 146, 0, []),
  (146, .ifCond .eq 7, 149, 153, []),
  (149, .iconst 1, 150, 0, []),
  (150, .goto 4, 153, 154, []),
  (153, .iconst 0, 154, 0, []),
  (154, .ireturn, 155, 0, []),
  (155, .iconst 1, 156, 0, []),
  (156, .ireturn, 157, 0, [])]
def c_Matcher_further : Nat → Option En := lk [(0, .aload_n 0, 1, 0, []),
  (1, .dup, 2, 0, []),
  (2, .getfield 75, 5, 0, []),
  (5, .iconst 1, 6, 0, []),
  (6, .iadd, 7, 0, []),
  (7, .putfield 75, 10, 0, []),
  (10, .aload_n 0, 11, 0, []),
  (11, .getfield 75, 14, 0, []),
  (14, .aload_n 0, 15, 0, []),
  (15, .getfield 10, 18, 0, []),
  (18, .getfield 92, 21, 0, []),
  (21, .if_icmp .ge 17, 24, 38, []),
  (24, .aload_n 0, 25, 0, []),
  (25, .iconst 1, 26, 0, []),
  (26, .aload_n 0, 27, 0, []),
  (27, .getfield 75, 30, 0, []),
  (30, .aload_n 0, 31, 0, []),
  (31, .getfield 78, 34, 0, []),
  (34, .iconst 0, 35, 0, []),
  (35, .invokevirtual 93, 38, 0, []),
  (38, .return_, 39, 0, [])]
def c_Matcher_balances : Nat → Option En := lk [(0, .iload_n 1, 1, 0, []),
  (1, .istore_n 2, 2, 0, []),
  (2, .aload_n 0, 3, 0, []),
  (3, .getfield 75, 6, 0, []),
  (6, .aload_n 0, 7, 0, []),
  (7, .getfield 10, 10, 0, []),
  (10, .getfield 92, 13, 0, []),
  (13, .if_icmp .ge 79, 16, 92, []),
  (16, .aload_n 0, 17, 0, []),
  (17, .getfield 10, 20, 0, []),
  (20, .getfield 97, 23, 0, []),
  (23, .aload_n 0, 24, 0, []),
  (24, .getfield 75, 27, 0, []),
  (27, .baload, 28, 0, []),
  (28, .istore_n 3, 29, 0, []),
  (29, .iload_n 2, 30, 0, []),
  (30, .iload_n 3, 31, 0, []),
  (31, .bipush 40, 33, 0, []),
  (33, .if_icmp .ne 7, 36, 40, []),
  (36, .iconst 1, 37, 0, []),
  (37, .goto 14, 40, 51, []),
  (40, .iload_n 3, 41, 0, []),
  (41, .bipush 41, 43, 0, []),
  (43, .if_icmp .ne 7, 46, 50, []),
  (46, .iconst (-1), 47, 0, []),
  (47, .goto 4, 50, 51, []),
  (50, .iconst 0, 51, 0, []),
  (51, .iadd, 52, 0, []),
  (52, .istore_n 2, 53, 0, []),
  (53, .iload_n 2, 54, 0, []),
  (54, .ifCond .ge 5, 57, 59, []),
  (57, .iconst 0, 58, 0, []),
  (58, .ireturn, 59, 0, []),
  (59, .aload_n 0, 60, 0, []),
  (60, .dup, 61, 0, []),
  (61, .getfield 75, 64, 0, []),
  (64, .iconst 1, 65, 0, []),
  (65, .iadd, 66, 0, []),
  (66, .putfield 75, 69, 0, []),
  (69, .iload_n 2, 70, 0, []),
  (70, .ifCond .le 6, 73, 76, []),
  (73, .goto (-71), 76, 2, []),
  (76, .aload_n 0, 77, 0, []),
  (77, .iconst 2, 78, 0, []),
  (78, .aload_n 0, 79, 0, []),
  (79, .getfield 75, 82, 0, []),
  (82, .aload_n 0, 83, 0, []),
  (83, .getfield 78, 86, 0, []),
  (86, .iconst 0, 87, 0, []),
  (87, .invokevirtual 93, 90, 0, []),
  (90, .iconst 1, 91, 0, []),
  (91, .ireturn, 92, 0, []),
  (92, .iconst 0, 93, 0, []),
  (93, .ireturn, 94, 0, [])]
def c_Matcher_goes : Nat → Option En := lk [(0, .iload_n 1, 1, 0, []),
  (1, .ifCond .ne 8, 4, 9, []),
  (4, .aload_n 0, 5, 0, []),
  (5, .invokevirtual 88, 8, 0, []),
  (8, .ireturn, 9, 0, []),
  (9, .aload_n 0, 10, 0, []),
  (10, .iload_n 2, 11, 0, []),
  (11, .putfield 75, 14, 0, []),
  (14, .iconst 1, 15, 0, []),
  (15, .ireturn, 16, 0, [])]
def c_Matcher_run : Nat → Option En := lk [(0, .aload_n 0, 1, 0, []),
  (1, .getfield 75, 4, 0, []),
  (4, .istore_n 2, 5, 0, []),
  (5, .iload_n 2, 6, 0, []),
  (6, .aload_n 0, 7, 0, []),
  (7, .getfield 10, 10, 0, []),
  (10, .getfield 92, 13, 0, []),
  (13, .if_icmp .ge 25, 16, 38, []),
  (16, .aload_n 1, 17, 0, []),
  (17, .aload_n 0, 18, 0, []),
  (18, .getfield 10, 21, 0, []),
  (21, .getfield 97, 24, 0, []),
  (24, .iload_n 2, 25, 0, []),
  (25, .baload, 26, 0, []),
  (26, .invokevirtual 100, 29, 0, []),
  (29, .ifCond .eq 9, 32, 38, []),
  (32, .iinc 2 1, 35, 0, []),
  (35, .goto (-30), 38, 5, []),
  (38, .iload_n 2, 39, 0, []),
  (39, .ireturn, 40, 0, [])]
def c_Matcher_breaks : Nat → Option En := lk [(0, .aload_n 0, 1, 0, []),
  (1, .getfield 75, 4, 0, []),
  (4, .istore_n 2, 5, 0, []),
  (5, .iload_n 2, 6, 0, []),
  (6, .aload_n 0, 7, 0, []),
  (7, .getfield 10, 10, 0, []),
  (10, .getfield 92, 13, 0, []),
  (13, .if_icmp .ge 25, 16, 38, []),
  (16, .aload_n 1, 17, 0, []),
  (17, .aload_n 0, 18, 0, []),
  (18, .getfield 10, 21, 0, []),
  (21, .getfield 97, 24, 0, []),
  (24, .iload_n 2, 25, 0, []),
  (25, .baload, 26, 0, []),
  (26, .invokevirtual 100, 29, 0, []),
  (29, .ifCond .ne 9, 32, 38, []),
  (32, .iinc 2 1, 35, 0, []),
  (35, .goto (-30), 38, 5, []),
  (38, .iload_n 2, 39, 0, []),
  (39, .ireturn, 40, 0, [])]
def c_Matcher_isSign : Nat → Option En := lk [(0, .aload_n 0, 1, 0, []),
  (1, .getfield 75, 4, 0, []),
  (4, .aload_n 0, 5, 0, []),
  (5, .getfield 10, 8, 0, []),
  (8, .getfield 92, 11, 0, []),
  (11, .if_icmp .ge 27, 14, 38, []),
  (14, .aload_n 1, 15, 0, []),
  (15, .aload_n 0, 16, 0, []),
  (16, .getfield 10, 19, 0, []),
  (19, .getfield 97, 22, 0, []),
  (22, .aload_n 0, 23, 0, []),
  (23, .getfield 75, 26, 0, []),
  (26, .baload, 27, 0, []),
  (27, .invokevirtual 100, 30, 0, []),
  (30, .iload_n 2, 31, 0, []),
  (31, .if_icmp .ne 7, 34, 38, []),
  (34, .iconst 1, 35, 0, []),
  (35, .goto 4, 38, 39, []),
  (38, .iconst 0, 39, 0, []),
  (39, .ireturn, 40, 0, [])]
def c_Matcher_begins : Nat → Option En := lk [(0, .aload_n 0, 1, 0, []),
  (1, .getfield 104, 4, 0, []),
  (4, .sipush 3000, 7, 0, []),
  (7, .if_icmp .ne 10, 10, 17, []),
  (10, .aload_n 0, 11, 0, []),
  (11, .iconst 3, 12, 0, []),
  (12, .putfield 72, 15, 0, []),
  (15, .iconst 0, 16, 0, []),
  (16, .ireturn, 17, 0, []),
  (17, .aload_n 0, 18, 0, []),
  (18, .dup, 19, 0, []),
  (19, .getfield 104, 22, 0, []),
  (22, .iconst 1, 23, 0, []),
  (23, .iadd, 24, 0, []),
  (24, .putfield 104, 27, 0, []),
  (27, .aload_n 0, 28, 0, []),
  (28, .getfield 37, 31, 0, []),
  (31, .getfield 107, 34, 0, []),
  (34, .iload_n 1, 35, 0, []),
  (35, .iaload, 36, 0, []),
  (36, .istore_n 2, 37, 0, []),
  (37, .aload_n 0, 38, 0, []),
  (38, .getfield 37, 41, 0, []),
  (41, .getfield 112, 44, 0, []),
  (44, .iload_n 1, 45, 0, []),
  (45, .aaload, 46, 0, []),
  (46, .astore_n 3, 47, 0, []),
  (47, .aload_n 0, 48, 0, []),
  (48, .getfield 10, 51, 0, []),
  (51, .getfield 92, 54, 0, []),
  (54, .istore 4, 56, 0, []),
  (56, .aload_n 0, 57, 0, []),
  (57, .getfield 37, 60, 0, []),
  (60, .getfield 115, 63, 0, []),
  (63, .iload_n 1, 64, 0, []),
  (64, .aaload, 65, 0, []),
  (65, .invokevirtual 118, 68, 0, []),
  (68, .tableswitch 377 0 22 #[108, 134, 151, 168, 184, 209, 236, 258, 283, 308, 333, 377, 377, 377, 377, 377, 377, 377, 377, 377, 377, 377, 341], 176, 445, [(0, 176), (1, 202), (2, 219), (3, 236), (4, 252), (5, 277), (6, 304), (7, 326), (8, 351), (9, 376), (10, 401), (11, 445), (12, 445), (13, 445), (14, 445), (15, 445), (16, 445), (17, 445), (18, 445), (19, 445), (20, 445), (21, 445), (22, 409)]),
  (176, .aload_n 0, 177, 0, []),
  (177, .aload_n 3, 178, 0, []),
  (178, .aload_n 0, 179, 0, []),
  (179, .getfield 10, 182, 0, []),
  (182, .aload_n 0, 183, 0, []),
  (183, .getfield 75, 186, 0, []),
  (186, .invokevirtual 124, 189, 0, []),
  (189, .aload_n 0, 190, 0, []),
  (190, .getfield 75, 193, 0, []),
  (193, .aload_n 3, 194, 0, []),
  (194, .getfield 92, 197, 0, []),
  (197, .iadd, 198, 0, []),
  (198, .invokevirtual 128, 201, 0, []),
  (201, .ireturn, 202, 0, []),
  (202, .aload_n 0, 203, 0, []),
  (203, .aload_n 0, 204, 0, []),
  (204, .aload_n 3, 205, 0, []),
  (205, .iconst 1, 206, 0, []),
  (206, .invokevirtual 132, 209, 0, []),
  (209, .aload_n 0, 210, 0, []),
  (210, .getfield 75, 213, 0, []),
  (213, .iconst 1, 214, 0, []),
  (214, .iadd, 215, 0, []),
  (215, .invokevirtual 128, 218, 0, []),
  (218, .ireturn, 219, 0, []),
  (219, .aload_n 0, 220, 0, []),
  (220, .aload_n 0, 221, 0, []),
  (221, .aload_n 3, 222, 0, []),
  (222, .iconst 0, 223, 0, []),
  (223, .invokevirtual 132, 226, 0, []),
  (226, .aload_n 0, 227, 0, []),
  (227, .getfield 75, 230, 0, []),
  (230, .iconst 1, 231, 0, []),
  (231, .iadd, 232, 0, []),
  (232, .invokevirtual 128, 235, 0, []),
  (235, .ireturn, 236, 0, []),
  (236, .aload_n 0, 237, 0, []),
  (237, .aload_n 0, 238, 0, []),
  (238, .aload_n 3, 239, 0, []),
  (239, .iconst 1, 240, 0, []),
  (240, .invokevirtual 132, 243, 0, []),
  (243, .aload_n 0, 244, 0, []),
  (244, .aload_n 3, 245, 0, []),
  (245, .invokevirtual 136, 248, 0, []),
  (248, .invokevirtual 128, 251, 0, []),
  (251, .ireturn, 252, 0, []),
  (252, .aload_n 0, 253, 0, []),
  (253, .aload_n 0, 254, 0, []),
  (254, .aload_n 3, 255, 0, []),
  (255, .invokevirtual 140, 258, 0, []),
  (258, .iload 4, 260, 0, []),
  (260, .if_icmp .ge 7, 263, 267, []),
  (263, .iconst 1, 264, 0, []),
  (264, .goto 4, 267, 268, []),
  (267, .iconst 0, 268, 0, []),
  (268, .aload_n 0, 269, 0, []),
  (269, .aload_n 3, 270, 0, []),
  (270, .invokevirtual 140, 273, 0, []),
  (273, .invokevirtual 128, 276, 0, []),
  (276, .ireturn, 277, 0, []),
  (277, .aload_n 0, 278, 0, []),
  (278, .iload_n 2, 279, 0, []),
  (279, .iload 4, 281, 0, []),
  (281, .aload_n 0, 282, 0, []),
  (282, .getfield 75, 285, 0, []),
  (285, .isub, 286, 0, []),
  (286, .if_icmp .gt 7, 289, 293, []),
  (289, .iconst 1, 290, 0, []),
  (290, .goto 4, 293, 294, []),
  (293, .iconst 0, 294, 0, []),
  (294, .aload_n 0, 295, 0, []),
  (295, .getfield 75, 298, 0, []),
  (298, .iload_n 2, 299, 0, []),
  (299, .iadd, 300, 0, []),
  (300, .invokevirtual 128, 303, 0, []),
  (303, .ireturn, 304, 0, []),
  (304, .aload_n 0, 305, 0, []),
  (305, .aload_n 0, 306, 0, []),
  (306, .getfield 75, 309, 0, []),
  (309, .iload_n 2, 310, 0, []),
  (310, .if_icmp .ne 7, 313, 317, []),
  (313, .iconst 1, 314, 0, []),
  (314, .goto 4, 317, 318, []),
  (317, .iconst 0, 318, 0, []),
  (318, .aload_n 0, 319, 0, []),
  (319, .getfield 75, 322, 0, []),
  (322, .invokevirtual 128, 325, 0, []),
  (325, .ireturn, 326, 0, []),
  (326, .aload_n 0, 327, 0, []),
  (327, .aload_n 0, 328, 0, []),
  (328, .getfield 75, 331, 0, []),
  (331, .iload 4, 333, 0, []),
  (333, .iload_n 2, 334, 0, []),
  (334, .isub, 335, 0, []),
  (335, .if_icmp .ne 7, 338, 342, []),
  (338, .iconst 1, 339, 0, []),
  (339, .goto 4, 342, 343, []),
  (342, .iconst 0, 343, 0, []),
  (343, .aload_n 0, 344, 0, []),
  (344, .getfield 75, 347, 0, []),
  (347, .invokevirtual 128, 350, 0, []),
  (350, .ireturn, 351, 0, []),
  (351, .aload_n 0, 352, 0, []),
  (352, .iload_n 2, 353, 0, []),
  (353, .aload_n 0, 354, 0, []),
  (354, .getfield 75, 357, 0, []),
  (357, .if_icmp .lt 13, 360, 370, []),
  (360, .iload_n 2, 361, 0, []),
  (361, .iload 4, 363, 0, []),
  (363, .if_icmp .gt 7, 366, 370, []),
  (366, .iconst 1, 367, 0, []),
  (367, .goto 4, 370, 371, []),
  (370, .iconst 0, 371, 0, []),
  (371, .iload_n 2, 372, 0, []),
  (372, .invokevirtual 128, 375, 0, []),
  (375, .ireturn, 376, 0, []),
  (376, .aload_n 0, 377, 0, []),
  (377, .iload 4, 379, 0, []),
  (379, .iload_n 2, 380, 0, []),
  (380, .isub, 381, 0, []),
  (381, .aload_n 0, 382, 0, []),
  (382, .getfield 75, 385, 0, []),
  (385, .if_icmp .lt 7, 388, 392, []),
  (388, .iconst 1, 389, 0, []),
  (389, .goto 4, 392, 393, []),
  (392, .iconst 0, 393, 0, []),
  (393, .iload 4, 395, 0, []),
  (395, .iload_n 2, 396, 0, []),
  (396, .isub, 397, 0, []),
  (397, .invokevirtual 128, 400, 0, []),
  (400, .ireturn, 401, 0, []),
  (401, .aload_n 0, 402, 0, []),
  (402, .iconst 1, 403, 0, []),
  (403, .iload 4, 405, 0, []),
  (405, .invokevirtual 128, 408, 0, []),
  (408, .ireturn, 409, 0, []),
  (409, .aload_n 0, 410, 0, []),
  (410, .aload_n 0, 411, 0, []),
  (411, .getfield 41, 414, 0, []),
  (414, .iload_n 2, 415, 0, []),
  (415, .aaload, 416, 0, []),
  (416, .aload_n 0, 417, 0, []),
  (417, .getfield 10, 420, 0, []),
  (420, .aload_n 0, 421, 0, []),
  (421, .getfield 75, 424, 0, []),
  (424, .invokevirtual 124, 427, 0, []),
  (427, .aload_n 0, 428, 0, []),
  (428, .getfield 75, 431, 0, []),
  (431, .aload_n 0, 432, 0, []),
  (432, .getfield 41, 435, 0, []),
  (435, .iload_n 2, 436, 0, []),
  (436, .aaload, 437, 0, []),
  (437, .getfield 92, 440, 0, []),
  (440, .iadd, 441, 0, []),
  (441, .invokevirtual 128, 444, 0, []),
  (444, .ireturn, 445, 0, []),
  (445, .aload_n 0, 446, 0, []),
  (446, .iload_n 1, 447, 0, []),
  (447, .iload_n 2, 448, 0, []),
  (448, .aload_n 0, 449, 0, []),
  (449, .getfield 37, 452, 0, []),
  (452, .getfield 143, 455, 0, []),
  (455, .iload_n 1, 456, 0, []),
  (456, .iaload, 457, 0, []),
  (457, .invokevirtual 146, 460, 0, []),
  (460, .ireturn, 461, 0, [])]
def c_Matcher_composes : Nat → Option En := lk [(0, .aload_n 0, 1, 0, []),
  (1, .getfield 37, 4, 0, []),
  (4, .getfield 115, 7, 0, []),
  (7, .iload_n 1, 8, 0, []),
  (8, .aaload, 9, 0, []),
  (9, .invokevirtual 118, 12, 0, []),
  (12, .tableswitch 363 11 23 #[68, 98, 363, 119, 135, 142, 182, 212, 260, 260, 312, 363, 327], 80, 375, [(11, 80), (12, 110), (13, 375), (14, 131), (15, 147), (16, 154), (17, 194), (18, 224), (19, 272), (20, 272), (21, 324), (22, 375), (23, 339)]),
  (80, .aload_n 0, 81, 0, []),
  (81, .getfield 75, 84, 0, []),
  (84, .aload_n 0, 85, 0, []),
  (85, .getfield 10, 88, 0, []),
  (88, .getfield 92, 91, 0, []),
  (91, .if_icmp .ge 17, 94, 108, []),
  (94, .aload_n 0, 95, 0, []),
  (95, .iconst 1, 96, 0, []),
  (96, .aload_n 0, 97, 0, []),
  (97, .getfield 75, 100, 0, []),
  (100, .aload_n 0, 101, 0, []),
  (101, .getfield 78, 104, 0, []),
  (104, .iconst 0, 105, 0, []),
  (105, .invokevirtual 93, 108, 0, []),
  (108, .iconst 1, 109, 0, []),
  (109, .ireturn, 110, 0, []),
  (110, .aload_n 0, 111, 0, []),
  (111, .iconst 0, 112, 0, []),
  (112, .invokevirtual 84, 115, 0, []),
  (115, .ifCond .ne 10, 118, 125, []),
  (118, .aload_n 0, 119, 0, []),
  (119, .invokevirtual 88, 122, 0, []),
  (122, .ifCond .eq 7, 125, 129, []),
  (125, .iconst 1, 126, 0, []),
  (126, .goto 4, 129, 130, []),
  (129, .iconst 0, 130, 0, []),
  (130, .ireturn, 131, 0, []),
  (131, .aload_n 0, 132, 0, []),
  (132, .iconst 3, 133, 0, []),
  (133, .aload_n 0, 134, 0, []),
  (134, .getfield 75, 137, 0, []),
  (137, .aload_n 0, 138, 0, []),
  (138, .getfield 78, 141, 0, []),
  (141, .iconst 0, 142, 0, []),
  (142, .invokevirtual 93, 145, 0, []),
  (145, .iconst 1, 146, 0, []),
  (146, .ireturn, 147, 0, []),
  (147, .aload_n 0, 148, 0, []),
  (148, .iconst 2, 149, 0, []),
  (149, .putfield 72, 152, 0, []),
  (152, .iconst 0, 153, 0, []),
  (153, .ireturn, 154, 0, []),
  (154, .aload_n 0, 155, 0, []),
  (155, .getfield 19, 158, 0, []),
  (158, .iconst 0, 159, 0, []),
  (159, .iload_n 1, 160, 0, []),
  (160, .iconst 0, 161, 0, []),
  (161, .aload_n 0, 162, 0, []),
  (162, .getfield 78, 165, 0, []),
  (165, .invokevirtual 150, 168, 0, []),
  (168, .istore 4, 170, 0, []),
  (170, .aload_n 0, 171, 0, []),
  (171, .iconst 0, 172, 0, []),
  (172, .aload_n 0, 173, 0, []),
  (173, .getfield 75, 176, 0, []),
  (176, .aload_n 0, 177, 0, []),
  (177, .getfield 19, 180, 0, []),
  (180, .iconst 0, 181, 0, []),
  (181, .iload_n 2, 182, 0, []),
  (182, .iconst 0, 183, 0, []),
  (183, .iload 4, 185, 0, []),
  (185, .invokevirtual 150, 188, 0, []),
  (188, .iconst 0, 189, 0, []),
  (189, .invokevirtual 93, 192, 0, []),
  (192, .iconst 1, 193, 0, []),
  (193, .ireturn, 194, 0, []),
  (194, .aload_n 0, 195, 0, []),
  (195, .aload_n 0, 196, 0, []),
  (196, .getfield 19, 199, 0, []),
  (199, .iconst 0, 200, 0, []),
  (200, .iload_n 2, 201, 0, []),
  (201, .iconst 0, 202, 0, []),
  (202, .aload_n 0, 203, 0, []),
  (203, .getfield 19, 206, 0, []),
  (206, .iconst 0, 207, 0, []),
  (207, .iload_n 3, 208, 0, []),
  (208, .iconst 0, 209, 0, []),
  (209, .aload_n 0, 210, 0, []),
  (210, .getfield 78, 213, 0, []),
  (213, .invokevirtual 150, 216, 0, []),
  (216, .invokevirtual 150, 219, 0, []),
  (219, .putfield 78, 222, 0, []),
  (222, .iconst 1, 223, 0, []),
  (223, .ireturn, 224, 0, []),
  (224, .aload_n 0, 225, 0, []),
  (225, .getfield 19, 228, 0, []),
  (228, .iconst 0, 229, 0, []),
  (229, .iload_n 3, 230, 0, []),
  (230, .iconst 0, 231, 0, []),
  (231, .aload_n 0, 232, 0, []),
  (232, .getfield 78, 235, 0, []),
  (235, .invokevirtual 150, 238, 0, []),
  (238, .istore 4, 240, 0, []),
  (240, .aload_n 0, 241, 0, []),
  (241, .iconst 0, 242, 0, []),
  (242, .aload_n 0, 243, 0, []),
  (243, .getfield 75, 246, 0, []),
  (246, .iload 4, 248, 0, []),
  (248, .iconst 0, 249, 0, []),
  (249, .invokevirtual 93, 252, 0, []),
  (252, .aload_n 0, 253, 0, []),
  (253, .aload_n 0, 254, 0, []),
  (254, .getfield 19, 257, 0, []),
  (257, .iconst 0, 258, 0, []),
  (258, .iload_n 2, 259, 0, []),
  (259, .iconst 0, 260, 0, []),
  (260, .aload_n 0, 261, 0, []),
  (261, .getfield 78, 264, 0, []),
  (264, .invokevirtual 150, 267, 0, []),
  (267, .putfield 78, 270, 0, []),
  (270, .iconst 1, 271, 0, []),
  (271, .ireturn, 272, 0, []),
  (272, .aload_n 0, 273, 0, []),
  (273, .aload_n 0, 274, 0, []),
  (274, .getfield 19, 277, 0, []),
  (277, .iconst 0, 278, 0, []),
  (278, .iload_n 2, 279, 0, []),
  (279, .iconst 0, 280, 0, []),
  (280, .aload_n 0, 281, 0, []),
  (281, .getfield 19, 284, 0, []),
  (284, .aload_n 0, 285, 0, []),
  (285, .getfield 37, 288, 0, []),
  (288, .getfield 115, 291, 0, []),
  (291, .iload_n 1, 292, 0, []),
  (292, .aaload, 293, 0, []),
  (293, .getstatic 154, 296, 0, []),
  (296, .if_acmp .ne 7, 299, 303, []),
  (299, .iconst 1, 300, 0, []),
  (300, .goto 4, 303, 304, []),
  (303, .iconst 2, 304, 0, []),
  (304, .iload_n 3, 305, 0, []),
  (305, .aload_n 0, 306, 0, []),
  (306, .getfield 75, 309, 0, []),
  (309, .aload_n 0, 310, 0, []),
  (310, .getfield 78, 313, 0, []),
  (313, .invokevirtual 150, 316, 0, []),
  (316, .invokevirtual 150, 319, 0, []),
  (319, .putfield 78, 322, 0, []),
  (322, .iconst 1, 323, 0, []),
  (323, .ireturn, 324, 0, []),
  (324, .aload_n 0, 325, 0, []),
  (325, .getfield 41, 328, 0, []),
  (328, .iload_n 2, 329, 0, []),
  (329, .aaload, 330, 0, []),
  (330, .aload_n 0, 331, 0, []),
  (331, .getfield 75, 334, 0, []),
  (334, .invokevirtual 158, 337, 0, []),
  (337, .iconst 1, 338, 0, []),
  (338, .ireturn, 339, 0, []),
  (339, .aload_n 0, 340, 0, []),
  (340, .getfield 37, 343, 0, []),
  (343, .iload_n 2, 344, 0, []),
  (344, .invokevirtual 162, 347, 0, []),
  (347, .ifCond .ne 8, 350, 355, []),
  (350, .aload_n 0, 351, 0, []),
  (351, .invokevirtual 88, 354, 0, []),
  (354, .ireturn, 355, 0, []),
  (355, .aload_n 0, 356, 0, []),
  (356, .aload_n 0, 357, 0, []),
  (357, .getfield 19, 360, 0, []),
  (360, .iconst 0, 361, 0, []),
  (361, .iload_n 2, 362, 0, []),
  (362, .iconst 0, 363, 0, []),
  (363, .aload_n 0, 364, 0, []),
  (364, .getfield 78, 367, 0, []),
  (367, .invokevirtual 150, 370, 0, []),
  (370, .putfield 78, 373, 0, []),
  (373, .iconst 1, 374, 0, []),
  (374, .ireturn, 375, 0, []),
  (375, .aload_n 0, 376, 0, []),
  (376, .invokevirtual 88, 379, 0, []),
  (379, .ireturn, 380, 0, [])]
def c_Matcher_works : Nat → Option En := lk [(0, .aload_n 0, 1, 0, []),
  (1, .getfield 78, 4, 0, []),
  (4, .istore_n 1, 5, 0, []),
  (5, .aload_n 0, 6, 0, []),
  (6, .getfield 19, 9, 0, []),
  (9, .getfield 165, 12, 0, []),
  (12, .iload_n 1, 13, 0, []),
  (13, .iaload, 14, 0, []),
  (14, .istore_n 2, 15, 0, []),
  (15, .aload_n 0, 16, 0, []),
  (16, .aload_n 0, 17, 0, []),
  (17, .getfield 19, 20, 0, []),
  (20, .getfield 168, 23, 0, []),
  (23, .iload_n 1, 24, 0, []),
  (24, .iaload, 25, 0, []),
  (25, .putfield 78, 28, 0, []),
  (28, .aload_n 0, 29, 0, []),
  (29, .getfield 19, 32, 0, []),
  (32, .getfield 171, 35, 0, []),
  (35, .iload_n 1, 36, 0, []),
  (36, .baload, 37, 0, []),
  (37, .lookupswitch 81 #[(1, 27), (2, 50)], 64, 118, [(1, 64), (2, 87)]),
  (64, .aload_n 0, 65, 0, []),
  (65, .getfield 33, 68, 0, []),
  (68, .iload_n 2, 69, 0, []),
  (69, .aload_n 0, 70, 0, []),
  (70, .getfield 19, 73, 0, []),
  (73, .getfield 174, 76, 0, []),
  (76, .iload_n 1, 77, 0, []),
  (77, .iaload, 78, 0, []),
  (78, .aload_n 0, 79, 0, []),
  (79, .getfield 75, 82, 0, []),
  (82, .invokevirtual 177, 85, 0, []),
  (85, .iconst 1, 86, 0, []),
  (86, .ireturn, 87, 0, []),
  (87, .aload_n 0, 88, 0, []),
  (88, .getfield 41, 91, 0, []),
  (91, .iload_n 2, 92, 0, []),
  (92, .aaload, 93, 0, []),
  (93, .aload_n 0, 94, 0, []),
  (94, .getfield 10, 97, 0, []),
  (97, .getfield 97, 100, 0, []),
  (100, .aload_n 0, 101, 0, []),
  (101, .getfield 19, 104, 0, []),
  (104, .getfield 174, 107, 0, []),
  (107, .iload_n 1, 108, 0, []),
  (108, .iaload, 109, 0, []),
  (109, .aload_n 0, 110, 0, []),
  (110, .getfield 75, 113, 0, []),
  (113, .invokevirtual 180, 116, 0, []),
  (116, .iconst 1, 117, 0, []),
  (117, .ireturn, 118, 0, []),
  (118, .aload_n 0, 119, 0, []),
  (119, .iload_n 2, 120, 0, []),
  (120, .invokevirtual 184, 123, 0, []),
  (123, .ireturn, 124, 0, [])]
def c_Matcher_from : Nat → Option En := lk [(0, .aload_n 0, 1, 0, []),
  (1, .getfield 19, 4, 0, []),
  (4, .iconst 0, 5, 0, []),
  (5, .putfield 62, 8, 0, []),
  (8, .aload_n 0, 9, 0, []),
  (9, .getfield 26, 12, 0, []),
  (12, .iconst 0, 13, 0, []),
  (13, .putfield 49, 16, 0, []),
  (16, .aload_n 0, 17, 0, []),
  (17, .getfield 33, 20, 0, []),
  (20, .iconst 0, 21, 0, []),
  (21, .putfield 68, 24, 0, []),
  (24, .aload_n 0, 25, 0, []),
  (25, .iload_n 1, 26, 0, []),
  (26, .putfield 75, 29, 0, []),
  (29, .aload_n 0, 30, 0, []),
  (30, .aload_n 0, 31, 0, []),
  (31, .getfield 19, 34, 0, []),
  (34, .iconst 0, 35, 0, []),
  (35, .iload_n 2, 36, 0, []),
  (36, .iconst 0, 37, 0, []),
  (37, .iconst (-1), 38, 0, []),
  (38, .invokevirtual 150, 41, 0, []),
  (41, .putfield 78, 44, 0, []),
  (44, .aload_n 0, 45, 0, []),
  (45, .iconst 1, 46, 0, []),
  (46, .putfield 72, 49, 0, []),
  (49, .aload_n 0, 50, 0, []),
  (50, .getfield 78, 53, 0, []),
  (53, .iconst (-1), 54, 0, []),
  (54, .if_icmp .eq 18, 57, 72, []),
  (57, .aload_n 0, 58, 0, []),
  (58, .invokevirtual 187, 61, 0, []),
  (61, .ifCond .eq 11, 64, 72, []),
  (64, .aload_n 0, 65, 0, []),
  (65, .iconst 1, 66, 0, []),
  (66, .putfield 72, 69, 0, []),
  (69, .goto (-20), 72, 49, []),
  (72, .aload_n 0, 73, 0, []),
  (73, .getfield 72, 76, 0, []),
  (76, .ireturn, 77, 0, [])]
def c_Matcher_match : Nat → Option En := lk [(0, .aload_n 0, 1, 0, []),
  (1, .getfield 10, 4, 0, []),
  (4, .aload_n 1, 5, 0, []),
  (5, .invokevirtual 190, 8, 0, []),
  (8, .aload_n 0, 9, 0, []),
  (9, .iconst 0, 10, 0, []),
  (10, .putfield 104, 13, 0, []),
  (13, .iload_n 3, 14, 0, []),
  (14, .ifCond .eq 7, 17, 21, []),
  (17, .iconst 0, 18, 0, []),
  (18, .goto 10, 21, 28, []),
  (21, .aload_n 0, 22, 0, []),
  (22, .getfield 10, 25, 0, []),
  (25, .getfield 92, 28, 0, []),
  (28, .istore 4, 30, 0, []),
  (30, .aload_n 0, 31, 0, []),
  (31, .iconst 0, 32, 0, []),
  (32, .putfield 194, 35, 0, []),
  (35, .aload_n 0, 36, 0, []),
  (36, .iconst 0, 37, 0, []),
  (37, .putfield 197, 40, 0, []),
  (40, .aload_n 0, 41, 0, []),
  (41, .getfield 197, 44, 0, []),
  (44, .iload 4, 46, 0, []),
  (46, .if_icmp .gt 36, 49, 82, []),
  (49, .aload_n 0, 50, 0, []),
  (50, .getfield 194, 53, 0, []),
  (53, .ifCond .ne 29, 56, 82, []),
  (56, .aload_n 0, 57, 0, []),
  (57, .aload_n 0, 58, 0, []),
  (58, .aload_n 0, 59, 0, []),
  (59, .getfield 197, 62, 0, []),
  (62, .iload_n 2, 63, 0, []),
  (63, .invokevirtual 200, 66, 0, []),
  (66, .putfield 194, 69, 0, []),
  (69, .aload_n 0, 70, 0, []),
  (70, .dup, 71, 0, []),
  (71, .getfield 197, 74, 0, []),
  (74, .iconst 1, 75, 0, []),
  (75, .iadd, 76, 0, []),
  (76, .putfield 197, 79, 0, []),
  (79, .goto (-39), 82, 40, []),
  (82, .aload_n 0, 83, 0, []),
  (83, .dup, 84, 0, []),
  (84, .getfield 197, 87, 0, []),
  (87, .iconst 1, 88, 0, []),
  (88, .isub, 89, 0, []),
  (89, .putfield 197, 92, 0, []),
  (92, .aload_n 0, 93, 0, []),
  (93, .getfield 194, 96, 0, []),
  (96, .iconst 1, 97, 0, []),
  (97, .if_icmp .ne 69, 100, 166, []),
  (100, .iconst 0, 101, 0, []),
  (101, .istore 5, 103, 0, []),
  (103, .iload 5, 105, 0, []),
  (105, .aload_n 0, 106, 0, []),
  (106, .getfield 33, 109, 0, []),
  (109, .getfield 68, 112, 0, []),
  (112, .if_icmp .ge 54, 115, 166, []),
  (115, .aload_n 0, 116, 0, []),
  (116, .getfield 41, 119, 0, []),
  (119, .aload_n 0, 120, 0, []),
  (120, .getfield 33, 123, 0, []),
  (123, .getfield 204, 126, 0, []),
  (126, .iload 5, 128, 0, []),
  (128, .iaload, 129, 0, []),
  (129, .aaload, 130, 0, []),
  (130, .aload_n 0, 131, 0, []),
  (131, .getfield 10, 134, 0, []),
  (134, .getfield 97, 137, 0, []),
  (137, .aload_n 0, 138, 0, []),
  (138, .getfield 33, 141, 0, []),
  (141, .getfield 206, 144, 0, []),
  (144, .iload 5, 146, 0, []),
  (146, .iaload, 147, 0, []),
  (147, .aload_n 0, 148, 0, []),
  (148, .getfield 33, 151, 0, []),
  (151, .getfield 207, 154, 0, []),
  (154, .iload 5, 156, 0, []),
  (156, .iaload, 157, 0, []),
  (157, .invokevirtual 180, 160, 0, []),
  (160, .iinc 5 1, 163, 0, []),
  (163, .goto (-60), 166, 103, []),
  (166, .aload_n 0, 167, 0, []),
  (167, .getfield 194, 170, 0, []),
  (170, .ireturn, 171, 0, [])]
def c_Nodes_init : Nat → Option En := lk [(0, .aload_n 0, 1, 0, []),
  (1, .invokespecial 1, 4, 0, []),
  (4, .aload_n 0, 5, 0, []),
  (5, .bipush 64, 7, 0, []),
  (7, .anewarray 9, 10, 0, []),
  (10, .putfield 11, 13, 0, []),
  (13, .aload_n 0, 14, 0, []),
  (14, .bipush 64, 16, 0, []),
  (16, .newarray .int, 18, 0, []),
  (18, .putfield 15, 21, 0, []),
  (21, .aload_n 0, 22, 0, []),
  (22, .bipush 64, 24, 0, []),
  (24, .newarray .int, 26, 0, []),
  (26, .putfield 19, 29, 0, []),
  (29, .aload_n 0, 30, 0, []),
  (30, .bipush 64, 32, 0, []),
  (32, .anewarray 22, 35, 0, []),
  (35, .putfield 24, 38, 0, []),
  (38, .return_, 39, 0, [])]
def c_Nodes_is : Nat → Option En := lk [(0, .iload_n 1, 1, 0, []),
  (1, .ifCond .lt 15, 4, 16, []),
  (4, .iload_n 1, 5, 0, []),
  (5, .aload_n 0, 6, 0, []),
  (6, .getfield 28, 9, 0, []),
  (9, .if_icmp .ge 7, 12, 16, []),
  (12, .iconst 1, 13, 0, []),
  (13, .goto 4, 16, 17, []),
  (16, .iconst 0, 17, 0, []),
  (17, .ireturn, 18, 0, [])]
def c_Text_init : Nat → Option En := lk [(0, .aload_n 0, 1, 0, []),
  (1, .invokespecial 3, 4, 0, []),
  (4, .aload_n 0, 5, 0, []),
  (5, .bipush 64, 7, 0, []),
  (7, .newarray .byte, 9, 0, []),
  (9, .putfield 9, 12, 0, []),
  (12, .return_, 13, 0, [])]
def c_Text_isFull : Nat → Option En := lk [(0, .aload_n 0, 1, 0, []),
  (1, .getfield 15, 4, 0, []),
  (4, .bipush 64, 6, 0, []),
  (6, .if_icmp .ne 7, 9, 13, []),
  (9, .iconst 1, 10, 0, []),
  (10, .goto 4, 13, 14, []),
  (13, .iconst 0, 14, 0, []),
  (14, .ireturn, 15, 0, [])]
def c_Text_add : Nat → Option En := lk [(0, .aload_n 0, 1, 0, []),
  (1, .getfield 9, 4, 0, []),
  (4, .aload_n 0, 5, 0, []),
  (5, .getfield 15, 8, 0, []),
  (8, .iload_n 1, 9, 0, []),
  (9, .i2b, 10, 0, []),
  (10, .bastore, 11, 0, []),
  (11, .aload_n 0, 12, 0, []),
  (12, .dup, 13, 0, []),
  (13, .getfield 15, 16, 0, []),
  (16, .iconst 1, 17, 0, []),
  (17, .iadd, 18, 0, []),
  (18, .putfield 15, 21, 0, []),
  (21, .return_, 22, 0, [])]
def c_Text_part : Nat → Option En := lk [(0, .aload_n 0, 1, 0, []),
  (1, .iload_n 3, 2, 0, []),
  (2, .iload_n 2, 3, 0, []),
  (3, .isub, 4, 0, []),
  (4, .putfield 15, 7, 0, []),
  (7, .aload_n 1, 8, 0, []),
  (8, .iload_n 2, 9, 0, []),
  (9, .aload_n 0, 10, 0, []),
  (10, .getfield 9, 13, 0, []),
  (13, .iconst 0, 14, 0, []),
  (14, .aload_n 0, 15, 0, []),
  (15, .getfield 15, 18, 0, []),
  (18, .invokestatic 19, 21, 0, []),
  (21, .return_, 22, 0, [])]
def c_Text_become : Nat → Option En := lk [(0, .aload_n 0, 1, 0, []),
  (1, .aload_n 1, 2, 0, []),
  (2, .getfield 9, 5, 0, []),
  (5, .iconst 0, 6, 0, []),
  (6, .aload_n 1, 7, 0, []),
  (7, .getfield 15, 10, 0, []),
  (10, .invokevirtual 25, 13, 0, []),
  (13, .return_, 14, 0, [])]
def c_Text_take : Nat → Option En := lk [(0, .aload_n 0, 1, 0, []),
  (1, .aload_n 1, 2, 0, []),
  (2, .invokevirtual 29, 5, 0, []),
  (5, .aload_n 1, 6, 0, []),
  (6, .iconst 0, 7, 0, []),
  (7, .putfield 15, 10, 0, []),
  (10, .return_, 11, 0, [])]
def c_Text_has : Nat → Option En := lk [(0, .iconst 0, 1, 0, []),
  (1, .istore_n 2, 2, 0, []),
  (2, .iconst 0, 3, 0, []),
  (3, .istore_n 3, 4, 0, []),
  (4, .iload_n 3, 5, 0, []),
  (5, .aload_n 0, 6, 0, []),
  (6, .getfield 15, 9, 0, []),
  (9, .if_icmp .ge 27, 12, 36, []),
  (12, .iload_n 2, 13, 0, []),
  (13, .aload_n 0, 14, 0, []),
  (14, .getfield 9, 17, 0, []),
  (17, .iload_n 3, 18, 0, []),
  (18, .baload, 19, 0, []),
  (19, .iload_n 1, 20, 0, []),
  (20, .if_icmp .ne 7, 23, 27, []),
  (23, .iconst 1, 24, 0, []),
  (24, .goto 4, 27, 28, []),
  (27, .iconst 0, 28, 0, []),
  (28, .ior, 29, 0, []),
  (29, .istore_n 2, 30, 0, []),
  (30, .iinc 3 1, 33, 0, []),
  (33, .goto (-29), 36, 4, []),
  (36, .iload_n 2, 37, 0, []),
  (37, .ireturn, 38, 0, [])]
def c_Text_isAt : Nat → Option En := lk [(0, .iload_n 2, 1, 0, []),
  (1, .aload_n 0, 2, 0, []),
  (2, .getfield 15, 5, 0, []),
  (5, .iadd, 6, 0, []),
  (6, .aload_n 1, 7, 0, []),
  (7, .getfield 15, 10, 0, []),
  (10, .if_icmp .le 5, 13, 15, []),
  (13, .iconst 0, 14, 0, []),
  (14, .ireturn, 15, 0, []),
  (15, .iconst 0, 16, 0, []),
  (16, .istore_n 3, 17, 0, []),
  (17, .iload_n 3, 18, 0, []),
  (18, .aload_n 0, 19, 0, []),
  (19, .getfield 15, 22, 0, []),
  (22, .if_icmp .ge 26, 25, 48, []),
  (25, .aload_n 0, 26, 0, []),
  (26, .getfield 9, 29, 0, []),
  (29, .iload_n 3, 30, 0, []),
  (30, .baload, 31, 0, []),
  (31, .aload_n 1, 32, 0, []),
  (32, .getfield 9, 35, 0, []),
  (35, .iload_n 2, 36, 0, []),
  (36, .iload_n 3, 37, 0, []),
  (37, .iadd, 38, 0, []),
  (38, .baload, 39, 0, []),
  (39, .if_icmp .ne 9, 42, 48, []),
  (42, .iinc 3 1, 45, 0, []),
  (45, .goto (-28), 48, 17, []),
  (48, .iload_n 3, 49, 0, []),
  (49, .aload_n 0, 50, 0, []),
  (50, .getfield 15, 53, 0, []),
  (53, .if_icmp .ne 7, 56, 60, []),
  (56, .iconst 1, 57, 0, []),
  (57, .goto 4, 60, 61, []),
  (60, .iconst 0, 61, 0, []),
  (61, .ireturn, 62, 0, [])]
def c_Text_digits : Nat → Option En := lk [(0, .aload_n 0, 1, 0, []),
  (1, .iconst 0, 2, 0, []),
  (2, .putfield 15, 5, 0, []),
  (5, .iload_n 1, 6, 0, []),
  (6, .bipush 9, 8, 0, []),
  (8, .if_icmp .le 14, 11, 22, []),
  (11, .aload_n 0, 12, 0, []),
  (12, .bipush 48, 14, 0, []),
  (14, .iload_n 1, 15, 0, []),
  (15, .bipush 10, 17, 0, []),
  (17, .idiv, 18, 0, []),
  (18, .iadd, 19, 0, []),
  (19, .invokevirtual 33, 22, 0, []),
  (22, .aload_n 0, 23, 0, []),
  (23, .bipush 48, 25, 0, []),
  (25, .iload_n 1, 26, 0, []),
  (26, .bipush 10, 28, 0, []),
  (28, .irem, 29, 0, []),
  (29, .iadd, 30, 0, []),
  (30, .invokevirtual 33, 33, 0, []),
  (33, .return_, 34, 0, [])]
def c_Law_law : Nat → Option En := lk [(0, .new 7, 3, 0, []),
  (3, .dup, 4, 0, []),
  (4, .invokespecial 9, 7, 0, []),
  (7, .astore_n 1, 8, 0, []),
  (8, .new 10, 11, 0, []),
  (11, .dup, 12, 0, []),
  (12, .invokespecial 12, 15, 0, []),
  (15, .astore_n 2, 16, 0, []),
  (16, .iconst 0, 17, 0, []),
  (17, .istore_n 3, 18, 0, []),
  (18, .iload_n 3, 19, 0, []),
  (19, .aload_n 0, 20, 0, []),
  (20, .arraylength, 21, 0, []),
  (21, .iconst 4, 22, 0, []),
  (22, .isub, 23, 0, []),
  (23, .if_icmp .gt 365, 26, 388, []),
  (26, .aload_n 0, 27, 0, []),
  (27, .iload_n 3, 28, 0, []),
  (28, .iaload, 29, 0, []),
  (29, .bipush 15, 31, 0, []),
  (31, .iand, 32, 0, []),
  (32, .tableswitch 350 0 9 #[56, 79, 102, 135, 158, 201, 212, 245, 304, 327], 88, 382, [(0, 88), (1, 111), (2, 134), (3, 167), (4, 190), (5, 233), (6, 244), (7, 277), (8, 336), (9, 359)]),
  (88, .aload_n 1, 89, 0, []),
  (89, .aload_n 0, 90, 0, []),
  (90, .iload_n 3, 91, 0, []),
  (91, .iconst 1, 92, 0, []),
  (92, .iadd, 93, 0, []),
  (93, .iaload, 94, 0, []),
  (94, .invokevirtual 13, 97, 0, []),
  (97, .aload_n 2, 98, 0, []),
  (98, .aload_n 0, 99, 0, []),
  (99, .iload_n 3, 100, 0, []),
  (100, .iconst 1, 101, 0, []),
  (101, .iadd, 102, 0, []),
  (102, .iaload, 103, 0, []),
  (103, .invokevirtual 17, 106, 0, []),
  (106, .if_icmp .eq 276, 109, 382, []),
  (109, .iconst 0, 110, 0, []),
  (110, .ireturn, 111, 0, []),
  (111, .aload_n 1, 112, 0, []),
  (112, .aload_n 0, 113, 0, []),
  (113, .iload_n 3, 114, 0, []),
  (114, .iconst 1, 115, 0, []),
  (115, .iadd, 116, 0, []),
  (116, .iaload, 117, 0, []),
  (117, .invokevirtual 18, 120, 0, []),
  (120, .aload_n 2, 121, 0, []),
  (121, .aload_n 0, 122, 0, []),
  (122, .iload_n 3, 123, 0, []),
  (123, .iconst 1, 124, 0, []),
  (124, .iadd, 125, 0, []),
  (125, .iaload, 126, 0, []),
  (126, .invokevirtual 22, 129, 0, []),
  (129, .if_icmp .eq 253, 132, 382, []),
  (132, .iconst 0, 133, 0, []),
  (133, .ireturn, 134, 0, []),
  (134, .aload_n 1, 135, 0, []),
  (135, .aload_n 0, 136, 0, []),
  (136, .iload_n 3, 137, 0, []),
  (137, .iconst 1, 138, 0, []),
  (138, .iadd, 139, 0, []),
  (139, .iaload, 140, 0, []),
  (140, .aload_n 0, 141, 0, []),
  (141, .iload_n 3, 142, 0, []),
  (142, .iconst 2, 143, 0, []),
  (143, .iadd, 144, 0, []),
  (144, .iaload, 145, 0, []),
  (145, .invokevirtual 23, 148, 0, []),
  (148, .aload_n 2, 149, 0, []),
  (149, .aload_n 0, 150, 0, []),
  (150, .iload_n 3, 151, 0, []),
  (151, .iconst 1, 152, 0, []),
  (152, .iadd, 153, 0, []),
  (153, .iaload, 154, 0, []),
  (154, .aload_n 0, 155, 0, []),
  (155, .iload_n 3, 156, 0, []),
  (156, .iconst 2, 157, 0, []),
  (157, .iadd, 158, 0, []),
  (158, .iaload, 159, 0, []),
  (159, .invokevirtual 27, 162, 0, []),
  (162, .if_icmp .eq 220, 165, 382, []),
  (165, .iconst 0, 166, 0, []),
  (166, .ireturn, 167, 0, []),
  (167, .aload_n 1, 168, 0, []),
  (168, .aload_n 0, 169, 0, []),
  (169, .iload_n 3, 170, 0, []),
  (170, .iconst 1, 171, 0, []),
  (171, .iadd, 172, 0, []),
  (172, .iaload, 173, 0, []),
  (173, .invokevirtual 28, 176, 0, []),
  (176, .aload_n 2, 177, 0, []),
  (177, .aload_n 0, 178, 0, []),
  (178, .iload_n 3, 179, 0, []),
  (179, .iconst 1, 180, 0, []),
  (180, .iadd, 181, 0, []),
  (181, .iaload, 182, 0, []),
  (182, .invokevirtual 31, 185, 0, []),
  (185, .if_icmp .eq 197, 188, 382, []),
  (188, .iconst 0, 189, 0, []),
  (189, .ireturn, 190, 0, []),
  (190, .aload_n 1, 191, 0, []),
  (191, .aload_n 0, 192, 0, []),
  (192, .iload_n 3, 193, 0, []),
  (193, .iconst 1, 194, 0, []),
  (194, .iadd, 195, 0, []),
  (195, .iaload, 196, 0, []),
  (196, .aload_n 0, 197, 0, []),
  (197, .iload_n 3, 198, 0, []),
  (198, .iconst 2, 199, 0, []),
  (199, .iadd, 200, 0, []),
  (200, .iaload, 201, 0, []),
  (201, .aload_n 0, 202, 0, []),
  (202, .iload_n 3, 203, 0, []),
  (203, .iconst 3, 204, 0, []),
  (204, .iadd, 205, 0, []),
  (205, .iaload, 206, 0, []),
  (206, .invokevirtual 32, 209, 0, []),
  (209, .aload_n 2, 210, 0, []),
  (210, .aload_n 0, 211, 0, []),
  (211, .iload_n 3, 212, 0, []),
  (212, .iconst 1, 213, 0, []),
  (213, .iadd, 214, 0, []),
  (214, .iaload, 215, 0, []),
  (215, .aload_n 0, 216, 0, []),
  (216, .iload_n 3, 217, 0, []),
  (217, .iconst 2, 218, 0, []),
  (218, .iadd, 219, 0, []),
  (219, .iaload, 220, 0, []),
  (220, .aload_n 0, 221, 0, []),
  (221, .iload_n 3, 222, 0, []),
  (222, .iconst 3, 223, 0, []),
  (223, .iadd, 224, 0, []),
  (224, .iaload, 225, 0, []),
  (225, .invokevirtual 36, 228, 0, []),
  (228, .if_icmp .eq 154, 231, 382, []),
  (231, .iconst 0, 232, 0, []),
  (232, .ireturn, 233, 0, []),
  (233, .aload_n 1, 234, 0, []),
  (234, .invokevirtual 37, 237, 0, []),
  (237, .aload_n 2, 238, 0, []),
  (238, .invokevirtual 40, 241, 0, []),
  (241, .goto 141, 244, 382, []),
  (244, .aload_n 1, 245, 0, []),
  (245, .aload_n 0, 246, 0, []),
  (246, .iload_n 3, 247, 0, []),
  (247, .iconst 1, 248, 0, []),
  (248, .iadd, 249, 0, []),
  (249, .iaload, 250, 0, []),
  (250, .aload_n 0, 251, 0, []),
  (251, .iload_n 3, 252, 0, []),
  (252, .iconst 2, 253, 0, []),
  (253, .iadd, 254, 0, []),
  (254, .iaload, 255, 0, []),
  (255, .invokevirtual 41, 258, 0, []),
  (258, .aload_n 2, 259, 0, []),
  (259, .aload_n 0, 260, 0, []),
  (260, .iload_n 3, 261, 0, []),
  (261, .iconst 1, 262, 0, []),
  (262, .iadd, 263, 0, []),
  (263, .iaload, 264, 0, []),
  (264, .aload_n 0, 265, 0, []),
  (265, .iload_n 3, 266, 0, []),
  (266, .iconst 2, 267, 0, []),
  (267, .iadd, 268, 0, []),
  (268, .iaload, 269, 0, []),
  (269, .invokevirtual 44, 272, 0, []),
  (272, .if_icmp .eq 110, 275, 382, []),
  (275, .iconst 0, 276, 0, []),
  (276, .ireturn, 277, 0, []),
  (277, .aload_n 1, 278, 0, []),
  (278, .aload_n 0, 279, 0, []),
  (279, .iload_n 3, 280, 0, []),
  (280, .iconst 1, 281, 0, []),
  (281, .iadd, 282, 0, []),
  (282, .iaload, 283, 0, []),
  (283, .aload_n 0, 284, 0, []),
  (284, .iload_n 3, 285, 0, []),
  (285, .iconst 2, 286, 0, []),
  (286, .iadd, 287, 0, []),
  (287, .iaload, 288, 0, []),
  (288, .aload_n 0, 289, 0, []),
  (289, .iload_n 3, 290, 0, []),
  (290, .iconst 3, 291, 0, []),
  (291, .iadd, 292, 0, []),
  (292, .iaload, 293, 0, []),
  (293, .ifCond .eq 7, 296, 300, []),
  (296, .iconst 1, 297, 0, []),
  (297, .goto 4, 300, 301, []),
  (300, .iconst 0, 301, 0, []),
  (301, .invokevirtual 45, 304, 0, []),
  (304, .aload_n 2, 305, 0, []),
  (305, .aload_n 0, 306, 0, []),
  (306, .iload_n 3, 307, 0, []),
  (307, .iconst 1, 308, 0, []),
  (308, .iadd, 309, 0, []),
  (309, .iaload, 310, 0, []),
  (310, .aload_n 0, 311, 0, []),
  (311, .iload_n 3, 312, 0, []),
  (312, .iconst 2, 313, 0, []),
  (313, .iadd, 314, 0, []),
  (314, .iaload, 315, 0, []),
  (315, .aload_n 0, 316, 0, []),
  (316, .iload_n 3, 317, 0, []),
  (317, .iconst 3, 318, 0, []),
  (318, .iadd, 319, 0, []),
  (319, .iaload, 320, 0, []),
  (320, .ifCond .eq 7, 323, 327, []),
  (323, .iconst 1, 324, 0, []),
  (324, .goto 4, 327, 328, []),
  (327, .iconst 0, 328, 0, []),
  (328, .invokevirtual 49, 331, 0, []),
  (331, .if_icmp .eq 51, 334, 382, []),
  (334, .iconst 0, 335, 0, []),
  (335, .ireturn, 336, 0, []),
  (336, .aload_n 1, 337, 0, []),
  (337, .aload_n 0, 338, 0, []),
  (338, .iload_n 3, 339, 0, []),
  (339, .iconst 1, 340, 0, []),
  (340, .iadd, 341, 0, []),
  (341, .iaload, 342, 0, []),
  (342, .invokevirtual 50, 345, 0, []),
  (345, .aload_n 2, 346, 0, []),
  (346, .aload_n 0, 347, 0, []),
  (347, .iload_n 3, 348, 0, []),
  (348, .iconst 1, 349, 0, []),
  (349, .iadd, 350, 0, []),
  (350, .iaload, 351, 0, []),
  (351, .invokevirtual 53, 354, 0, []),
  (354, .if_icmp .eq 28, 357, 382, []),
  (357, .iconst 0, 358, 0, []),
  (358, .ireturn, 359, 0, []),
  (359, .aload_n 1, 360, 0, []),
  (360, .aload_n 0, 361, 0, []),
  (361, .iload_n 3, 362, 0, []),
  (362, .iconst 1, 363, 0, []),
  (363, .iadd, 364, 0, []),
  (364, .iaload, 365, 0, []),
  (365, .invokevirtual 54, 368, 0, []),
  (368, .aload_n 2, 369, 0, []),
  (369, .aload_n 0, 370, 0, []),
  (370, .iload_n 3, 371, 0, []),
  (371, .iconst 1, 372, 0, []),
  (372, .iadd, 373, 0, []),
  (373, .iaload, 374, 0, []),
  (374, .invokevirtual 57, 377, 0, []),
  (377, .if_icmp .eq 5, 380, 382, []),
  (380, .iconst 0, 381, 0, []),
  (381, .ireturn, 382, 0, []),
  (382, .iinc 3 4, 385, 0, []),
  (385, .goto (-367), 388, 18, []),
  (388, .iconst 1, 389, 0, []),
  (389, .ireturn, 390, 0, [])]
def c_Object_init : Nat → Option En := lk [(0, .return_, 1, 0, [])]
def c_Enum_ordinal : Nat → Option En := lk [(0, .aload_n 0, 1, 0, []),
  (1, .getfield 7, 4, 0, []),
  (4, .ireturn, 5, 0, [])]
end
section
/-! Names of classes, their fields; the words of the tables: printed by wip/gen.py -/
def R_Mill : String := "PatternMill"
def R_Text : String := "PatternMill$Text"
def R_Nodes : String := "PatternMill$Nodes"
def R_Matcher : String := "PatternMill$Matcher"
def R_Goals : String := "PatternMill$Goals"
def R_Choices : String := "PatternMill$Choices"
def R_Kept : String := "PatternMill$Kept"
def R_Model : String := "PatternMillModel"
def R_Kind : String := "PatternMill$Kind"
def R_Enum : String := "java/lang/Enum"
def R_Object : String := "java/lang/Object"
def R_LawC : String := "PatternMillLaw"
def F_Mill : u_T := fun k => match k with
  | 0 => ("PatternMill", "slip", "LPatternMill$Text;", true)
  | 1 => ("PatternMill", "made", "LPatternMill$Text;", true)
  | 2 => ("PatternMill", "variables", "[LPatternMill$Text;", true)
  | 3 => ("PatternMill", "nodes", "LPatternMill$Nodes;", true)
  | 4 => ("PatternMill", "matcher", "LPatternMill$Matcher;", true)
  | _ => ("PatternMill", "matched", "Z", false)
def t_Mill : Nat → FieldType := fun k => match k with
  | 0 => .object "PatternMill$Text"
  | 1 => .object "PatternMill$Text"
  | 2 => .array (.object "PatternMill$Text")
  | 3 => .object "PatternMill$Nodes"
  | 4 => .object "PatternMill$Matcher"
  | _ => .boolean
def F_Text : u_T := fun k => match k with
  | 0 => ("PatternMill$Text", "signs", "[B", true)
  | _ => ("PatternMill$Text", "size", "I", false)
def t_Text : Nat → FieldType := fun k => match k with
  | 0 => .array (.byte)
  | _ => .int
def F_Nodes : u_T := fun k => match k with
  | 0 => ("PatternMill$Nodes", "kinds", "[LPatternMill$Kind;", true)
  | 1 => ("PatternMill$Nodes", "firsts", "[I", true)
  | 2 => ("PatternMill$Nodes", "seconds", "[I", true)
  | 3 => ("PatternMill$Nodes", "texts", "[LPatternMill$Text;", true)
  | _ => ("PatternMill$Nodes", "count", "I", false)
def t_Nodes : Nat → FieldType := fun k => match k with
  | 0 => .array (.object "PatternMill$Kind")
  | 1 => .array (.int)
  | 2 => .array (.int)
  | 3 => .array (.object "PatternMill$Text")
  | _ => .int
def F_Matcher : u_T := fun k => match k with
  | 0 => ("PatternMill$Matcher", "nodes", "LPatternMill$Nodes;", true)
  | 1 => ("PatternMill$Matcher", "variables", "[LPatternMill$Text;", true)
  | 2 => ("PatternMill$Matcher", "subject", "LPatternMill$Text;", true)
  | 3 => ("PatternMill$Matcher", "goals", "LPatternMill$Goals;", true)
  | 4 => ("PatternMill$Matcher", "choices", "LPatternMill$Choices;", true)
  | 5 => ("PatternMill$Matcher", "kept", "LPatternMill$Kept;", true)
  | 6 => ("PatternMill$Matcher", "steps", "I", false)
  | 7 => ("PatternMill$Matcher", "place", "I", false)
  | 8 => ("PatternMill$Matcher", "goal", "I", false)
  | 9 => ("PatternMill$Matcher", "result", "I", false)
  | 10 => ("PatternMill$Matcher", "begin", "I", false)
  | _ => ("PatternMill$Matcher", "outcome", "I", false)
def t_Matcher : Nat → FieldType := fun k => match k with
  | 0 => .object "PatternMill$Nodes"
  | 1 => .array (.object "PatternMill$Text")
  | 2 => .object "PatternMill$Text"
  | 3 => .object "PatternMill$Goals"
  | 4 => .object "PatternMill$Choices"
  | 5 => .object "PatternMill$Kept"
  | 6 => .int
  | 7 => .int
  | 8 => .int
  | 9 => .int
  | 10 => .int
  | _ => .int
def F_Goals : u_T := fun k => match k with
  | 0 => ("PatternMill$Goals", "whats", "[B", true)
  | 1 => ("PatternMill$Goals", "abouts", "[I", true)
  | 2 => ("PatternMill$Goals", "froms", "[I", true)
  | 3 => ("PatternMill$Goals", "nexts", "[I", true)
  | _ => ("PatternMill$Goals", "top", "I", false)
def t_Goals : Nat → FieldType := fun k => match k with
  | 0 => .array (.byte)
  | 1 => .array (.int)
  | 2 => .array (.int)
  | 3 => .array (.int)
  | _ => .int
def F_Choices : u_T := fun k => match k with
  | 0 => ("PatternMill$Choices", "kinds", "[B", true)
  | 1 => ("PatternMill$Choices", "places", "[I", true)
  | 2 => ("PatternMill$Choices", "goals", "[I", true)
  | 3 => ("PatternMill$Choices", "tops", "[I", true)
  | 4 => ("PatternMill$Choices", "kepts", "[I", true)
  | 5 => ("PatternMill$Choices", "depths", "[I", true)
  | _ => ("PatternMill$Choices", "size", "I", false)
def t_Choices : Nat → FieldType := fun k => match k with
  | 0 => .array (.byte)
  | 1 => .array (.int)
  | 2 => .array (.int)
  | 3 => .array (.int)
  | 4 => .array (.int)
  | 5 => .array (.int)
  | _ => .int
def F_Kept : u_T := fun k => match k with
  | 0 => ("PatternMill$Kept", "variables", "[I", true)
  | 1 => ("PatternMill$Kept", "froms", "[I", true)
  | 2 => ("PatternMill$Kept", "untils", "[I", true)
  | _ => ("PatternMill$Kept", "size", "I", false)
def t_Kept : Nat → FieldType := fun k => match k with
  | 0 => .array (.int)
  | 1 => .array (.int)
  | 2 => .array (.int)
  | _ => .int
def F_Model : u_T := fun k => match k with
  | 0 => ("PatternMillModel", "thrown", "I", false)
  | 1 => ("PatternMillModel", "slip", "[B", true)
  | 2 => ("PatternMillModel", "slipSize", "I", false)
  | 3 => ("PatternMillModel", "texts", "[B", true)
  | 4 => ("PatternMillModel", "sizes", "[I", true)
  | 5 => ("PatternMillModel", "nodes", "I", false)
  | 6 => ("PatternMillModel", "kinds", "[I", true)
  | 7 => ("PatternMillModel", "firsts", "[I", true)
  | 8 => ("PatternMillModel", "seconds", "[I", true)
  | 9 => ("PatternMillModel", "words", "[B", true)
  | 10 => ("PatternMillModel", "wordSizes", "[I", true)
  | 11 => ("PatternMillModel", "matched", "Z", false)
  | 12 => ("PatternMillModel", "from", "I", false)
  | 13 => ("PatternMillModel", "to", "I", false)
  | 14 => ("PatternMillModel", "steps", "I", false)
  | 15 => ("PatternMillModel", "subject", "[B", true)
  | 16 => ("PatternMillModel", "n", "I", false)
  | 17 => ("PatternMillModel", "node", "[I", true)
  | 18 => ("PatternMillModel", "start", "[I", true)
  | 19 => ("PatternMillModel", "end", "[I", true)
  | 20 => ("PatternMillModel", "up", "[I", true)
  | 21 => ("PatternMillModel", "one", "[I", true)
  | 22 => ("PatternMillModel", "two", "[I", true)
  | 23 => ("PatternMillModel", "second", "[Z", true)
  | 24 => ("PatternMillModel", "stamp", "[I", true)
  | 25 => ("PatternMillModel", "clock", "I", false)
  | 26 => ("PatternMillModel", "row", "I", false)
  | 27 => ("PatternMillModel", "mode", "I", false)
  | 28 => ("PatternMillModel", "aborted", "Z", false)
  | 29 => ("PatternMillModel", "over", "Z", false)
  | _ => ("PatternMillModel", "parts", "[I", true)
def t_Model : Nat → FieldType := fun k => match k with
  | 0 => .int
  | 1 => .array (.byte)
  | 2 => .int
  | 3 => .array (.byte)
  | 4 => .array (.int)
  | 5 => .int
  | 6 => .array (.int)
  | 7 => .array (.int)
  | 8 => .array (.int)
  | 9 => .array (.byte)
  | 10 => .array (.int)
  | 11 => .boolean
  | 12 => .int
  | 13 => .int
  | 14 => .int
  | 15 => .array (.byte)
  | 16 => .int
  | 17 => .array (.int)
  | 18 => .array (.int)
  | 19 => .array (.int)
  | 20 => .array (.int)
  | 21 => .array (.int)
  | 22 => .array (.int)
  | 23 => .array (.boolean)
  | 24 => .array (.int)
  | 25 => .int
  | 26 => .int
  | 27 => .int
  | 28 => .boolean
  | 29 => .boolean
  | _ => .array (.int)
def gw : List Cond := lw_tbl.filter goodWord
theorem gw_mem {w : Cond} (h : w ∈ lw_tbl) (g : goodWord w = true) : w ∈ gw := List.mem_filter.mpr ⟨h, g⟩
theorem gw_all {l : List Cond} (h : l.all (fun w => decide (w ∈ lw_tbl) && goodWord w) = true) : ∀ w ∈ l, w ∈ gw := fun w hw => by
  have h1 := List.all_eq_true.mp h w hw
  simp only [Bool.and_eq_true, decide_eq_true_eq] at h1
  exact gw_mem h1.1 h1.2
theorem n_Mill : ∀ a, a < 6 → ∀ b, b < 6 → a ≠ b → (F_Mill a).2.1 ≠ (F_Mill b).2.1 := by decide +kernel
theorem t_Mill_ok : ∀ k, k < 6 → parseFieldDescriptor (F_Mill k).2.2.1 = some (t_Mill k) := by decide +kernel
theorem i_Mill : ∀ w ∈ u_ws R_Mill F_Mill 6, w ∈ gw := gw_all (by decide +kernel)
theorem n_Text : ∀ a, a < 2 → ∀ b, b < 2 → a ≠ b → (F_Text a).2.1 ≠ (F_Text b).2.1 := by decide +kernel
theorem t_Text_ok : ∀ k, k < 2 → parseFieldDescriptor (F_Text k).2.2.1 = some (t_Text k) := by decide +kernel
theorem i_Text : ∀ w ∈ u_ws R_Text F_Text 2, w ∈ gw := gw_all (by decide +kernel)
theorem n_Nodes : ∀ a, a < 5 → ∀ b, b < 5 → a ≠ b → (F_Nodes a).2.1 ≠ (F_Nodes b).2.1 := by decide +kernel
theorem t_Nodes_ok : ∀ k, k < 5 → parseFieldDescriptor (F_Nodes k).2.2.1 = some (t_Nodes k) := by decide +kernel
theorem i_Nodes : ∀ w ∈ u_ws R_Nodes F_Nodes 5, w ∈ gw := gw_all (by decide +kernel)
theorem n_Matcher : ∀ a, a < 12 → ∀ b, b < 12 → a ≠ b → (F_Matcher a).2.1 ≠ (F_Matcher b).2.1 := by decide +kernel
theorem t_Matcher_ok : ∀ k, k < 12 → parseFieldDescriptor (F_Matcher k).2.2.1 = some (t_Matcher k) := by decide +kernel
theorem i_Matcher : ∀ w ∈ u_ws R_Matcher F_Matcher 12, w ∈ gw := gw_all (by decide +kernel)
theorem n_Goals : ∀ a, a < 5 → ∀ b, b < 5 → a ≠ b → (F_Goals a).2.1 ≠ (F_Goals b).2.1 := by decide +kernel
theorem t_Goals_ok : ∀ k, k < 5 → parseFieldDescriptor (F_Goals k).2.2.1 = some (t_Goals k) := by decide +kernel
theorem i_Goals : ∀ w ∈ u_ws R_Goals F_Goals 5, w ∈ gw := gw_all (by decide +kernel)
theorem n_Choices : ∀ a, a < 7 → ∀ b, b < 7 → a ≠ b → (F_Choices a).2.1 ≠ (F_Choices b).2.1 := by decide +kernel
theorem t_Choices_ok : ∀ k, k < 7 → parseFieldDescriptor (F_Choices k).2.2.1 = some (t_Choices k) := by decide +kernel
theorem i_Choices : ∀ w ∈ u_ws R_Choices F_Choices 7, w ∈ gw := gw_all (by decide +kernel)
theorem n_Kept : ∀ a, a < 4 → ∀ b, b < 4 → a ≠ b → (F_Kept a).2.1 ≠ (F_Kept b).2.1 := by decide +kernel
theorem t_Kept_ok : ∀ k, k < 4 → parseFieldDescriptor (F_Kept k).2.2.1 = some (t_Kept k) := by decide +kernel
theorem i_Kept : ∀ w ∈ u_ws R_Kept F_Kept 4, w ∈ gw := gw_all (by decide +kernel)
theorem n_Model : ∀ a, a < 31 → ∀ b, b < 31 → a ≠ b → (F_Model a).2.1 ≠ (F_Model b).2.1 := by decide +kernel
theorem t_Model_ok : ∀ k, k < 31 → parseFieldDescriptor (F_Model k).2.2.1 = some (t_Model k) := by decide +kernel
theorem i_Model : ∀ w ∈ u_ws R_Model F_Model 31, w ∈ gw := gw_all (by decide +kernel)
abbrev classes : List vw_C := [(R_Mill, F_Mill, 6), (R_Text, F_Text, 2), (R_Nodes, F_Nodes, 5), (R_Matcher, F_Matcher, 12), (R_Goals, F_Goals, 5), (R_Choices, F_Choices, 7), (R_Kept, F_Kept, 4), (R_Model, F_Model, 31)]
/-- a class by its number -/
def cnL : List String := ["PatternMill", "PatternMill$Text", "PatternMill$Nodes", "PatternMill$Matcher", "PatternMill$Goals", "PatternMill$Choices", "PatternMill$Kept", "PatternMillModel", "PatternMill$Kind", "java/lang/Enum", "java/lang/Object", "PatternMillLaw"]
/-- a field: the class that declares it, its name and its descriptor -/
def fdL : List (List (String × String × String)) := [[("PatternMill", "slip", "LPatternMill$Text;"), ("PatternMill", "made", "LPatternMill$Text;"), ("PatternMill", "variables", "[LPatternMill$Text;"), ("PatternMill", "nodes", "LPatternMill$Nodes;"), ("PatternMill", "matcher", "LPatternMill$Matcher;"), ("PatternMill", "matched", "Z")],
  [("PatternMill$Text", "signs", "[B"), ("PatternMill$Text", "size", "I")],
  [("PatternMill$Nodes", "kinds", "[LPatternMill$Kind;"), ("PatternMill$Nodes", "firsts", "[I"), ("PatternMill$Nodes", "seconds", "[I"), ("PatternMill$Nodes", "texts", "[LPatternMill$Text;"), ("PatternMill$Nodes", "count", "I")],
  [("PatternMill$Matcher", "nodes", "LPatternMill$Nodes;"), ("PatternMill$Matcher", "variables", "[LPatternMill$Text;"), ("PatternMill$Matcher", "subject", "LPatternMill$Text;"), ("PatternMill$Matcher", "goals", "LPatternMill$Goals;"), ("PatternMill$Matcher", "choices", "LPatternMill$Choices;"), ("PatternMill$Matcher", "kept", "LPatternMill$Kept;"), ("PatternMill$Matcher", "steps", "I"), ("PatternMill$Matcher", "place", "I"), ("PatternMill$Matcher", "goal", "I"), ("PatternMill$Matcher", "result", "I"), ("PatternMill$Matcher", "begin", "I"), ("PatternMill$Matcher", "outcome", "I")],
  [("PatternMill$Goals", "whats", "[B"), ("PatternMill$Goals", "abouts", "[I"), ("PatternMill$Goals", "froms", "[I"), ("PatternMill$Goals", "nexts", "[I"), ("PatternMill$Goals", "top", "I")],
  [("PatternMill$Choices", "kinds", "[B"), ("PatternMill$Choices", "places", "[I"), ("PatternMill$Choices", "goals", "[I"), ("PatternMill$Choices", "tops", "[I"), ("PatternMill$Choices", "kepts", "[I"), ("PatternMill$Choices", "depths", "[I"), ("PatternMill$Choices", "size", "I")],
  [("PatternMill$Kept", "variables", "[I"), ("PatternMill$Kept", "froms", "[I"), ("PatternMill$Kept", "untils", "[I"), ("PatternMill$Kept", "size", "I")],
  [("PatternMillModel", "thrown", "I"), ("PatternMillModel", "slip", "[B"), ("PatternMillModel", "slipSize", "I"), ("PatternMillModel", "texts", "[B"), ("PatternMillModel", "sizes", "[I"), ("PatternMillModel", "nodes", "I"), ("PatternMillModel", "kinds", "[I"), ("PatternMillModel", "firsts", "[I"), ("PatternMillModel", "seconds", "[I"), ("PatternMillModel", "words", "[B"), ("PatternMillModel", "wordSizes", "[I"), ("PatternMillModel", "matched", "Z"), ("PatternMillModel", "from", "I"), ("PatternMillModel", "to", "I"), ("PatternMillModel", "steps", "I"), ("PatternMillModel", "subject", "[B"), ("PatternMillModel", "n", "I"), ("PatternMillModel", "node", "[I"), ("PatternMillModel", "start", "[I"), ("PatternMillModel", "end", "[I"), ("PatternMillModel", "up", "[I"), ("PatternMillModel", "one", "[I"), ("PatternMillModel", "two", "[I"), ("PatternMillModel", "second", "[Z"), ("PatternMillModel", "stamp", "[I"), ("PatternMillModel", "clock", "I"), ("PatternMillModel", "row", "I"), ("PatternMillModel", "mode", "I"), ("PatternMillModel", "aborted", "Z"), ("PatternMillModel", "over", "Z"), ("PatternMillModel", "parts", "[I")],
  [("PatternMill$Kind", "text", "Z"), ("PatternMill$Kind", "first", "I"), ("PatternMill$Kind", "second", "I"), ("java/lang/Enum", "ordinal", "I")]]
def fd (ci j : Nat) : String × String × String := ((nth fdL ci).bind (fun l => nth l j)).getD ("", "", "")
theorem lk_mem {α : Type} {l : List (Nat × α)} {k : Nat} {v : α} (h : lk l k = some v) : (k, v) ∈ l := by
  induction l with
  | nil => cases h
  | cons q r ih =>
    unfold lk at h
    cases hb : Nat.beq q.1 k
    · rw [hb] at h
      exact List.mem_cons_of_mem _ (ih h)
    · rw [hb] at h
      have e := Nat.eq_of_beq_eq_true hb
      cases h
      rw [← e]
      exact List.mem_cons_self
def okF (own : String) (k ci j : Nat) : Bool := decide (j < ((nth fdL ci).map List.length).getD 0) && ((decide (Cond.fieldLink own k (fd ci j).1 (fd ci j).2.1 (fd ci j).2.2 ∈ lw_tbl) && goodWord (Cond.fieldLink own k (fd ci j).1 (fd ci j).2.1 (fd ci j).2.2)) || decide (Cond.fieldLinkNest own k (fd ci j).1 (fd ci j).2.1 (fd ci j).2.2 "PatternMill" ∈ lw_tbl))
/-- the fields' links of a class are in the tables -/
def FlOK (own : String) (fl : Fl) : Prop := ∀ k ci j, fl k = some (ci, j) → j < ((nth fdL ci).map List.length).getD 0 ∧ (Cond.fieldLink own k (fd ci j).1 (fd ci j).2.1 (fd ci j).2.2 ∈ gw ∨ Cond.fieldLinkNest own k (fd ci j).1 (fd ci j).2.1 (fd ci j).2.2 "PatternMill" ∈ lw_tbl)
theorem fl_of {own : String} {l : List (Nat × Nat × Nat)} (h : l.all (fun q => okF own q.1 q.2.1 q.2.2) = true) : FlOK own (lk l) := by
  intro k ci j hk
  have h1 := List.all_eq_true.mp h _ (lk_mem hk)
  simp only [okF, Bool.and_eq_true, Bool.or_eq_true, decide_eq_true_eq] at h1
  exact ⟨h1.1, h1.2.imp (fun q => gw_mem q.1 q.2) (fun q => q)⟩
def KlOK (own : String) (kl : Nat → Option Nat) : Prop := ∀ k ci, kl k = some ci → Cond.classLink own k ((nth cnL ci).getD "") ∈ gw
theorem kl_of {own : String} {l : List (Nat × Nat)} (h : (l.map (fun q => Cond.classLink own q.1 ((nth cnL q.2).getD ""))).all (fun w => decide (w ∈ lw_tbl) && goodWord w) = true) : KlOK own (lk l) := fun k ci hk => gw_all h _ (List.mem_map.mpr ⟨(k, ci), lk_mem hk, rfl⟩)

theorem fo_Mill : FlOK R_Mill fl_Mill := fl_of (by decide +kernel)
theorem ko_Mill : KlOK R_Mill kl_Mill := kl_of (by decide +kernel)
theorem fo_Text : FlOK R_Text fl_Text := fl_of (by decide +kernel)
theorem ko_Text : KlOK R_Text kl_Text := kl_of (by decide +kernel)
theorem fo_Nodes : FlOK R_Nodes fl_Nodes := fl_of (by decide +kernel)
theorem ko_Nodes : KlOK R_Nodes kl_Nodes := kl_of (by decide +kernel)
theorem fo_Matcher : FlOK R_Matcher fl_Matcher := fl_of (by decide +kernel)
theorem ko_Matcher : KlOK R_Matcher kl_Matcher := kl_of (by decide +kernel)
theorem fo_Goals : FlOK R_Goals fl_Goals := fl_of (by decide +kernel)
theorem ko_Goals : KlOK R_Goals kl_Goals := kl_of (by decide +kernel)
theorem fo_Choices : FlOK R_Choices fl_Choices := fl_of (by decide +kernel)
theorem ko_Choices : KlOK R_Choices kl_Choices := kl_of (by decide +kernel)
theorem fo_Kept : FlOK R_Kept fl_Kept := fl_of (by decide +kernel)
theorem ko_Kept : KlOK R_Kept kl_Kept := kl_of (by decide +kernel)
theorem fo_Model : FlOK R_Model fl_Model := fl_of (by decide +kernel)
theorem ko_Model : KlOK R_Model kl_Model := kl_of (by decide +kernel)
theorem fo_Kind : FlOK R_Kind fl_Kind := fl_of (by decide +kernel)
theorem ko_Kind : KlOK R_Kind kl_Kind := kl_of (by decide +kernel)
theorem fo_Enum : FlOK R_Enum fl_Enum := fl_of (by decide +kernel)
theorem ko_Enum : KlOK R_Enum kl_Enum := kl_of (by decide +kernel)
theorem fo_Object : FlOK R_Object fl_Object := fl_of (by decide +kernel)
theorem ko_Object : KlOK R_Object kl_Object := kl_of (by decide +kernel)
theorem fo_Law : FlOK R_LawC fl_Law := fl_of (by decide +kernel)
theorem ko_Law : KlOK R_LawC kl_Law := kl_of (by decide +kernel)
end
section
/-! The world: cells of ours by the order in which they are made; the constants -/
/-- where our cells begin; the constants' addresses; classes and slots; classes of arrays -/
abbrev Gp : Type := Nat × (Nat → Nat → Nat) × va_G × (Nat → ClassId)
def adr (G : Gp) (q : Nat × Nat) : Nat := if q.1 < 45 then G.1 + ad q.1 q.2 else G.2.1 q.1 q.2
def cv (G : Gp) : Av → Value
  | .inl x => .int (Int32.ofInt x)
  | .inr r => va_rf (r.map (adr G))
def nF (ci : Nat) : Nat := ((nth frL ci).map List.length).getD 0
def fvl (G : Gp) (s : St) (a b ci j : Nat) : Value := if fk ci j = 1 then va_rf ((s.2.2 a b j).map (adr G)) else .int (Int32.ofInt (s.2.1 a b j))
def ent (G : Gp) (s : St) (q : Nat × Nat) : va_E := match shp q.1 with
  | .inl ci => .inr (ci, (List.range (nF ci)).map (fvl G s q.1 q.2 ci))
  | .inr (t, n) => if t < 3 then .inl (G.2.2.2 t, n, .inl (fun i => Int32.ofInt (s.2.1 q.1 q.2 i))) else .inl (G.2.2.2 t, n, .inr (.inr (.inr (.inr (fun i => (s.2.2 q.1 q.2 i).map (adr G))))))
def wl (G : Gp) (s : St) : va_W := (List.range s.1).map (fun k => (G.1 + k, ent G s (idof k)))
theorem nth_get {α : Type} : ∀ (l : List α) (i : Nat), nth l i = l[i]?
  | [], i => by simp [nth]
  | q :: r, 0 => by simp [nth]
  | q :: r, i + 1 => by simp [nth, nth_get r i]
theorem ad_idof65 : ∀ k, k < 65 → ad (idof k).1 (idof k).2 = k := by decide +kernel
theorem ad_idof (k : Nat) : ad (idof k).1 (idof k).2 = k := by
  by_cases h : k < 65
  · exact ad_idof65 k h
  · by_cases h2 : (k - 65) % 2 = 0
    · have e : idof k = (1, 11 + (k - 65) / 2) := by simp [idof, h, h2]
      rw [e]
      simp only [ad, adT]
      rw [if_pos trivial, if_neg (by omega), if_neg (by omega), if_neg (by omega), if_neg (by omega)]
      omega
    · have e : idof k = (2, 11 + (k - 65) / 2) := by simp [idof, h, h2]
      rw [e]
      simp only [ad, adT]
      rw [if_neg (by omega), if_pos trivial, if_neg (by omega), if_neg (by omega), if_neg (by omega), if_neg (by omega)]
      omega
section
variable {G : Gp} {s s' : St}
theorem wl_get {k : Nat} (h : k < s.1) : (wl G s)[k]? = some (G.1 + k, ent G s (idof k)) := by simp [wl, List.getElem?_map, List.getElem?_range h]
theorem wl_out {k : Nat} (h : ¬ k < s.1) : (wl G s)[k]? = none := by
  have : (List.range s.1)[k]? = none := by simp; omega
  simp [wl, List.getElem?_map, this]
theorem wl_inv {k : Nat} {q : Nat × va_E} (h : (wl G s)[k]? = some q) : k < s.1 ∧ q = (G.1 + k, ent G s (idof k)) := by
  by_cases hk : k < s.1
  · rw [wl_get hk] at h
    exact ⟨hk, (Option.some.inj h).symm⟩
  · rw [wl_out hk] at h
    cases h
theorem wl_at {a b : Nat} (h : idq a b = true) (hl : ad a b < s.1) : (wl G s)[ad a b]? = some (G.1 + ad a b, ent G s (a, b)) := by rw [wl_get hl, idof_ad h]
theorem wl_D : va_D (fun q => G.1 ≤ q) (wl G s) := by
  refine ⟨fun i j p q hp hq e => ?_, fun k q hq => ?_⟩
  · obtain ⟨-, rfl⟩ := wl_inv hp
    obtain ⟨-, rfl⟩ := wl_inv hq
    simp only at e
    omega
  · obtain ⟨-, rfl⟩ := wl_inv hq
    simp
theorem ent_same {q : Nat × Nat} (h1 : ∀ j, s'.2.1 q.1 q.2 j = s.2.1 q.1 q.2 j) (h2 : ∀ j, s'.2.2 q.1 q.2 j = s.2.2 q.1 q.2 j) : ent G s' q = ent G s q := by
  have e1 : s'.2.1 q.1 q.2 = s.2.1 q.1 q.2 := funext h1
  have e2 : s'.2.2 q.1 q.2 = s.2.2 q.1 q.2 := funext h2
  unfold ent
  have e3 : ∀ ci, fvl G s' q.1 q.2 ci = fvl G s q.1 q.2 ci := fun ci => by funext j; simp only [fvl, e1, e2]
  simp only [e1, e2, e3]
theorem wl_set {a b : Nat} (h1 : s'.1 = s.1) (hq : idq a b = true) (hl : ad a b < s.1) (hs : ∀ q, q ≠ (a, b) → ent G s' q = ent G s q) : (wl G s).set (ad a b) (G.1 + ad a b, ent G s' (a, b)) = wl G s' := by
  apply List.ext_getElem?
  intro i
  by_cases hi : i < s.1
  · rw [wl_get (s := s') (by omega)]
    by_cases hia : i = ad a b
    · subst hia
      rw [List.getElem?_set_self (by simp [wl]; exact hl), idof_ad hq]
    · rw [List.getElem?_set_ne (Ne.symm hia), wl_get hi, hs]
      intro e
      apply hia
      have := ad_idof i
      rw [e] at this
      exact this.symm
  · rw [wl_out (s := s') (by omega), List.getElem?_eq_none]
    simp [wl]
    omega
theorem wl_push {a b : Nat} (h1 : s'.1 = s.1 + 1) (hq : idq a b = true) (hl : ad a b = s.1) (hs : ∀ q, q ≠ (a, b) → ent G s' q = ent G s q) : wl G s ++ [(G.1 + s.1, ent G s' (a, b))] = wl G s' := by
  have hlen : (wl G s).length = s.1 := by simp [wl]
  apply List.ext_getElem?
  intro i
  by_cases hi : i < s.1
  · rw [wl_get (s := s') (by omega), List.getElem?_append_left (by omega), wl_get hi, hs]
    intro e
    have := ad_idof i
    rw [e] at this
    simp only at this
    omega
  · by_cases hi2 : i = s.1
    · subst hi2
      rw [wl_get (s := s') (by omega), List.getElem?_append_right (by omega), hlen, Nat.sub_self, ← hl, idof_ad hq]
      rfl
    · rw [wl_out (s := s') (by omega), List.getElem?_eq_none]
      simp [hlen]
      omega
end
/-- the heap holds the world -/
def HP (G : Gp) (s : St) (H : Heap) : Prop := va_P G.2.2.1 classes (wl G s) H ∧ H.size = G.1 + s.1
def okr (s : St) (q : Nat × Nat) : Prop := (idq q.1 q.2 = true ∧ ad q.1 q.2 < s.1) ∨ (q.1 = 45 ∧ q.2 < 24) ∨ (q.1 = 46 ∧ q.2 = 0) ∨ (q.1 = 47 ∧ q.2 = 0)
def okv (s : St) : Av → Prop
  | .inl x => rng x
  | .inr none => True
  | .inr (some q) => okr s q
def Wf (s : St) : Prop := (∀ a b j, rng (s.2.1 a b j)) ∧ (∀ a b j q, (idq a b = true ∧ ad a b < s.1) → s.2.2 a b j = some q → okr s q) ∧ ∀ a b j n, shp a = .inr (1, n) → b8 (s.2.1 a b j) = s.2.1 a b j
theorem okr.mono {s s' : St} {q : Nat × Nat} (h : s.1 ≤ s'.1) (hq : okr s q) : okr s' q := by
  rcases hq with ⟨h1, h2⟩ | h1
  · exact Or.inl ⟨h1, by omega⟩
  · exact Or.inr h1
theorem okv.mono {s s' : St} {v : Av} (h : s.1 ≤ s'.1) (hv : okv s v) : okv s' v := by
  rcases v with x | (_ | q)
  · exact hv
  · trivial
  · exact okr.mono h hv
def okc (s : St) (lv : List (Option Av)) (st : List Av) : Prop := (∀ v ∈ st, okv s v) ∧ ∀ i v, nth lv i = some (some v) → okv s v
/-- locals -/
def lvl (G : Gp) : Nat → List (Option Av) → List (Nat × Value)
  | _, [] => []
  | k, none :: r => lvl G (k + 1) r
  | k, some v :: r => (k, cv G v) :: lvl G (k + 1) r
theorem lvl_mem (G : Gp) : ∀ (lv : List (Option Av)) (k i : Nat) (v : Av), nth lv i = some (some v) → (k + i, cv G v) ∈ lvl G k lv
  | [], k, i, v, h => by cases h
  | none :: r, k, 0, v, h => by cases h
  | none :: r, k, i + 1, v, h => by
    have := lvl_mem G r (k + 1) i v h
    rw [show k + (i + 1) = k + 1 + i by omega]
    exact this
  | some w :: r, k, 0, v, h => by
    cases h
    exact List.mem_cons_self
  | some w :: r, k, i + 1, v, h => by
    have := lvl_mem G r (k + 1) i v h
    rw [show k + (i + 1) = k + 1 + i by omega]
    exact List.mem_cons_of_mem _ this
theorem lvl_inv (G : Gp) : ∀ (lv : List (Option Av)) (k : Nat) (q : Nat × Value), q ∈ lvl G k lv → ∃ i v, nth lv i = some (some v) ∧ q = (k + i, cv G v)
  | [], k, q, h => by cases h
  | none :: r, k, q, h => by
    obtain ⟨i, v, h1, h2⟩ := lvl_inv G r (k + 1) q h
    exact ⟨i + 1, v, h1, by rw [h2, show k + 1 + i = k + (i + 1) by omega]⟩
  | some w :: r, k, q, h => by
    rcases List.mem_cons.mp h with h | h
    · exact ⟨0, w, rfl, h⟩
    · obtain ⟨i, v, h1, h2⟩ := lvl_inv G r (k + 1) q h
      exact ⟨i + 1, v, h1, by rw [h2, show k + 1 + i = k + (i + 1) by omega]⟩
def lh (G : Gp) (ls : Array Slot) (nL : Nat) (lv : List (Option Av)) : Prop := lv_has ls nL (lvl G 0 lv)
theorem lh_at {G : Gp} {ls : Array Slot} {nL : Nat} {lv : List (Option Av)} {i : Nat} {v : Av} (h : lh G ls nL lv) (hi : nth lv i = some (some v)) : ls[i]? = some (.val (cv G v)) := by
  have := h.2.2 _ (lvl_mem G lv 0 i v hi)
  simpa using this
theorem cv_cat (G : Gp) (v : Av) : (cv G v).category = 1 := by rcases v with x | (_ | q) <;> rfl
theorem nth_set {lv : List (Option Av)} {i j : Nat} {x y : Option Av} (h : nth (lv.set i x) j = some y) : (j = i ∧ y = x) ∨ (j ≠ i ∧ nth lv j = some y) := by
  rw [nth_get] at h ⊢
  by_cases hj : j = i
  · subst hj
    rw [List.getElem?_set] at h
    simp at h
    exact Or.inl ⟨rfl, h.2.symm⟩
  · rw [List.getElem?_set_ne (Ne.symm hj)] at h
    exact Or.inr ⟨hj, h⟩
theorem lh_set {G : Gp} {ls : Array Slot} {nL : Nat} {lv : List (Option Av)} {i : Nat} {v : Av} (h : lv_has ls nL ((i, cv G v) :: (lvl G 0 lv).filter (fun q => !(q.1 == i) && !(q.1 + 1 == i && q.2.category == 2)))) : lh G ls nL (lv.set i (some v)) := by
  refine ⟨h.1, h.2.1, fun q hq => ?_⟩
  obtain ⟨j, w, h1, rfl⟩ := lvl_inv G _ 0 q hq
  refine h.2.2 _ ?_
  rcases nth_set h1 with ⟨rfl, e⟩ | ⟨hj, e⟩
  · cases e
    rw [Nat.zero_add]
    exact List.mem_cons_self
  · refine List.mem_cons_of_mem _ (List.mem_filter.mpr ⟨lvl_mem G lv 0 j w e, ?_⟩)
    simp [cv_cat, hj]
theorem okc_set {s : St} {lv : List (Option Av)} {st : List Av} {i : Nat} {v : Av} (h : okc s lv st) (hv : okv s v) : okc s (lv.set i (some v)) st := by
  refine ⟨h.1, fun j w hw => ?_⟩
  rcases nth_set hw with ⟨-, e⟩ | ⟨-, e⟩
  · cases e
    exact hv
  · exact h.2 j w e
theorem okc.mono {s s' : St} {lv : List (Option Av)} {st : List Av} (h : s.1 ≤ s'.1) (hc : okc s lv st) : okc s' lv st := ⟨fun v hv => (hc.1 v hv).mono h, fun i v hv => (hc.2 i v hv).mono h⟩
/-! numbers -/
theorem wr_rng (x : Int) : rng (wr x) := ⟨Int32.le_toInt _, Int32.toInt_lt _⟩
theorem rng_32 (x : Int32) : rng x.toInt := ⟨Int32.le_toInt _, Int32.toInt_lt _⟩
theorem of_to (x : Int32) : Int32.ofInt x.toInt = x := Int32.ofInt_toInt x
theorem of_wr (x : Int) : Int32.ofInt (wr x) = Int32.ofInt x := of_to _
theorem to_of {x : Int} (h : rng x) : (Int32.ofInt x).toInt = x := by
  apply Int32.toInt_ofInt_of_le
  · exact h.1
  · exact h.2
theorem wr_eq {x : Int} (h : rng x) : wr x = x := to_of h
theorem of_lt {x y : Int} (hx : rng x) (hy : rng y) : Int32.ofInt x < Int32.ofInt y ↔ x < y := by rw [Int32.lt_iff_toInt_lt, to_of hx, to_of hy]
theorem of_le {x y : Int} (hx : rng x) (hy : rng y) : Int32.ofInt x ≤ Int32.ofInt y ↔ x ≤ y := by rw [Int32.le_iff_toInt_le, to_of hx, to_of hy]
theorem of_eq {x y : Int} (hx : rng x) (hy : rng y) : Int32.ofInt x = Int32.ofInt y ↔ x = y := by
  constructor
  · intro h
    have := congrArg Int32.toInt h
    rwa [to_of hx, to_of hy] at this
  · intro h
    rw [h]
theorem of_clamp {x : Int} (hx : rng x) : (Int32.ofInt x).toNatClampNeg = x.toNat := by
  show (Int32.ofInt x).toInt.toNat = x.toNat
  rw [to_of hx]
theorem rng0 : rng 0 := ⟨by decide, by decide⟩
theorem of_in {x : Int} {n : Nat} (hx : rng x) (h : 0 ≤ x ∧ x < n) : vp_in (Int32.ofInt x) n := by
  intro q
  rcases q with q | q
  · have : Int32.ofInt x < Int32.ofInt 0 := q
    rw [of_lt hx rng0] at this
    omega
  · rw [of_clamp hx] at q
    omega
end
section
/-! Soundness: what a step says holds of the machine. First the codes. -/
def ilen : Instr → Nat
  | .bipush _ => 2
  | .sipush _ => 3
  | .iload _ => 2
  | .aload _ => 2
  | .istore _ => 2
  | .astore _ => 2
  | .iinc _ _ => 3
  | .goto _ => 3
  | .ifCond _ _ => 3
  | .if_icmp _ _ => 3
  | .if_acmp _ _ => 3
  | .ifnonnull _ => 3
  | .getfield _ => 3
  | .putfield _ => 3
  | .getstatic _ => 3
  | .invokevirtual _ => 3
  | .invokespecial _ => 3
  | .invokestatic _ => 3
  | .new _ => 3
  | .newarray _ => 2
  | .anewarray _ => 3
  | _ => 1
def rngB (n : Int) : Bool := decide (-2147483648 ≤ n) && decide (n < 2147483648)
def okE (pc : Nat) (i : Instr) (nx tg : Nat) (cas : List (Int × Nat)) : Bool := match i with
  | .iconst n => decide (nx = pc + 1) && rngB n
  | .bipush n => decide (nx = pc + 2) && rngB n && decide ((Int8.ofInt n).toInt32 = Int32.ofInt n)
  | .sipush n => decide (nx = pc + 3) && rngB n && decide ((Int16.ofInt n).toInt32 = Int32.ofInt n)
  | .iinc _ n => decide (nx = pc + 3) && rngB n
  | .goto off => decide (nx = pc + 3) && decide ((pc : Int) + off = tg)
  | .ifCond _ off => decide (nx = pc + 3) && decide ((pc : Int) + off = tg)
  | .if_icmp _ off => decide (nx = pc + 3) && decide ((pc : Int) + off = tg)
  | .if_acmp _ off => decide (nx = pc + 3) && decide ((pc : Int) + off = tg)
  | .ifnonnull off => decide (nx = pc + 3) && decide ((pc : Int) + off = tg)
  | .tableswitch d lo hi offs => decide ((pc : Int) + d = tg) && decide (hi = lo + offs.size - 1) && decide (cas = (List.range offs.size).map (fun j : Nat => (lo + (j : Int), ((pc : Int) + offs.getD j 0).toNat))) && (List.range offs.size).all (fun j => decide (0 ≤ (pc : Int) + offs.getD j 0))
  | .lookupswitch d ps => decide ((pc : Int) + d = tg) && (ps.toList.zip (ps.toList.drop 1)).all (fun (a, next) => a.1 < next.1) && decide (cas = ps.toList.map (fun q => (q.1, ((pc : Int) + q.2).toNat))) && ps.toList.all (fun q => decide (0 ≤ (pc : Int) + q.2))
  | i => decide (nx = pc + ilen i)
/-- a code's table is the code's -/
def CodeOK (cc : ByteArray) (code : Nat → Option En) : Prop := ∀ pc i nx tg cas, code pc = some (i, nx, tg, cas) → decode cc pc = .ok (i, nx - pc) ∧ okE pc i nx tg cas = true
def chkE (cc : ByteArray) (q : Nat × En) : Bool := decide (decode cc q.1 = .ok (q.2.1, q.2.2.1 - q.1)) && okE q.1 q.2.1 q.2.2.1 q.2.2.2.1 q.2.2.2.2
theorem code_of {cc : ByteArray} {l : List (Nat × En)} (h : l.all (chkE cc) = true) : CodeOK cc (lk l) := by
  intro pc i nx tg cas hk
  have h1 := List.all_eq_true.mp h _ (lk_mem hk)
  simp only [chkE, Bool.and_eq_true, decide_eq_true_eq] at h1
  exact h1
/-! Classes' facts by number -/
def clr (ci : Nat) : vw_C := (classes[ci]?).getD ("", fun _ => ("", "", "", false), 0)
theorem c8 {ci : Nat} (h : ci < 8) : ci = 0 ∨ ci = 1 ∨ ci = 2 ∨ ci = 3 ∨ ci = 4 ∨ ci = 5 ∨ ci = 6 ∨ ci = 7 := by omega
theorem cl_at {ci : Nat} (h : ci < 8) : classes[ci]? = some (clr ci) := by rcases c8 h with rfl | rfl | rfl | rfl | rfl | rfl | rfl | rfl <;> rfl
theorem cl_N : ∀ ci, ci < 8 → (clr ci).2.2 = nF ci := by decide +kernel
theorem cl_nm : ∀ ci, ci < 8 → (clr ci).1 = (nth cnL ci).getD "" := by decide +kernel
theorem cl_in {ci : Nat} (h : ci < 8) : ∀ w ∈ u_ws (clr ci).1 (clr ci).2.1 (clr ci).2.2, w ∈ gw := by
  rcases c8 h with rfl | rfl | rfl | rfl | rfl | rfl | rfl | rfl
  · exact i_Mill
  · exact i_Text
  · exact i_Nodes
  · exact i_Matcher
  · exact i_Goals
  · exact i_Choices
  · exact i_Kept
  · exact i_Model
theorem cl_nd {ci : Nat} (h : ci < 8) : ∀ a, a < (clr ci).2.2 → ∀ b, b < (clr ci).2.2 → a ≠ b → ((clr ci).2.1 a).2.1 ≠ ((clr ci).2.1 b).2.1 := by
  rcases c8 h with rfl | rfl | rfl | rfl | rfl | rfl | rfl | rfl
  · exact n_Mill
  · exact n_Text
  · exact n_Nodes
  · exact n_Matcher
  · exact n_Goals
  · exact n_Choices
  · exact n_Kept
  · exact n_Model
def cty (ci : Nat) : Nat → FieldType := match ci with
  | 0 => t_Mill
  | 1 => t_Text
  | 2 => t_Nodes
  | 3 => t_Matcher
  | 4 => t_Goals
  | 5 => t_Choices
  | 6 => t_Kept
  | _ => t_Model
theorem cl_ty {ci : Nat} (h : ci < 8) : ∀ k, k < (clr ci).2.2 → parseFieldDescriptor ((clr ci).2.1 k).2.2.1 = some (cty ci k) := by
  rcases c8 h with rfl | rfl | rfl | rfl | rfl | rfl | rfl | rfl
  · exact t_Mill_ok
  · exact t_Text_ok
  · exact t_Nodes_ok
  · exact t_Matcher_ok
  · exact t_Goals_ok
  · exact t_Choices_ok
  · exact t_Kept_ok
  · exact t_Model_ok
theorem cl_fd1 : ∀ ci, ci < 8 → ∀ j, j < nF ci → ((clr ci).2.1 j).1 = (fd ci j).1 ∧ ((clr ci).2.1 j).2.1 = (fd ci j).2.1 ∧ ((clr ci).2.1 j).2.2.1 = (fd ci j).2.2 ∧ (((clr ci).2.1 j).2.2.2 = (fk ci j == 1)) ∧ (fk ci j = 0 ∨ fk ci j = 1 ∨ fk ci j = 2) := by decide +kernel
theorem cl_fd2 : ∀ ci, ci < 8 → ∀ j, j < nF ci → (fk ci j = 0 → cty ci j = .int) ∧ (fk ci j = 2 → cty ci j = .boolean) ∧ (fk ci j = 1 → (cty ci j).isReference = true) ∧ (fk ci j = 1 → ((clr ci).2.1 j).1 = (nth cnL ci).getD "") := by decide +kernel
theorem cl_in2 : ∀ ci, ci < 8 → Cond.instantiable ((nth cnL ci).getD "") (nF ci) ∈ gw ∧ Cond.initialized ((nth cnL ci).getD "") ∈ gw := by
  have h : ((List.range 8).flatMap (fun ci => [Cond.instantiable ((nth cnL ci).getD "") (nF ci), Cond.initialized ((nth cnL ci).getD "")])).all (fun w => decide (w ∈ lw_tbl) && goodWord w) = true := by decide +kernel
  intro ci hc
  exact ⟨gw_all h _ (List.mem_flatMap.mpr ⟨ci, List.mem_range.mpr hc, by simp⟩), gw_all h _ (List.mem_flatMap.mpr ⟨ci, List.mem_range.mpr hc, by simp⟩)⟩
theorem fd_len : ∀ ci, ci < 8 → ((nth fdL ci).map List.length).getD 0 = nF ci := by decide +kernel
/-- what the numbers of classes are -/
theorem shp_cl : ∀ a, a < 46 → (match shp a with | .inl ci => decide ((ci < 8 ∧ a < 45 ∧ nth oaL ci = some a) ∨ (ci = 8 ∧ a = 45)) | .inr (t, _) => decide (t < 5 ∧ a < 45)) = true := by decide +kernel
theorem shp_out {a : Nat} (h : ¬ a < 46) : shp a = .inl 99 := by
  unfold shp
  rw [nth_get, List.getElem?_eq_none (by show 46 ≤ a; omega)]
theorem shp_obj {a ci : Nat} (h : shp a = .inl ci) (h9 : ci < 9) : (ci < 8 ∧ a < 45) ∨ (ci = 8 ∧ a = 45) := by
  by_cases ha : a < 46
  · have := shp_cl a ha
    rw [h] at this
    simp only [decide_eq_true_eq] at this
    rcases this with q | q
    · exact Or.inl ⟨q.1, q.2.1⟩
    · exact Or.inr q
  · rw [shp_out ha] at h
    cases h
    omega
theorem shp_arr {a t n : Nat} (h : shp a = .inr (t, n)) : a < 45 ∧ t < 5 := by
  by_cases ha : a < 46
  · have := shp_cl a ha
    rw [h] at this
    simp only [decide_eq_true_eq] at this
    exact ⟨this.2, this.1⟩
  · rw [shp_out ha] at h
    cases h
theorem okr_our {s : St} {a b : Nat} (h : okr s (a, b)) (ha : a < 45) : idq a b = true ∧ ad a b < s.1 := by
  rcases h with h | ⟨h, -⟩ | ⟨h, -⟩ | ⟨h, -⟩
  · exact h
  · simp only at h; omega
  · simp only at h; omega
  · simp only at h; omega
theorem adr_our {G : Gp} {a b : Nat} (ha : a < 45) : adr G (a, b) = G.1 + ad a b := by simp [adr, ha]
/-! the constants -/
def kNames : List String := ["WORD", "ANY", "NOT", "SPAN", "BREAK", "LEN", "FROM", "BEFORE", "TAB", "BACK", "REST", "ARB", "BALANCED", "FAIL", "FENCE", "ABORT", "MANY", "THEN", "OR", "KEEP", "NOW", "PLACE", "VALUE", "LATER"]
def kTab : List (String × String × String × List Int32) := [("PatternMill$Kind", "text", "Z", [1, 1, 1, 1, 1, 0, 0, 0, 0, 0, 0, 0, 0, 0, 0, 0, 0, 0, 0, 0, 0, 0, 0, 0]), ("PatternMill$Kind", "first", "I", [0, 0, 0, 0, 0, 1, 1, 1, 1, 1, 0, 0, 0, 0, 0, 0, 2, 2, 2, 2, 2, 3, 3, 4]),
  ("PatternMill$Kind", "second", "I", [0, 0, 0, 0, 0, 0, 0, 0, 0, 0, 0, 0, 0, 0, 0, 0, 0, 2, 2, 3, 3, 0, 0, 0]), ("java/lang/Enum", "ordinal", "I", [0, 1, 2, 3, 4, 5, 6, 7, 8, 9, 10, 11, 12, 13, 14, 15, 16, 17, 18, 19, 20, 21, 22, 23])]
def kRow (j : Nat) : String × String × String × List Int32 := (nth kTab j).getD ("", "", "", [])
theorem kTab_ok : ∀ j, j < 4 → kRow j ∈ kTab ∧ (kRow j).1 = (fd 8 j).1 ∧ (kRow j).2.1 = (fd 8 j).2.1 ∧ (kRow j).2.2.1 = (fd 8 j).2.2 ∧ ∀ b, b < 24 → (kRow j).2.2.2.getD b 0 = Int32.ofInt (kF j b) ∧ -5 < kF j b ∧ kF j b < 30 := by decide +kernel
def isNest : Cond → Bool
  | .fieldLinkNest .. => true
  | .methodLinkNest .. => true
  | _ => false
def tysL (G : Gp) : List (ClassId × FieldType) := [(G.2.2.2 0, .int), (G.2.2.2 1, .byte), (G.2.2.2 2, .boolean), (G.2.2.2 3, .object "PatternMill$Kind"), (G.2.2.2 4, .object "PatternMill$Text")]
/-- what is known of classes in a state -/
def KK (G : Gp) (U : State) : Prop := va_K G.2.2.1 classes (tysL G) U ∧ (∀ w ∈ lw_tbl, isNest w = true → va_Nw w U) ∧ va_AO "PatternMill$Kind" U ∧ va_AO "PatternMill$Text" U ∧ ∃ (cK : ClassId) (k : Class), U.vm.findClass "PatternMill$Kind" = some cK ∧ U.vm.classes[cK]? = some k ∧ U.vm.assignable cK cK = true
/-- the constants in a heap -/
def CN (G : Gp) (SL : Nat) (xs : Nat → Int) (U : State) (H : Heap) : Prop := va_En "PatternMill$Kind" "LPatternMill$Kind;" kNames kTab (G.2.1 45) (fun q => G.1 ≤ q) U H ∧ va_Z "PatternMill" "KINDS" "[LPatternMill$Kind;" (.ref (G.2.1 46 0)) (fun q => G.1 ≤ q) U H ∧ va_T (.object "PatternMill$Kind") (G.2.1 46 0) 24 (fun i => .ref (G.2.1 45 i)) (fun q => G.1 ≤ q) U H ∧
  va_X (G.2.1 47 0) SL (fun j => Int32.ofInt (xs j)) U H ∧ G.2.1 47 0 < G.1 ∧ ∀ j, rng (xs j)
theorem KK.warm {G : Gp} {s U : State} (hW : s.WarmedH U.vm) (h : KK G s) : KK G U := by
  obtain ⟨h1, h2, h3, h4, cK, k, h5, h6, h7⟩ := h
  have hal := hW.alike
  obtain ⟨k', hk', -⟩ := hal.2.2 _ _ h6
  refine ⟨va_K.moved hal h1, fun w hw hn => ?_, h3.moved hal, h4.moved hal, cK, k', by rw [hal.findClass]; exact h5, hk', by rw [hal.assignable]; exact h7⟩
  have := h2 w hw hn
  cases w <;> first | (cases hn; done) | exact va_Nw.warmF hW this | exact va_Nw.warmM hW this
theorem KK.calling {G : Gp} {U : State} {g : JFrame} {mk : MethodId} {a : Array Value} (h : KK G U) : KK G (U.calling g mk a) := by
  obtain ⟨h1, h2, h3, h4, h5⟩ := h
  refine ⟨va_K.moved (u := U) (U := U.calling g mk a) (Vm.Alike.refl U.vm) h1, fun w hw hn => ?_, h3.moved (u := U) (U := U.calling g mk a) (Vm.Alike.refl U.vm), h4.moved (u := U) (U := U.calling g mk a) (Vm.Alike.refl U.vm), h5⟩
  refine va_Nw.same ?_ (u := U) (U := U.calling g mk a) rfl (h2 w hw hn)
  cases w <;> first | (cases hn; done) | rfl
theorem CN.moved {G : Gp} {SL : Nat} {xs : Nat → Int} {u U : State} {H : Heap} (hvm : u.vm.Alike U.vm) (h : CN G SL xs u H) : CN G SL xs U H := ⟨h.1.moved hvm, h.2.1.moved hvm, h.2.2.1.moved hvm, h.2.2.2.1.moved hvm, h.2.2.2.2⟩
theorem CN.kept {G : Gp} {SL : Nat} {xs : Nat → Int} {U : State} {H H1 : Heap} (h : CN G SL xs U H) (hz : G.1 ≤ H.size) (hq : ∀ a : Nat, a < H.size → ¬ G.1 ≤ a → H1[a]? = H[a]?) : CN G SL xs U H1 := ⟨h.1.kept hq, h.2.1.kept hq, h.2.2.1.kept hq, h.2.2.2.1.kept (hq _ (by have := h.2.2.2.2.1; omega) (by have := h.2.2.2.2.1; omega)), h.2.2.2.2⟩
end
section
/-! The rows of the heap over the world -/
section
variable {SL : Nat} {xs : Nat → Int} {p : Program} {l : Launch} {e : Env} {R : Room} {s₀ : State} {m : MethodId} {args : Array Value} {below : List Frame} {meth : Method} {c : Code} {Q : State → Prop} {G : Gp} {cc : ByteArray} {nL : Nat} {own : String}
variable {H : Heap} {locs : List Loc} {kc ks : Nat} {ls : Array Slot} {rest : List Value} {s : St} {pc k a b ci j n : Nat} {fl : Fl}
theorem ent_obj (h : shp a = .inl ci) : ent G s (a, b) = .inr (ci, (List.range (nF ci)).map (fvl G s a b ci)) := by simp [ent, h]
theorem ent_int {t : Nat} (h : shp a = .inr (t, n)) (ht : t < 3) : ent G s (a, b) = .inl (G.2.2.2 t, n, .inl (fun i => Int32.ofInt (s.2.1 a b i))) := by simp [ent, h, ht]
theorem ent_ref {t : Nat} (h : shp a = .inr (t, n)) (ht : ¬ t < 3) : ent G s (a, b) = .inl (G.2.2.2 t, n, .inr (.inr (.inr (.inr (fun i => (s.2.2 a b i).map (adr G)))))) := by simp [ent, h, ht]
theorem fs_at (hj : j < nF ci) : ((List.range (nF ci)).map (fvl G s a b ci))[j]? = some (fvl G s a b ci j) := by simp [List.getElem?_map, List.getElem?_range hj]
theorem fs_set {s' : St} {N : Nat} {v : Value} (h1 : fvl G s' a b ci j = v) (h2 : ∀ i, i ≠ j → fvl G s' a b ci i = fvl G s a b ci i) : ((List.range N).map (fvl G s a b ci)).set j v = (List.range N).map (fvl G s' a b ci) := by
  apply List.ext_getElem?
  intro i
  by_cases hi : i < N
  · by_cases hij : i = j
    · subst hij
      rw [List.getElem?_set_self (by simpa using hi)]
      simp [List.getElem?_map, List.getElem?_range hi, h1]
    · rw [List.getElem?_set_ne (Ne.symm hij)]
      simp [List.getElem?_map, List.getElem?_range hi, h2 i hij]
  · rw [List.getElem?_eq_none (by simp; omega), List.getElem?_eq_none (by simp; omega)]
/-- a field's link, of either kind -/
theorem fl_word (S : CallFix p m c cc nL s₀ args gw own) (hK : KK G s₀) (hfl : FlOK own fl) (hk : fl k = some (ci, j)) : (Cond.fieldLink own k (fd ci j).1 (fd ci j).2.1 (fd ci j).2.2).before args s₀ = true ∨ (Cond.fieldLinkNest own k (fd ci j).1 (fd ci j).2.1 (fd ci j).2.2 "PatternMill").before args s₀ = true := by
  rcases (hfl k ci j hk).2 with hw | hw
  · exact Or.inl (S.2.2.2.2 _ hw)
  · exact Or.inr (va_Nw.use rfl (hK.2.1 _ hw rfl))
theorem s_get (S : CallFix p m c cc nL s₀ args gw own) (hK : KK G s₀) (hfl : FlOK own fl) (hk : fl k = some (ci, j)) (hs : shp a = .inl ci) (hc : ci < 8) (hd : decode cc pc = .ok (.getfield k, 3)) (hP : HP G s H) (hq : idq a b = true ∧ ad a b < s.1)
    (kk : W p l e R s₀ m args below meth c H locs kc ks Q (F0 m (pc + 3) ls (fvl G s a b ci j :: rest))) : W p l e R s₀ m args below meth c H locs kc ks Q (F0 m pc ls (.ref (G.1 + ad a b) :: rest)) := by
  obtain ⟨hx, hb, -, hown, hts⟩ := S
  have hj : j < nF ci := by rw [← fd_len ci hc]; exact (hfl k ci j hk).1
  obtain ⟨e1, e2, e3, -, -⟩ := cl_fd1 ci hc j hj
  have he := wl_at (G := G) hq.1 hq.2
  rw [ent_obj hs] at he
  have hjN : j < (clr ci).2.2 := by rw [cl_N ci hc]; exact hj
  rcases fl_word ⟨hx, hb, rfl, hown, hts⟩ hK hfl hk with hw | hw
  · rw [← e1, ← e2, ← e3] at hw
    exact va_get (C := (clr ci).1) (T := (clr ci).2.1) (N := (clr ci).2.2) hx hb hts (cl_in hc) hown hK.1 hP.1 (ad a b) he (cl_at hc) j hjN hw (fun _ h => h) (fs_at hj) hd kk
  · rw [← e1, ← e2, ← e3] at hw
    exact va_getN (C := (clr ci).1) (T := (clr ci).2.1) (N := (clr ci).2.2) hx hb hts (cl_in hc) hown hK.1 hP.1 (ad a b) he (cl_at hc) j hjN hw (fun _ h => h) (fs_at hj) hd kk
theorem s_getC (S : CallFix p m c cc nL s₀ args gw own) (hK : KK G s₀) (hC : CN G SL xs s₀ s₀.heap) (hS : va_S (fun q => G.1 ≤ q) s₀.heap H locs) (hfl : FlOK own fl) (hk : fl k = some (8, j)) (hb24 : b < 24) (hd : decode cc pc = .ok (.getfield k, 3))
    (kk : W p l e R s₀ m args below meth c H locs kc ks Q (F0 m (pc + 3) ls (.int (Int32.ofInt (kF j b)) :: rest))) : W p l e R s₀ m args below meth c H locs kc ks Q (F0 m pc ls (.ref (G.2.1 45 b) :: rest)) := by
  obtain ⟨hx, hb, -, hown, hts⟩ := S
  have hj : j < 4 := (hfl k 8 j hk).1
  obtain ⟨hm, e1, e2, e3, hv⟩ := kTab_ok j hj
  obtain ⟨hv, -⟩ := hv b hb24
  obtain ⟨cf, kl, fi, f, cell, h1, h2, h3, h4, h5, h6⟩ := ((hC.1.1 b hb24).2.2 _ hm).kept hS.2.1
  rw [e1, e2, e3] at h1
  rw [hv] at h5
  rcases fl_word ⟨hx, hb, rfl, hown, hts⟩ hK hfl hk with hw | hw
  · exact W.getf hx hb hown hw h1 h2 h3 h4 h5 rfl rfl hd kk
  · exact va_Wgetf hx hb hown hw h1 h2 h3 h4 h5 rfl rfl hd kk
theorem fvl_up {v : Int} (h : ¬ fk ci j = 1) : fvl G (n, upS s.2.1 a b j v, s.2.2) a b ci j = .int (Int32.ofInt v) ∧ ∀ i, i ≠ j → fvl G (n, upS s.2.1 a b j v, s.2.2) a b ci i = fvl G s a b ci i := by
  refine ⟨by simp [fvl, h, upS], fun i hi => by simp [fvl, upS, hi]⟩
theorem fvl_upR {v : Rf} (h : fk ci j = 1) : fvl G (n, s.2.1, upR s.2.2 a b j v) a b ci j = va_rf (v.map (adr G)) ∧ ∀ i, i ≠ j → fvl G (n, s.2.1, upR s.2.2 a b j v) a b ci i = fvl G s a b ci i := by
  refine ⟨by simp [fvl, h, upR], fun i hi => by simp [fvl, upR, hi]⟩
theorem ent_upS {v : Int} {q : Nat × Nat} (h : q ≠ (a, b)) : ent G (n, upS s.2.1 a b j v, s.2.2) q = ent G s q := by
  refine ent_same (fun i => ?_) (fun _ => rfl)
  simp only [upS]
  rw [if_neg]
  rintro ⟨h1, h2, -⟩
  exact h (Prod.ext h1 h2)
theorem ent_upR {v : Rf} {q : Nat × Nat} (h : q ≠ (a, b)) : ent G (n, s.2.1, upR s.2.2 a b j v) q = ent G s q := by
  refine ent_same (fun _ => rfl) (fun i => ?_)
  simp only [upR]
  rw [if_neg]
  rintro ⟨h1, h2, -⟩
  exact h (Prod.ext h1 h2)
theorem hp_set {s' : St} {H1 : Heap} {locs1 : List Loc} {E : va_E} (h1 : s'.1 = s.1) (hq : idq a b = true ∧ ad a b < s.1) (hs : ∀ q, q ≠ (a, b) → ent G s' q = ent G s q) (hE : ent G s' (a, b) = E) (hP : va_P G.2.2.1 classes ((wl G s).set (ad a b) (G.1 + ad a b, E)) H1) (hz : H1.size = G.1 + s.1) : HP G s' H1 := by
  subst hE
  rw [wl_set h1 hq.1 hq.2 hs] at hP
  exact ⟨hP, by rw [hz, h1]⟩
/-- an object's field is written -/
theorem s_put {v : Value} {ty : FieldType} (S : CallFix p m c cc nL s₀ args gw own) (hK : KK G s₀) (hfl : FlOK own fl) (hk : fl k = some (ci, j)) (hs : shp a = .inl ci) (hc : ci < 8) (hd : decode cc pc = .ok (.putfield k, 3)) (hP : HP G s H) (hS : va_S (fun q => G.1 ≤ q) s₀.heap H locs) (hq : idq a b = true ∧ ad a b < s.1) (hf : ¬ fk ci j = 1) (hty : cty ci j = ty) (hn : narrow ty v = v) (hfit : fits ty v = true)
    (kk : ∀ (H1 : Heap) (locs1 : List Loc), va_P G.2.2.1 classes ((wl G s).set (ad a b) (G.1 + ad a b, .inr (ci, ((List.range (nF ci)).map (fvl G s a b ci)).set j v))) H1 → H1.size = G.1 + s.1 → va_S (fun q => G.1 ≤ q) s₀.heap H1 locs1 → W p l e R s₀ m args below meth c H1 locs1 kc ks Q (F0 m (pc + 3) ls rest)) : W p l e R s₀ m args below meth c H locs kc ks Q (F0 m pc ls (v :: .ref (G.1 + ad a b) :: rest)) := by
  obtain ⟨hx, hb, -, hown, hts⟩ := S
  have hj : j < nF ci := by rw [← fd_len ci hc]; exact (hfl k ci j hk).1
  obtain ⟨e1, e2, e3, e4, -⟩ := cl_fd1 ci hc j hj
  have he := wl_at (G := G) hq.1 hq.2
  rw [ent_obj hs] at he
  have hjN : j < (clr ci).2.2 := by rw [cl_N ci hc]; exact hj
  have hap := va_apart (own := own) hts (cl_in hc) (cty ci) (cl_ty hc) (cl_nd hc) hK.1 (cl_at hc)
  obtain ⟨r, h1, cell, q1, q2, q3, q4⟩ := hP.1 (ad a b) _ he
  have hr : r = clr ci := Option.some.inj (h1.symm.trans (cl_at hc))
  subst hr
  obtain ⟨hSl, hfc, kC, hkC, hkind⟩ := hK.1.1 ci _ (cl_at hc)
  obtain ⟨cf, kf, fi, f, hi, hsl⟩ := hSl j hjN
  have hlay := hts _ (cl_in hc _ (u_in_lay hjN))
  unfold u_lay at hlay
  rw [if_neg (by rw [e4]; simpa using hf)] at hlay
  have hst := (u_facts hfc hkC (u_lays hts (cl_in hc) hjN) hi).1
  have h6 := u_store hfc hkC hkind hlay hi (by rw [cl_ty hc j hjN, hty]) hn hfit
  have hlen : j < ((List.range (nF ci)).map (fvl G s a b ci)).length := by simpa using hj
  have fin : ∀ H' : Heap, H'[G.1 + ad a b]? = some (cell.setSlot f.slot v) → H'.size = H.size → (∀ q, q ≠ G.1 + ad a b → H'[q]? = H[q]?) → W p l e R s₀ m args below meth c H' (locs ++ [⟨G.1 + ad a b, f.slot⟩]) kc ks Q (F0 m (pc + 3) ls rest) := by
    intro H' g1 g2 g3
    rw [hsl] at g1 ⊢
    exact kk H' _ (hP.1.set wl_D he ⟨_, cl_at hc, t_OB.to (V := updV (vp_V _) j v) ⟨_, g1, q2, q3, t_set q4 hap hjN v⟩ (fun i _ => vp_updV_set hlen v i)⟩ g3) (by rw [g2, hP.2]) (hS.put g2 g3 (by simp))
  rcases fl_word ⟨hx, hb, rfl, hown, hts⟩ hK hfl hk with hw | hw
  · rw [← e1, ← e2, ← e3] at hw
    exact W.putK hx hb (f := f) ⟨hown, hw, ⟨_, _, _, hi⟩, hst⟩ (by rw [q2]; exact h6) q1 q3 (by rw [hsl]; exact k2_hasslot (q4 j hjN)) rfl rfl hd fin
  · rw [← e1, ← e2, ← e3] at hw
    exact va_WputK hx hb hown hw hi hst (by rw [q2]; exact h6) q1 q3 (by rw [hsl]; exact k2_hasslot (q4 j hjN)) rfl rfl hd fin
/-- a final field is written in its constructor -/
theorem s_putF {v : Value} (S : CallFix p m c cc nL s₀ args gw own) (hK : KK G s₀) (hfl : FlOK own fl) (hk : fl k = some (ci, j)) (hs : shp a = .inl ci) (hc : ci < 8) (hd : decode cc pc = .ok (.putfield k, 3)) (hP : HP G s H) (hS : va_S (fun q => G.1 ≤ q) s₀.heap H locs) (hq : idq a b = true ∧ ad a b < s.1) (hf : fk ci j = 1) (hin : meth.name = "<init>") (ho : own = (nth cnL ci).getD "") (hn : narrow (cty ci j) v = v) (hfit : fits (cty ci j) v = true)
    (kk : ∀ (H1 : Heap) (locs1 : List Loc), va_P G.2.2.1 classes ((wl G s).set (ad a b) (G.1 + ad a b, .inr (ci, ((List.range (nF ci)).map (fvl G s a b ci)).set j v))) H1 → H1.size = G.1 + s.1 → va_S (fun q => G.1 ≤ q) s₀.heap H1 locs1 → W p l e R s₀ m args below meth c H1 locs1 kc ks Q (F0 m (pc + 3) ls rest)) : W p l e R s₀ m args below meth c H locs kc ks Q (F0 m pc ls (v :: .ref (G.1 + ad a b) :: rest)) := by
  obtain ⟨hx, hb, -, hown, hts⟩ := S
  have hj : j < nF ci := by rw [← fd_len ci hc]; exact (hfl k ci j hk).1
  obtain ⟨e1, e2, e3, e4, -⟩ := cl_fd1 ci hc j hj
  obtain ⟨-, -, -, e5⟩ := cl_fd2 ci hc j hj
  have hdecl : ((clr ci).2.1 j).1 = own := by rw [e5 hf, ho]
  have he := wl_at (G := G) hq.1 hq.2
  rw [ent_obj hs] at he
  have hjN : j < (clr ci).2.2 := by rw [cl_N ci hc]; exact hj
  have hap := va_apart (own := own) hts (cl_in hc) (cty ci) (cl_ty hc) (cl_nd hc) hK.1 (cl_at hc)
  obtain ⟨r, h1, cell, q1, q2, q3, q4⟩ := hP.1 (ad a b) _ he
  have hr : r = clr ci := Option.some.inj (h1.symm.trans (cl_at hc))
  subst hr
  obtain ⟨hSl, hfc, kC, hkC, hkind⟩ := hK.1.1 ci _ (cl_at hc)
  obtain ⟨cf, kf, fi, f, hi, hsl⟩ := hSl j hjN
  have hlay := hts _ (cl_in hc _ (u_in_lay hjN))
  unfold u_lay at hlay
  rw [if_pos (by rw [e4]; simpa using hf)] at hlay
  have hst := (u_facts hfc hkC (u_lays hts (cl_in hc) hjN) hi).1
  have hcf : m.cls = cf := by
    obtain ⟨_, _, c', _, _, _, -, -, hf', -, -, -, hown2, -⟩ := Cond.laysFinal_spec hlay
    have e1 : c' = cf := by have := hi.symm.trans hf'; simp at this; exact this.1.symm
    rw [hdecl] at hown2
    rw [← e1]; exact Option.some.inj (hown.symm.trans hown2)
  have h6 := u_fits hfc hkC hkind (Or.inr hlay) hi (cl_ty hc j hjN) hn hfit
  have hlen : j < ((List.range (nF ci)).map (fvl G s a b ci)).length := by simpa using hj
  have fin : ∀ H' : Heap, H'[G.1 + ad a b]? = some (cell.setSlot f.slot v) → H'.size = H.size → (∀ q, q ≠ G.1 + ad a b → H'[q]? = H[q]?) → W p l e R s₀ m args below meth c H' (locs ++ [⟨G.1 + ad a b, f.slot⟩]) kc ks Q (F0 m (pc + 3) ls rest) := by
    intro H' g1 g2 g3
    rw [hsl] at g1 ⊢
    exact kk H' _ (hP.1.set wl_D he ⟨_, cl_at hc, t_OB.to (V := updV (vp_V _) j v) ⟨_, g1, q2, q3, t_set q4 hap hjN v⟩ (fun i _ => vp_updV_set hlen v i)⟩ g3) (by rw [g2, hP.2]) (hS.put g2 g3 (by simp))
  rcases fl_word ⟨hx, hb, rfl, hown, hts⟩ hK hfl hk with hw | hw
  · rw [← e1, ← e2, ← e3] at hw
    exact W.putFinK hx hb hown hw hi hst hcf hin (by rw [q2]; exact h6) q1 q3 (by rw [hsl]; exact k2_hasslot (q4 j hjN)) rfl rfl hd fin
  · rw [← e1, ← e2, ← e3] at hw
    have ha : G.1 + ad a b < H.size := (Array.getElem?_eq_some_iff.mp q1).1
    refine va_Wputf hx hb hown hw hi hst (Or.inr ⟨hcf, hin⟩) q1 (by rw [q3]; exact fun h => by cases h) (by rw [hsl]; exact k2_hasslot (q4 j hjN)) (by have := h6.1; exact this) (by rw [q2, q3]; exact h6.2) rfl rfl hd ?_
    refine fin _ ?_ ?_ ?_
    · simp [Array.getElem?_setIfInBounds, ha]
    · simp
    · intro q hq
      simp [Array.getElem?_setIfInBounds, Ne.symm hq]
end
end
section
/-! Arrays and new cells over the world -/
section
variable {SL : Nat} {xs : Nat → Int} {p : Program} {l : Launch} {e : Env} {R : Room} {s₀ : State} {m : MethodId} {args : Array Value} {below : List Frame} {meth : Method} {c : Code} {Q : State → Prop} {G : Gp} {cc : ByteArray} {nL : Nat} {own : String}
variable {H : Heap} {locs : List Loc} {kc ks : Nat} {ls : Array Slot} {rest : List Value} {s : St} {pc k a b ci j n t : Nat} {fl : Fl} {x v : Int}
theorem tys_at : (tysL G)[0]? = some (G.2.2.2 0, .int) ∧ (tysL G)[1]? = some (G.2.2.2 1, .byte) ∧ (tysL G)[2]? = some (G.2.2.2 2, .boolean) ∧ (tysL G)[3]? = some (G.2.2.2 3, .object "PatternMill$Kind") ∧ (tysL G)[4]? = some (G.2.2.2 4, .object "PatternMill$Text") := ⟨rfl, rfl, rfl, rfl, rfl⟩
theorem wl_int (h : shp a = .inr (t, n)) (ht : t < 3) (hq : idq a b = true ∧ ad a b < s.1) : (wl G s)[ad a b]? = some (G.1 + ad a b, .inl (G.2.2.2 t, n, .inl (fun i => Int32.ofInt (s.2.1 a b i)))) := by rw [wl_at hq.1 hq.2, ent_int h ht]
theorem wl_ref (h : shp a = .inr (t, n)) (ht : ¬ t < 3) (hq : idq a b = true ∧ ad a b < s.1) : (wl G s)[ad a b]? = some (G.1 + ad a b, .inl (G.2.2.2 t, n, .inr (.inr (.inr (.inr (fun i => (s.2.2 a b i).map (adr G))))))) := by rw [wl_at hq.1 hq.2, ent_ref h ht]
theorem s_iald (S : CallFix p m c cc nL s₀ args gw own) (hK : KK G s₀) (hs : shp a = .inr (0, n)) (hd : decode cc pc = .ok (.iaload, 1)) (hP : HP G s H) (hq : idq a b = true ∧ ad a b < s.1) (hr : rng x) (hi : 0 ≤ x ∧ x < n)
    (kk : W p l e R s₀ m args below meth c H locs kc ks Q (F0 m (pc + 1) ls (.int (Int32.ofInt (s.2.1 a b x.toNat)) :: rest))) : W p l e R s₀ m args below meth c H locs kc ks Q (F0 m pc ls (.int (Int32.ofInt x) :: .ref (G.1 + ad a b) :: rest)) := by
  refine va_iald S.1 S.2.1 hK.1 hP.1 (ad a b) 0 (wl_int hs (by omega) hq) rfl (of_in hr hi) hd ?_
  rw [of_clamp hr]
  exact kk
theorem s_bald (S : CallFix p m c cc nL s₀ args gw own) (hK : KK G s₀) (hs : shp a = .inr (1, n)) (hd : decode cc pc = .ok (.baload, 1)) (hP : HP G s H) (hq : idq a b = true ∧ ad a b < s.1) (hr : rng x) (hi : 0 ≤ x ∧ x < n)
    (kk : W p l e R s₀ m args below meth c H locs kc ks Q (F0 m (pc + 1) ls (.int (Int32.ofInt (s.2.1 a b x.toNat)) :: rest))) : W p l e R s₀ m args below meth c H locs kc ks Q (F0 m pc ls (.int (Int32.ofInt x) :: .ref (G.1 + ad a b) :: rest)) := by
  refine va_bald S.1 S.2.1 hK.1 hP.1 (ad a b) 1 (wl_int hs (by omega) hq) rfl (of_in hr hi) hd ?_
  rw [of_clamp hr]
  exact kk
theorem s_zald (S : CallFix p m c cc nL s₀ args gw own) (hK : KK G s₀) (hs : shp a = .inr (2, n)) (hd : decode cc pc = .ok (.baload, 1)) (hP : HP G s H) (hq : idq a b = true ∧ ad a b < s.1) (hr : rng x) (hi : 0 ≤ x ∧ x < n)
    (kk : W p l e R s₀ m args below meth c H locs kc ks Q (F0 m (pc + 1) ls (.int (Int32.ofInt (s.2.1 a b x.toNat)) :: rest))) : W p l e R s₀ m args below meth c H locs kc ks Q (F0 m pc ls (.int (Int32.ofInt x) :: .ref (G.1 + ad a b) :: rest)) := by
  refine va_zald S.1 S.2.1 hK.1 hP.1 (ad a b) 2 (wl_int hs (by omega) hq) rfl (of_in hr hi) hd ?_
  rw [of_clamp hr]
  exact kk
theorem s_aald (S : CallFix p m c cc nL s₀ args gw own) (hK : KK G s₀) (hs : shp a = .inr (t, n)) (ht : t = 3 ∨ t = 4) (hd : decode cc pc = .ok (.aaload, 1)) (hP : HP G s H) (hq : idq a b = true ∧ ad a b < s.1) (hr : rng x) (hi : 0 ≤ x ∧ x < n)
    (kk : W p l e R s₀ m args below meth c H locs kc ks Q (F0 m (pc + 1) ls (va_rf ((s.2.2 a b x.toNat).map (adr G)) :: rest))) : W p l e R s₀ m args below meth c H locs kc ks Q (F0 m pc ls (.int (Int32.ofInt x) :: .ref (G.1 + ad a b) :: rest)) := by
  rcases ht with rfl | rfl
  · refine va_aldq S.1 S.2.1 hK.1 hP.1 (ad a b) 3 (wl_ref hs (by omega) hq) rfl (of_in hr hi) hd ?_
    rw [of_clamp hr]
    exact kk
  · refine va_aldq S.1 S.2.1 hK.1 hP.1 (ad a b) 4 (wl_ref hs (by omega) hq) rfl (of_in hr hi) hd ?_
    rw [of_clamp hr]
    exact kk
theorem ar_set {f : Nat → Int32} {cA : ClassId} {i : Nat} {w : Int32} : (vp_cell cA (n, .inl f)).setSlot i (.int w) = vp_cell cA (n, .inl (upd f i w)) := by
  rw [vp_cell_i, vp_cell_i, arrV_store]
  congr 1
  funext q
  by_cases hq : q = i
  · subst hq
    simp [updV, upd]
  · simp [updV, upd, hq]
theorem ar_setq {f : Nat → Option Nat} {cA : ClassId} {i w : Nat} : (vp_cell cA (n, .inr (.inr (.inr (.inr f))))).setSlot i (.ref w) = vp_cell cA (n, .inr (.inr (.inr (.inr (va_up f i (some w)))))) := by
  rw [vp_cell_q, vp_cell_q, arrV_store]
  congr 1
  funext q
  by_cases hq : q = i
  · subst hq
    simp [updV, va_up, va_rf]
  · simp [updV, va_up, hq]
/-- an int place of an array is written: the world behind it -/
theorem hp_ast {H1 : Heap} (hs : shp a = .inr (t, n)) (ht : t < 3) (hq : idq a b = true ∧ ad a b < s.1) (hP : HP G s H) {i : Nat} (h1 : H1[G.1 + ad a b]? = some ((vp_cell (G.2.2.2 t) (n, .inl (fun i => Int32.ofInt (s.2.1 a b i)))).setSlot i (.int (Int32.ofInt v)))) (h2 : H1.size = H.size) (h3 : ∀ q, q ≠ G.1 + ad a b → H1[q]? = H[q]?) : HP G (s.1, upS s.2.1 a b i v, s.2.2) H1 := by
  rw [ar_set] at h1
  refine hp_set (locs1 := []) (s := s) (s' := (s.1, upS s.2.1 a b i v, s.2.2)) rfl hq (fun q hq => ent_upS hq) (ent_int hs ht) ?_ (by rw [h2, hP.2])
  have he := wl_int (G := G) hs ht hq
  refine hP.1.set wl_D he ?_ h3
  show H1[G.1 + ad a b]? = _
  rw [h1]
  congr 4
  funext q
  by_cases hq : q = i
  · subst hq
    simp [upd, upS]
  · simp [upd, upS, hq]
theorem s_iast (S : CallFix p m c cc nL s₀ args gw own) (hK : KK G s₀) (hs : shp a = .inr (0, n)) (hd : decode cc pc = .ok (.iastore, 1)) (hP : HP G s H) (hS : va_S (fun q => G.1 ≤ q) s₀.heap H locs) (hq : idq a b = true ∧ ad a b < s.1) (hr : rng x) (hi : 0 ≤ x ∧ x < n)
    (kk : ∀ (H1 : Heap) (locs1 : List Loc), HP G (s.1, upS s.2.1 a b x.toNat v, s.2.2) H1 → va_S (fun q => G.1 ≤ q) s₀.heap H1 locs1 → W p l e R s₀ m args below meth c H1 locs1 kc ks Q (F0 m (pc + 1) ls rest)) : W p l e R s₀ m args below meth c H locs kc ks Q (F0 m pc ls (.int (Int32.ofInt v) :: .int (Int32.ofInt x) :: .ref (G.1 + ad a b) :: rest)) := by
  have he := wl_int (G := G) hs (by omega) hq
  refine W.iast S.1 S.2.1 (hP.1 _ _ he) ((hK.1.2 0 _ rfl).1 n (fun j => .int (Int32.ofInt (s.2.1 a b j)))) (fun q => by cases q) (by show ¬ (_ ∨ (arrV _ _ _).slots.size ≤ _); rw [arrV_size]; exact of_in hr hi) rfl rfl hd fun H1 g1 g2 g3 => ?_
  rw [of_clamp hr] at g1
  exact kk H1 _ (hp_ast hs (by omega) hq hP g1 g2 g3) (hS.put g2 g3 (by simp))
theorem s_bast (S : CallFix p m c cc nL s₀ args gw own) (hK : KK G s₀) (hs : shp a = .inr (1, n)) (hd : decode cc pc = .ok (.bastore, 1)) (hP : HP G s H) (hS : va_S (fun q => G.1 ≤ q) s₀.heap H locs) (hq : idq a b = true ∧ ad a b < s.1) (hr : rng x) (hi : 0 ≤ x ∧ x < n)
    (kk : ∀ (H1 : Heap) (locs1 : List Loc), HP G (s.1, upS s.2.1 a b x.toNat (b8 v), s.2.2) H1 → va_S (fun q => G.1 ≤ q) s₀.heap H1 locs1 → W p l e R s₀ m args below meth c H1 locs1 kc ks Q (F0 m (pc + 1) ls rest)) : W p l e R s₀ m args below meth c H locs kc ks Q (F0 m pc ls (.int (Int32.ofInt v) :: .int (Int32.ofInt x) :: .ref (G.1 + ad a b) :: rest)) := by
  have he := wl_int (G := G) hs (by omega) hq
  refine W.bast S.1 S.2.1 (hP.1 _ _ he) ((hK.1.2 1 _ rfl).1 n (fun j => .int (Int32.ofInt (s.2.1 a b j)))) (fun q => by cases q) (by show ¬ (_ ∨ (arrV _ _ _).slots.size ≤ _); rw [arrV_size]; exact of_in hr hi) rfl rfl hd fun H1 g1 g2 g3 => ?_
  rw [of_clamp hr] at g1
  have e1 : narrow .byte (.int (Int32.ofInt v)) = .int (Int32.ofInt (b8 v)) := by rw [b8, of_to]; rfl
  rw [e1] at g1
  exact kk H1 _ (hp_ast hs (by omega) hq hP g1 g2 g3) (hS.put g2 g3 (by simp))
theorem s_zast (S : CallFix p m c cc nL s₀ args gw own) (hK : KK G s₀) (hs : shp a = .inr (2, n)) (hd : decode cc pc = .ok (.bastore, 1)) (hP : HP G s H) (hS : va_S (fun q => G.1 ≤ q) s₀.heap H locs) (hq : idq a b = true ∧ ad a b < s.1) (hr : rng x) (hi : 0 ≤ x ∧ x < n) (hv : v = 0 ∨ v = 1)
    (kk : ∀ (H1 : Heap) (locs1 : List Loc), HP G (s.1, upS s.2.1 a b x.toNat v, s.2.2) H1 → va_S (fun q => G.1 ≤ q) s₀.heap H1 locs1 → W p l e R s₀ m args below meth c H1 locs1 kc ks Q (F0 m (pc + 1) ls rest)) : W p l e R s₀ m args below meth c H locs kc ks Q (F0 m pc ls (.int (Int32.ofInt v) :: .int (Int32.ofInt x) :: .ref (G.1 + ad a b) :: rest)) := by
  have he := wl_int (G := G) hs (by omega) hq
  refine W.zast S.1 S.2.1 (hP.1 _ _ he) ((hK.1.2 2 _ rfl).1 n (fun j => .int (Int32.ofInt (s.2.1 a b j)))) (fun q => by cases q) (by show ¬ (_ ∨ (arrV _ _ _).slots.size ≤ _); rw [arrV_size]; exact of_in hr hi) rfl rfl hd fun H1 g1 g2 g3 => ?_
  rw [of_clamp hr] at g1
  have e1 : narrow .boolean (.int (Int32.ofInt v)) = .int (Int32.ofInt v) := by rcases hv with rfl | rfl <;> decide
  rw [e1] at g1
  exact kk H1 _ (hp_ast hs (by omega) hq hP g1 g2 g3) (hS.put g2 g3 (by simp))
/-- a reference is put into an array of references -/
theorem s_aast {E : String} {q1 : Nat × Nat} (S : CallFix p m c cc nL s₀ args gw own) (hK : KK G s₀) (hs : shp a = .inr (t, n)) (ht : ¬ t < 3) (hE : (tysL G)[t]? = some (G.2.2.2 t, .object E)) (hd : decode cc pc = .ok (.aastore, 1)) (hP : HP G s H) (hS : va_S (fun q => G.1 ≤ q) s₀.heap H locs) (hq : idq a b = true ∧ ad a b < s.1) (hr : rng x) (hi : 0 ≤ x ∧ x < n) (hA : va_Any E s₀ H (adr G q1))
    (kk : ∀ (H1 : Heap) (locs1 : List Loc), HP G (s.1, s.2.1, upR s.2.2 a b x.toNat (some q1)) H1 → va_S (fun q => G.1 ≤ q) s₀.heap H1 locs1 → W p l e R s₀ m args below meth c H1 locs1 kc ks Q (F0 m (pc + 1) ls rest)) : W p l e R s₀ m args below meth c H locs kc ks Q (F0 m pc ls (.ref (adr G q1) :: .int (Int32.ofInt x) :: .ref (G.1 + ad a b) :: rest)) := by
  have he := wl_ref (G := G) hs ht hq
  obtain ⟨cellV, g1, g3, ⟨kC, hkC⟩, hasg⟩ := hA
  obtain ⟨kA, comp, k1, k2, k3, -⟩ := (hK.1.2 t _ hE).2
  obtain ⟨kE, hkE, -⟩ := Vm.findClass_spec k3
  have hin := of_in hr hi
  refine W.aast S.1 S.2.1 (hP.1 _ _ he) (fun q h => by cases h) (fun h => by cases h) k1 k2 rfl hkE ⟨fun q => hin (Or.inl q), by show _ < (arrV _ _ _).slots.size; rw [arrV_size]; exact Nat.not_le.mp fun q => hin (Or.inr q)⟩ g1 (fun q h => by rw [h] at g3; cases g3) hkC (hasg _ k3) rfl rfl hd fun H1 g1 g2 g3 => ?_
  rw [of_clamp hr, ar_setq] at g1
  refine kk H1 _ ?_ (hS.put g2 g3 (by simp))
  refine hp_set (locs1 := []) (s := s) (s' := (s.1, s.2.1, upR s.2.2 a b x.toNat (some q1))) rfl hq (fun q hq => ent_upR hq) (ent_ref hs ht) ?_ (by rw [g2, hP.2])
  refine hP.1.set wl_D he ?_ g3
  show H1[G.1 + ad a b]? = _
  rw [g1]
  congr 7
  funext q
  by_cases hq : q = x.toNat
  · subst hq
    simp [va_up, upR]
  · simp [va_up, upR, hq]
end
end
section
/-! New cells; arraycopy -/
section
variable {SL : Nat} {xs : Nat → Int} {p : Program} {l : Launch} {e : Env} {R : Room} {s₀ : State} {m : MethodId} {args : Array Value} {below : List Frame} {meth : Method} {c : Code} {Q : State → Prop} {G : Gp} {cc : ByteArray} {nL : Nat} {own : String}
variable {H : Heap} {locs : List Loc} {kc ks : Nat} {ls : Array Slot} {rest : List Value} {s : St} {pc k a b ci j n t : Nat} {fl : Fl} {x v : Int}
theorem ent_zr {q : Nat × Nat} (h : q ≠ (a, b)) : ent G (n, zrS s.2.1 a b, zrR s.2.2 a b) q = ent G s q := by
  have hn : ¬ (q.1 = a ∧ q.2 = b) := fun h1 => h (Prod.ext h1.1 h1.2)
  refine ent_same (fun i => ?_) (fun i => ?_)
  · simp only [zrS]
    rw [if_neg hn]
  · simp only [zrR]
    rw [if_neg hn]
/-- a new cell: the world behind it -/
theorem hp_new {H1 : Heap} (hq : idq a b = true) (ha : ad a b = s.1) (hP : HP G s H) (h1 : va_at G.2.2.1 classes (G.1 + s.1, ent G (s.1 + 1, zrS s.2.1 a b, zrR s.2.2 a b) (a, b)) H1) (h2 : H1.size = H.size + 1) (h3 : ∀ q, q < H.size → H1[q]? = H[q]?) : HP G (s.1 + 1, zrS s.2.1 a b, zrR s.2.2 a b) H1 := by
  refine ⟨?_, by rw [h2, hP.2]; show _ = G.1 + (s.1 + 1); omega⟩
  rw [← wl_push (s := s) (s' := (s.1 + 1, zrS s.2.1 a b, zrR s.2.2 a b)) rfl hq ha (fun q hq => ent_zr hq)]
  refine va_P.app (hP.1.kept fun k q hk => h3 q.1 ((hP.1 k q hk).lt)) (fun k q hk => ?_)
  have hz : k < 1 := (List.getElem?_eq_some_iff.mp hk).1
  rw [show k = 0 by omega] at hk
  cases hk
  exact h1
theorem va_S.new {A : Nat → Prop} {H0 H1 : Heap} (hS : va_S A H0 H locs) (h2 : H1.size = H.size + 1) (h3 : ∀ q, q < H.size → H1[q]? = H[q]?) : va_S A H0 H1 locs :=
  ⟨Nat.le_trans hS.1 (by omega), fun q h1 h4 => (h3 q (Nat.lt_of_lt_of_le h1 hS.1)).trans (hS.2.1 q h1 h4), hS.2.2⟩
theorem s_new {kl : Nat → Option Nat} (S : CallFix p m c cc nL s₀ args gw own) (hK : KK G s₀) (hkl : KlOK own kl) (hk : kl k = some ci) (hc : ci < 8) (hs : shp a = .inl ci) (hd : decode cc pc = .ok (.new k, 3)) (hP : HP G s H) (hS : va_S (fun q => G.1 ≤ q) s₀.heap H locs) (hq : idq a b = true) (ha : ad a b = s.1) (hmc : kc + 1 ≤ R.cells) (hms : ks + nF ci ≤ R.slots)
    (kk : ∀ (H1 : Heap) (locs1 : List Loc), HP G (s.1 + 1, zrS s.2.1 a b, zrR s.2.2 a b) H1 → va_S (fun q => G.1 ≤ q) s₀.heap H1 locs1 → W p l e R s₀ m args below meth c H1 locs1 (kc + 1) (ks + nF ci) Q (F0 m (pc + 3) ls (.ref (G.1 + ad a b) :: rest))) : W p l e R s₀ m args below meth c H locs kc ks Q (F0 m pc ls rest) := by
  obtain ⟨hx, hb, -, hown, hts⟩ := S
  have hKn := hK.1.1 ci _ (cl_at hc)
  have hnm := cl_nm ci hc
  obtain ⟨hin1, hin2⟩ := cl_in2 ci hc
  refine W.newcK hx hb hown (hts _ (hkl k ci hk)) (hts _ hin1) (hts _ hin2) rfl hd hmc hms (by rw [← hnm]; exact hKn.2.1) hP.2 fun H1 kC hkC g1 g2 g3 => ?_
  rw [ha] at kk
  refine kk H1 locs (hp_new hq ha hP ?_ (by rw [g2, hP.2]) (fun q hq => g3 q (by rw [← hP.2]; exact hq))) (va_S.new hS (by rw [g2, hP.2]) (fun q hq => g3 q (by rw [← hP.2]; exact hq)))
  rw [ent_obj hs]
  refine ⟨_, cl_at hc, (u_born (cty ci) hts (cl_in hc) hKn hkC g1 (cl_ty hc)).to fun j hj => ?_⟩
  rw [cl_N ci hc] at hj
  have e1 : vp_V ((List.range (nF ci)).map (fvl G (s.1 + 1, zrS s.2.1 a b, zrR s.2.2 a b) a b ci)) j = fvl G (s.1 + 1, zrS s.2.1 a b, zrR s.2.2 a b) a b ci j := by
    simp [vp_V, List.getD_eq_getElem?_getD, List.getElem?_map, List.getElem?_range hj]
  rw [e1]
  obtain ⟨-, -, -, -, h01⟩ := cl_fd1 ci hc j hj
  obtain ⟨f0, f2, f1, -⟩ := cl_fd2 ci hc j hj
  rcases h01 with h | h | h
  · rw [f0 h]
    simp [fvl, h, zrS, defaultValue]
  · have := f1 h
    simp only [fvl, h, zrR]
    cases hty : cty ci j <;> rw [hty] at this <;> first | (cases this; done) | simp [defaultValue, va_rf]
  · rw [f2 h]
    simp [fvl, h, zrS, defaultValue]
theorem s_newa {ty : ArrayType} (S : CallFix p m c cc nL s₀ args gw own) (hK : KK G s₀) (hs : shp a = .inr (atk ty, n)) (hd : decode cc pc = .ok (.newarray ty, 2)) (hP : HP G s H) (hS : va_S (fun q => G.1 ≤ q) s₀.heap H locs) (hq : idq a b = true) (ha : ad a b = s.1) (hr : rng x) (h0 : 0 ≤ x) (hx : x.toNat = n) (hn : n ≤ 100000) (hmc : kc + 1 ≤ R.cells) (hms : ks + n ≤ R.slots)
    (kk : ∀ (H1 : Heap) (locs1 : List Loc), HP G (s.1 + 1, zrS s.2.1 a b, zrR s.2.2 a b) H1 → va_S (fun q => G.1 ≤ q) s₀.heap H1 locs1 → W p l e R s₀ m args below meth c H1 locs1 (kc + 1) (ks + n) Q (F0 m (pc + 2) ls (.ref (G.1 + ad a b) :: rest))) : W p l e R s₀ m args below meth c H locs kc ks Q (F0 m pc ls (.int (Int32.ofInt x) :: rest)) := by
  obtain ⟨hx0, hb, -, hown, hts⟩ := S
  have ht := (shp_arr hs).2
  have harrs : ([Cond.arrayClass .int, Cond.arrayClass .byte, Cond.arrayClass .boolean] : List Cond).all (fun w => decide (w ∈ lw_tbl) && goodWord w) = true := by decide +kernel
  have harr : (Cond.arrayClass (newarray.typeOf ty)).before args s₀ = true := by
    refine hts _ (gw_all harrs _ ?_)
    cases ty <;> first | (simp [newarray.typeOf]; done) | (simp [atk] at ht)
  have hneg : ¬ Int32.ofInt x < 0 := by
    intro q
    have : Int32.ofInt x < Int32.ofInt 0 := q
    rw [of_lt hr rng0] at this
    omega
  refine va_newaK hx0 hb harr rfl hd rfl hneg (N := n) (by rw [of_clamp hr]; exact hx) ?_ hmc hms hP.2 fun H1 cA g1 g2 g3 _ g5 => ?_
  · have : componentBytes (newarray.typeOf ty) ≤ 8 := by cases ty <;> decide
    have h8 : n * componentBytes (newarray.typeOf ty) ≤ 100000 * 8 := Nat.mul_le_mul hn this
    omega
  rw [ha] at kk
  refine kk H1 locs (hp_new hq ha hP ?_ (by rw [g2, hP.2]) (fun q hq => g3 q (by rw [← hP.2]; exact hq))) (va_S.new hS (by rw [g2, hP.2]) (fun q hq => g3 q (by rw [← hP.2]; exact hq)))
  have h3 : atk ty < 3 := by cases ty <;> first | decide | (simp [atk] at ht)
  rw [ent_int hs h3]
  show H1[G.1 + s.1]? = some (vp_cell _ _)
  rw [g1, vp_cell_i]
  have e1 : cA = G.2.2.2 (atk ty) := by
    cases ty <;> first
      | (simp [atk] at ht; done)
      | exact Option.some.inj (g5.symm.trans (hK.1.2 0 _ rfl).2)
      | exact Option.some.inj (g5.symm.trans (hK.1.2 1 _ rfl).2)
      | exact Option.some.inj (g5.symm.trans (hK.1.2 2 _ rfl).2)
  have e3 : (fun j : Nat => Value.int (Int32.ofInt (zrS s.2.1 a b a b j))) = fun _ => defaultValue (newarray.typeOf ty) := by
    funext i
    have e2 : zrS s.2.1 a b a b i = 0 := by simp [zrS]
    rw [e2]
    cases ty <;> first | rfl | (simp [atk] at ht)
  show _ = some (arrV _ _ (fun j : Nat => Value.int (Int32.ofInt (zrS s.2.1 a b a b j))))
  rw [e1, e3]
theorem s_anew {kl : Nat → Option Nat} (S : CallFix p m c cc nL s₀ args gw own) (hK : KK G s₀) (hkl : KlOK own kl) (hk : kl k = some ci) (hct : (ci = 8 ∧ t = 3) ∨ (ci = 1 ∧ t = 4)) (hs : shp a = .inr (t, n)) (hd : decode cc pc = .ok (.anewarray k, 3)) (hP : HP G s H) (hS : va_S (fun q => G.1 ≤ q) s₀.heap H locs) (hq : idq a b = true) (ha : ad a b = s.1) (hr : rng x) (h0 : 0 ≤ x) (hx : x.toNat = n) (hn : n ≤ 100000) (hmc : kc + 1 ≤ R.cells) (hms : ks + n ≤ R.slots)
    (kk : ∀ (H1 : Heap) (locs1 : List Loc), HP G (s.1 + 1, zrS s.2.1 a b, zrR s.2.2 a b) H1 → va_S (fun q => G.1 ≤ q) s₀.heap H1 locs1 → W p l e R s₀ m args below meth c H1 locs1 (kc + 1) (ks + n) Q (F0 m (pc + 3) ls (.ref (G.1 + ad a b) :: rest))) : W p l e R s₀ m args below meth c H locs kc ks Q (F0 m pc ls (.int (Int32.ofInt x) :: rest)) := by
  obtain ⟨hx0, hb, -, hown, hts⟩ := S
  have hneg : ¬ Int32.ofInt x < 0 := by
    intro q
    have : Int32.ofInt x < Int32.ofInt 0 := q
    rw [of_lt hr rng0] at this
    omega
  have hcl : (Int32.ofInt x).toNatClampNeg = n := by rw [of_clamp hr]; exact hx
  have hlink := hts _ (hkl k ci hk)
  have fin : ∀ (C : String), va_RA s₀ (G.2.2.2 t) (.object C) → (nth cnL ci).getD "" = C → va_AO C s₀ → W p l e R s₀ m args below meth c H locs kc ks Q (F0 m pc ls (.int (Int32.ofInt x) :: rest)) := by
    intro C hRA hC hAO
    rw [hC] at hlink
    obtain ⟨kA0, comp0, -, -, -, hfA⟩ := hRA
    refine W.anew hx0 hb hown hlink (va_AO.use hAO) rfl hd rfl hneg (by rw [hcl]; omega) hmc (by rw [hcl]; exact hms) fun cA kA comp f1 f2 f3 f4 => ?_
    have e1 : cA = G.2.2.2 t := Option.some.inj (f1.symm.trans hfA)
    subst e1
    generalize hH1 : H.push ({ cls := G.2.2.2 t, slots := Array.replicate (Int32.ofInt x).toNatClampNeg .null, vm := .none } : Cell) = H1
    rw [hcl] at hH1 ⊢
    have g2 : H1.size = H.size + 1 := by rw [← hH1, Array.size_push]
    have g1 : H1[H.size]? = some (arrV (G.2.2.2 t) n (fun _ => .null)) := by rw [← hH1, Array.getElem?_push_size, ← arrV_new]
    have g3 : ∀ q : Nat, q < H.size → H1[q]? = H[q]? := fun q hq => by rw [← hH1, Array.getElem?_push, if_neg (Nat.ne_of_lt hq)]
    have K := kk H1 locs (hp_new hq ha hP ?_ g2 g3) (va_S.new hS g2 g3)
    · rw [ha, ← hP.2] at K
      exact K
    · rw [ent_ref hs (by omega)]
      show H1[G.1 + s.1]? = some (vp_cell _ _)
      rw [← hP.2, g1, vp_cell_q]
      congr 2
      funext i
      have e2 : zrR s.2.2 a b a b i = none := by simp [zrR]
      simp only [e2]
      rfl
  rcases hct with ⟨rfl, rfl⟩ | ⟨rfl, rfl⟩
  · exact fin "PatternMill$Kind" (hK.1.2 3 _ rfl).2 rfl hK.2.2.1
  · exact fin "PatternMill$Text" (hK.1.2 4 _ rfl).2 rfl hK.2.2.2.1
end
end
section
section
variable {SL : Nat} {xs : Nat → Int} {p : Program} {l : Launch} {e : Env} {R : Room} {s₀ : State} {m : MethodId} {args : Array Value} {below : List Frame} {meth : Method} {c : Code} {Q : State → Prop} {G : Gp} {cc : ByteArray} {nL : Nat} {own : String}
variable {H : Heap} {locs : List Loc} {kc ks : Nat} {ls : Array Slot} {rest : List Value} {s : St} {pc k a b a0 b0 n0 n1 : Nat} {sp dp n : Int}
theorem ent_cp {i i1 n : Nat} {q : Nat × Nat} (h : q ≠ (a, b)) : ent G (s.1, cpS s.2.1 a0 b0 i a b i1 n, s.2.2) q = ent G s q := by
  refine ent_same (fun j => ?_) (fun _ => rfl)
  simp only [cpS]
  rw [if_neg]
  rintro ⟨h1, h2, -⟩
  exact h (Prod.ext h1 h2)
theorem copy_words : ([Cond.native arraycopyName, Cond.static arraycopyName, Cond.initialized "java/lang/System"] : List Cond).all (fun w => decide (w ∈ lw_tbl) && goodWord w) = true := by decide +kernel
theorem s_copy (S : CallFix p m c cc nL s₀ args gw own) (hK : KK G s₀) (hlink : Cond.methodLink own k arraycopyName ∈ gw) (hls : ls.size = nL) (hs0 : shp a0 = .inr (1, n0)) (hs1 : shp a = .inr (1, n1)) (hd : decode cc pc = .ok (.invokestatic k, 3)) (hP : HP G s H) (hW : Wf s) (hS : va_S (fun q => G.1 ≤ q) s₀.heap H locs) (hq0 : idq a0 b0 = true ∧ ad a0 b0 < s.1) (hq : idq a b = true ∧ ad a b < s.1)
    (r1 : rng sp) (r2 : rng dp) (r3 : rng n) (h1 : 0 ≤ sp) (h2 : 0 ≤ dp) (h3 : 0 ≤ n) (h4 : sp + n ≤ n0) (h5 : dp + n ≤ n1) (hfr : 1 ≤ R.frames) (hlo : (rest.map fun v => v.category).sum + (nativeFrameWords "java/lang/System" "arraycopy" 5 + 11) ≤ R.locals)
    (kk : ∀ (H1 : Heap) (locs1 : List Loc), HP G (s.1, cpS s.2.1 a0 b0 sp.toNat a b dp.toNat n.toNat, s.2.2) H1 → va_S (fun q => G.1 ≤ q) s₀.heap H1 locs1 → W p l e R s₀ m args below meth c H1 locs1 kc ks Q (F0 m (pc + 3) ls rest)) : W p l e R s₀ m args below meth c H locs kc ks Q (F0 m pc ls (.int (Int32.ofInt n) :: .int (Int32.ofInt dp) :: .ref (G.1 + ad a b) :: .int (Int32.ofInt sp) :: .ref (G.1 + ad a0 b0) :: rest)) := by
  obtain ⟨hx, hb, hml, hown, hts⟩ := S
  have he0 := wl_int (G := G) hs0 (by omega) hq0
  have he1 := wl_int (G := G) hs1 (by omega) hq
  have hc0 : H[G.1 + ad a0 b0]? = some (vp_cell (G.2.2.2 1) (n0, .inl (fun i => Int32.ofInt (s.2.1 a0 b0 i)))) := hP.1 _ _ he0
  have hc1 : H[G.1 + ad a b]? = some (vp_cell (G.2.2.2 1) (n1, .inl (fun i => Int32.ofInt (s.2.1 a b i)))) := hP.1 _ _ he1
  obtain ⟨-, k0, hk0, cm0, hkk0⟩ := (hK.1.2 1 _ rfl).1 n0 (fun j => .int (Int32.ofInt (s.2.1 a0 b0 j)))
  obtain ⟨-, k1, hk1, cm1, hkk1⟩ := (hK.1.2 1 _ rfl).1 n1 (fun j => .int (Int32.ofInt (s.2.1 a b j)))
  have neg : ∀ z : Int, rng z → 0 ≤ z → ¬ Int32.ofInt z < 0 := by
    intro z hz h0 q
    have : Int32.ofInt z < Int32.ofInt 0 := q
    rw [of_lt hz rng0] at this
    omega
  intro T hT X
  obtain ⟨vm', X', step⟩ := X.arraycopy hx hown (hts _ hlink) (hts _ (gw_all copy_words _ (by simp))) (hts _ (gw_all copy_words _ (by simp))) (hts _ (gw_all copy_words _ (by simp))) (src := G.1 + ad a0 b0) (dst := G.1 + ad a b) (cs := vp_cell (G.2.2.2 1) (n0, .inl (fun i => Int32.ofInt (s.2.1 a0 b0 i)))) (cd := vp_cell (G.2.2.2 1) (n1, .inl (fun i => Int32.ofInt (s.2.1 a b i)))) (srcPos := Int32.ofInt sp) (destPos := Int32.ofInt dp) (n := Int32.ofInt n) (by rw [hT]; exact hc0) (by rw [hT]; exact hc1)
    (fun _ h => by cases h) (fun _ h => by cases h) (fun h => by cases h) (fun h => by cases h) hk0 hk1 hkk0 hkk1 (by simp [refKind]) (neg sp r1 h1) (neg dp r2 h2) (neg n r3 h3)
    (by rw [to_of r1, to_of r3]; show ¬ _ > ((arrV _ n0 _).slots.size : Int); rw [arrV_size]; omega)
    (by rw [to_of r2, to_of r3]; show ¬ _ > ((arrV _ n1 _).slots.size : Int); rw [arrV_size]; omega)
    (fun vm₁ _ i hi => by
      rw [of_clamp r3] at hi
      have e : (vp_cell (G.2.2.2 1) (n0, .inl (fun i => Int32.ofInt (s.2.1 a0 b0 i)))).slots.getD ((Int32.ofInt sp).toNatClampNeg + i) .null = .int (Int32.ofInt (s.2.1 a0 b0 (sp.toNat + i))) := by
        rw [of_clamp r1]
        show (arrV _ n0 (fun j => .int (Int32.ofInt (s.2.1 a0 b0 j)))).slots.getD _ _ = _
        rw [Array.getD_eq_getD_getElem?, arrV_read _ _ (by omega)]
        rfl
      refine ⟨?_, ?_⟩
      · rw [e]
        have := hW.2.2 a0 b0 (sp.toNat + i) n0 hs0
        rw [← this, b8, of_to]
        exact pk_fb _
      · rw [e]
        exact trivial)
    (g := F0 m pc ls (.int (Int32.ofInt n) :: .int (Int32.ofInt dp) :: .ref (G.1 + ad a b) :: .int (Int32.ofInt sp) :: .ref (G.1 + ad a0 b0) :: rest)) rfl (by rw [hml]; exact hls) (rest := rest) rfl (by rw [hb]; exact hd) hfr (by show 2 * 0 + _ + _ ≤ _; omega)
  have e1 : copied (vp_cell (G.2.2.2 1) (n0, .inl (fun i => Int32.ofInt (s.2.1 a0 b0 i)))) (vp_cell (G.2.2.2 1) (n1, .inl (fun i => Int32.ofInt (s.2.1 a b i)))) (Int32.ofInt sp) (Int32.ofInt dp) (Int32.ofInt n) = vp_cell (G.2.2.2 1) (n1, .inl (va_cpy (fun i => Int32.ofInt (s.2.1 a0 b0 i)) (fun i => Int32.ofInt (s.2.1 a b i)) sp.toNat dp.toNat n.toNat)) := by
    have := va_copied (fun z => .int z) (G.2.2.2 1) (G.2.2.2 1) (n0 := n0) (n1 := n1) (sp := sp.toNat) (dp := dp.toNat) (n := n.toNat) (fun i => Int32.ofInt (s.2.1 a0 b0 i)) (fun i => Int32.ofInt (s.2.1 a b i)) (by omega)
    rw [← of_clamp r1, ← of_clamp r2, ← of_clamp r3] at this ⊢
    exact this
  rw [e1] at X' step
  have hl : G.1 + ad a b < H.size := (Array.getElem?_eq_some_iff.mp hc1).1
  have oq : ∀ q : Nat, q ≠ G.1 + ad a b → (H.setIfInBounds (G.1 + ad a b) (vp_cell (G.2.2.2 1) (n1, .inl (va_cpy (fun i => Int32.ofInt (s.2.1 a0 b0 i)) (fun i => Int32.ofInt (s.2.1 a b i)) sp.toNat dp.toNat n.toNat))))[q]? = H[q]? := fun q hq => by simp [Array.getElem?_setIfInBounds, Ne.symm hq]
  have hsame : (H.setIfInBounds (G.1 + ad a b) (vp_cell (G.2.2.2 1) (n1, .inl (va_cpy (fun i => Int32.ofInt (s.2.1 a0 b0 i)) (fun i => Int32.ofInt (s.2.1 a b i)) sp.toNat dp.toNat n.toNat))))[G.1 + ad a b]? = some (vp_cell (G.2.2.2 1) (n1, .inl (va_cpy (fun i => Int32.ofInt (s.2.1 a0 b0 i)) (fun i => Int32.ofInt (s.2.1 a b i)) sp.toNat dp.toNat n.toNat))) := by simp [Array.getElem?_setIfInBounds, hl]
  have hheap : ((T.setVm vm').setCell (G.1 + ad a b) (vp_cell (G.2.2.2 1) (n1, .inl (va_cpy (fun i => Int32.ofInt (s.2.1 a0 b0 i)) (fun i => Int32.ofInt (s.2.1 a b i)) sp.toNat dp.toNat n.toNat)))).heap = H.setIfInBounds (G.1 + ad a b) (vp_cell (G.2.2.2 1) (n1, .inl (va_cpy (fun i => Int32.ofInt (s.2.1 a0 b0 i)) (fun i => Int32.ofInt (s.2.1 a b i)) sp.toNat dp.toNat n.toNat))) := by rw [← hT]; rfl
  have hsz : (H.setIfInBounds (G.1 + ad a b) (vp_cell (G.2.2.2 1) (n1, .inl (va_cpy (fun i => Int32.ofInt (s.2.1 a0 b0 i)) (fun i => Int32.ofInt (s.2.1 a b i)) sp.toNat dp.toNat n.toNat)))).size = H.size := by simp
  have hP1 : HP G (s.1, cpS s.2.1 a0 b0 sp.toNat a b dp.toNat n.toNat, s.2.2) (H.setIfInBounds (G.1 + ad a b) (vp_cell (G.2.2.2 1) (n1, .inl (va_cpy (fun i => Int32.ofInt (s.2.1 a0 b0 i)) (fun i => Int32.ofInt (s.2.1 a b i)) sp.toNat dp.toNat n.toNat)))) := by
    refine hp_set (locs1 := []) (s := s) (s' := (s.1, cpS s.2.1 a0 b0 sp.toNat a b dp.toNat n.toNat, s.2.2)) rfl hq (fun q hq => ent_cp hq) (ent_int hs1 (by omega)) ?_ (by rw [hsz, hP.2])
    refine hP.1.set wl_D he1 ?_ oq
    show (H.setIfInBounds _ _)[G.1 + ad a b]? = _
    rw [hsame]
    congr 4
    funext q
    simp only [va_cpy, cpS]
    by_cases hq : dp.toNat ≤ q ∧ q < dp.toNat + n.toNat
    · rw [if_pos hq, if_pos ⟨trivial, trivial, hq.1, hq.2⟩]
    · rw [if_neg hq, if_neg (fun h => hq h.2.2)]
  obtain ⟨t, a1, b1⟩ := kk _ _ hP1 ⟨by rw [hsz]; exact hS.1, fun q g1 g2 => by
      rw [oq q (fun e => g2 (by rw [e]; simp))]
      exact hS.2.1 q g1 g2, fun q hq => by
      rcases List.mem_append.mp hq with h | h
      · exact hS.2.2 q h
      · obtain ⟨z, -, hz⟩ := List.mem_map.mp h
        rw [← hz]
        simp⟩ _ hheap X'
  exact ⟨t, step t a1, b1⟩
end
end
section
/-! The soundness of a step -/
def slW (own : String) (k : Nat) (q : Nat × Nat) : Cond := if q = (46, 0) then Cond.fieldLink own k "PatternMill" "KINDS" "[LPatternMill$Kind;" else Cond.fieldLink own k "PatternMill$Kind" "KEEP" "LPatternMill$Kind;"
def SlOK (own : String) (sl : Nat → Option (Nat × Nat)) : Prop := ∀ k q, sl k = some q → (q = (46, 0) ∨ q = (45, 19)) ∧ slW own k q ∈ gw
theorem sl_of {own : String} {l : List (Nat × Nat × Nat)} (h : l.all (fun q => (decide (q.2 = (46, 0)) || decide (q.2 = (45, 19))) && (decide (slW own q.1 q.2 ∈ lw_tbl) && goodWord (slW own q.1 q.2))) = true) : SlOK own (lk l) := by
  intro k q hk
  have h1 := List.all_eq_true.mp h _ (lk_mem hk)
  simp only [Bool.and_eq_true, Bool.or_eq_true, decide_eq_true_eq] at h1
  exact ⟨h1.1, gw_mem h1.2.1 h1.2.2⟩
theorem swt_or {x : Int} {P : Nat → Prop} {d : Nat} : ∀ (l : List (Int × Nat)), swt x P d l → (∃ q ∈ l, x = q.1 ∧ P q.2) ∨ ((∀ q ∈ l, ¬ x = q.1) ∧ P d)
  | [], h => Or.inr ⟨fun _ hq => absurd hq List.not_mem_nil, h⟩
  | (k, t) :: r, h => by
    by_cases hx : x = k
    · exact Or.inl ⟨(k, t), List.mem_cons_self, hx, h.1 hx⟩
    · rcases swt_or r (h.2 hx) with ⟨q, h1, h2⟩ | ⟨h1, h2⟩
      · exact Or.inl ⟨q, List.mem_cons_of_mem _ h1, h2⟩
      · refine Or.inr ⟨fun q hq => ?_, h2⟩
        rcases List.mem_cons.mp hq with rfl | hq
        · exact hx
        · exact h1 q hq
theorem swt_look {x : Int} {P : Nat → Prop} {d pc : Nat} {df : Int} (hd : (pc : Int) + df = d) : ∀ (l : List (Int × Int)), (∀ q ∈ l, 0 ≤ (pc : Int) + q.2) → swt x P d (l.map (fun q => (q.1, ((pc : Int) + q.2).toNat))) → ∃ t, P t ∧ (pc : Int) + Op.lookupswitch.offset l df x = (t : Int)
  | [], _, h => ⟨d, h, hd⟩
  | (k, o) :: r, hn, h => by
    rw [Op.lookupswitch.offset_cons]
    by_cases hx : x = k
    · refine ⟨_, h.1 hx, ?_⟩
      rw [if_pos hx.symm]
      have := hn _ List.mem_cons_self
      simp only at this ⊢
      omega
    · rw [if_neg (fun e => hx e.symm)]
      exact swt_look hd r (fun q hq => hn q (List.mem_cons_of_mem _ hq)) (h.2 hx)
theorem rng_of {n : Int} (h : rngB n = true) : rng n := by
  simp only [rngB, Bool.and_eq_true, decide_eq_true_eq] at h
  exact h
section
variable {SL : Nat} {xs : Nat → Int} {p : Program} {l : Launch} {e : Env} {R : Room} {s₀ : State} {m : MethodId} {args : Array Value} {below : List Frame} {meth : Method} {c : Code} {Q : State → Prop} {G : Gp} {cc : ByteArray} {nL : Nat} {own : String}
/-- what holds of the machine at a configuration -/
def Wm (n0 : Nat) (G : Gp) (p : Program) (l : Launch) (e : Env) (R : Room) (s₀ : State) (m : MethodId) (args : Array Value) (below : List Frame) (meth : Method) (c : Code) (nL : Nat) (Q : State → Prop) (cf : Cf) : Prop :=
  ∀ (H : Heap) (locs : List Loc) (ls : Array Slot), HP G cf.2.2.2.1 H → Wf cf.2.2.2.1 → okc cf.2.2.2.1 cf.2.1 cf.2.2.1 → va_S (fun q => G.1 ≤ q) s₀.heap H locs → lh G ls nL cf.2.1 → n0 ≤ cf.2.2.2.1.1 ∧ cf.2.2.2.2.1 ≤ R.cells ∧ cf.2.2.2.2.2 ≤ R.slots →
    W p l e R s₀ m args below meth c H locs cf.2.2.2.2.1 cf.2.2.2.2.2 Q (F0 m cf.1 ls (cf.2.2.1.map (cv G)))
/-- a call's rule -/
def CallR (SL : Nat) (xs : Nat → Int) (l : Launch) (own : String) (R : Room) (i : Instr) (n mc ms : Nat) (T : Tr) : Prop :=
  ∀ (p : Program) (e : Env) (s₀ : State) (m : MethodId) (args : Array Value) (below : List Frame) (meth : Method) (c : Code) (Q : State → Prop) (G : Gp) (cc : ByteArray) (nL : Nat), CallFix p m c cc nL s₀ args gw own → KK G s₀ → CN G SL xs s₀ s₀.heap → G.1 ≤ s₀.heap.size →
  ∀ (pc : Nat) (ls : Array Slot) (av rest : List Av) (s : St) (H : Heap) (locs : List Loc) (kc ks : Nat), decode cc pc = .ok (i, 3) → ls.size = nL → av.length = n → rest.length ≤ 8 → HP G s H → Wf s → (∀ v ∈ av, okv s v) → va_S (fun q => G.1 ≤ q) s₀.heap H locs → kc + mc ≤ R.cells → ks + ms ≤ R.slots →
  ∀ Y, T av s Y → (∀ v s' H1 locs1, Y v s' → HP G s' H1 → Wf s' → (∀ x, v = some x → okv s' x) → s.1 ≤ s'.1 → va_S (fun q => G.1 ≤ q) s₀.heap H1 locs1 → W p l e R s₀ m args below meth c H1 locs1 (kc + mc) (ks + ms) Q (F0 m (pc + 3) ls ((v.toList ++ rest).map (cv G)))) →
  W p l e R s₀ m args below meth c H locs kc ks Q (F0 m pc ls ((av.reverse ++ rest).map (cv G)))
def isInv (i : Instr) (k : Nat) : Prop := i = .invokevirtual k ∨ i = .invokespecial k ∨ i = .invokestatic k
theorem okc_push {s : St} {lv : List (Option Av)} {st : List Av} {v : Av} (h : okc s lv st) (hv : okv s v) : okc s lv (v :: st) := ⟨fun w hw => (List.mem_cons.mp hw).elim (fun e => e ▸ hv) (h.1 w), h.2⟩
theorem okc_tail {s : St} {lv : List (Option Av)} {st : List Av} {v : Av} (h : okc s lv (v :: st)) : okc s lv st := ⟨fun w hw => h.1 w (List.mem_cons_of_mem _ hw), h.2⟩
theorem okc_head {s : St} {lv : List (Option Av)} {st : List Av} {v : Av} (h : okc s lv (v :: st)) : okv s v := h.1 v List.mem_cons_self
theorem popn_eq : ∀ (n : Nat) (acc st av r : List Av), popn n acc st = some (av, r) → av.length = acc.length + n ∧ av.reverse ++ r = acc.reverse ++ st
  | 0, acc, st, av, r, h => by cases h; exact ⟨rfl, rfl⟩
  | n + 1, acc, [], av, r, h => by cases h
  | n + 1, acc, v :: t, av, r, h => by
    obtain ⟨h1, h2⟩ := popn_eq n (v :: acc) t av r h
    refine ⟨by rw [h1]; simp; omega, ?_⟩
    rw [h2]
    simp
theorem cond_of {b : Bool} {A : Prop} (h : bif b then A else False) : b = true ∧ A := by
  cases b
  · exact h.elim
  · exact ⟨rfl, h⟩
theorem Wf.up {s : St} {a b j : Nat} {v : Int} (h : Wf s) (hv : rng v) (hb : ∀ n, shp a = .inr (1, n) → b8 v = v) : Wf (s.1, upS s.2.1 a b j v, s.2.2) := by
  refine ⟨fun a' b' j' => ?_, h.2.1, fun a' b' j' n hn => ?_⟩
  · simp only [upS]
    split
    · exact hv
    · exact h.1 a' b' j'
  · simp only [upS]
    split
    · rename_i hq
      obtain ⟨rfl, -, -⟩ := hq
      exact hb n hn
    · exact h.2.2 a' b' j' n hn
theorem Wf.upR {s : St} {a b j : Nat} {v : Rf} (h : Wf s) (hv : okv s (.inr v)) : Wf (s.1, s.2.1, upR s.2.2 a b j v) := by
  refine ⟨h.1, fun a' b' j' q hc hq => ?_, h.2.2⟩
  simp only [_root_.Jvm.Pilot.CPatternMillLaw_law_r1863_1d1ca3.upR] at hq
  split at hq
  · subst hq
    exact hv
  · exact h.2.1 a' b' j' q hc hq
theorem b8_b8 (x : Int) : b8 (b8 x) = b8 x := by
  simp only [b8, of_to]
  congr 1
  have := vp_nar_byte
  simp
theorem b8_0 : b8 0 = 0 := by decide
theorem b8_rng (x : Int) : rng (b8 x) := rng_32 _
theorem Wf.new {s : St} {a b : Nat} (h : Wf s) (hi : idq a b = true) (hd : ad a b = s.1) : Wf (s.1 + 1, zrS s.2.1 a b, zrR s.2.2 a b) := by
  refine ⟨fun a' b' j' => ?_, fun a' b' j' q hc hq => ?_, fun a' b' j' n hn => ?_⟩
  · simp only [zrS]
    split
    · exact rng0
    · exact h.1 a' b' j'
  · simp only [zrR] at hq
    split at hq
    · cases hq
    · rename_i hne
      have hlt : ad a' b' < s.1 := by
        rcases Nat.lt_succ_iff_lt_or_eq.mp hc.2 with h1 | h1
        · exact h1
        · exfalso
          have e1 := idof_ad hi
          have e2 := idof_ad hc.1
          rw [h1, ← hd, e1] at e2
          exact hne ⟨(congrArg Prod.fst e2).symm, (congrArg Prod.snd e2).symm⟩
      exact (h.2.1 a' b' j' q ⟨hc.1, hlt⟩ hq).mono (by simp)
  · simp only [zrS]
    split
    · exact b8_0
    · exact h.2.2 a' b' j' n hn
theorem Wf.cp {s : St} {a b i a1 b1 i1 n n0 : Nat} (h : Wf s) (h0 : shp a = .inr (1, n0)) : Wf (s.1, cpS s.2.1 a b i a1 b1 i1 n, s.2.2) := by
  refine ⟨fun a' b' j' => ?_, h.2.1, fun a' b' j' m hm => ?_⟩
  · simp only [cpS]
    split
    · exact h.1 _ _ _
    · exact h.1 a' b' j'
  · simp only [cpS]
    split
    · exact h.2.2 _ _ _ n0 h0
    · exact h.2.2 a' b' j' m hm
end
end
section
theorem shp_len46 : ∀ a, a < 46 → (match shp a with | .inl _ => true | .inr (_, n) => decide (n ≤ 100000)) = true := by decide +kernel
theorem shp_len {a t n : Nat} (h : shp a = .inr (t, n)) : n ≤ 100000 := by
  have := shp_len46 a (by have := (shp_arr h).1; omega)
  rw [h] at this
  simpa using this
section
variable {SL : Nat} {xs : Nat → Int} {p : Program} {l : Launch} {e : Env} {R : Room} {s₀ : State} {m : MethodId} {args : Array Value} {below : List Frame} {meth : Method} {c : Code} {Q : State → Prop} {G : Gp} {cc : ByteArray} {nL : Nat} {own : String}
set_option maxHeartbeats 8000000 in
theorem sound {fl : Fl} {kl : Nat → Option Nat} {sl : Nat → Option (Nat × Nat)} {code : Nat → Option En} {cs : Cs} {n0 MC MS ini rt : Nat} {F : Option Av → St → Prop}
    (S : CallFix p m c cc nL s₀ args gw own) (hcode : CodeOK cc code) (hfl : FlOK own fl) (hkl : KlOK own kl) (hsl : SlOK own sl) (hK : KK G s₀) (hC : CN G SL xs s₀ s₀.heap) (hz : G.1 ≤ s₀.heap.size) (hSLr : rng SL) (hMC : MC ≤ R.cells) (hMS : MS ≤ R.slots)
    (hini : ini < 8 → meth.name = "<init>" ∧ own = (nth cnL ini).getD "")
    (hcs : ∀ pc i nx tg cas k n mc ms T, code pc = some (i, nx, tg, cas) → isInv i k → cs k = some (n, mc, ms, T) → CallR SL xs l own R i n mc ms T)
    (hri : ∀ pc ls H locs kc ks x s, decode cc pc = .ok (.ireturn, 1) → F (some (.inl x)) s → (rt = 1 ∨ (rt = 2 ∧ (x = 0 ∨ x = 1))) → HP G s H → Wf s → rng x → va_S (fun q => G.1 ≤ q) s₀.heap H locs → n0 ≤ s.1 ∧ kc ≤ R.cells ∧ ks ≤ R.slots → W p l e R s₀ m args below meth c H locs kc ks Q (F0 m pc ls [.int (Int32.ofInt x)]))
    (hrv : ∀ pc ls H locs kc ks s, decode cc pc = .ok (.return_, 1) → F none s → rt = 0 → HP G s H → Wf s → va_S (fun q => G.1 ≤ q) s₀.heap H locs → n0 ≤ s.1 ∧ kc ≤ R.cells ∧ ks ≤ R.slots → W p l e R s₀ m args below meth c H locs kc ks Q (F0 m pc ls []))
    (cf : Cf) (H : stp SL xs (fl, kl, sl, code, cs, nL, MC, MS, ini, rt) F (Wm n0 G p l e R s₀ m args below meth c nL Q) cf) : Wm n0 G p l e R s₀ m args below meth c nL Q cf := by
  obtain ⟨pc, lv, st, s, kc, ks⟩ := cf
  intro Hh locs ls hP hW hO hS hl hk
  simp only at hP hW hO hl hk ⊢
  have hx := S.1
  have hb := S.2.1
  simp only [stp] at H
  cases hc : code pc with
  | none => rw [hc] at H; exact H.elim
  | some q =>
    obtain ⟨i, nx, tg, cas⟩ := q
    rw [hc] at H
    obtain ⟨hd, hok⟩ := hcode pc i nx tg cas hc
    simp only at H
    cases i
    case iconst n =>
      simp only [okE, Bool.and_eq_true, decide_eq_true_eq] at hok
      obtain ⟨rfl, hr⟩ := hok
      rw [Nat.add_sub_cancel_left] at hd
      exact lv_iconst (v := Int32.ofInt n) hx hb hd rfl (H Hh locs ls hP hW (okc_push hO (rng_of hr)) hS hl hk)
    case bipush n =>
      simp only [okE, Bool.and_eq_true, decide_eq_true_eq] at hok
      obtain ⟨⟨rfl, hr⟩, hv⟩ := hok
      rw [Nat.add_sub_cancel_left] at hd
      exact lv_bipush (v := Int32.ofInt n) hx hb hd hv (H Hh locs ls hP hW (okc_push hO (rng_of hr)) hS hl hk)
    case sipush n =>
      simp only [okE, Bool.and_eq_true, decide_eq_true_eq] at hok
      obtain ⟨⟨rfl, hr⟩, hv⟩ := hok
      rw [Nat.add_sub_cancel_left] at hd
      exact lv_sipush (v := Int32.ofInt n) hx hb hd hv (H Hh locs ls hP hW (okc_push hO (rng_of hr)) hS hl hk)
    case iload_n k =>
      obtain rfl : nx = pc + 1 := of_decide_eq_true hok
      rw [Nat.add_sub_cancel_left] at hd
      simp only at H
      split at H
      · rename_i x hn
        exact lv_iload_n hx hb hd rfl (lh_at hl hn) (H Hh locs ls hP hW (okc_push hO (hO.2 _ _ hn)) hS hl hk)
      · exact H.elim
    case iload k =>
      obtain rfl : nx = pc + 2 := of_decide_eq_true hok
      rw [Nat.add_sub_cancel_left] at hd
      simp only at H
      split at H
      · rename_i x hn
        exact lv_iload hx hb hd (lh_at hl hn) (H Hh locs ls hP hW (okc_push hO (hO.2 _ _ hn)) hS hl hk)
      · exact H.elim
    case aload_n k =>
      obtain rfl : nx = pc + 1 := of_decide_eq_true hok
      rw [Nat.add_sub_cancel_left] at hd
      simp only at H
      split at H
      · rename_i x hn
        have hq := lh_at hl hn
        have K := H Hh locs ls hP hW (okc_push hO (hO.2 _ _ hn)) hS hl hk
        rcases x with _ | x
        · exact lv_aload_nN hx hb hd rfl hq K
        · exact lv_aload_n hx hb hd rfl hq K
      · exact H.elim
    case aload k =>
      obtain rfl : nx = pc + 2 := of_decide_eq_true hok
      rw [Nat.add_sub_cancel_left] at hd
      simp only at H
      split at H
      · rename_i x hn
        have hq := lh_at hl hn
        have K := H Hh locs ls hP hW (okc_push hO (hO.2 _ _ hn)) hS hl hk
        rcases x with _ | x
        · exact lv_aloadN hx hb hd hq K
        · exact lv_aload hx hb hd hq K
      · exact H.elim
    case istore_n k =>
      obtain rfl : nx = pc + 1 := of_decide_eq_true hok
      rw [Nat.add_sub_cancel_left] at hd
      simp only at H
      split at H
      · rename_i x r
        have hn := (cond_of H).1; replace H := (cond_of H).2
        have hn : k.val < nL := Nat.le_of_ble_eq_true hn
        exact lv_istore_n hx hb hd rfl hl hn rfl (fun ls' hl' => H Hh locs ls' hP hW (okc_set (okc_tail hO) (okc_head hO)) hS (lh_set (v := .inl x) hl') hk)
      · exact H.elim
    case istore k =>
      obtain rfl : nx = pc + 2 := of_decide_eq_true hok
      rw [Nat.add_sub_cancel_left] at hd
      simp only at H
      split at H
      · rename_i x r
        have hn := (cond_of H).1; replace H := (cond_of H).2
        have hn : k < nL := Nat.le_of_ble_eq_true hn
        exact lv_istore hx hb hd hl hn rfl (fun ls' hl' => H Hh locs ls' hP hW (okc_set (okc_tail hO) (okc_head hO)) hS (lh_set (v := .inl x) hl') hk)
      · exact H.elim
    case astore_n k =>
      obtain rfl : nx = pc + 1 := of_decide_eq_true hok
      rw [Nat.add_sub_cancel_left] at hd
      simp only at H
      split at H
      · rename_i x r
        have hn := (cond_of H).1; replace H := (cond_of H).2
        have hn : k.val < nL := Nat.le_of_ble_eq_true hn
        rcases x with _ | x
        · exact lv_astore_nN hx hb hd rfl hl hn rfl (fun ls' hl' => H Hh locs ls' hP hW (okc_set (okc_tail hO) (okc_head hO)) hS (lh_set (v := .inr none) hl') hk)
        · exact lv_astore_n hx hb hd rfl hl hn rfl (fun ls' hl' => H Hh locs ls' hP hW (okc_set (okc_tail hO) (okc_head hO)) hS (lh_set (v := .inr (some x)) hl') hk)
      · exact H.elim
    case astore k =>
      obtain rfl : nx = pc + 2 := of_decide_eq_true hok
      rw [Nat.add_sub_cancel_left] at hd
      simp only at H
      split at H
      · rename_i x r
        have hn := (cond_of H).1; replace H := (cond_of H).2
        have hn : k < nL := Nat.le_of_ble_eq_true hn
        rcases x with _ | x
        · exact lv_astoreN hx hb hd hl hn rfl (fun ls' hl' => H Hh locs ls' hP hW (okc_set (okc_tail hO) (okc_head hO)) hS (lh_set (v := .inr none) hl') hk)
        · exact lv_astore hx hb hd hl hn rfl (fun ls' hl' => H Hh locs ls' hP hW (okc_set (okc_tail hO) (okc_head hO)) hS (lh_set (v := .inr (some x)) hl') hk)
      · exact H.elim
    case iinc k n =>
      simp only [okE, Bool.and_eq_true, decide_eq_true_eq] at hok
      obtain ⟨rfl, hr⟩ := hok
      rw [Nat.add_sub_cancel_left] at hd
      simp only at H
      split at H
      · rename_i x hn
        have hk2 := (cond_of H).1; replace H := (cond_of H).2
        have hk2 : k < nL := Nat.le_of_ble_eq_true hk2
        obtain ⟨k', hk'⟩ := List.getElem?_of_mem (lvl_mem G lv 0 k _ hn)
        rw [Nat.zero_add] at hk'
        have e1 : Int32.ofInt x + Int32.ofInt n = Int32.ofInt (wr (x + n)) := by rw [of_wr, Int32.ofInt_add]
        exact lv_iinc hx hb hd hl hk' e1 hk2 rfl (fun ls' hl' => H Hh locs ls' hP hW (okc_set hO (wr_rng _)) hS (lh_set (v := .inl (wr (x + n))) hl') hk)
      · exact H.elim
    case iadd =>
      obtain rfl : nx = pc + 1 := of_decide_eq_true hok
      rw [Nat.add_sub_cancel_left] at hd
      simp only at H
      split at H
      · rename_i y x r
        have e1 : Int32.ofInt (wr (x + y)) = Int32.ofInt x + Int32.ofInt y := by rw [of_wr, Int32.ofInt_add]
        have K : W p l e R s₀ m args below meth c Hh locs kc ks Q (F0 m (pc + 1) ls (.int (Int32.ofInt (wr (x + y))) :: r.map (cv G))) := H Hh locs ls hP hW (okc_push (okc_tail (okc_tail hO)) (wr_rng _)) hS hl hk
        rw [e1] at K
        exact lv_iadd hx hb hd K
      · exact H.elim
    case isub =>
      obtain rfl : nx = pc + 1 := of_decide_eq_true hok
      rw [Nat.add_sub_cancel_left] at hd
      simp only at H
      split at H
      · rename_i y x r
        have e1 : Int32.ofInt (wr (x - y)) = Int32.ofInt x - Int32.ofInt y := by rw [of_wr, Int32.ofInt_sub]
        have K : W p l e R s₀ m args below meth c Hh locs kc ks Q (F0 m (pc + 1) ls (.int (Int32.ofInt (wr (x - y))) :: r.map (cv G))) := H Hh locs ls hP hW (okc_push (okc_tail (okc_tail hO)) (wr_rng _)) hS hl hk
        rw [e1] at K
        exact lv_isub hx hb hd K
      · exact H.elim
    case imul =>
      obtain rfl : nx = pc + 1 := of_decide_eq_true hok
      rw [Nat.add_sub_cancel_left] at hd
      simp only at H
      split at H
      · rename_i y x r
        have e1 : Int32.ofInt (wr (x * y)) = Int32.ofInt x * Int32.ofInt y := by rw [of_wr, Int32.ofInt_mul]
        have K : W p l e R s₀ m args below meth c Hh locs kc ks Q (F0 m (pc + 1) ls (.int (Int32.ofInt (wr (x * y))) :: r.map (cv G))) := H Hh locs ls hP hW (okc_push (okc_tail (okc_tail hO)) (wr_rng _)) hS hl hk
        rw [e1] at K
        exact lv_imul hx hb hd K
      · exact H.elim
    case idiv =>
      obtain rfl : nx = pc + 1 := of_decide_eq_true hok
      rw [Nat.add_sub_cancel_left] at hd
      simp only at H
      split at H
      · rename_i y x r
        obtain ⟨hy, H⟩ := H
        have e1 : Int32.ofInt (w_div x y) = Int32.ofInt x / Int32.ofInt y := of_to _
        have K : W p l e R s₀ m args below meth c Hh locs kc ks Q (F0 m (pc + 1) ls (.int (Int32.ofInt (w_div x y)) :: r.map (cv G))) := H Hh locs ls hP hW (okc_push (okc_tail (okc_tail hO)) (rng_32 _)) hS hl hk
        rw [e1] at K
        exact lv_idiv hx hb hd (fun q => hy ((of_eq (okc_head hO) rng0).mp q)) K
      · exact H.elim
    case irem =>
      obtain rfl : nx = pc + 1 := of_decide_eq_true hok
      rw [Nat.add_sub_cancel_left] at hd
      simp only at H
      split at H
      · rename_i y x r
        obtain ⟨hy, H⟩ := H
        have e1 : Int32.ofInt (w_rem x y) = Int32.ofInt x - Int32.ofInt x / Int32.ofInt y * Int32.ofInt y := of_to _
        have K : W p l e R s₀ m args below meth c Hh locs kc ks Q (F0 m (pc + 1) ls (.int (Int32.ofInt (w_rem x y)) :: r.map (cv G))) := H Hh locs ls hP hW (okc_push (okc_tail (okc_tail hO)) (rng_32 _)) hS hl hk
        rw [e1] at K
        exact lv_irem hx hb hd (fun q => hy ((of_eq (okc_head hO) rng0).mp q)) K
      · exact H.elim
    case iand =>
      obtain rfl : nx = pc + 1 := of_decide_eq_true hok
      rw [Nat.add_sub_cancel_left] at hd
      simp only at H
      split at H
      · rename_i y x r
        have e1 : Int32.ofInt (w_and x y) = Int32.ofInt x &&& Int32.ofInt y := of_to _
        have K : W p l e R s₀ m args below meth c Hh locs kc ks Q (F0 m (pc + 1) ls (.int (Int32.ofInt (w_and x y)) :: r.map (cv G))) := H Hh locs ls hP hW (okc_push (okc_tail (okc_tail hO)) (rng_32 _)) hS hl hk
        rw [e1] at K
        exact lv_iand hx hb hd K
      · exact H.elim
    case ior =>
      obtain rfl : nx = pc + 1 := of_decide_eq_true hok
      rw [Nat.add_sub_cancel_left] at hd
      simp only at H
      split at H
      · rename_i y x r
        have e1 : Int32.ofInt (w_or x y) = Int32.ofInt x ||| Int32.ofInt y := of_to _
        have K : W p l e R s₀ m args below meth c Hh locs kc ks Q (F0 m (pc + 1) ls (.int (Int32.ofInt (w_or x y)) :: r.map (cv G))) := H Hh locs ls hP hW (okc_push (okc_tail (okc_tail hO)) (rng_32 _)) hS hl hk
        rw [e1] at K
        exact lv_ior hx hb hd K
      · exact H.elim
    case i2b =>
      obtain rfl : nx = pc + 1 := of_decide_eq_true hok
      rw [Nat.add_sub_cancel_left] at hd
      simp only at H
      split at H
      · rename_i x r
        exact lv_i2b (v := Int32.ofInt (b8 x)) hx hb hd (of_to _).symm (H Hh locs ls hP hW (okc_push (okc_tail hO) (rng_32 _)) hS hl hk)
      · exact H.elim
    case dup =>
      obtain rfl : nx = pc + 1 := of_decide_eq_true hok
      rw [Nat.add_sub_cancel_left] at hd
      simp only at H
      split at H
      · rename_i v r
        exact lv_dup hx hb hd (cv_cat G v) (H Hh locs ls hP hW (okc_push hO (okc_head hO)) hS hl hk)
      · exact H.elim
    case goto off =>
      simp only [okE, Bool.and_eq_true, decide_eq_true_eq] at hok
      obtain ⟨rfl, ht⟩ := hok
      rw [Nat.add_sub_cancel_left] at hd
      exact lv_goto (tgt := tg) hx hb hd ht (H Hh locs ls hP hW hO hS hl hk)
    case ifCond cd off =>
      simp only [okE, Bool.and_eq_true, decide_eq_true_eq] at hok
      obtain ⟨rfl, ht⟩ := hok
      rw [Nat.add_sub_cancel_left] at hd
      simp only at H
      split at H
      · rename_i x r
        have hr : rng x := okc_head hO
        have k1 := fun h => H.1 h Hh locs ls hP hW (okc_tail hO) hS hl hk
        have k2 := fun h => H.2 h Hh locs ls hP hW (okc_tail hO) hS hl hk
        cases cd
        · exact lv_if_eq (tgt := tg) hx hb hd ht (fun h => k1 ((of_eq hr rng0).mp h)) (fun h => k2 (fun q => h ((of_eq hr rng0).mpr q)))
        · exact lv_if_ne (tgt := tg) hx hb hd ht (fun h => k1 (fun q => h ((of_eq hr rng0).mpr q))) (fun h => k2 (fun q => q ((of_eq hr rng0).mp h)))
        · exact lv_if_lt (tgt := tg) hx hb hd ht (fun h => k1 ((of_lt hr rng0).mp h)) (fun h => k2 (fun q => h ((of_lt hr rng0).mpr q)))
        · exact lv_if_ge (tgt := tg) hx hb hd ht (fun h => k1 ((of_le rng0 hr).mp h)) (fun h => k2 (fun q => h ((of_le rng0 hr).mpr q)))
        · exact lv_if_gt (tgt := tg) hx hb hd ht (fun h => k1 ((of_lt rng0 hr).mp h)) (fun h => k2 (fun q => h ((of_lt rng0 hr).mpr q)))
        · exact lv_if_le (tgt := tg) hx hb hd ht (fun h => k1 ((of_le hr rng0).mp h)) (fun h => k2 (fun q => h ((of_le hr rng0).mpr q)))
      · exact H.elim
    case if_icmp cd off =>
      simp only [okE, Bool.and_eq_true, decide_eq_true_eq] at hok
      obtain ⟨rfl, ht⟩ := hok
      rw [Nat.add_sub_cancel_left] at hd
      simp only at H
      split at H
      · rename_i y x r
        have hy : rng y := okc_head hO
        have hr : rng x := okc_head (okc_tail hO)
        have k1 := fun h => H.1 h Hh locs ls hP hW (okc_tail (okc_tail hO)) hS hl hk
        have k2 := fun h => H.2 h Hh locs ls hP hW (okc_tail (okc_tail hO)) hS hl hk
        cases cd
        · exact lv_icmp_eq (tgt := tg) hx hb hd ht (fun h => k1 ((of_eq hr hy).mp h)) (fun h => k2 (fun q => h ((of_eq hr hy).mpr q)))
        · exact lv_icmp_ne (tgt := tg) hx hb hd ht (fun h => k1 (fun q => h ((of_eq hr hy).mpr q))) (fun h => k2 (fun q => q ((of_eq hr hy).mp h)))
        · exact lv_icmp_lt (tgt := tg) hx hb hd ht (fun h => k1 ((of_lt hr hy).mp h)) (fun h => k2 (fun q => h ((of_lt hr hy).mpr q)))
        · exact lv_icmp_ge (tgt := tg) hx hb hd ht (fun h => k1 ((of_le hy hr).mp h)) (fun h => k2 (fun q => h ((of_le hy hr).mpr q)))
        · exact lv_icmp_gt (tgt := tg) hx hb hd ht (fun h => k1 ((of_lt hy hr).mp h)) (fun h => k2 (fun q => h ((of_lt hy hr).mpr q)))
        · exact lv_icmp_le (tgt := tg) hx hb hd ht (fun h => k1 ((of_le hr hy).mp h)) (fun h => k2 (fun q => h ((of_le hr hy).mpr q)))
      · exact H.elim
    case ifnonnull off =>
      simp only [okE, Bool.and_eq_true, decide_eq_true_eq] at hok
      obtain ⟨rfl, ht⟩ := hok
      rw [Nat.add_sub_cancel_left] at hd
      simp only at H
      split at H
      · rename_i x r
        rcases x with _ | x
        · exact lv_ifnonnullN hx hb hd (H.2 rfl Hh locs ls hP hW (okc_tail hO) hS hl hk)
        · exact lv_ifnonnull (tgt := tg) hx hb hd ht (H.1 (fun q => by cases q) Hh locs ls hP hW (okc_tail hO) hS hl hk)
      · exact H.elim
    case if_acmp cd off =>
      simp only [okE, Bool.and_eq_true, decide_eq_true_eq] at hok
      obtain ⟨rfl, ht⟩ := hok
      rw [Nat.add_sub_cancel_left] at hd
      cases cd
      · exact H.elim
      · simp only at H
        split at H
        · rename_i a1 b1 a b r
          have ha := (cond_of H).1; replace H := (cond_of H).2
          simp only [Bool.and_eq_true] at ha
          have ha1 := Nat.eq_of_beq_eq_true ha.1
          have ha2 := Nat.eq_of_beq_eq_true ha.2
          subst ha1
          subst ha2
          have o1 : b1 < 24 := by
            rcases okc_head hO with ⟨h, -⟩ | ⟨-, h⟩ | ⟨h, -⟩ | ⟨h, -⟩
            · simp [idq] at h
            · exact h
            · simp at h
            · simp at h
          have o2 : b < 24 := by
            rcases okc_head (okc_tail hO) with ⟨h, -⟩ | ⟨-, h⟩ | ⟨h, -⟩ | ⟨h, -⟩
            · simp [idq] at h
            · exact h
            · simp at h
            · simp at h
          have e1 : ∀ b, adr G (45, b) = G.2.1 45 b := fun b => by simp [adr]
          have inj : ∀ i j, i < 24 → j < 24 → G.2.1 45 i = G.2.1 45 j → i = j := hC.1.2
          refine lv_acmp_ne (rx := (some (45, b)).map (adr G)) (ry := (some (45, b1)).map (adr G)) (tgt := tg) hx hb hd ht (fun h => H.1 (fun q => h (by rw [q])) Hh locs ls hP hW (okc_tail (okc_tail hO)) hS hl hk) (fun h => H.2 ?_ Hh locs ls hP hW (okc_tail (okc_tail hO)) hS hl hk)
          simp only [Option.map_some, e1, Option.some.injEq] at h
          exact inj _ _ o2 o1 h
        · exact H.elim
    case tableswitch d lo hi offs =>
      simp only [okE, Bool.and_eq_true, decide_eq_true_eq] at hok
      obtain ⟨⟨⟨ht, hhi⟩, hcas⟩, hpos⟩ := hok
      simp only at H
      split at H
      · rename_i x r
        have hr : rng x := okc_head hO
        rcases swt_or _ H with ⟨q, hq, hxq, H⟩ | ⟨hno, H⟩
        · rw [hcas] at hq
          obtain ⟨j, hj, rfl⟩ := List.mem_map.mp hq
          have hj' := List.mem_range.mp hj
          have hp0 := List.all_eq_true.mp hpos j hj
          simp only [decide_eq_true_eq] at hp0
          simp only at hxq H
          refine lv_tableIn (off := offs.getD j 0) hx hb hd (by rw [to_of hr]; omega) (by rw [to_of hr]; omega) ?_ ?_ (H Hh locs ls hP hW (okc_tail hO) hS hl hk)
          · rw [to_of hr, show (x - lo).toNat = j by omega, Array.getD_eq_getD_getElem?, Array.getElem?_eq_getElem hj']
            rfl
          · omega
        · refine lv_tableOut (tgt := tg) hx hb hd ?_ ht (H Hh locs ls hP hW (okc_tail hO) hS hl hk)
          rw [to_of hr]
          by_cases h1 : x < lo
          · exact Or.inl h1
          · by_cases h2 : hi < x
            · exact Or.inr h2
            · exfalso
              refine hno (lo + ((x - lo).toNat : Int), ((pc : Int) + offs.getD (x - lo).toNat 0).toNat) ?_ ?_
              · rw [hcas]
                exact List.mem_map.mpr ⟨(x - lo).toNat, List.mem_range.mpr (by omega), rfl⟩
              · simp only
                omega
      · exact H.elim
    case lookupswitch d ps =>
      simp only [okE, Bool.and_eq_true, decide_eq_true_eq] at hok
      obtain ⟨⟨⟨ht, hsrt⟩, hcas⟩, hpos⟩ := hok
      simp only at H
      split at H
      · rename_i x r
        have hr : rng x := okc_head hO
        rw [hcas] at H
        obtain ⟨t, H, ht2⟩ := swt_look ht ps.toList (fun q hq => by have := List.all_eq_true.mp hpos q hq; simpa using this) H
        exact lv_lookup (tgt := t) hx hb hd hsrt rfl (by rw [to_of hr]; exact ht2) (H Hh locs ls hP hW (okc_tail hO) hS hl hk)
      · exact H.elim
    case getfield k =>
      obtain rfl : nx = pc + 3 := of_decide_eq_true hok
      rw [Nat.add_sub_cancel_left] at hd
      simp only at H
      split at H
      · rename_i a b r
        have hv := okc_head hO
        split at H
        · rename_i ci j hflk
          split at H
          · rename_i cj hshp
            have hbq := (cond_of H).1; replace H := (cond_of H).2
            have hcj := Nat.eq_of_beq_eq_true hbq
            subst hcj
            cases hb8 : Nat.beq ci 8
            · simp only [hb8, cond_false] at H
              have hne : ¬ ci = 8 := fun q => by rw [q] at hb8; cases hb8
              have hj := (hfl k ci j hflk).1
              have hc8 : ci < 8 := by
                rcases Nat.lt_or_ge ci 9 with h | h
                · omega
                · exfalso
                  rw [nth_get, List.getElem?_eq_none (by show 9 ≤ ci; exact h)] at hj
                  simp at hj
              have ha : a < 45 := by
                rcases shp_obj hshp (by omega) with h | h
                · exact h.2
                · omega
              have hq := okr_our hv ha
              have hjN : j < nF ci := by rw [← fd_len ci hc8]; exact hj
              obtain ⟨-, -, -, -, h012⟩ := cl_fd1 ci hc8 j hjN
              have hadr : cv G (.inr (some (a, b))) = .ref (G.1 + ad a b) := by simp [cv, va_rf, adr_our ha]
              rw [List.map_cons, hadr]
              refine s_get S hK hfl hflk hshp hc8 hd hP hq ?_
              split at H
              · rename_i hfk
                have K := H Hh locs ls hP hW (okc_push (okc_tail hO) (by
                  cases hr : s.2.2 a b j with
                  | none => trivial
                  | some q => exact hW.2.1 a b j q hq hr)) hS hl hk
                simp only [fvl, hfk, if_true]
                exact K
              · rename_i hfk
                have K := H Hh locs ls hP hW (okc_push (okc_tail hO) (hW.1 a b j)) hS hl hk
                simp only [fvl, if_neg hfk]
                exact K
            · simp only [hb8, cond_true] at H
              have h8 := Nat.eq_of_beq_eq_true hb8
              subst h8
              have ha : a = 45 := by
                rcases shp_obj hshp (by omega) with h | h
                · omega
                · exact h.2
              subst ha
              have hb24 : b < 24 := by
                rcases hv with ⟨h, -⟩ | ⟨-, h⟩ | ⟨h, -⟩ | ⟨h, -⟩
                · simp [idq] at h
                · exact h
                · simp at h
                · simp at h
              have hj : j < 4 := (hfl k 8 j hflk).1
              have hkf := ((kTab_ok j hj).2.2.2.2 b hb24).2
              have K := H Hh locs ls hP hW (okc_push (okc_tail hO) (show rng _ from ⟨by omega, by omega⟩)) hS hl hk
              exact s_getC S hK hC hS hfl hflk hb24 hd K
          · exact H.elim
        · exact H.elim
      · exact H.elim
    case putfield k =>
      obtain rfl : nx = pc + 3 := of_decide_eq_true hok
      rw [Nat.add_sub_cancel_left] at hd
      simp only at H
      split at H
      · rename_i x a b r
        have hv := okc_head (okc_tail hO)
        have hr : rng x := okc_head hO
        split at H
        · rename_i ci j hflk
          split at H
          · rename_i cj hshp
            have hbq := (cond_of H).1; replace H := (cond_of H).2
            have hcj := Nat.eq_of_beq_eq_true hbq
            subst hcj
            have hj := (hfl k ci j hflk).1
            have hc9 : ci < 9 := by
              rcases Nat.lt_or_ge ci 9 with h | h
              · exact h
              · exfalso
                rw [nth_get, List.getElem?_eq_none (by show 9 ≤ ci; exact h)] at hj
                simp at hj
            have hc8 : ci < 8 := by
              rcases Nat.lt_or_ge ci 8 with h | h
              · exact h
              · exfalso
                have h8 : ci = 8 := by omega
                subst h8
                have h9 : fk 8 j = 9 := by simp [fk, nth, frL]
                rw [h9] at H
                exact H.elim
            have ha : a < 45 := by
              rcases shp_obj hshp (by omega) with h | h
              · exact h.2
              · omega
            have hq := okr_our hv ha
            have hjN : j < nF ci := by rw [← fd_len ci hc8]; exact hj
            obtain ⟨f0, f2, -, -⟩ := cl_fd2 ci hc8 j hjN
            have hadr : cv G (.inr (some (a, b))) = .ref (G.1 + ad a b) := by simp [cv, va_rf, adr_our ha]
            have hwf : Wf (s.1, upS s.2.1 a b j x, s.2.2) := hW.up hr (fun n hn => by rw [hshp] at hn; cases hn)
            rw [List.map_cons, List.map_cons, hadr]
            split at H
            · rename_i hfk
              refine s_put (v := .int (Int32.ofInt x)) S hK hfl hflk hshp hc8 hd hP hS hq (by omega) (f0 hfk) rfl rfl (fun H1 locs1 g1 g2 g3 => ?_)
              have hset := fvl_up (G := G) (n := s.1) (s := s) (a := a) (b := b) (v := x) (ci := ci) (j := j) (by omega)
              refine H H1 locs1 ls (hp_set (locs1 := []) (s := s) (s' := (s.1, upS s.2.1 a b j x, s.2.2)) rfl hq (fun q hq => ent_upS hq) ?_ g1 g2) hwf (okc_tail (okc_tail hO)) g3 hl hk
              rw [ent_obj hshp, fs_set hset.1 hset.2]
            · rename_i hfk
              obtain ⟨hx01, H⟩ := H
              refine s_put (v := .int (Int32.ofInt x)) S hK hfl hflk hshp hc8 hd hP hS hq (by omega) (f2 hfk) (by rcases hx01 with rfl | rfl <;> decide) (by rcases hx01 with rfl | rfl <;> decide) (fun H1 locs1 g1 g2 g3 => ?_)
              have hset := fvl_up (G := G) (n := s.1) (s := s) (a := a) (b := b) (v := x) (ci := ci) (j := j) (by omega)
              refine H H1 locs1 ls (hp_set (locs1 := []) (s := s) (s' := (s.1, upS s.2.1 a b j x, s.2.2)) rfl hq (fun q hq => ent_upS hq) ?_ g1 g2) hwf (okc_tail (okc_tail hO)) g3 hl hk
              rw [ent_obj hshp, fs_set hset.1 hset.2]
            · exact H.elim
          · exact H.elim
        · exact H.elim
      · rename_i x a b r
        have hv := okc_head (okc_tail hO)
        split at H
        · rename_i ci j hflk
          split at H
          · rename_i cj hshp
            have hbq := (cond_of H).1; replace H := (cond_of H).2
            simp only [Bool.and_eq_true] at hbq
            have hcj := Nat.eq_of_beq_eq_true hbq.1
            subst hcj
            have hin := Nat.eq_of_beq_eq_true hbq.2
            subst hin
            have hj := (hfl k ini j hflk).1
            have hc9 : ini < 9 := by
              rcases Nat.lt_or_ge ini 9 with h | h
              · exact h
              · exfalso
                rw [nth_get, List.getElem?_eq_none (by show 9 ≤ ini; exact h)] at hj
                simp at hj
            have hc8 : ini < 8 := by
              rcases Nat.lt_or_ge ini 8 with h | h
              · exact h
              · exfalso
                have h8 : ini = 8 := by omega
                subst h8
                have h9 : fk 8 j = 9 := by simp [fk, nth, frL]
                rw [h9] at H
                exact H.elim
            have ha : a < 45 := by
              rcases shp_obj hshp (by omega) with h | h
              · exact h.2
              · omega
            have hq := okr_our hv ha
            have hjN : j < nF ini := by rw [← fd_len ini hc8]; exact hj
            obtain ⟨-, -, f1, -⟩ := cl_fd2 ini hc8 j hjN
            have hadr : cv G (.inr (some (a, b))) = .ref (G.1 + ad a b) := by simp [cv, va_rf, adr_our ha]
            rw [List.map_cons, List.map_cons, hadr]
            split at H
            · rename_i hfk
              have hrf := f1 hfk
              obtain ⟨hi1, hi2⟩ := hini hc8
              refine s_putF (v := cv G (.inr x)) S hK hfl hflk hshp hc8 hd hP hS hq hfk hi1 hi2 (by cases hty : cty ini j <;> rw [hty] at hrf <;> first | (cases hrf; done) | rfl) (by cases hty : cty ini j <;> rw [hty] at hrf <;> first | (cases hrf; done) | (rcases x with _ | x <;> rfl)) (fun H1 locs1 g1 g2 g3 => ?_)
              have hset := fvl_upR (G := G) (n := s.1) (s := s) (a := a) (b := b) (v := x) (ci := ini) (j := j) hfk
              refine H H1 locs1 ls (hp_set (locs1 := []) (s := s) (s' := (s.1, s.2.1, upR s.2.2 a b j x)) rfl hq (fun q hq => ent_upR hq) ?_ g1 g2) (hW.upR (okc_head hO)) (okc_tail (okc_tail hO)) g3 hl hk
              rw [ent_obj hshp, ← fs_set hset.1 hset.2]
              rfl
            · exact H.elim
          · exact H.elim
        · exact H.elim
      · exact H.elim
    case getstatic k =>
      obtain rfl : nx = pc + 3 := of_decide_eq_true hok
      rw [Nat.add_sub_cancel_left] at hd
      simp only at H
      split at H
      · rename_i q hslk
        obtain ⟨hq, hw⟩ := hsl k q hslk
        rcases hq with rfl | rfl
        · have K := H Hh locs ls hP hW (okc_push hO (Or.inr (Or.inr (Or.inl ⟨rfl, rfl⟩)))) hS hl hk
          exact va_gets hx hb hC.2.1 hS S.2.2.2.1 (S.2.2.2.2 _ hw) (fun _ h => h) hd K
        · have K := H Hh locs ls hP hW (okc_push hO (Or.inr (Or.inl ⟨rfl, by decide⟩))) hS hl hk
          exact va_gets hx hb (hC.1.1 19 (by decide)).1 hS S.2.2.2.1 (S.2.2.2.2 _ hw) (fun _ h => h) hd K
      · exact H.elim
    case iaload =>
      obtain rfl : nx = pc + 1 := of_decide_eq_true hok
      rw [Nat.add_sub_cancel_left] at hd
      simp only at H
      split at H
      · rename_i x a b r
        have hr : rng x := okc_head hO
        have hv := okc_head (okc_tail hO)
        cases hb47 : Nat.beq a 47
        · simp only [hb47, cond_false] at H
          split at H
          · rename_i n hshp
            have ha := (shp_arr hshp).1
            have hadr : cv G (.inr (some (a, b))) = .ref (G.1 + ad a b) := by simp [cv, va_rf, adr_our ha]
            rw [List.map_cons, List.map_cons, hadr]
            exact s_iald S hK hshp hd hP (okr_our hv ha) hr H.1 (H.2 Hh locs ls hP hW (okc_push (okc_tail (okc_tail hO)) (hW.1 _ _ _)) hS hl hk)
          · exact H.elim
        · simp only [hb47, cond_true] at H
          have h47 := Nat.eq_of_beq_eq_true hb47
          subst h47
          have hb0 : b = 0 := by
            rcases hv with ⟨h, -⟩ | ⟨h, -⟩ | ⟨h, -⟩ | ⟨-, h⟩
            · simp [idq] at h
            · simp at h
            · simp at h
            · exact h
          subst hb0
          have K := H.2 Hh locs ls hP hW (okc_push (okc_tail (okc_tail hO)) (hC.2.2.2.2.2 _)) hS hl hk
          refine va_sld hx hb hC.2.2.2.1 (by have := hC.2.2.2.2.1; omega) (by have := hC.2.2.2.2.1; omega) hS (of_in hr H.1) hd ?_
          rw [of_clamp hr]
          exact K
      · exact H.elim
    case baload =>
      obtain rfl : nx = pc + 1 := of_decide_eq_true hok
      rw [Nat.add_sub_cancel_left] at hd
      simp only at H
      split at H
      · rename_i x a b r
        have hr : rng x := okc_head hO
        have hv := okc_head (okc_tail hO)
        split at H
        · rename_i n hshp
          have ha := (shp_arr hshp).1
          have hadr : cv G (.inr (some (a, b))) = .ref (G.1 + ad a b) := by simp [cv, va_rf, adr_our ha]
          rw [List.map_cons, List.map_cons, hadr]
          exact s_bald S hK hshp hd hP (okr_our hv ha) hr H.1 (H.2 Hh locs ls hP hW (okc_push (okc_tail (okc_tail hO)) (hW.1 _ _ _)) hS hl hk)
        · rename_i n hshp
          have ha := (shp_arr hshp).1
          have hadr : cv G (.inr (some (a, b))) = .ref (G.1 + ad a b) := by simp [cv, va_rf, adr_our ha]
          rw [List.map_cons, List.map_cons, hadr]
          exact s_zald S hK hshp hd hP (okr_our hv ha) hr H.1 (H.2 Hh locs ls hP hW (okc_push (okc_tail (okc_tail hO)) (hW.1 _ _ _)) hS hl hk)
        · exact H.elim
      · exact H.elim
    case aaload =>
      obtain rfl : nx = pc + 1 := of_decide_eq_true hok
      rw [Nat.add_sub_cancel_left] at hd
      simp only at H
      split at H
      · rename_i x a b r
        have hr : rng x := okc_head hO
        have hv := okc_head (okc_tail hO)
        cases hb46 : Nat.beq a 46
        · simp only [hb46, cond_false] at H
          have okq : a < 45 → ∀ j, okv s (.inr (s.2.2 a b j)) := fun ha j => by
            cases hr : s.2.2 a b j with
            | none => trivial
            | some q => exact hW.2.1 a b j q (okr_our hv ha) hr
          split at H
          · rename_i n hshp
            have ha := (shp_arr hshp).1
            have hadr : cv G (.inr (some (a, b))) = .ref (G.1 + ad a b) := by simp [cv, va_rf, adr_our ha]
            rw [List.map_cons, List.map_cons, hadr]
            exact s_aald S hK hshp (Or.inl rfl) hd hP (okr_our hv ha) hr H.1 (H.2 Hh locs ls hP hW (okc_push (okc_tail (okc_tail hO)) (okq ha _)) hS hl hk)
          · rename_i n hshp
            have ha := (shp_arr hshp).1
            have hadr : cv G (.inr (some (a, b))) = .ref (G.1 + ad a b) := by simp [cv, va_rf, adr_our ha]
            rw [List.map_cons, List.map_cons, hadr]
            exact s_aald S hK hshp (Or.inr rfl) hd hP (okr_our hv ha) hr H.1 (H.2 Hh locs ls hP hW (okc_push (okc_tail (okc_tail hO)) (okq ha _)) hS hl hk)
          · exact H.elim
        · simp only [hb46, cond_true] at H
          have h46 := Nat.eq_of_beq_eq_true hb46
          subst h46
          have hb0 : b = 0 := by
            rcases hv with ⟨h, -⟩ | ⟨h, -⟩ | ⟨-, h⟩ | ⟨h, -⟩
            · simp [idq] at h
            · simp at h
            · exact h
            · simp at h
          subst hb0
          have hlt : x.toNat < 24 := by omega
          have K := H.2 Hh locs ls hP hW (okc_push (okc_tail (okc_tail hO)) (Or.inr (Or.inl ⟨rfl, hlt⟩))) hS hl hk
          obtain ⟨cell, h1, h2, h3, h4, h5, h6, h7⟩ := hC.2.2.1.kept hS.2.1
          refine W.aald (v := .ref (G.2.1 45 x.toNat)) (ty := .object "PatternMill$Kind") hx hb h1 h2 rfl h3 ?_ ?_ rfl rfl hd K
          · intro q
            rcases q with q | q
            · exact of_in hr H.1 (Or.inl q)
            · rw [of_clamp hr] at q
              omega
          · rw [of_clamp hr]
            exact h6 _ hlt
      · exact H.elim
    case iastore =>
      obtain rfl : nx = pc + 1 := of_decide_eq_true hok
      rw [Nat.add_sub_cancel_left] at hd
      simp only at H
      split at H
      · rename_i v x a b r
        have hrv : rng v := okc_head hO
        have hr : rng x := okc_head (okc_tail hO)
        have hv := okc_head (okc_tail (okc_tail hO))
        split at H
        · rename_i n hshp
          have ha := (shp_arr hshp).1
          have hadr : cv G (.inr (some (a, b))) = .ref (G.1 + ad a b) := by simp [cv, va_rf, adr_our ha]
          rw [List.map_cons, List.map_cons, List.map_cons, hadr]
          exact s_iast S hK hshp hd hP hS (okr_our hv ha) hr H.1 (fun H1 locs1 g1 g2 => H.2 H1 locs1 ls g1 (hW.up hrv (fun n hn => by rw [hshp] at hn; cases hn)) (okc_tail (okc_tail (okc_tail hO))) g2 hl hk)
        · exact H.elim
      · exact H.elim
    case bastore =>
      obtain rfl : nx = pc + 1 := of_decide_eq_true hok
      rw [Nat.add_sub_cancel_left] at hd
      simp only at H
      split at H
      · rename_i v x a b r
        have hrv : rng v := okc_head hO
        have hr : rng x := okc_head (okc_tail hO)
        have hv := okc_head (okc_tail (okc_tail hO))
        split at H
        · rename_i n hshp
          have ha := (shp_arr hshp).1
          have hadr : cv G (.inr (some (a, b))) = .ref (G.1 + ad a b) := by simp [cv, va_rf, adr_our ha]
          rw [List.map_cons, List.map_cons, List.map_cons, hadr]
          exact s_bast S hK hshp hd hP hS (okr_our hv ha) hr H.1 (fun H1 locs1 g1 g2 => H.2 H1 locs1 ls g1 (hW.up (b8_rng _) (fun n _ => b8_b8 v)) (okc_tail (okc_tail (okc_tail hO))) g2 hl hk)
        · rename_i n hshp
          have ha := (shp_arr hshp).1
          have hadr : cv G (.inr (some (a, b))) = .ref (G.1 + ad a b) := by simp [cv, va_rf, adr_our ha]
          rw [List.map_cons, List.map_cons, List.map_cons, hadr]
          exact s_zast S hK hshp hd hP hS (okr_our hv ha) hr H.1 H.2.1 (fun H1 locs1 g1 g2 => H.2.2 H1 locs1 ls g1 (hW.up hrv (fun n hn => by rw [hshp] at hn; cases hn)) (okc_tail (okc_tail (okc_tail hO))) g2 hl hk)
        · exact H.elim
      · exact H.elim
    case aastore =>
      obtain rfl : nx = pc + 1 := of_decide_eq_true hok
      rw [Nat.add_sub_cancel_left] at hd
      simp only at H
      split at H
      · rename_i a1 b1 x a b r
        have hv1 := okc_head hO
        have hr : rng x := okc_head (okc_tail hO)
        have hv := okc_head (okc_tail (okc_tail hO))
        split at H
        · rename_i n hshp
          have hbq := (cond_of H).1; replace H := (cond_of H).2
          have h45 := Nat.eq_of_beq_eq_true hbq
          subst h45
          have ha := (shp_arr hshp).1
          have hadr : cv G (.inr (some (a, b))) = .ref (G.1 + ad a b) := by simp [cv, va_rf, adr_our ha]
          rw [List.map_cons, List.map_cons, List.map_cons, hadr]
          have hb24 : b1 < 24 := by
            rcases hv1 with ⟨h, -⟩ | ⟨-, h⟩ | ⟨h, -⟩ | ⟨h, -⟩
            · simp [idq] at h
            · exact h
            · simp at h
            · simp at h
          have hK2 := hK
          obtain ⟨-, -, -, -, cK, kK, hfK, hkK, hasK⟩ := hK2
          obtain ⟨cell, g1, g2, g3, -⟩ := ((hC.1.1 b1 hb24).2.1).kept hS.2.1
          have ecl : cell.cls = cK := Option.some.inj (g3.symm.trans hfK)
          refine s_aast (q1 := (45, b1)) S hK hshp (by omega) rfl hd hP hS (okr_our hv ha) hr H.1 ⟨cell, by simpa [adr] using g1, g2, ⟨kK, by rw [ecl]; exact hkK⟩, fun comp hcomp => ?_⟩ (fun H1 locs1 g1 g2 => H.2 H1 locs1 ls g1 (hW.upR hv1) (okc_tail (okc_tail (okc_tail hO))) g2 hl hk)
          rw [ecl, ← Option.some.inj (hfK.symm.trans hcomp)]
          exact hasK
        · rename_i n hshp
          have hbq := (cond_of H).1; replace H := (cond_of H).2
          have h1 := Nat.eq_of_beq_eq_true hbq
          subst h1
          have ha := (shp_arr hshp).1
          have hadr : cv G (.inr (some (a, b))) = .ref (G.1 + ad a b) := by simp [cv, va_rf, adr_our ha]
          rw [List.map_cons, List.map_cons, List.map_cons, hadr]
          have hq1 := okr_our hv1 (by omega)
          have he := wl_at (G := G) hq1.1 hq1.2
          rw [ent_obj (ci := 1) rfl] at he
          refine s_aast (q1 := (1, b1)) S hK hshp (by omega) rfl hd hP hS (okr_our hv ha) hr H.1 ?_ (fun H1 locs1 g1 g2 => H.2 H1 locs1 ls g1 (hW.upR hv1) (okc_tail (okc_tail (okc_tail hO))) g2 hl hk)
          rw [adr_our (by omega)]
          refine va_rAny hK.1 hP.1 he (cl_at (by omega)) (fun comp c0 h1 h2 => ?_)
          have e1 : (clr 1).1 = "PatternMill$Text" := rfl
          rw [e1] at h2
          have e2 := Option.some.inj (h1.symm.trans h2)
          subst e2
          have hcl := (hK.1.1 1 _ (cl_at (by omega))).2
          have e3 := Option.some.inj (hcl.1.symm.trans h2)
          rw [← e3]
          exact va_assign hcl
        · exact H.elim
      · exact H.elim
    case arraylength =>
      obtain rfl : nx = pc + 1 := of_decide_eq_true hok
      rw [Nat.add_sub_cancel_left] at hd
      simp only at H
      split at H
      · rename_i a b r
        have hv := okc_head hO
        cases hb47 : Nat.beq a 47
        · simp only [hb47, cond_false] at H
          have hbq := (cond_of H).1; replace H := (cond_of H).2
          have h46 := Nat.eq_of_beq_eq_true hbq
          subst h46
          have hb0 : b = 0 := by
            rcases hv with ⟨h, -⟩ | ⟨h, -⟩ | ⟨-, h⟩ | ⟨h, -⟩
            · simp [idq] at h
            · simp at h
            · exact h
            · simp at h
          subst hb0
          have K := H Hh locs ls hP hW (okc_push (okc_tail hO) (show rng _ from ⟨by decide, by decide⟩)) hS hl hk
          obtain ⟨cell, h1, h2, h3, h4, h5, h6, h7⟩ := hC.2.2.1.kept hS.2.1
          exact W.alen (n := Int32.ofInt 24) hx hb h1 h2 h5 rfl rfl hd K
        · simp only [hb47, cond_true] at H
          have h47 := Nat.eq_of_beq_eq_true hb47
          subst h47
          have hb0 : b = 0 := by
            rcases hv with ⟨h, -⟩ | ⟨h, -⟩ | ⟨h, -⟩ | ⟨-, h⟩
            · simp [idq] at h
            · simp at h
            · simp at h
            · exact h
          subst hb0
          have K := H Hh locs ls hP hW (okc_push (okc_tail hO) hSLr) hS hl hk
          exact va_slen (b := G.2.1 47 0) hx hb hC.2.2.2.1 (by have := hC.2.2.2.2.1; omega) (by have := hC.2.2.2.2.1; omega) hS hd K
      · exact H.elim
    case new k =>
      obtain rfl : nx = pc + 3 := of_decide_eq_true hok
      rw [Nat.add_sub_cancel_left] at hd
      simp only at H
      split at H
      · rename_i ci hkk
        split at H
        · rename_i a fl0 ha hfl0
          obtain ⟨b, ⟨hq, had⟩, H⟩ := H
          have hbb := (cond_of H).1; replace H := (cond_of H).2
          simp only [Bool.and_eq_true] at hbb
          have hc8 : ci < 8 := by
            rcases Nat.lt_or_ge ci 8 with h | h
            · exact h
            · rw [nth_get, List.getElem?_eq_none (by show 8 ≤ ci; exact h)] at ha
              cases ha
          have hnF : nF ci = fl0.length := by simp [nF, hfl0]
          have hshp : shp a = .inl ci := by
            rcases c8 hc8 with rfl | rfl | rfl | rfl | rfl | rfl | rfl | rfl <;> (cases ha; rfl)
          have ha45 : a < 45 := by
            rcases c8 hc8 with rfl | rfl | rfl | rfl | rfl | rfl | rfl | rfl <;> (cases ha; decide)
          rw [← hnF] at H hbb
          have hb1 := Nat.le_trans (Nat.le_of_ble_eq_true hbb.1) hMC
          have hb2 := Nat.le_trans (Nat.le_of_ble_eq_true hbb.2) hMS
          refine s_new S hK hkl hkk hc8 hshp hd hP hS hq had hb1 hb2 (fun H1 locs1 g1 g2 => ?_)
          have K := H H1 locs1 ls g1 (hW.new hq had) (okc_push (hO.mono (by simp)) (Or.inl ⟨hq, by simp only; omega⟩)) g2 hl ⟨Nat.le_succ_of_le hk.1, hb1, hb2⟩
          have hadr : cv G (.inr (some (a, b))) = .ref (G.1 + ad a b) := by simp [cv, va_rf, adr_our ha45]
          rw [← hadr]
          exact K
        · exact H.elim
      · exact H.elim
    case newarray ty =>
      obtain rfl : nx = pc + 2 := of_decide_eq_true hok
      rw [Nat.add_sub_cancel_left] at hd
      simp only at H
      split at H
      · rename_i n r
        obtain ⟨a, b, ⟨hshp, h0, hq, had⟩, H⟩ := H
        have hbb := (cond_of H).1; replace H := (cond_of H).2
        simp only [Bool.and_eq_true] at hbb
        have hb1 := Nat.le_trans (Nat.le_of_ble_eq_true hbb.1) hMC
        have hb2 := Nat.le_trans (Nat.le_of_ble_eq_true hbb.2) hMS
        have ha := (shp_arr hshp).1
        refine s_newa S hK hshp hd hP hS hq had (okc_head hO) h0 rfl (shp_len hshp) hb1 hb2 (fun H1 locs1 g1 g2 => ?_)
        have K := H H1 locs1 ls g1 (hW.new hq had) (okc_push ((okc_tail hO).mono (by simp)) (Or.inl ⟨hq, by simp only; omega⟩)) g2 hl ⟨Nat.le_succ_of_le hk.1, hb1, hb2⟩
        have hadr : cv G (.inr (some (a, b))) = .ref (G.1 + ad a b) := by simp [cv, va_rf, adr_our ha]
        rw [← hadr]
        exact K
      · exact H.elim
    case anewarray k =>
      obtain rfl : nx = pc + 3 := of_decide_eq_true hok
      rw [Nat.add_sub_cancel_left] at hd
      simp only at H
      split at H
      · rename_i n r
        split at H
        · rename_i ci hkk
          obtain ⟨a, b, t, ⟨hshp, hct, h0, hq, had⟩, H⟩ := H
          have hbb := (cond_of H).1; replace H := (cond_of H).2
          simp only [Bool.and_eq_true] at hbb
          have hb1 := Nat.le_trans (Nat.le_of_ble_eq_true hbb.1) hMC
          have hb2 := Nat.le_trans (Nat.le_of_ble_eq_true hbb.2) hMS
          have ha := (shp_arr hshp).1
          refine s_anew S hK hkl hkk hct hshp hd hP hS hq had (okc_head hO) h0 rfl (shp_len hshp) hb1 hb2 (fun H1 locs1 g1 g2 => ?_)
          have K := H H1 locs1 ls g1 (hW.new hq had) (okc_push ((okc_tail hO).mono (by simp)) (Or.inl ⟨hq, by simp only; omega⟩)) g2 hl ⟨Nat.le_succ_of_le hk.1, hb1, hb2⟩
          have hadr : cv G (.inr (some (a, b))) = .ref (G.1 + ad a b) := by simp [cv, va_rf, adr_our ha]
          rw [← hadr]
          exact K
        · exact H.elim
      · exact H.elim
    case invokevirtual k =>
      obtain rfl : nx = pc + 3 := of_decide_eq_true hok
      rw [Nat.add_sub_cancel_left] at hd
      simp only at H
      split at H
      · rename_i n mc ms T hcsk
        split at H
        · rename_i av r hpop
          have hbb := (cond_of H).1; replace H := (cond_of H).2
          simp only [Bool.and_eq_true] at hbb
          obtain ⟨⟨hb1, hb2⟩, hb3⟩ := hbb
          obtain ⟨Y, hT, H⟩ := H
          obtain ⟨q1, q2⟩ := popn_eq _ _ _ _ _ hpop
          simp only [List.reverse_nil, List.nil_append] at q2
          have hav : ∀ v ∈ av, okv s v := fun v hv => hO.1 v (by rw [← q2]; exact List.mem_append_left _ (List.mem_reverse.mpr hv))
          have hrr : ∀ v ∈ r, okv s v := fun v hv => hO.1 v (by rw [← q2]; exact List.mem_append_right _ hv)
          rw [← q2]
          refine hcs pc _ _ _ _ k n mc ms T hc (Or.inl rfl) hcsk p e s₀ m args below meth c Q G cc nL S hK hC hz pc ls av r s Hh locs kc ks hd hl.1 (by simpa using q1) (Nat.le_of_ble_eq_true hb1) hP hW hav hS (Nat.le_trans (Nat.le_of_ble_eq_true hb2) hMC) (Nat.le_trans (Nat.le_of_ble_eq_true hb3) hMS) Y hT (fun v s' H1 locs1 hY g1 g2 g3 g4 g5 => ?_)
          refine H v s' hY H1 locs1 ls g1 g2 ⟨fun w hw => ?_, fun i w hw => (hO.2 i w hw).mono g4⟩ g5 hl ⟨Nat.le_trans hk.1 g4, Nat.le_trans (Nat.le_of_ble_eq_true hb2) hMC, Nat.le_trans (Nat.le_of_ble_eq_true hb3) hMS⟩
          rcases List.mem_append.mp hw with hw | hw
          · rcases v with _ | v
            · cases hw
            · rw [Option.toList_some, List.mem_singleton] at hw
              exact g3 w (by rw [hw])
          · exact (hrr w hw).mono g4
        · exact H.elim
      · exact H.elim
    case invokespecial k =>
      obtain rfl : nx = pc + 3 := of_decide_eq_true hok
      rw [Nat.add_sub_cancel_left] at hd
      simp only at H
      split at H
      · rename_i n mc ms T hcsk
        split at H
        · rename_i av r hpop
          have hbb := (cond_of H).1; replace H := (cond_of H).2
          simp only [Bool.and_eq_true] at hbb
          obtain ⟨⟨hb1, hb2⟩, hb3⟩ := hbb
          obtain ⟨Y, hT, H⟩ := H
          obtain ⟨q1, q2⟩ := popn_eq _ _ _ _ _ hpop
          simp only [List.reverse_nil, List.nil_append] at q2
          have hav : ∀ v ∈ av, okv s v := fun v hv => hO.1 v (by rw [← q2]; exact List.mem_append_left _ (List.mem_reverse.mpr hv))
          have hrr : ∀ v ∈ r, okv s v := fun v hv => hO.1 v (by rw [← q2]; exact List.mem_append_right _ hv)
          rw [← q2]
          refine hcs pc _ _ _ _ k n mc ms T hc (Or.inr (Or.inl rfl)) hcsk p e s₀ m args below meth c Q G cc nL S hK hC hz pc ls av r s Hh locs kc ks hd hl.1 (by simpa using q1) (Nat.le_of_ble_eq_true hb1) hP hW hav hS (Nat.le_trans (Nat.le_of_ble_eq_true hb2) hMC) (Nat.le_trans (Nat.le_of_ble_eq_true hb3) hMS) Y hT (fun v s' H1 locs1 hY g1 g2 g3 g4 g5 => ?_)
          refine H v s' hY H1 locs1 ls g1 g2 ⟨fun w hw => ?_, fun i w hw => (hO.2 i w hw).mono g4⟩ g5 hl ⟨Nat.le_trans hk.1 g4, Nat.le_trans (Nat.le_of_ble_eq_true hb2) hMC, Nat.le_trans (Nat.le_of_ble_eq_true hb3) hMS⟩
          rcases List.mem_append.mp hw with hw | hw
          · rcases v with _ | v
            · cases hw
            · rw [Option.toList_some, List.mem_singleton] at hw
              exact g3 w (by rw [hw])
          · exact (hrr w hw).mono g4
        · exact H.elim
      · exact H.elim
    case invokestatic k =>
      obtain rfl : nx = pc + 3 := of_decide_eq_true hok
      rw [Nat.add_sub_cancel_left] at hd
      simp only at H
      split at H
      · rename_i n mc ms T hcsk
        split at H
        · rename_i av r hpop
          have hbb := (cond_of H).1; replace H := (cond_of H).2
          simp only [Bool.and_eq_true] at hbb
          obtain ⟨⟨hb1, hb2⟩, hb3⟩ := hbb
          obtain ⟨Y, hT, H⟩ := H
          obtain ⟨q1, q2⟩ := popn_eq _ _ _ _ _ hpop
          simp only [List.reverse_nil, List.nil_append] at q2
          have hav : ∀ v ∈ av, okv s v := fun v hv => hO.1 v (by rw [← q2]; exact List.mem_append_left _ (List.mem_reverse.mpr hv))
          have hrr : ∀ v ∈ r, okv s v := fun v hv => hO.1 v (by rw [← q2]; exact List.mem_append_right _ hv)
          rw [← q2]
          refine hcs pc _ _ _ _ k n mc ms T hc (Or.inr (Or.inr rfl)) hcsk p e s₀ m args below meth c Q G cc nL S hK hC hz pc ls av r s Hh locs kc ks hd hl.1 (by simpa using q1) (Nat.le_of_ble_eq_true hb1) hP hW hav hS (Nat.le_trans (Nat.le_of_ble_eq_true hb2) hMC) (Nat.le_trans (Nat.le_of_ble_eq_true hb3) hMS) Y hT (fun v s' H1 locs1 hY g1 g2 g3 g4 g5 => ?_)
          refine H v s' hY H1 locs1 ls g1 g2 ⟨fun w hw => ?_, fun i w hw => (hO.2 i w hw).mono g4⟩ g5 hl ⟨Nat.le_trans hk.1 g4, Nat.le_trans (Nat.le_of_ble_eq_true hb2) hMC, Nat.le_trans (Nat.le_of_ble_eq_true hb3) hMS⟩
          rcases List.mem_append.mp hw with hw | hw
          · rcases v with _ | v
            · cases hw
            · rw [Option.toList_some, List.mem_singleton] at hw
              exact g3 w (by rw [hw])
          · exact (hrr w hw).mono g4
        · exact H.elim
      · exact H.elim
    case ireturn =>
      obtain rfl : nx = pc + 1 := of_decide_eq_true hok
      rw [Nat.add_sub_cancel_left] at hd
      simp only at H
      split at H
      · rename_i x
        split at H
        · exact hri pc ls Hh locs kc ks x s hd H (Or.inl rfl) hP hW (okc_head hO) hS hk
        · exact hri pc ls Hh locs kc ks x s hd H.2 (Or.inr ⟨rfl, H.1⟩) hP hW (okc_head hO) hS hk
        · exact H.elim
      · exact H.elim
    case return_ =>
      obtain rfl : nx = pc + 1 := of_decide_eq_true hok
      rw [Nat.add_sub_cancel_left] at hd
      simp only at H
      split at H
      · split at H
        · exact hrv pc ls Hh locs kc ks s hd H rfl hP hW hS hk
        · exact H.elim
      · exact H.elim
    all_goals exact H.elim
end
end
section
/-! Contracts: a method's transformer holds of the machine; calls -/
def Pr (SL : Nat) (xs : Nat → Int) (G : Gp) (s : St) (av : List Av) : Array Value → State → Prop := va_Pc (av.map (cv G)) (fun U => HP G s U.heap ∧ Wf s ∧ (∀ v ∈ av, okv s v) ∧ KK G U ∧ CN G SL xs U U.heap)
def Qr (G : Gp) (n0 : Nat) (F : Option Av → St → Prop) : Array Value → State → Outcome → State → Prop := fun _ st oc t => (∃ v s', oc = .returned (v.map (cv G)) ∧ F v s' ∧ HP G s' t.heap ∧ Wf s' ∧ (∀ x, v = some x → okv s' x) ∧ n0 ≤ s'.1) ∧ va_F (fun q => G.1 ≤ q) st t
/-- a contract -/
def Ct (SL : Nat) (xs : Nat → Int) (y : MethodName) (cc : ByteArray) (nL : Nat) (ret : Option FieldType) (rm : Room) (T : Tr) : Prop :=
  ∀ (l : Launch) (G : Gp) (av : List Av) (s : St) (F : Option Av → St → Prop), T av s F → Met l y (.code y cc nL ret :: gw) rm (Pr SL xs G s av) (Qr G s.1 F) rm.cells rm.slots (fun q => G.1 ≤ q)
def entL (av : List Av) (n : Nat) : List (Option Av) := av.map some ++ List.replicate (n - av.length) none
/-- what a method does -/
def trm (SL : Nat) (xs : Nat → Int) (M : Me) : Tr := fun av s F => bif Nat.ble av.length M.2.2.2.2.2.1 then Xz SL xs M F (0, entL av M.2.2.2.2.2.1, [], s, 0, 0) else False
def rmL (d mc ms : Nat) : Room := { frames := d, cells := mc, slots := ms, locals := 40 * d }
theorem lg_len (G : Gp) : ∀ av : List Av, (lg_sl (av.map (cv G))).length = av.length
  | [] => rfl
  | v :: r => by
    have := lg_len G r
    simp only [lg_sl] at this
    simp [lg_sl, cv_cat]
    simpa [Function.comp_def] using this
theorem lvl_ent (G : Gp) (m : Nat) : ∀ (av : List Av) (k : Nat), lvl G k (av.map some ++ List.replicate m none) = lv_args k (av.map (cv G))
  | [], k => by
    induction m generalizing k with
    | zero => rfl
    | succ m ih => exact ih (k + 1)
  | v :: r, k => by
    have := lvl_ent G m r (k + 1)
    simp only [List.map_cons, List.cons_append, lvl, lv_args, cv_cat]
    rw [this]
    rfl
theorem nth_ent {av : List Av} {n i : Nat} {v : Av} (h : nth (entL av n) i = some (some v)) : v ∈ av := by
  rw [nth_get] at h
  have := List.mem_of_getElem? h
  simp only [entL, List.mem_append, List.mem_map, List.mem_replicate] at this
  rcases this with ⟨w, h1, h2⟩ | ⟨-, h2⟩
  · cases h2
    exact h1
  · cases h2
def retOf (rt : Nat) : Option FieldType := match rt with
  | 0 => none
  | 1 => some .int
  | _ => some .boolean
/-- the calls of a code -/
def CallOK (SL : Nat) (xs : Nat → Int) (cs : Cs) (own : String) (R : Room) (i : Instr) : Prop := ∀ l k n mc ms T, isInv i k → cs k = some (n, mc, ms, T) → CallR SL xs l own R i n mc ms T
def isInvB : Instr → Bool
  | .invokevirtual _ => true
  | .invokespecial _ => true
  | .invokestatic _ => true
  | _ => false
theorem calls_of {SL : Nat} {xs : Nat → Int} {cs : Cs} {own : String} {R : Room} {L : List (Nat × En)} {I : List Instr} (h : L.all (fun e => !isInvB e.2.1 || I.any (fun i => decide (i = e.2.1))) = true) (hI : ∀ i ∈ I, CallOK SL xs cs own R i) : ∀ l pc i nx tg cas k n mc ms T, lk L pc = some (i, nx, tg, cas) → isInv i k → cs k = some (n, mc, ms, T) → CallR SL xs l own R i n mc ms T := by
  intro l pc i nx tg cas k n mc ms T hl hi hc
  have h1 := List.all_eq_true.mp h _ (lk_mem hl)
  have h2 : isInvB i = true := by rcases hi with rfl | rfl | rfl <;> rfl
  simp only [h2, Bool.not_true, Bool.false_or] at h1
  obtain ⟨j, h3, h4⟩ := List.any_eq_true.mp h1
  have h5 : j = i := of_decide_eq_true h4
  subst h5
  exact hI j h3 l k n mc ms T hi hc
theorem ok_v {SL : Nat} {xs : Nat → Int} {cs : Cs} {own : String} {R : Room} {k n mc ms : Nat} {T : Tr} (hc : cs k = some (n, mc, ms, T)) (h : ∀ l, CallR SL xs l own R (.invokevirtual k) n mc ms T) : CallOK SL xs cs own R (.invokevirtual k) := by
  intro l k' n' mc' ms' T' hi hc'
  rcases hi with e | e | e
  · cases e
    rw [hc] at hc'
    cases hc'
    exact h l
  · cases e
  · cases e
theorem ok_i {SL : Nat} {xs : Nat → Int} {cs : Cs} {own : String} {R : Room} {k n mc ms : Nat} {T : Tr} (hc : cs k = some (n, mc, ms, T)) (h : ∀ l, CallR SL xs l own R (.invokespecial k) n mc ms T) : CallOK SL xs cs own R (.invokespecial k) := by
  intro l k' n' mc' ms' T' hi hc'
  rcases hi with e | e | e
  · cases e
  · cases e
    rw [hc] at hc'
    cases hc'
    exact h l
  · cases e
theorem ok_s {SL : Nat} {xs : Nat → Int} {cs : Cs} {own : String} {R : Room} {k n mc ms : Nat} {T : Tr} (hc : cs k = some (n, mc, ms, T)) (h : ∀ l, CallR SL xs l own R (.invokestatic k) n mc ms T) : CallOK SL xs cs own R (.invokestatic k) := by
  intro l k' n' mc' ms' T' hi hc'
  rcases hi with e | e | e
  · cases e
  · cases e
  · cases e
    rw [hc] at hc'
    cases hc'
    exact h l
section
variable {SL : Nat} {xs : Nat → Int}
set_option maxHeartbeats 4000000 in
theorem ct_of {fl : Fl} {kl : Nat → Option Nat} {sl : Nat → Option (Nat × Nat)} {code : Nat → Option En} {cs : Cs} {nL MC MS ini rt d : Nat} {y : MethodName} {cc : ByteArray}
    (hy : plainName y.cls = true) (hcode : CodeOK cc code) (hfl : FlOK y.cls fl) (hkl : KlOK y.cls kl) (hsl : SlOK y.cls sl) (hSLr : rng SL) (hini : ini < 8 → y.name = "<init>" ∧ y.cls = (nth cnL ini).getD "") (hrt : rt < 3)
    (hcs : ∀ l pc i nx tg cas k n mc ms T, code pc = some (i, nx, tg, cas) → isInv i k → cs k = some (n, mc, ms, T) → CallR SL xs l y.cls (rmL d MC MS) i n mc ms T) :
    Ct SL xs y cc nL (retOf rt) (rmL d MC MS) (trm SL xs (fl, kl, sl, code, cs, nL, MC, MS, ini, rt)) := by
  intro l G av s F hT
  refine Met.ofW (cc := cc) (maxL := nL) (ret := retOf rt) hy rfl ?_
  intro p e s₀ m args below meth c s₁ B hml hv
  obtain ⟨rfl, hP, hW, hO, hK, hC⟩ := hv
  have hts := atoms_spec (ws := .code y cc nL (retOf rt) :: gw) B.pre
  have hlocks := B.notSynchronized
  have S : CallFix p m c cc nL s₀ (av.map (cv G)).toArray gw y.cls := ⟨B.exec, B.bytes, hml, findClass_of_methodNamed B.named, fun w hw => hts w (List.mem_cons_of_mem _ hw)⟩
  have hr := B.returns
  have hz : G.1 ≤ s₀.heap.size := by rw [hP.2]; omega
  have hlen : av.length ≤ nL := Nat.le_of_ble_eq_true (cond_of hT).1
  have hT := (cond_of hT).2
  rw [lg_entry_eq]
  have hl : lh G ((lg_sl (av.map (cv G)) ++ List.replicate (nL - (lg_sl (av.map (cv G))).length) Slot.unset).toArray) nL (entL av nL) := by
    have h1 := lv_entry (av.map (cv G)) (n := nL) (by rw [lg_len]; exact hlen)
    rw [← lvl_ent G (nL - av.length) av 0] at h1
    exact h1
  have K := hT (Wm s.1 G p l e (rmL d MC MS) s₀ m (av.map (cv G)).toArray below meth c nL (MQ below (Qr G s.1 F) (av.map (cv G)).toArray s₀ MC MS (fun q => G.1 ≤ q))) (fun cf hcf => ?_)
  · exact K s₀.heap [] _ hP hW ⟨fun v hv => absurd hv List.not_mem_nil, fun i v hv => hO v (nth_ent hv)⟩ va_S.rf hl ⟨Nat.le_refl _, Nat.zero_le _, Nat.zero_le _⟩
  · refine sound S hcode hfl hkl hsl hK hC hz hSLr (Nat.le_refl _) (Nat.le_refl _) (fun h => ⟨?_, (hini h).2⟩) (hcs l) ?_ ?_ cf hcf
    · rw [(name_of_methodNamed B.named B.method).1]
      exact (hini h).1
    · intro pc ls H locs kc ks x s' hd hF h12 hP' hW' hx' hS' hk
      refine W.widen (k := MC) (n := MS) hk.2.1 hk.2.2 ?_
      have hq : ∀ t : State, t.heap = H → s₀.WarmedH t.vm → Qr G s.1 F (av.map (cv G)).toArray s₀ (.returned (some (.int (Int32.ofInt x)))) t := fun t ht hw => ⟨⟨some (.inl x), s', rfl, hF, by rw [ht]; exact hP', hW', fun v hv => by cases hv; exact hx', hk.1⟩, hS'.F ht⟩
      rcases h12 with rfl | ⟨rfl, hx01⟩
      · exact W.iret B.exec B.bytes hr hq hS'.2.2 hd
      · exact W.zret B.exec B.bytes hr (by rcases hx01 with rfl | rfl <;> decide) hq hS'.2.2 hd
    · intro pc ls H locs kc ks s' hd hF h0 hP' hW' hS' hk
      subst h0
      refine W.widen (k := MC) (n := MS) hk.2.1 hk.2.2 ?_
      exact W.vret B.exec B.bytes hr (fun t ht hw => ⟨⟨none, s', rfl, hF, by rw [ht]; exact hP', hW', fun v hv => (by cases hv), hk.1⟩, hS'.F ht⟩) hS'.2.2 hd
/-! calls -/
theorem gw_good {w : Cond} (h : w ∈ gw) : (w.onTables && w.keeps) = true ∨ ∃ ty, w = .arrayClass ty := good_of_word (List.mem_filter.mp h).2
theorem good_gw {l : List Cond} (h : ∀ w ∈ l, w ∈ gw) {y : MethodName} {cc : ByteArray} {nL : Nat} {ret : Option FieldType} (hc : Cond.code y cc nL ret ∈ gw) : GoodIn gw (l ++ (.code y cc nL ret :: gw)) := by
  intro w hw
  rcases List.mem_append.mp hw with hw | hw
  · exact ⟨h w hw, gw_good (h w hw)⟩
  · rcases List.mem_cons.mp hw with rfl | hw
    · exact ⟨hc, gw_good hc⟩
    · exact ⟨hw, gw_good hw⟩
theorem Pr.blind {G : Gp} {s : St} {av : List Av} : FrameBlind (Pr SL xs G s av) := by
  intro a U g mk h
  obtain ⟨h1, h2, h3, h4, h5, h6⟩ := h
  exact ⟨h1, h2, h3, h4, h5.calling, h6.moved (u := U) (U := U.calling g mk a) (Vm.Alike.refl U.vm)⟩
theorem cat_sum (G : Gp) : ∀ rest : List Av, ((rest.map (cv G)).map fun v => v.category).sum = rest.length
  | [] => rfl
  | v :: r => by simp only [List.map_cons, List.sum_cons, cat_sum G r, cv_cat, List.length_cons]; omega
section
variable {p : Program} {l : Launch} {e : Env} {R : Room} {s₀ : State} {m : MethodId} {args : Array Value} {below : List Frame} {meth : Method} {c : Code} {Q : State → Prop} {G : Gp} {H : Heap} {locs : List Loc} {kc ks mc ms pc : Nat} {ls : Array Slot} {st0 : List Value} {rest : List Av} {s : St} {a : Array Value}
theorem call_go {Y : Option Av → St → Prop} (hr : va_Run p l e R s₀ m args below meth c H locs kc ks mc ms (F0 m pc ls st0) (rest.map (cv G)) (Qr G s.1 Y a) (fun q => G.1 ≤ q)) (hS : va_S (fun q => G.1 ≤ q) s₀.heap H locs)
    (kk : ∀ v s' H1 locs1, Y v s' → HP G s' H1 → Wf s' → (∀ x, v = some x → okv s' x) → s.1 ≤ s'.1 → va_S (fun q => G.1 ≤ q) s₀.heap H1 locs1 → W p l e R s₀ m args below meth c H1 locs1 (kc + mc) (ks + ms) Q (F0 m (pc + 3) ls ((v.toList ++ rest).map (cv G)))) : W p l e R s₀ m args below meth c H locs kc ks Q (F0 m pc ls st0) := by
  intro T hT X
  obtain ⟨v, st₀, t, T', L, h0, X', hL, e1, e2, ⟨⟨v', s', hv, hY, hP, hW, hO, hle⟩, hz, hk⟩, st⟩ := hr T hT X
  cases hv
  rw [h0] at hz hk
  rw [← e1] at hP hz hk
  obtain ⟨t2, a1, b1⟩ := kk v' s' T'.heap (locs ++ L) hY hP hW hO hle ⟨Nat.le_trans hS.1 hz, fun q h1 h2 => by rw [hk q (Nat.lt_of_lt_of_le h1 hS.1) h2]; exact hS.2.1 q h1 h2, fun q hq => by
      rcases List.mem_append.mp hq with h | h
      · exact hS.2.2 q h
      · exact hL q h⟩ T' rfl X'
  refine ⟨t2, st t2 ?_, b1⟩
  rcases v' with _ | v'
  · exact a1
  · exact a1
end
def clsB (a ci : Nat) : Bool := match shp a with
  | .inl cj => Nat.beq ci cj
  | _ => false
/-- a call at an object of a class -/
def vT (ci : Nat) (T : Tr) : Tr := fun av s F => match av with
  | .inr (some (a, _)) :: _ => bif clsB a ci then T av s F else False
  | _ => False
theorem vT_spec {ci : Nat} {T : Tr} {av : List Av} {s : St} {F : Option Av → St → Prop} (h : vT ci T av s F) : ∃ a b As, av = .inr (some (a, b)) :: As ∧ shp a = .inl ci ∧ T av s F := by
  unfold vT at h
  split at h
  · rename_i a b As
    have h1 := (cond_of h).1
    have h2 := (cond_of h).2
    refine ⟨a, b, As, rfl, ?_, h2⟩
    unfold clsB at h1
    split at h1
    · rename_i cj hs
      rw [hs, Nat.eq_of_beq_eq_true h1]
    · cases h1
  · exact h.elim
def okMeth (y : MethodName) (n : Nat) : Bool := decide (y.cls ≠ "java/lang/invoke/MethodHandle") && decide (y.cls ≠ "java/lang/invoke/VarHandle") && decide ((parseMethodDescriptor y.desc).map (fun d => d.parameters.length) = some n)
def okWords (ws : List Cond) : Bool := ws.all (fun w => decide (w ∈ lw_tbl) && goodWord w)
def recvOK (G : Gp) (s₀ : State) (H : Heap) (C : String) (a : Nat) : Prop := ∃ cellB : Cell, H[a]? = some cellB ∧ cellB.vm.isStatics = false ∧ s₀.vm.findClass C = some cellB.cls
theorem recv_our {G : Gp} {SL : Nat} {xs : Nat → Int} {s₀ : State} {H : Heap} {locs : List Loc} {s : St} {a b ci : Nat} (hK : KK G s₀) (hC : CN G SL xs s₀ s₀.heap) (hP : HP G s H) (hS : va_S (fun q => G.1 ≤ q) s₀.heap H locs) (hv : okr s (a, b)) (hs : shp a = .inl ci) (h9 : ci < 9) : recvOK G s₀ H ((nth cnL ci).getD "") (adr G (a, b)) := by
  rcases shp_obj hs h9 with ⟨h8, ha⟩ | ⟨rfl, rfl⟩
  · have hq := okr_our hv ha
    have he := wl_at (G := G) hq.1 hq.2
    rw [ent_obj hs] at he
    have := va_recv hK.1 hP.1 (cl_at h8) he
    rw [cl_nm ci h8] at this
    rw [adr_our ha]
    exact this
  · have hb24 : b < 24 := by
      rcases hv with ⟨h, -⟩ | ⟨-, h⟩ | ⟨h, -⟩ | ⟨h, -⟩
      · simp [idq] at h
      · exact h
      · simp at h
      · simp at h
    obtain ⟨cell, g1, g2, g3, -⟩ := ((hC.1.1 b hb24).2.1).kept hS.2.1
    exact ⟨cell, by simpa [adr] using g1, g2, g3⟩
/-- a call of a method at an object: invokevirtual -/
theorem callV_of {l : Launch} {own : String} {R : Room} {k n mc ms d nL ci : Nat} {y : MethodName} {cc : ByteArray} {ret : Option FieldType} {T : Tr} (hT : Ct SL xs y cc nL ret (rmL d mc ms) T)
    (hw : okWords [.methodLink own k y, .instanceMethod y, .selects y.cls y y, .initialized y.cls, .code y cc nL ret] = true) (hy : okMeth y n = true) (h9 : ci < 9) (hci : y.cls = (nth cnL ci).getD "") (hd : d + 1 ≤ R.frames) (hl : 8 + (nL + 11) + 40 * d ≤ R.locals) : CallR SL xs l own R (.invokevirtual k) (n + 1) mc ms (vT ci T) := by
  intro p e s₀ m args below meth c Q G cc0 nL0 S hK hC hz pc ls av rest s H locs kc ks hdec hls hn hr8 hP hW hO hS hmc hms Y hTY kk
  obtain ⟨a, b, As, rfl, hs, hTY⟩ := vT_spec hTY
  have hws := gw_all hw
  simp only [okMeth, Bool.and_eq_true, decide_eq_true_eq] at hy
  have hpre : ∀ U : State, U.heap = H → s₀.WarmedH U.vm → Pr SL xs G s (.inr (some (a, b)) :: As) (Value.ref (adr G (a, b)) :: As.map (cv G)).toArray U := fun U hU hWm => ⟨rfl, by rw [hU]; exact hP, hW, hO, hK.warm hWm, by rw [hU]; exact (hC.kept hz (fun a h1 h2 => hS.2.1 a h1 h2)).moved hWm.alike⟩
  have hcw : CallW R s₀ args own y.cls k y cc nL ret (.code y cc nL ret :: gw) (rmL d mc ms) mc ms n := by
    refine cwV n S.2.2.2.2 ?_ rfl rfl rfl ⟨rfl, hy.1.1, hy.1.2, hy.2⟩ ⟨hd, hl⟩
    exact good_gw (l := [.methodLink own k y, .instanceMethod y, .selects y.cls y y, .initialized y.cls]) (fun w hw => hws w (by simp at hw ⊢; rcases hw with h | h | h | h <;> simp [h])) (hws _ (by simp))
  have hrv : ∃ cellB : Cell, H[adr G (a, b)]? = some cellB ∧ cellB.vm.isStatics = false ∧ s₀.vm.findClass y.cls = some cellB.cls := by
    rw [hci]
    exact recv_our hK hC hP hS (hO _ List.mem_cons_self) hs h9
  have hstack : ((Sum.inr (some (a, b)) :: As).reverse ++ rest).map (cv G) = (As.map (cv G)).reverse ++ Value.ref (adr G (a, b)) :: rest.map (cv G) := by
    simp only [List.reverse_cons, List.map_append, List.map_reverse, List.append_assoc]
    rfl
  rw [hstack]
  refine call_go (va_runV (As := As.map (cv G)) (rest := rest.map (cv G)) S (hT l G (.inr (some (a, b)) :: As) s Y hTY) hcw ⟨Pr.blind, hrv, hpre⟩ rfl (by simpa using hn) hls rfl (lv_room (by rw [cat_sum]; exact hr8)) hdec ⟨hmc, hms⟩) hS kk
/-- invokestatic -/
theorem callS_of {l : Launch} {own : String} {R : Room} {k n mc ms d nL : Nat} {y : MethodName} {cc : ByteArray} {ret : Option FieldType} {T : Tr} (hT : Ct SL xs y cc nL ret (rmL d mc ms) T)
    (hw : okWords [.methodLink own k y, .static y, .initialized y.cls, .code y cc nL ret] = true) (hy : okMeth y n = true) (hd : d + 1 ≤ R.frames) (hl : 8 + (nL + 11) + 40 * d ≤ R.locals) : CallR SL xs l own R (.invokestatic k) n mc ms T := by
  intro p e s₀ m args below meth c Q G cc0 nL0 S hK hC hz pc ls av rest s H locs kc ks hdec hls hn hr8 hP hW hO hS hmc hms Y hTY kk
  have hws := gw_all hw
  simp only [okMeth, Bool.and_eq_true, decide_eq_true_eq] at hy
  have hpre : ∀ U : State, U.heap = H → s₀.WarmedH U.vm → Pr SL xs G s av (av.map (cv G)).toArray U := fun U hU hWm => ⟨rfl, by rw [hU]; exact hP, hW, hO, hK.warm hWm, by rw [hU]; exact (hC.kept hz (fun a h1 h2 => hS.2.1 a h1 h2)).moved hWm.alike⟩
  have hcw : CallB R s₀ args own k y cc nL ret (.code y cc nL ret :: gw) (rmL d mc ms) mc ms n ∧ (Cond.static y).before args s₀ = true := by
    refine va_cwS n S.2.2.2.2 ?_ rfl rfl rfl ⟨hy.1.1, hy.1.2, hy.2⟩ ⟨hd, hl⟩
    exact good_gw (l := [.methodLink own k y, .static y, .initialized y.cls]) (fun w hw => hws w (by simp at hw ⊢; rcases hw with h | h | h <;> simp [h])) (hws _ (by simp))
  have hstack : (av.reverse ++ rest).map (cv G) = (av.map (cv G)).reverse ++ rest.map (cv G) := by simp only [List.map_append, List.map_reverse]
  rw [hstack]
  exact call_go (va_runS (As := av.map (cv G)) (rest := rest.map (cv G)) S (hT l G av s Y hTY) hcw ⟨Pr.blind, hpre⟩ rfl (by simpa using hn) hls rfl (lv_room (by rw [cat_sum]; exact hr8)) hdec ⟨hmc, hms⟩) hS kk
/-- invokespecial of a constructor -/
theorem callI_of {l : Launch} {own : String} {R : Room} {k n mc ms d nL ci : Nat} {y : MethodName} {cc : ByteArray} {T : Tr} (hT : Ct SL xs y cc nL none (rmL d mc ms) T)
    (hw : okWords [.methodLink own k y, .instanceMethod y, .initialized y.cls, .code y cc nL none] = true) (hy : okMeth y n = true) (hyn : y.name = "<init>") (hd : d + 1 ≤ R.frames) (hl : 8 + (nL + 11) + 40 * d ≤ R.locals) : CallR SL xs l own R (.invokespecial k) (n + 1) mc ms (vT ci T) := by
  intro p e s₀ m args below meth c Q G cc0 nL0 S hK hC hz pc ls av rest s H locs kc ks hdec hls hn hr8 hP hW hO hS hmc hms Y hTY kk
  obtain ⟨a, b, As, rfl, hs, hTY⟩ := vT_spec hTY
  have hws := gw_all hw
  simp only [okMeth, Bool.and_eq_true, decide_eq_true_eq] at hy
  have hpre : ∀ U : State, U.heap = H → s₀.WarmedH U.vm → Pr SL xs G s (.inr (some (a, b)) :: As) (Value.ref (adr G (a, b)) :: As.map (cv G)).toArray U := fun U hU hWm => ⟨rfl, by rw [hU]; exact hP, hW, hO, hK.warm hWm, by rw [hU]; exact (hC.kept hz (fun a h1 h2 => hS.2.1 a h1 h2)).moved hWm.alike⟩
  have hcw : CallB R s₀ args own k y cc nL none (.code y cc nL none :: gw) (rmL d mc ms) mc ms n ∧ y.name = "<init>" ∧ (Cond.instanceMethod y).before args s₀ = true :=
    cwI n S.2.2.2.2 (good_gw (l := []) (fun w hw => absurd hw List.not_mem_nil) (hws _ (by simp))) rfl rfl rfl (S.2.2.2.2 _ (hws _ (by simp))) (S.2.2.2.2 _ (hws _ (by simp))) (S.2.2.2.2 _ (hws _ (by simp))) hyn ⟨hy.1.1, hy.1.2, hy.2⟩ ⟨hd, hl⟩
  have hstack : ((Sum.inr (some (a, b)) :: As).reverse ++ rest).map (cv G) = (As.map (cv G)).reverse ++ Value.ref (adr G (a, b)) :: rest.map (cv G) := by
    simp only [List.reverse_cons, List.map_append, List.map_reverse, List.append_assoc]
    rfl
  rw [hstack]
  exact call_go (va_runI (As := As.map (cv G)) (rest := rest.map (cv G)) S (hT l G (.inr (some (a, b)) :: As) s Y hTY) hcw ⟨Pr.blind, hpre⟩ rfl (by simpa using hn) hls rfl (lv_room (by rw [cat_sum]; exact hr8)) hdec ⟨hmc, hms⟩) hS kk
/-- a nest mate's constructor -/
theorem callIN_of {l : Launch} {own : String} {R : Room} {k n mc ms d nL ci : Nat} {y : MethodName} {cc : ByteArray} {T : Tr} (hT : Ct SL xs y cc nL none (rmL d mc ms) T)
    (hw : okWords [.instanceMethod y, .initialized y.cls, .code y cc nL none] = true) (hln : Cond.methodLinkNest own k y "PatternMill" ∈ lw_tbl) (hy : okMeth y n = true) (hyn : y.name = "<init>") (hd : d + 1 ≤ R.frames) (hl : 8 + (nL + 11) + 40 * d ≤ R.locals) : CallR SL xs l own R (.invokespecial k) (n + 1) mc ms (vT ci T) := by
  intro p e s₀ m args below meth c Q G cc0 nL0 S hK hC hz pc ls av rest s H locs kc ks hdec hls hn hr8 hP hW hO hS hmc hms Y hTY kk
  obtain ⟨a, b, As, rfl, hs, hTY⟩ := vT_spec hTY
  have hws := gw_all hw
  simp only [okMeth, Bool.and_eq_true, decide_eq_true_eq] at hy
  have hpre : ∀ U : State, U.heap = H → s₀.WarmedH U.vm → Pr SL xs G s (.inr (some (a, b)) :: As) (Value.ref (adr G (a, b)) :: As.map (cv G)).toArray U := fun U hU hWm => ⟨rfl, by rw [hU]; exact hP, hW, hO, hK.warm hWm, by rw [hU]; exact (hC.kept hz (fun a h1 h2 => hS.2.1 a h1 h2)).moved hWm.alike⟩
  have hcw : va_CN R s₀ args own k y "PatternMill" cc nL none (.code y cc nL none :: gw) (rmL d mc ms) mc ms n :=
    va_cnB n S.2.2.2.2 (good_gw (l := []) (fun w hw => absurd hw List.not_mem_nil) (hws _ (by simp))) rfl rfl rfl (hK.2.1 _ hln rfl) (S.2.2.2.2 _ (hws _ (by simp))) ⟨hy.1.1, hy.1.2, hy.2⟩ ⟨hd, hl⟩
  have hstack : ((Sum.inr (some (a, b)) :: As).reverse ++ rest).map (cv G) = (As.map (cv G)).reverse ++ Value.ref (adr G (a, b)) :: rest.map (cv G) := by
    simp only [List.reverse_cons, List.map_append, List.map_reverse, List.append_assoc]
    rfl
  rw [hstack]
  exact call_go (va_runIN (As := As.map (cv G)) (rest := rest.map (cv G)) S (hT l G (.inr (some (a, b)) :: As) s Y hTY) ⟨hcw, hyn, S.2.2.2.2 _ (hws _ (by simp))⟩ ⟨Pr.blind, hpre⟩ rfl (by simpa using hn) hls rfl (lv_room (by rw [cat_sum]; exact hr8)) hdec ⟨hmc, hms⟩) hS kk
/-- an inherited method -/
theorem callU_of {l : Launch} {own owner : String} {R : Room} {k n mc ms d nL ci : Nat} {x y : MethodName} {cc : ByteArray} {ret : Option FieldType} {T : Tr} (hT : Ct SL xs y cc nL ret (rmL d mc ms) T)
    (hw : okWords [.methodLink own k x, .sameMethod x.cls owner x.name x.desc, .selects x.cls x y, .instanceMethod y, .initialized y.cls, .code y cc nL ret] = true) (hyx : y = ⟨owner, x.name, x.desc⟩) (hy : okMeth y n = true) (h9 : ci < 9) (hci : x.cls = (nth cnL ci).getD "") (hd : d + 1 ≤ R.frames) (hl : 8 + (nL + 11) + 40 * d ≤ R.locals) : CallR SL xs l own R (.invokevirtual k) (n + 1) mc ms (vT ci T) := by
  intro p e s₀ m args below meth c Q G cc0 nL0 S hK hC hz pc ls av rest s H locs kc ks hdec hls hn hr8 hP hW hO hS hmc hms Y hTY kk
  obtain ⟨a, b, As, rfl, hs, hTY⟩ := vT_spec hTY
  have hws := gw_all hw
  simp only [okMeth, Bool.and_eq_true, decide_eq_true_eq] at hy
  have hpre : ∀ U : State, U.heap = H → s₀.WarmedH U.vm → Pr SL xs G s (.inr (some (a, b)) :: As) (Value.ref (adr G (a, b)) :: As.map (cv G)).toArray U := fun U hU hWm => ⟨rfl, by rw [hU]; exact hP, hW, hO, hK.warm hWm, by rw [hU]; exact (hC.kept hz (fun a h1 h2 => hS.2.1 a h1 h2)).moved hWm.alike⟩
  have hcw : va_CU R s₀ args own x.cls owner k x y cc nL ret (.code y cc nL ret :: gw) (rmL d mc ms) mc ms n := by
    refine va_cwU n S.2.2.2.2 ?_ rfl rfl rfl hyx ?_ ⟨hd, hl⟩
    · exact good_gw (l := [.methodLink own k x, .sameMethod x.cls owner x.name x.desc, .selects x.cls x y, .instanceMethod y, .initialized y.cls]) (fun w hw => hws w (by simp at hw ⊢; rcases hw with h | h | h | h | h <;> simp [h])) (hws _ (by simp))
    · rw [hyx] at hy
      exact ⟨hy.1.1, hy.1.2, hy.2⟩
  have hrv : ∃ cellB : Cell, H[adr G (a, b)]? = some cellB ∧ cellB.vm.isStatics = false ∧ s₀.vm.findClass x.cls = some cellB.cls := by
    rw [hci]
    exact recv_our hK hC hP hS (hO _ List.mem_cons_self) hs h9
  have hstack : ((Sum.inr (some (a, b)) :: As).reverse ++ rest).map (cv G) = (As.map (cv G)).reverse ++ Value.ref (adr G (a, b)) :: rest.map (cv G) := by
    simp only [List.reverse_cons, List.map_append, List.map_reverse, List.append_assoc]
    rfl
  rw [hstack]
  exact call_go (va_runU (As := As.map (cv G)) (rest := rest.map (cv G)) S (hT l G (.inr (some (a, b)) :: As) s Y hTY) hcw ⟨Pr.blind, hrv, hpre⟩ rfl (by simpa using hn) hls rfl (lv_room (by rw [cat_sum]; exact hr8)) hdec ⟨hmc, hms⟩) hS kk
/-- Object's constructor -/
def T_obj : Tr := fun av s F => match av with
  | [.inr (some _)] => F none s
  | _ => False
theorem callO_of {l : Launch} {own : String} {R : Room} {k : Nat} (hw : okWords [.methodLink own k Lib.objectInit, .instanceMethod Lib.objectInit, .code Lib.objectInit ⟨#[0xb1]⟩ 1 none] = true) (hd : 1 ≤ R.frames) (hl : 20 ≤ R.locals) : CallR SL xs l own R (.invokespecial k) 1 0 0 T_obj := by
  intro p e s₀ m args below meth c Q G cc0 nL0 S hK hC hz pc ls av rest s H locs kc ks hdec hls hn hr8 hP hW hO hS hmc hms Y hTY kk
  unfold T_obj at hTY
  split at hTY
  · rename_i q
    have hws := gw_all hw
    have K := kk none s H locs hTY hP hW (fun x hx => by cases hx) (Nat.le_refl _) hS
    refine W.objInit S.1 S.2.1 S.2.2.2.1 (S.2.2.2.2 _ (hws _ (by simp))) (S.2.2.2.2 _ (hws _ (by simp))) (S.2.2.2.2 _ (hws _ (by simp))) (a := adr G q) (rest := rest.map (cv G)) rfl (by rw [S.2.2.1]; exact hls) rfl hdec hd ?_ K
    have := lv_room (m := m) (pc := pc) (ls := ls) (rest := []) (st := rest.map (cv G)) (by rw [cat_sum]; exact hr8)
    exact Nat.le_trans (Nat.add_le_add_right this 12) hl
  · exact hTY.elim
/-- System.arraycopy over byte arrays -/
def T_copy : Tr := fun av s F => match av with
  | [.inr (some (a0, b0)), .inl sp, .inr (some (a, b)), .inl dp, .inl n] => match shp a0, shp a with
    | .inr (1, n0), .inr (1, n1) => (0 ≤ sp ∧ 0 ≤ dp ∧ 0 ≤ n ∧ sp + n ≤ n0 ∧ dp + n ≤ n1) ∧ F none (s.1, cpS s.2.1 a0 b0 sp.toNat a b dp.toNat n.toNat, s.2.2)
    | _, _ => False
  | _ => False
theorem callC_of {l : Launch} {own : String} {R : Room} {k : Nat} (hw : okWords [.methodLink own k arraycopyName] = true) (hd : 1 ≤ R.frames) (hl : 8 + (nativeFrameWords "java/lang/System" "arraycopy" 5 + 11) ≤ R.locals) : CallR SL xs l own R (.invokestatic k) 5 0 0 T_copy := by
  intro p e s₀ m args below meth c Q G cc0 nL0 S hK hC hz pc ls av rest s H locs kc ks hdec hls hn hr8 hP hW hO hS hmc hms Y hTY kk
  unfold T_copy at hTY
  split at hTY
  · rename_i a0 b0 sp a b dp n
    split at hTY
    · rename_i n0 n1 hs0 hs1
      obtain ⟨⟨h1, h2, h3, h4, h5⟩, hY⟩ := hTY
      have ha0 := (shp_arr hs0).1
      have ha := (shp_arr hs1).1
      have e0 : cv G (.inr (some (a0, b0))) = .ref (G.1 + ad a0 b0) := by simp [cv, va_rf, adr_our ha0]
      have e1 : cv G (.inr (some (a, b))) = .ref (G.1 + ad a b) := by simp [cv, va_rf, adr_our ha]
      have hst : ([Sum.inr (some (a0, b0)), Sum.inl sp, Sum.inr (some (a, b)), Sum.inl dp, Sum.inl n].reverse ++ rest).map (cv G) = .int (Int32.ofInt n) :: .int (Int32.ofInt dp) :: .ref (G.1 + ad a b) :: .int (Int32.ofInt sp) :: .ref (G.1 + ad a0 b0) :: rest.map (cv G) := by
        rw [← e0, ← e1]
        rfl
      rw [hst]
      refine s_copy S hK (gw_all hw _ (by simp)) hls hs0 hs1 hdec hP hW hS (okr_our (hO (.inr (some (a0, b0))) (by simp)) ha0) (okr_our (hO (.inr (some (a, b))) (by simp)) ha) (hO (.inl sp) (by simp)) (hO (.inl dp) (by simp)) (hO (.inl n) (by simp)) h1 h2 h3 h4 h5 hd (by rw [cat_sum]; omega) (fun H1 locs1 g1 g2 => ?_)
      exact kk none _ H1 locs1 hY g1 (hW.cp hs0) (fun x hx => by cases hx) (Nat.le_refl _) g2
    · exact hTY.elim
  · exact hTY.elim
end
end
section
/-! The methods as transformers, leaves first: printed by wip/gen.py -/
def cs_Text_init (SL : Nat) (xs : Nat → Int) : Cs := lk [(3, 1, 0, 0, T_obj)]
def m_Text_init (SL : Nat) (xs : Nat → Int) : Me := (fl_Text, kl_Text, sl_Text, c_Text_init, cs_Text_init SL xs, 1, 1, 64, 1, 0)
def T_Text_init (SL : Nat) (xs : Nat → Int) : Tr := trm SL xs (m_Text_init SL xs)
def cs_Nodes_init (SL : Nat) (xs : Nat → Int) : Cs := lk [(1, 1, 0, 0, T_obj)]
def m_Nodes_init (SL : Nat) (xs : Nat → Int) : Me := (fl_Nodes, kl_Nodes, sl_Nodes, c_Nodes_init, cs_Nodes_init SL xs, 1, 4, 256, 2, 0)
def T_Nodes_init (SL : Nat) (xs : Nat → Int) : Tr := trm SL xs (m_Nodes_init SL xs)
def cs_Goals_init (SL : Nat) (xs : Nat → Int) : Cs := lk [(1, 1, 0, 0, T_obj)]
def m_Goals_init (SL : Nat) (xs : Nat → Int) : Me := (fl_Goals, kl_Goals, sl_Goals, c_Goals_init, cs_Goals_init SL xs, 1, 4, 32768, 4, 0)
def T_Goals_init (SL : Nat) (xs : Nat → Int) : Tr := trm SL xs (m_Goals_init SL xs)
def cs_Choices_init (SL : Nat) (xs : Nat → Int) : Cs := lk [(1, 1, 0, 0, T_obj)]
def m_Choices_init (SL : Nat) (xs : Nat → Int) : Me := (fl_Choices, kl_Choices, sl_Choices, c_Choices_init, cs_Choices_init SL xs, 1, 6, 24576, 5, 0)
def T_Choices_init (SL : Nat) (xs : Nat → Int) : Tr := trm SL xs (m_Choices_init SL xs)
def cs_Kept_init (SL : Nat) (xs : Nat → Int) : Cs := lk [(1, 1, 0, 0, T_obj)]
def m_Kept_init (SL : Nat) (xs : Nat → Int) : Me := (fl_Kept, kl_Kept, sl_Kept, c_Kept_init, cs_Kept_init SL xs, 1, 3, 24576, 6, 0)
def T_Kept_init (SL : Nat) (xs : Nat → Int) : Tr := trm SL xs (m_Kept_init SL xs)
def cs_Matcher_init (SL : Nat) (xs : Nat → Int) : Cs := lk [(1, 1, 0, 0, T_obj), (9, 1, 1, 64, vT 1 (T_Text_init SL xs)), (18, 1, 4, 32768, vT 4 (T_Goals_init SL xs)), (25, 1, 6, 24576, vT 5 (T_Choices_init SL xs)), (32, 1, 3, 24576, vT 6 (T_Kept_init SL xs))]
def m_Matcher_init (SL : Nat) (xs : Nat → Int) : Me := (fl_Matcher, kl_Matcher, sl_Matcher, c_Matcher_init, cs_Matcher_init SL xs, 3, 18, 82002, 3, 0)
def T_Matcher_init (SL : Nat) (xs : Nat → Int) : Tr := trm SL xs (m_Matcher_init SL xs)
def cs_Mill_init (SL : Nat) (xs : Nat → Int) : Cs := lk [(1, 1, 0, 0, T_obj), (9, 1, 1, 64, vT 1 (T_Text_init SL xs)), (25, 1, 4, 256, vT 2 (T_Nodes_init SL xs)), (32, 3, 18, 82002, vT 3 (T_Matcher_init SL xs))]
def m_Mill_init (SL : Nat) (xs : Nat → Int) : Me := (fl_Mill, kl_Mill, sl_Mill, c_Mill_init, cs_Mill_init SL xs, 2, 45, 82943, 0, 0)
def T_Mill_init (SL : Nat) (xs : Nat → Int) : Tr := trm SL xs (m_Mill_init SL xs)
def cs_Model_init (SL : Nat) (xs : Nat → Int) : Cs := lk [(1, 1, 0, 0, T_obj)]
def m_Model_init (SL : Nat) (xs : Nat → Int) : Me := (fl_Model, kl_Model, sl_Model, c_Model_init, cs_Model_init SL xs, 1, 18, 32000, 7, 0)
def T_Model_init (SL : Nat) (xs : Nat → Int) : Tr := trm SL xs (m_Model_init SL xs)
def cs_Text_isFull (SL : Nat) (xs : Nat → Int) : Cs := lk []
def m_Text_isFull (SL : Nat) (xs : Nat → Int) : Me := (fl_Text, kl_Text, sl_Text, c_Text_isFull, cs_Text_isFull SL xs, 1, 0, 0, 99, 2)
def T_Text_isFull (SL : Nat) (xs : Nat → Int) : Tr := trm SL xs (m_Text_isFull SL xs)
def cs_Text_add (SL : Nat) (xs : Nat → Int) : Cs := lk []
def m_Text_add (SL : Nat) (xs : Nat → Int) : Me := (fl_Text, kl_Text, sl_Text, c_Text_add, cs_Text_add SL xs, 2, 0, 0, 99, 0)
def T_Text_add (SL : Nat) (xs : Nat → Int) : Tr := trm SL xs (m_Text_add SL xs)
def cs_Mill_sign (SL : Nat) (xs : Nat → Int) : Cs := lk [(39, 1, 0, 0, vT 1 (T_Text_isFull SL xs)), (43, 2, 0, 0, vT 1 (T_Text_add SL xs))]
def m_Mill_sign (SL : Nat) (xs : Nat → Int) : Me := (fl_Mill, kl_Mill, sl_Mill, c_Mill_sign, cs_Mill_sign SL xs, 2, 0, 0, 99, 1)
def T_Mill_sign (SL : Nat) (xs : Nat → Int) : Tr := trm SL xs (m_Mill_sign SL xs)
def cs_Model_sign (SL : Nat) (xs : Nat → Int) : Cs := lk []
def m_Model_sign (SL : Nat) (xs : Nat → Int) : Me := (fl_Model, kl_Model, sl_Model, c_Model_sign, cs_Model_sign SL xs, 2, 0, 0, 99, 1)
def T_Model_sign (SL : Nat) (xs : Nat → Int) : Tr := trm SL xs (m_Model_sign SL xs)
def cs_Mill_isVariable (SL : Nat) (xs : Nat → Int) : Cs := lk []
def m_Mill_isVariable (SL : Nat) (xs : Nat → Int) : Me := (fl_Mill, kl_Mill, sl_Mill, c_Mill_isVariable, cs_Mill_isVariable SL xs, 1, 0, 0, 99, 2)
def T_Mill_isVariable (SL : Nat) (xs : Nat → Int) : Tr := trm SL xs (m_Mill_isVariable SL xs)
def cs_Text_part (SL : Nat) (xs : Nat → Int) : Cs := lk [(19, 5, 0, 0, T_copy)]
def m_Text_part (SL : Nat) (xs : Nat → Int) : Me := (fl_Text, kl_Text, sl_Text, c_Text_part, cs_Text_part SL xs, 4, 0, 0, 99, 0)
def T_Text_part (SL : Nat) (xs : Nat → Int) : Tr := trm SL xs (m_Text_part SL xs)
def cs_Text_become (SL : Nat) (xs : Nat → Int) : Cs := lk [(25, 4, 0, 0, vT 1 (T_Text_part SL xs))]
def m_Text_become (SL : Nat) (xs : Nat → Int) : Me := (fl_Text, kl_Text, sl_Text, c_Text_become, cs_Text_become SL xs, 2, 0, 0, 99, 0)
def T_Text_become (SL : Nat) (xs : Nat → Int) : Tr := trm SL xs (m_Text_become SL xs)
def cs_Text_take (SL : Nat) (xs : Nat → Int) : Cs := lk [(29, 2, 0, 0, vT 1 (T_Text_become SL xs))]
def m_Text_take (SL : Nat) (xs : Nat → Int) : Me := (fl_Text, kl_Text, sl_Text, c_Text_take, cs_Text_take SL xs, 2, 0, 0, 99, 0)
def T_Text_take (SL : Nat) (xs : Nat → Int) : Tr := trm SL xs (m_Text_take SL xs)
def cs_Mill_let (SL : Nat) (xs : Nat → Int) : Cs := lk [(51, 1, 0, 0, (T_Mill_isVariable SL xs)), (55, 2, 0, 0, vT 1 (T_Text_take SL xs))]
def m_Mill_let (SL : Nat) (xs : Nat → Int) : Me := (fl_Mill, kl_Mill, sl_Mill, c_Mill_let, cs_Mill_let SL xs, 2, 0, 0, 99, 2)
def T_Mill_let (SL : Nat) (xs : Nat → Int) : Tr := trm SL xs (m_Mill_let SL xs)
def cs_Model_isVariable (SL : Nat) (xs : Nat → Int) : Cs := lk []
def m_Model_isVariable (SL : Nat) (xs : Nat → Int) : Me := (fl_Model, kl_Model, sl_Model, c_Model_isVariable, cs_Model_isVariable SL xs, 1, 0, 0, 99, 2)
def T_Model_isVariable (SL : Nat) (xs : Nat → Int) : Tr := trm SL xs (m_Model_isVariable SL xs)
def cs_Model_let (SL : Nat) (xs : Nat → Int) : Cs := lk [(73, 1, 0, 0, (T_Model_isVariable SL xs))]
def m_Model_let (SL : Nat) (xs : Nat → Int) : Me := (fl_Model, kl_Model, sl_Model, c_Model_let, cs_Model_let SL xs, 3, 0, 0, 99, 2)
def T_Model_let (SL : Nat) (xs : Nat → Int) : Tr := trm SL xs (m_Model_let SL xs)
def cs_Mill_value (SL : Nat) (xs : Nat → Int) : Cs := lk [(51, 1, 0, 0, (T_Mill_isVariable SL xs))]
def m_Mill_value (SL : Nat) (xs : Nat → Int) : Me := (fl_Mill, kl_Mill, sl_Mill, c_Mill_value, cs_Mill_value SL xs, 3, 0, 0, 99, 1)
def T_Mill_value (SL : Nat) (xs : Nat → Int) : Tr := trm SL xs (m_Mill_value SL xs)
def cs_Model_value (SL : Nat) (xs : Nat → Int) : Cs := lk [(73, 1, 0, 0, (T_Model_isVariable SL xs))]
def m_Model_value (SL : Nat) (xs : Nat → Int) : Me := (fl_Model, kl_Model, sl_Model, c_Model_value, cs_Model_value SL xs, 3, 0, 0, 99, 1)
def T_Model_value (SL : Nat) (xs : Nat → Int) : Tr := trm SL xs (m_Model_value SL xs)
def cs_Mill_length (SL : Nat) (xs : Nat → Int) : Cs := lk [(51, 1, 0, 0, (T_Mill_isVariable SL xs))]
def m_Mill_length (SL : Nat) (xs : Nat → Int) : Me := (fl_Mill, kl_Mill, sl_Mill, c_Mill_length, cs_Mill_length SL xs, 2, 0, 0, 99, 1)
def T_Mill_length (SL : Nat) (xs : Nat → Int) : Tr := trm SL xs (m_Mill_length SL xs)
def cs_Model_length (SL : Nat) (xs : Nat → Int) : Cs := lk [(73, 1, 0, 0, (T_Model_isVariable SL xs))]
def m_Model_length (SL : Nat) (xs : Nat → Int) : Me := (fl_Model, kl_Model, sl_Model, c_Model_length, cs_Model_length SL xs, 2, 0, 0, 99, 1)
def T_Model_length (SL : Nat) (xs : Nat → Int) : Tr := trm SL xs (m_Model_length SL xs)
def cs_Kind_fits (SL : Nat) (xs : Nat → Int) : Cs := lk []
def m_Kind_fits (SL : Nat) (xs : Nat → Int) : Me := (fl_Kind, kl_Kind, sl_Kind, c_Kind_fits, cs_Kind_fits SL xs, 3, 0, 0, 99, 2)
def T_Kind_fits (SL : Nat) (xs : Nat → Int) : Tr := trm SL xs (m_Kind_fits SL xs)
def cs_Kind_suits (SL : Nat) (xs : Nat → Int) : Cs := lk [(110, 3, 0, 0, (T_Kind_fits SL xs))]
def m_Kind_suits (SL : Nat) (xs : Nat → Int) : Me := (fl_Kind, kl_Kind, sl_Kind, c_Kind_suits, cs_Kind_suits SL xs, 4, 0, 0, 99, 2)
def T_Kind_suits (SL : Nat) (xs : Nat → Int) : Tr := trm SL xs (m_Kind_suits SL xs)
def cs_Mill_node (SL : Nat) (xs : Nat → Int) : Cs := lk [(70, 4, 0, 0, vT 8 (T_Kind_suits SL xs)), (9, 1, 1, 64, vT 1 (T_Text_init SL xs)), (55, 2, 0, 0, vT 1 (T_Text_take SL xs))]
def m_Mill_node (SL : Nat) (xs : Nat → Int) : Me := (fl_Mill, kl_Mill, sl_Mill, c_Mill_node, cs_Mill_node SL xs, 6, 2, 66, 99, 1)
def T_Mill_node (SL : Nat) (xs : Nat → Int) : Tr := trm SL xs (m_Mill_node SL xs)
def cs_Model_isNode (SL : Nat) (xs : Nat → Int) : Cs := lk []
def m_Model_isNode (SL : Nat) (xs : Nat → Int) : Me := (fl_Model, kl_Model, sl_Model, c_Model_isNode, cs_Model_isNode SL xs, 2, 0, 0, 99, 2)
def T_Model_isNode (SL : Nat) (xs : Nat → Int) : Tr := trm SL xs (m_Model_isNode SL xs)
def cs_Model_can (SL : Nat) (xs : Nat → Int) : Cs := lk [(80, 2, 0, 0, vT 7 (T_Model_isNode SL xs)), (73, 1, 0, 0, (T_Model_isVariable SL xs))]
def m_Model_can (SL : Nat) (xs : Nat → Int) : Me := (fl_Model, kl_Model, sl_Model, c_Model_can, cs_Model_can SL xs, 4, 0, 0, 99, 2)
def T_Model_can (SL : Nat) (xs : Nat → Int) : Tr := trm SL xs (m_Model_can SL xs)
def cs_Model_node (SL : Nat) (xs : Nat → Int) : Cs := lk [(83, 4, 0, 0, vT 7 (T_Model_can SL xs))]
def m_Model_node (SL : Nat) (xs : Nat → Int) : Me := (fl_Model, kl_Model, sl_Model, c_Model_node, cs_Model_node SL xs, 7, 0, 0, 99, 1)
def T_Model_node (SL : Nat) (xs : Nat → Int) : Tr := trm SL xs (m_Model_node SL xs)
def cs_Mill_clear (SL : Nat) (xs : Nat → Int) : Cs := lk []
def m_Mill_clear (SL : Nat) (xs : Nat → Int) : Me := (fl_Mill, kl_Mill, sl_Mill, c_Mill_clear, cs_Mill_clear SL xs, 1, 0, 0, 99, 0)
def T_Mill_clear (SL : Nat) (xs : Nat → Int) : Tr := trm SL xs (m_Mill_clear SL xs)
def cs_Model_clear (SL : Nat) (xs : Nat → Int) : Cs := lk []
def m_Model_clear (SL : Nat) (xs : Nat → Int) : Me := (fl_Model, kl_Model, sl_Model, c_Model_clear, cs_Model_clear SL xs, 1, 0, 0, 99, 0)
def T_Model_clear (SL : Nat) (xs : Nat → Int) : Tr := trm SL xs (m_Model_clear SL xs)
def cs_Nodes_is (SL : Nat) (xs : Nat → Int) : Cs := lk []
def m_Nodes_is (SL : Nat) (xs : Nat → Int) : Me := (fl_Nodes, kl_Nodes, sl_Nodes, c_Nodes_is, cs_Nodes_is SL xs, 2, 0, 0, 99, 2)
def T_Nodes_is (SL : Nat) (xs : Nat → Int) : Tr := trm SL xs (m_Nodes_is SL xs)
def cs_Enum_ordinal (SL : Nat) (xs : Nat → Int) : Cs := lk []
def m_Enum_ordinal (SL : Nat) (xs : Nat → Int) : Me := (fl_Enum, kl_Enum, sl_Enum, c_Enum_ordinal, cs_Enum_ordinal SL xs, 1, 0, 0, 99, 1)
def T_Enum_ordinal (SL : Nat) (xs : Nat → Int) : Tr := trm SL xs (m_Enum_ordinal SL xs)
def cs_Mill_about (SL : Nat) (xs : Nat → Int) : Cs := lk [(99, 2, 0, 0, vT 2 (T_Nodes_is SL xs)), (102, 1, 0, 0, vT 8 (T_Enum_ordinal SL xs))]
def m_Mill_about (SL : Nat) (xs : Nat → Int) : Me := (fl_Mill, kl_Mill, sl_Mill, c_Mill_about, cs_Mill_about SL xs, 3, 0, 0, 99, 1)
def T_Mill_about (SL : Nat) (xs : Nat → Int) : Tr := trm SL xs (m_Mill_about SL xs)
def cs_Model_about (SL : Nat) (xs : Nat → Int) : Cs := lk [(80, 2, 0, 0, vT 7 (T_Model_isNode SL xs))]
def m_Model_about (SL : Nat) (xs : Nat → Int) : Me := (fl_Model, kl_Model, sl_Model, c_Model_about, cs_Model_about SL xs, 3, 0, 0, 99, 1)
def T_Model_about (SL : Nat) (xs : Nat → Int) : Tr := trm SL xs (m_Model_about SL xs)
def cs_Goals_add (SL : Nat) (xs : Nat → Int) : Cs := lk []
def m_Goals_add (SL : Nat) (xs : Nat → Int) : Me := (fl_Goals, kl_Goals, sl_Goals, c_Goals_add, cs_Goals_add SL xs, 5, 0, 0, 99, 1)
def T_Goals_add (SL : Nat) (xs : Nat → Int) : Tr := trm SL xs (m_Goals_add SL xs)
def cs_Kept_add (SL : Nat) (xs : Nat → Int) : Cs := lk []
def m_Kept_add (SL : Nat) (xs : Nat → Int) : Me := (fl_Kept, kl_Kept, sl_Kept, c_Kept_add, cs_Kept_add SL xs, 4, 0, 0, 99, 0)
def T_Kept_add (SL : Nat) (xs : Nat → Int) : Tr := trm SL xs (m_Kept_add SL xs)
def cs_Text_isAt (SL : Nat) (xs : Nat → Int) : Cs := lk []
def m_Text_isAt (SL : Nat) (xs : Nat → Int) : Me := (fl_Text, kl_Text, sl_Text, c_Text_isAt, cs_Text_isAt SL xs, 4, 0, 0, 99, 2)
def T_Text_isAt (SL : Nat) (xs : Nat → Int) : Tr := trm SL xs (m_Text_isAt SL xs)
def cs_Matcher_choose (SL : Nat) (xs : Nat → Int) : Cs := lk []
def m_Matcher_choose (SL : Nat) (xs : Nat → Int) : Me := (fl_Matcher, kl_Matcher, sl_Matcher, c_Matcher_choose, cs_Matcher_choose SL xs, 6, 0, 0, 99, 0)
def T_Matcher_choose (SL : Nat) (xs : Nat → Int) : Tr := trm SL xs (m_Matcher_choose SL xs)
def cs_Matcher_further (SL : Nat) (xs : Nat → Int) : Cs := lk [(93, 5, 0, 0, vT 3 (T_Matcher_choose SL xs))]
def m_Matcher_further (SL : Nat) (xs : Nat → Int) : Me := (fl_Matcher, kl_Matcher, sl_Matcher, c_Matcher_further, cs_Matcher_further SL xs, 1, 0, 0, 99, 0)
def T_Matcher_further (SL : Nat) (xs : Nat → Int) : Tr := trm SL xs (m_Matcher_further SL xs)
def cs_Matcher_balances (SL : Nat) (xs : Nat → Int) : Cs := lk [(93, 5, 0, 0, vT 3 (T_Matcher_choose SL xs))]
def m_Matcher_balances (SL : Nat) (xs : Nat → Int) : Me := (fl_Matcher, kl_Matcher, sl_Matcher, c_Matcher_balances, cs_Matcher_balances SL xs, 4, 0, 0, 99, 2)
def T_Matcher_balances (SL : Nat) (xs : Nat → Int) : Tr := trm SL xs (m_Matcher_balances SL xs)
def cs_Matcher_back (SL : Nat) (xs : Nat → Int) (TB : Tr) : Cs := lk [(81, 1, 0, 0, vT 3 (T_Matcher_further SL xs)), (84, 2, 0, 0, vT 3 (T_Matcher_balances SL xs)), (88, 1, 0, 0, vT 3 TB)]
def m_Matcher_back (SL : Nat) (xs : Nat → Int) (TB : Tr) : Me := (fl_Matcher, kl_Matcher, sl_Matcher, c_Matcher_back, cs_Matcher_back SL xs TB, 3, 0, 0, 99, 2)
def T_Matcher_back (SL : Nat) (xs : Nat → Int) : Nat → Tr
  | 0 => fun _ _ _ => False
  | n + 1 => trm SL xs (m_Matcher_back SL xs (T_Matcher_back SL xs n))
def cs_Matcher_goes (SL : Nat) (xs : Nat → Int) : Cs := lk [(88, 1, 0, 0, vT 3 (T_Matcher_back SL xs 70))]
def m_Matcher_goes (SL : Nat) (xs : Nat → Int) : Me := (fl_Matcher, kl_Matcher, sl_Matcher, c_Matcher_goes, cs_Matcher_goes SL xs, 3, 0, 0, 99, 2)
def T_Matcher_goes (SL : Nat) (xs : Nat → Int) : Tr := trm SL xs (m_Matcher_goes SL xs)
def cs_Text_has (SL : Nat) (xs : Nat → Int) : Cs := lk []
def m_Text_has (SL : Nat) (xs : Nat → Int) : Me := (fl_Text, kl_Text, sl_Text, c_Text_has, cs_Text_has SL xs, 4, 0, 0, 99, 2)
def T_Text_has (SL : Nat) (xs : Nat → Int) : Tr := trm SL xs (m_Text_has SL xs)
def cs_Matcher_isSign (SL : Nat) (xs : Nat → Int) : Cs := lk [(100, 2, 0, 0, vT 1 (T_Text_has SL xs))]
def m_Matcher_isSign (SL : Nat) (xs : Nat → Int) : Me := (fl_Matcher, kl_Matcher, sl_Matcher, c_Matcher_isSign, cs_Matcher_isSign SL xs, 3, 0, 0, 99, 2)
def T_Matcher_isSign (SL : Nat) (xs : Nat → Int) : Tr := trm SL xs (m_Matcher_isSign SL xs)
def cs_Matcher_run (SL : Nat) (xs : Nat → Int) : Cs := lk [(100, 2, 0, 0, vT 1 (T_Text_has SL xs))]
def m_Matcher_run (SL : Nat) (xs : Nat → Int) : Me := (fl_Matcher, kl_Matcher, sl_Matcher, c_Matcher_run, cs_Matcher_run SL xs, 3, 0, 0, 99, 1)
def T_Matcher_run (SL : Nat) (xs : Nat → Int) : Tr := trm SL xs (m_Matcher_run SL xs)
def cs_Matcher_breaks (SL : Nat) (xs : Nat → Int) : Cs := lk [(100, 2, 0, 0, vT 1 (T_Text_has SL xs))]
def m_Matcher_breaks (SL : Nat) (xs : Nat → Int) : Me := (fl_Matcher, kl_Matcher, sl_Matcher, c_Matcher_breaks, cs_Matcher_breaks SL xs, 3, 0, 0, 99, 1)
def T_Matcher_breaks (SL : Nat) (xs : Nat → Int) : Tr := trm SL xs (m_Matcher_breaks SL xs)
def cs_Text_digits (SL : Nat) (xs : Nat → Int) : Cs := lk [(33, 2, 0, 0, vT 1 (T_Text_add SL xs))]
def m_Text_digits (SL : Nat) (xs : Nat → Int) : Me := (fl_Text, kl_Text, sl_Text, c_Text_digits, cs_Text_digits SL xs, 2, 0, 0, 99, 0)
def T_Text_digits (SL : Nat) (xs : Nat → Int) : Tr := trm SL xs (m_Text_digits SL xs)
def cs_Matcher_composes (SL : Nat) (xs : Nat → Int) : Cs := lk [(118, 1, 0, 0, vT 8 (T_Enum_ordinal SL xs)), (93, 5, 0, 0, vT 3 (T_Matcher_choose SL xs)), (84, 2, 0, 0, vT 3 (T_Matcher_balances SL xs)), (88, 1, 0, 0, vT 3 (T_Matcher_back SL xs 70)), (150, 5, 0, 0, vT 4 (T_Goals_add SL xs)), (158, 2, 0, 0, vT 1 (T_Text_digits SL xs)), (162, 2, 0, 0, vT 2 (T_Nodes_is SL xs))]
def m_Matcher_composes (SL : Nat) (xs : Nat → Int) : Me := (fl_Matcher, kl_Matcher, sl_Matcher, c_Matcher_composes, cs_Matcher_composes SL xs, 5, 0, 0, 99, 2)
def T_Matcher_composes (SL : Nat) (xs : Nat → Int) : Tr := trm SL xs (m_Matcher_composes SL xs)
def cs_Matcher_begins (SL : Nat) (xs : Nat → Int) : Cs := lk [(118, 1, 0, 0, vT 8 (T_Enum_ordinal SL xs)), (124, 3, 0, 0, vT 1 (T_Text_isAt SL xs)), (128, 3, 0, 0, vT 3 (T_Matcher_goes SL xs)), (132, 3, 0, 0, vT 3 (T_Matcher_isSign SL xs)), (136, 2, 0, 0, vT 3 (T_Matcher_run SL xs)), (140, 2, 0, 0, vT 3 (T_Matcher_breaks SL xs)), (146, 4, 0, 0, vT 3 (T_Matcher_composes SL xs))]
def m_Matcher_begins (SL : Nat) (xs : Nat → Int) : Me := (fl_Matcher, kl_Matcher, sl_Matcher, c_Matcher_begins, cs_Matcher_begins SL xs, 5, 0, 0, 99, 2)
def T_Matcher_begins (SL : Nat) (xs : Nat → Int) : Tr := trm SL xs (m_Matcher_begins SL xs)
def cs_Matcher_works (SL : Nat) (xs : Nat → Int) : Cs := lk [(177, 4, 0, 0, vT 6 (T_Kept_add SL xs)), (180, 4, 0, 0, vT 1 (T_Text_part SL xs)), (184, 2, 0, 0, vT 3 (T_Matcher_begins SL xs))]
def m_Matcher_works (SL : Nat) (xs : Nat → Int) : Me := (fl_Matcher, kl_Matcher, sl_Matcher, c_Matcher_works, cs_Matcher_works SL xs, 3, 0, 0, 99, 2)
def T_Matcher_works (SL : Nat) (xs : Nat → Int) : Tr := trm SL xs (m_Matcher_works SL xs)
def cs_Matcher_from (SL : Nat) (xs : Nat → Int) : Cs := lk [(150, 5, 0, 0, vT 4 (T_Goals_add SL xs)), (187, 1, 0, 0, vT 3 (T_Matcher_works SL xs))]
def m_Matcher_from (SL : Nat) (xs : Nat → Int) : Me := (fl_Matcher, kl_Matcher, sl_Matcher, c_Matcher_from, cs_Matcher_from SL xs, 3, 0, 0, 99, 1)
def T_Matcher_from (SL : Nat) (xs : Nat → Int) : Tr := trm SL xs (m_Matcher_from SL xs)
def cs_Matcher_match (SL : Nat) (xs : Nat → Int) : Cs := lk [(190, 2, 0, 0, vT 1 (T_Text_become SL xs)), (200, 3, 0, 0, vT 3 (T_Matcher_from SL xs)), (180, 4, 0, 0, vT 1 (T_Text_part SL xs))]
def m_Matcher_match (SL : Nat) (xs : Nat → Int) : Me := (fl_Matcher, kl_Matcher, sl_Matcher, c_Matcher_match, cs_Matcher_match SL xs, 6, 0, 0, 99, 1)
def T_Matcher_match (SL : Nat) (xs : Nat → Int) : Tr := trm SL xs (m_Matcher_match SL xs)
def cs_Mill_match (SL : Nat) (xs : Nat → Int) : Cs := lk [(51, 1, 0, 0, (T_Mill_isVariable SL xs)), (99, 2, 0, 0, vT 2 (T_Nodes_is SL xs)), (109, 4, 0, 0, vT 3 (T_Matcher_match SL xs))]
def m_Mill_match (SL : Nat) (xs : Nat → Int) : Me := (fl_Mill, kl_Mill, sl_Mill, c_Mill_match, cs_Mill_match SL xs, 4, 0, 0, 99, 1)
def T_Mill_match (SL : Nat) (xs : Nat → Int) : Tr := trm SL xs (m_Mill_match SL xs)
def cs_Model_begin (SL : Nat) (xs : Nat → Int) : Cs := lk []
def m_Model_begin (SL : Nat) (xs : Nat → Int) : Me := (fl_Model, kl_Model, sl_Model, c_Model_begin, cs_Model_begin SL xs, 4, 0, 0, 99, 0)
def T_Model_begin (SL : Nat) (xs : Nat → Int) : Tr := trm SL xs (m_Model_begin SL xs)
def cs_Model_succeeds (SL : Nat) (xs : Nat → Int) : Cs := lk []
def m_Model_succeeds (SL : Nat) (xs : Nat → Int) : Me := (fl_Model, kl_Model, sl_Model, c_Model_succeeds, cs_Model_succeeds SL xs, 2, 0, 0, 99, 0)
def T_Model_succeeds (SL : Nat) (xs : Nat → Int) : Tr := trm SL xs (m_Model_succeeds SL xs)
def cs_Model_isIn (SL : Nat) (xs : Nat → Int) : Cs := lk []
def m_Model_isIn (SL : Nat) (xs : Nat → Int) : Me := (fl_Model, kl_Model, sl_Model, c_Model_isIn, cs_Model_isIn SL xs, 4, 0, 0, 99, 2)
def T_Model_isIn (SL : Nat) (xs : Nat → Int) : Tr := trm SL xs (m_Model_isIn SL xs)
def cs_Model_behind (SL : Nat) (xs : Nat → Int) : Cs := lk []
def m_Model_behind (SL : Nat) (xs : Nat → Int) : Me := (fl_Model, kl_Model, sl_Model, c_Model_behind, cs_Model_behind SL xs, 6, 0, 0, 99, 1)
def T_Model_behind (SL : Nat) (xs : Nat → Int) : Tr := trm SL xs (m_Model_behind SL xs)
def cs_Model_span (SL : Nat) (xs : Nat → Int) : Cs := lk [(90, 3, 0, 0, vT 7 (T_Model_isIn SL xs))]
def m_Model_span (SL : Nat) (xs : Nat → Int) : Me := (fl_Model, kl_Model, sl_Model, c_Model_span, cs_Model_span SL xs, 4, 0, 0, 99, 1)
def T_Model_span (SL : Nat) (xs : Nat → Int) : Tr := trm SL xs (m_Model_span SL xs)
def cs_Model_stop (SL : Nat) (xs : Nat → Int) : Cs := lk [(90, 3, 0, 0, vT 7 (T_Model_isIn SL xs))]
def m_Model_stop (SL : Nat) (xs : Nat → Int) : Me := (fl_Model, kl_Model, sl_Model, c_Model_stop, cs_Model_stop SL xs, 4, 0, 0, 99, 1)
def T_Model_stop (SL : Nat) (xs : Nat → Int) : Tr := trm SL xs (m_Model_stop SL xs)
def cs_Model_balanced (SL : Nat) (xs : Nat → Int) : Cs := lk []
def m_Model_balanced (SL : Nat) (xs : Nat → Int) : Me := (fl_Model, kl_Model, sl_Model, c_Model_balanced, cs_Model_balanced SL xs, 5, 0, 0, 99, 1)
def T_Model_balanced (SL : Nat) (xs : Nat → Int) : Tr := trm SL xs (m_Model_balanced SL xs)
def cs_Model_told (SL : Nat) (xs : Nat → Int) : Cs := lk []
def m_Model_told (SL : Nat) (xs : Nat → Int) : Me := (fl_Model, kl_Model, sl_Model, c_Model_told, cs_Model_told SL xs, 3, 0, 0, 99, 1)
def T_Model_told (SL : Nat) (xs : Nat → Int) : Tr := trm SL xs (m_Model_told SL xs)
def cs_Model_plain (SL : Nat) (xs : Nat → Int) : Cs := lk [(90, 3, 0, 0, vT 7 (T_Model_isIn SL xs)), (94, 5, 0, 0, vT 7 (T_Model_behind SL xs)), (98, 3, 0, 0, vT 7 (T_Model_span SL xs)), (102, 3, 0, 0, vT 7 (T_Model_stop SL xs)), (105, 3, 0, 0, vT 7 (T_Model_balanced SL xs)), (108, 3, 0, 0, vT 7 (T_Model_told SL xs))]
def m_Model_plain (SL : Nat) (xs : Nat → Int) : Me := (fl_Model, kl_Model, sl_Model, c_Model_plain, cs_Model_plain SL xs, 5, 0, 0, 99, 1)
def T_Model_plain (SL : Nat) (xs : Nat → Int) : Tr := trm SL xs (m_Model_plain SL xs)
def cs_Model_begins (SL : Nat) (xs : Nat → Int) : Cs := lk [(127, 2, 0, 0, vT 7 (T_Model_succeeds SL xs)), (131, 4, 0, 0, vT 7 (T_Model_begin SL xs)), (80, 2, 0, 0, vT 7 (T_Model_isNode SL xs)), (135, 3, 0, 0, vT 7 (T_Model_plain SL xs))]
def m_Model_begins (SL : Nat) (xs : Nat → Int) : Me := (fl_Model, kl_Model, sl_Model, c_Model_begins, cs_Model_begins SL xs, 4, 0, 0, 99, 0)
def T_Model_begins (SL : Nat) (xs : Nat → Int) : Tr := trm SL xs (m_Model_begins SL xs)
def cs_Model_goesBack (SL : Nat) (xs : Nat → Int) : Cs := lk [(127, 2, 0, 0, vT 7 (T_Model_succeeds SL xs)), (105, 3, 0, 0, vT 7 (T_Model_balanced SL xs)), (131, 4, 0, 0, vT 7 (T_Model_begin SL xs))]
def m_Model_goesBack (SL : Nat) (xs : Nat → Int) : Me := (fl_Model, kl_Model, sl_Model, c_Model_goesBack, cs_Model_goesBack SL xs, 3, 0, 0, 99, 0)
def T_Model_goesBack (SL : Nat) (xs : Nat → Int) : Tr := trm SL xs (m_Model_goesBack SL xs)
def cs_Model_becomes (SL : Nat) (xs : Nat → Int) : Cs := lk []
def m_Model_becomes (SL : Nat) (xs : Nat → Int) : Me := (fl_Model, kl_Model, sl_Model, c_Model_becomes, cs_Model_becomes SL xs, 4, 0, 0, 99, 0)
def T_Model_becomes (SL : Nat) (xs : Nat → Int) : Tr := trm SL xs (m_Model_becomes SL xs)
def cs_Model_hasSucceeded (SL : Nat) (xs : Nat → Int) : Cs := lk [(131, 4, 0, 0, vT 7 (T_Model_begin SL xs)), (127, 2, 0, 0, vT 7 (T_Model_succeeds SL xs)), (141, 3, 0, 0, vT 7 (T_Model_becomes SL xs))]
def m_Model_hasSucceeded (SL : Nat) (xs : Nat → Int) : Me := (fl_Model, kl_Model, sl_Model, c_Model_hasSucceeded, cs_Model_hasSucceeded SL xs, 5, 0, 0, 99, 0)
def T_Model_hasSucceeded (SL : Nat) (xs : Nat → Int) : Tr := trm SL xs (m_Model_hasSucceeded SL xs)
def cs_Model_hasFailed (SL : Nat) (xs : Nat → Int) : Cs := lk [(131, 4, 0, 0, vT 7 (T_Model_begin SL xs)), (127, 2, 0, 0, vT 7 (T_Model_succeeds SL xs))]
def m_Model_hasFailed (SL : Nat) (xs : Nat → Int) : Me := (fl_Model, kl_Model, sl_Model, c_Model_hasFailed, cs_Model_hasFailed SL xs, 5, 0, 0, 99, 0)
def T_Model_hasFailed (SL : Nat) (xs : Nat → Int) : Tr := trm SL xs (m_Model_hasFailed SL xs)
def cs_Model_tries (SL : Nat) (xs : Nat → Int) : Cs := lk [(131, 4, 0, 0, vT 7 (T_Model_begin SL xs)), (145, 1, 0, 0, vT 7 (T_Model_begins SL xs)), (148, 1, 0, 0, vT 7 (T_Model_goesBack SL xs)), (151, 2, 0, 0, vT 7 (T_Model_hasSucceeded SL xs)), (154, 2, 0, 0, vT 7 (T_Model_hasFailed SL xs))]
def m_Model_tries (SL : Nat) (xs : Nat → Int) : Me := (fl_Model, kl_Model, sl_Model, c_Model_tries, cs_Model_tries SL xs, 5, 0, 0, 99, 1)
def T_Model_tries (SL : Nat) (xs : Nat → Int) : Tr := trm SL xs (m_Model_tries SL xs)
def cs_Model_keep (SL : Nat) (xs : Nat → Int) : Cs := lk [(141, 3, 0, 0, vT 7 (T_Model_becomes SL xs))]
def m_Model_keep (SL : Nat) (xs : Nat → Int) : Me := (fl_Model, kl_Model, sl_Model, c_Model_keep, cs_Model_keep SL xs, 6, 0, 0, 99, 0)
def T_Model_keep (SL : Nat) (xs : Nat → Int) : Tr := trm SL xs (m_Model_keep SL xs)
def cs_Model_match (SL : Nat) (xs : Nat → Int) : Cs := lk [(73, 1, 0, 0, (T_Model_isVariable SL xs)), (80, 2, 0, 0, vT 7 (T_Model_isNode SL xs)), (166, 3, 0, 0, vT 7 (T_Model_tries SL xs)), (169, 2, 0, 0, vT 7 (T_Model_keep SL xs))]
def m_Model_match (SL : Nat) (xs : Nat → Int) : Me := (fl_Model, kl_Model, sl_Model, c_Model_match, cs_Model_match SL xs, 7, 0, 0, 99, 1)
def T_Model_match (SL : Nat) (xs : Nat → Int) : Tr := trm SL xs (m_Model_match SL xs)
def cs_Mill_isWell (SL : Nat) (xs : Nat → Int) : Cs := lk []
def m_Mill_isWell (SL : Nat) (xs : Nat → Int) : Me := (fl_Mill, kl_Mill, sl_Mill, c_Mill_isWell, cs_Mill_isWell SL xs, 1, 0, 0, 99, 2)
def T_Mill_isWell (SL : Nat) (xs : Nat → Int) : Tr := trm SL xs (m_Mill_isWell SL xs)
def cs_Mill_latest (SL : Nat) (xs : Nat → Int) : Cs := lk [(116, 1, 0, 0, vT 0 (T_Mill_isWell SL xs))]
def m_Mill_latest (SL : Nat) (xs : Nat → Int) : Me := (fl_Mill, kl_Mill, sl_Mill, c_Mill_latest, cs_Mill_latest SL xs, 2, 0, 0, 99, 1)
def T_Mill_latest (SL : Nat) (xs : Nat → Int) : Tr := trm SL xs (m_Mill_latest SL xs)
def cs_Model_latest (SL : Nat) (xs : Nat → Int) : Cs := lk []
def m_Model_latest (SL : Nat) (xs : Nat → Int) : Me := (fl_Model, kl_Model, sl_Model, c_Model_latest, cs_Model_latest SL xs, 2, 0, 0, 99, 1)
def T_Model_latest (SL : Nat) (xs : Nat → Int) : Tr := trm SL xs (m_Model_latest SL xs)
def cs_Mill_replace (SL : Nat) (xs : Nat → Int) : Cs := lk [(51, 1, 0, 0, (T_Mill_isVariable SL xs)), (116, 1, 0, 0, vT 0 (T_Mill_isWell SL xs)), (128, 4, 0, 0, vT 1 (T_Text_part SL xs)), (43, 2, 0, 0, vT 1 (T_Text_add SL xs)), (132, 2, 0, 0, vT 1 (T_Text_become SL xs))]
def m_Mill_replace (SL : Nat) (xs : Nat → Int) : Me := (fl_Mill, kl_Mill, sl_Mill, c_Mill_replace, cs_Mill_replace SL xs, 5, 0, 0, 99, 2)
def T_Mill_replace (SL : Nat) (xs : Nat → Int) : Tr := trm SL xs (m_Mill_replace SL xs)
def cs_Model_replace (SL : Nat) (xs : Nat → Int) : Cs := lk [(73, 1, 0, 0, (T_Model_isVariable SL xs))]
def m_Model_replace (SL : Nat) (xs : Nat → Int) : Me := (fl_Model, kl_Model, sl_Model, c_Model_replace, cs_Model_replace SL xs, 4, 0, 0, 99, 2)
def T_Model_replace (SL : Nat) (xs : Nat → Int) : Tr := trm SL xs (m_Model_replace SL xs)
def cs_Law_law (SL : Nat) (xs : Nat → Int) : Cs := lk [(9, 1, 45, 82943, vT 0 (T_Mill_init SL xs)), (12, 1, 18, 32000, vT 7 (T_Model_init SL xs)), (13, 2, 0, 0, vT 0 (T_Mill_sign SL xs)), (17, 2, 0, 0, vT 7 (T_Model_sign SL xs)), (18, 2, 0, 0, vT 0 (T_Mill_let SL xs)), (22, 2, 0, 0, vT 7 (T_Model_let SL xs)), (23, 3, 0, 0, vT 0 (T_Mill_value SL xs)), (27, 3, 0, 0, vT 7 (T_Model_value SL xs)), (28, 2, 0, 0, vT 0 (T_Mill_length SL xs)), (31, 2, 0, 0, vT 7 (T_Model_length SL xs)), (32, 4, 2, 66, vT 0 (T_Mill_node SL xs)), (36, 4, 0, 0, vT 7 (T_Model_node SL xs)), (37, 1, 0, 0, vT 0 (T_Mill_clear SL xs)), (40, 1, 0, 0, vT 7 (T_Model_clear SL xs)), (41, 3, 0, 0, vT 0 (T_Mill_about SL xs)), (44, 3, 0, 0, vT 7 (T_Model_about SL xs)), (45, 4, 0, 0, vT 0 (T_Mill_match SL xs)), (49, 4, 0, 0, vT 7 (T_Model_match SL xs)), (50, 2, 0, 0, vT 0 (T_Mill_latest SL xs)), (53, 2, 0, 0, vT 7 (T_Model_latest SL xs)), (54, 2, 0, 0, vT 0 (T_Mill_replace SL xs)), (57, 2, 0, 0, vT 7 (T_Model_replace SL xs))]
def m_Law_law (SL : Nat) (xs : Nat → Int) : Me := (fl_Law, kl_Law, sl_Law, c_Law_law, cs_Law_law SL xs, 4, 600000, 7302250, 99, 2)
def T_Law_law (SL : Nat) (xs : Nat → Int) : Tr := trm SL xs (m_Law_law SL xs)
end
section
/-! Codes held to their bytes: printed by wip/gen.py -/
theorem so_Mill : SlOK R_Mill sl_Mill := sl_of (by decide +kernel)
theorem so_Text : SlOK R_Text sl_Text := sl_of (by decide +kernel)
theorem so_Nodes : SlOK R_Nodes sl_Nodes := sl_of (by decide +kernel)
theorem so_Matcher : SlOK R_Matcher sl_Matcher := sl_of (by decide +kernel)
theorem so_Goals : SlOK R_Goals sl_Goals := sl_of (by decide +kernel)
theorem so_Choices : SlOK R_Choices sl_Choices := sl_of (by decide +kernel)
theorem so_Kept : SlOK R_Kept sl_Kept := sl_of (by decide +kernel)
theorem so_Model : SlOK R_Model sl_Model := sl_of (by decide +kernel)
theorem so_Kind : SlOK R_Kind sl_Kind := sl_of (by decide +kernel)
theorem so_Enum : SlOK R_Enum sl_Enum := sl_of (by decide +kernel)
theorem so_Object : SlOK R_Object sl_Object := sl_of (by decide +kernel)
theorem so_Law : SlOK R_LawC sl_Law := sl_of (by decide +kernel)
theorem co_Text_init : CodeOK prog_8_method_1_code c_Text_init := code_of (by decide +kernel)
theorem co_Nodes_init : CodeOK prog_7_method_1_code c_Nodes_init := code_of (by decide +kernel)
theorem co_Goals_init : CodeOK prog_3_method_1_code c_Goals_init := code_of (by decide +kernel)
theorem co_Choices_init : CodeOK prog_2_method_1_code c_Choices_init := code_of (by decide +kernel)
theorem co_Kept_init : CodeOK prog_4_method_1_code c_Kept_init := code_of (by decide +kernel)
theorem co_Matcher_init : CodeOK prog_6_method_1_code c_Matcher_init := code_of (by decide +kernel)
theorem co_Mill_init : CodeOK prog_1_method_1_code c_Mill_init := code_of (by decide +kernel)
theorem co_Model_init : CodeOK prog_10_method_1_code c_Model_init := code_of (by decide +kernel)
theorem co_Text_isFull : CodeOK prog_8_method_2_code c_Text_isFull := code_of (by decide +kernel)
theorem co_Text_add : CodeOK prog_8_method_3_code c_Text_add := code_of (by decide +kernel)
theorem co_Mill_sign : CodeOK prog_1_method_2_code c_Mill_sign := code_of (by decide +kernel)
theorem co_Model_sign : CodeOK prog_10_method_3_code c_Model_sign := code_of (by decide +kernel)
theorem co_Mill_isVariable : CodeOK prog_1_method_3_code c_Mill_isVariable := code_of (by decide +kernel)
theorem co_Text_part : CodeOK prog_8_method_4_code c_Text_part := code_of (by decide +kernel)
theorem co_Text_become : CodeOK prog_8_method_5_code c_Text_become := code_of (by decide +kernel)
theorem co_Text_take : CodeOK prog_8_method_6_code c_Text_take := code_of (by decide +kernel)
theorem co_Mill_let : CodeOK prog_1_method_4_code c_Mill_let := code_of (by decide +kernel)
theorem co_Model_isVariable : CodeOK prog_10_method_4_code c_Model_isVariable := code_of (by decide +kernel)
theorem co_Model_let : CodeOK prog_10_method_5_code c_Model_let := code_of (by decide +kernel)
theorem co_Mill_value : CodeOK prog_1_method_5_code c_Mill_value := code_of (by decide +kernel)
theorem co_Model_value : CodeOK prog_10_method_6_code c_Model_value := code_of (by decide +kernel)
theorem co_Mill_length : CodeOK prog_1_method_6_code c_Mill_length := code_of (by decide +kernel)
theorem co_Model_length : CodeOK prog_10_method_7_code c_Model_length := code_of (by decide +kernel)
theorem co_Kind_fits : CodeOK prog_5_method_4_code c_Kind_fits := code_of (by decide +kernel)
theorem co_Kind_suits : CodeOK prog_5_method_5_code c_Kind_suits := code_of (by decide +kernel)
theorem co_Mill_node : CodeOK prog_1_method_7_code c_Mill_node := code_of (by decide +kernel)
theorem co_Model_isNode : CodeOK prog_10_method_8_code c_Model_isNode := code_of (by decide +kernel)
theorem co_Model_can : CodeOK prog_10_method_9_code c_Model_can := code_of (by decide +kernel)
theorem co_Model_node : CodeOK prog_10_method_10_code c_Model_node := code_of (by decide +kernel)
theorem co_Mill_clear : CodeOK prog_1_method_8_code c_Mill_clear := code_of (by decide +kernel)
theorem co_Model_clear : CodeOK prog_10_method_11_code c_Model_clear := code_of (by decide +kernel)
theorem co_Nodes_is : CodeOK prog_7_method_2_code c_Nodes_is := code_of (by decide +kernel)
theorem co_Enum_ordinal : CodeOK prog_11_method_2_code c_Enum_ordinal := code_of (by decide +kernel)
theorem co_Mill_about : CodeOK prog_1_method_9_code c_Mill_about := code_of (by decide +kernel)
theorem co_Model_about : CodeOK prog_10_method_12_code c_Model_about := code_of (by decide +kernel)
theorem co_Goals_add : CodeOK prog_3_method_2_code c_Goals_add := code_of (by decide +kernel)
theorem co_Kept_add : CodeOK prog_4_method_2_code c_Kept_add := code_of (by decide +kernel)
theorem co_Text_isAt : CodeOK prog_8_method_8_code c_Text_isAt := code_of (by decide +kernel)
theorem co_Matcher_choose : CodeOK prog_6_method_2_code c_Matcher_choose := code_of (by decide +kernel)
theorem co_Matcher_further : CodeOK prog_6_method_4_code c_Matcher_further := code_of (by decide +kernel)
theorem co_Matcher_balances : CodeOK prog_6_method_5_code c_Matcher_balances := code_of (by decide +kernel)
theorem co_Matcher_back : CodeOK prog_6_method_3_code c_Matcher_back := code_of (by decide +kernel)
theorem co_Matcher_goes : CodeOK prog_6_method_6_code c_Matcher_goes := code_of (by decide +kernel)
theorem co_Text_has : CodeOK prog_8_method_7_code c_Text_has := code_of (by decide +kernel)
theorem co_Matcher_isSign : CodeOK prog_6_method_9_code c_Matcher_isSign := code_of (by decide +kernel)
theorem co_Matcher_run : CodeOK prog_6_method_7_code c_Matcher_run := code_of (by decide +kernel)
theorem co_Matcher_breaks : CodeOK prog_6_method_8_code c_Matcher_breaks := code_of (by decide +kernel)
theorem co_Text_digits : CodeOK prog_8_method_9_code c_Text_digits := code_of (by decide +kernel)
theorem co_Matcher_composes : CodeOK prog_6_method_11_code c_Matcher_composes := code_of (by decide +kernel)
theorem co_Matcher_begins : CodeOK prog_6_method_10_code c_Matcher_begins := code_of (by decide +kernel)
theorem co_Matcher_works : CodeOK prog_6_method_12_code c_Matcher_works := code_of (by decide +kernel)
theorem co_Matcher_from : CodeOK prog_6_method_13_code c_Matcher_from := code_of (by decide +kernel)
theorem co_Matcher_match : CodeOK prog_6_method_14_code c_Matcher_match := code_of (by decide +kernel)
theorem co_Mill_match : CodeOK prog_1_method_10_code c_Mill_match := code_of (by decide +kernel)
theorem co_Model_begin : CodeOK prog_10_method_20_code c_Model_begin := code_of (by decide +kernel)
theorem co_Model_succeeds : CodeOK prog_10_method_21_code c_Model_succeeds := code_of (by decide +kernel)
theorem co_Model_isIn : CodeOK prog_10_method_13_code c_Model_isIn := code_of (by decide +kernel)
theorem co_Model_behind : CodeOK prog_10_method_14_code c_Model_behind := code_of (by decide +kernel)
theorem co_Model_span : CodeOK prog_10_method_15_code c_Model_span := code_of (by decide +kernel)
theorem co_Model_stop : CodeOK prog_10_method_16_code c_Model_stop := code_of (by decide +kernel)
theorem co_Model_balanced : CodeOK prog_10_method_17_code c_Model_balanced := code_of (by decide +kernel)
theorem co_Model_told : CodeOK prog_10_method_19_code c_Model_told := code_of (by decide +kernel)
theorem co_Model_plain : CodeOK prog_10_method_18_code c_Model_plain := code_of (by decide +kernel)
theorem co_Model_begins : CodeOK prog_10_method_22_code c_Model_begins := code_of (by decide +kernel)
theorem co_Model_goesBack : CodeOK prog_10_method_23_code c_Model_goesBack := code_of (by decide +kernel)
theorem co_Model_becomes : CodeOK prog_10_method_24_code c_Model_becomes := code_of (by decide +kernel)
theorem co_Model_hasSucceeded : CodeOK prog_10_method_25_code c_Model_hasSucceeded := code_of (by decide +kernel)
theorem co_Model_hasFailed : CodeOK prog_10_method_26_code c_Model_hasFailed := code_of (by decide +kernel)
theorem co_Model_tries : CodeOK prog_10_method_27_code c_Model_tries := code_of (by decide +kernel)
theorem co_Model_keep : CodeOK prog_10_method_28_code c_Model_keep := code_of (by decide +kernel)
theorem co_Model_match : CodeOK prog_10_method_29_code c_Model_match := code_of (by decide +kernel)
theorem co_Mill_isWell : CodeOK prog_1_method_11_code c_Mill_isWell := code_of (by decide +kernel)
theorem co_Mill_latest : CodeOK prog_1_method_12_code c_Mill_latest := code_of (by decide +kernel)
theorem co_Model_latest : CodeOK prog_10_method_30_code c_Model_latest := code_of (by decide +kernel)
theorem co_Mill_replace : CodeOK prog_1_method_13_code c_Mill_replace := code_of (by decide +kernel)
theorem co_Model_replace : CodeOK prog_10_method_31_code c_Model_replace := code_of (by decide +kernel)
theorem co_Law_law : CodeOK code c_Law_law := code_of (by decide +kernel)
end
section
/-! Contracts of the methods: printed by wip/gen.py -/
section
variable {SL : Nat} {xs : Nat → Int}
theorem ct_Text_init (hSL : rng SL) : Ct SL xs ⟨"PatternMill$Text", "<init>", "()V"⟩ prog_8_method_1_code 1 (none) (rmL 1 1 64) (T_Text_init SL xs) := ct_of (by decide) co_Text_init fo_Text ko_Text so_Text hSL (fun h => ⟨rfl, rfl⟩) (by decide) (calls_of (I := [.invokespecial 3]) (by decide +kernel) (List.forall_mem_cons.mpr ⟨ok_i rfl (fun l => callO_of (by decide +kernel) (by decide) (by decide)), fun _ h => absurd h List.not_mem_nil⟩))
theorem ct_Nodes_init (hSL : rng SL) : Ct SL xs ⟨"PatternMill$Nodes", "<init>", "()V"⟩ prog_7_method_1_code 1 (none) (rmL 1 4 256) (T_Nodes_init SL xs) := ct_of (by decide) co_Nodes_init fo_Nodes ko_Nodes so_Nodes hSL (fun h => ⟨rfl, rfl⟩) (by decide) (calls_of (I := [.invokespecial 1]) (by decide +kernel) (List.forall_mem_cons.mpr ⟨ok_i rfl (fun l => callO_of (by decide +kernel) (by decide) (by decide)), fun _ h => absurd h List.not_mem_nil⟩))
theorem ct_Goals_init (hSL : rng SL) : Ct SL xs ⟨"PatternMill$Goals", "<init>", "()V"⟩ prog_3_method_1_code 1 (none) (rmL 1 4 32768) (T_Goals_init SL xs) := ct_of (by decide) co_Goals_init fo_Goals ko_Goals so_Goals hSL (fun h => ⟨rfl, rfl⟩) (by decide) (calls_of (I := [.invokespecial 1]) (by decide +kernel) (List.forall_mem_cons.mpr ⟨ok_i rfl (fun l => callO_of (by decide +kernel) (by decide) (by decide)), fun _ h => absurd h List.not_mem_nil⟩))
theorem ct_Choices_init (hSL : rng SL) : Ct SL xs ⟨"PatternMill$Choices", "<init>", "()V"⟩ prog_2_method_1_code 1 (none) (rmL 1 6 24576) (T_Choices_init SL xs) := ct_of (by decide) co_Choices_init fo_Choices ko_Choices so_Choices hSL (fun h => ⟨rfl, rfl⟩) (by decide) (calls_of (I := [.invokespecial 1]) (by decide +kernel) (List.forall_mem_cons.mpr ⟨ok_i rfl (fun l => callO_of (by decide +kernel) (by decide) (by decide)), fun _ h => absurd h List.not_mem_nil⟩))
theorem ct_Kept_init (hSL : rng SL) : Ct SL xs ⟨"PatternMill$Kept", "<init>", "()V"⟩ prog_4_method_1_code 1 (none) (rmL 1 3 24576) (T_Kept_init SL xs) := ct_of (by decide) co_Kept_init fo_Kept ko_Kept so_Kept hSL (fun h => ⟨rfl, rfl⟩) (by decide) (calls_of (I := [.invokespecial 1]) (by decide +kernel) (List.forall_mem_cons.mpr ⟨ok_i rfl (fun l => callO_of (by decide +kernel) (by decide) (by decide)), fun _ h => absurd h List.not_mem_nil⟩))
theorem ct_Matcher_init (hSL : rng SL) : Ct SL xs ⟨"PatternMill$Matcher", "<init>", "(LPatternMill$Nodes;[LPatternMill$Text;)V"⟩ prog_6_method_1_code 3 (none) (rmL 2 18 82002) (T_Matcher_init SL xs) := ct_of (by decide) co_Matcher_init fo_Matcher ko_Matcher so_Matcher hSL (fun h => ⟨rfl, rfl⟩) (by decide) (calls_of (I := [.invokespecial 1, .invokespecial 9, .invokespecial 18, .invokespecial 25, .invokespecial 32]) (by decide +kernel) (List.forall_mem_cons.mpr ⟨ok_i rfl (fun l => callO_of (by decide +kernel) (by decide) (by decide)), List.forall_mem_cons.mpr ⟨ok_i rfl (fun l => callIN_of (ct_Text_init hSL) (by decide +kernel) (by decide +kernel) (by decide +kernel) rfl (by decide) (by decide)), List.forall_mem_cons.mpr ⟨ok_i rfl (fun l => callIN_of (ct_Goals_init hSL) (by decide +kernel) (by decide +kernel) (by decide +kernel) rfl (by decide) (by decide)), List.forall_mem_cons.mpr ⟨ok_i rfl (fun l => callIN_of (ct_Choices_init hSL) (by decide +kernel) (by decide +kernel) (by decide +kernel) rfl (by decide) (by decide)), List.forall_mem_cons.mpr ⟨ok_i rfl (fun l => callIN_of (ct_Kept_init hSL) (by decide +kernel) (by decide +kernel) (by decide +kernel) rfl (by decide) (by decide)), fun _ h => absurd h List.not_mem_nil⟩⟩⟩⟩⟩))
theorem ct_Mill_init (hSL : rng SL) : Ct SL xs ⟨"PatternMill", "<init>", "()V"⟩ prog_1_method_1_code 2 (none) (rmL 3 45 82943) (T_Mill_init SL xs) := ct_of (by decide) co_Mill_init fo_Mill ko_Mill so_Mill hSL (fun h => ⟨rfl, rfl⟩) (by decide) (calls_of (I := [.invokespecial 1, .invokespecial 9, .invokespecial 25, .invokespecial 32]) (by decide +kernel) (List.forall_mem_cons.mpr ⟨ok_i rfl (fun l => callO_of (by decide +kernel) (by decide) (by decide)), List.forall_mem_cons.mpr ⟨ok_i rfl (fun l => callIN_of (ct_Text_init hSL) (by decide +kernel) (by decide +kernel) (by decide +kernel) rfl (by decide) (by decide)), List.forall_mem_cons.mpr ⟨ok_i rfl (fun l => callIN_of (ct_Nodes_init hSL) (by decide +kernel) (by decide +kernel) (by decide +kernel) rfl (by decide) (by decide)), List.forall_mem_cons.mpr ⟨ok_i rfl (fun l => callI_of (ct_Matcher_init hSL) (by decide +kernel) (by decide +kernel) rfl (by decide) (by decide)), fun _ h => absurd h List.not_mem_nil⟩⟩⟩⟩))
theorem ct_Model_init (hSL : rng SL) : Ct SL xs ⟨"PatternMillModel", "<init>", "()V"⟩ prog_10_method_1_code 1 (none) (rmL 1 18 32000) (T_Model_init SL xs) := ct_of (by decide) co_Model_init fo_Model ko_Model so_Model hSL (fun h => ⟨rfl, rfl⟩) (by decide) (calls_of (I := [.invokespecial 1]) (by decide +kernel) (List.forall_mem_cons.mpr ⟨ok_i rfl (fun l => callO_of (by decide +kernel) (by decide) (by decide)), fun _ h => absurd h List.not_mem_nil⟩))
theorem ct_Text_isFull (hSL : rng SL) : Ct SL xs ⟨"PatternMill$Text", "isFull", "()Z"⟩ prog_8_method_2_code 1 (some .boolean) (rmL 0 0 0) (T_Text_isFull SL xs) := ct_of (by decide) co_Text_isFull fo_Text ko_Text so_Text hSL (fun h => absurd h (by decide)) (by decide) (calls_of (I := []) (by decide +kernel) ( fun _ h => absurd h List.not_mem_nil))
theorem ct_Text_add (hSL : rng SL) : Ct SL xs ⟨"PatternMill$Text", "add", "(I)V"⟩ prog_8_method_3_code 2 (none) (rmL 0 0 0) (T_Text_add SL xs) := ct_of (by decide) co_Text_add fo_Text ko_Text so_Text hSL (fun h => absurd h (by decide)) (by decide) (calls_of (I := []) (by decide +kernel) ( fun _ h => absurd h List.not_mem_nil))
theorem ct_Mill_sign (hSL : rng SL) : Ct SL xs ⟨"PatternMill", "sign", "(I)I"⟩ prog_1_method_2_code 2 (some .int) (rmL 1 0 0) (T_Mill_sign SL xs) := ct_of (by decide) co_Mill_sign fo_Mill ko_Mill so_Mill hSL (fun h => absurd h (by decide)) (by decide) (calls_of (I := [.invokevirtual 39, .invokevirtual 43]) (by decide +kernel) (List.forall_mem_cons.mpr ⟨ok_v rfl (fun l => callV_of (ct_Text_isFull hSL) (by decide +kernel) (by decide +kernel) (by decide) rfl (by decide) (by decide)), List.forall_mem_cons.mpr ⟨ok_v rfl (fun l => callV_of (ct_Text_add hSL) (by decide +kernel) (by decide +kernel) (by decide) rfl (by decide) (by decide)), fun _ h => absurd h List.not_mem_nil⟩⟩))
theorem ct_Model_sign (hSL : rng SL) : Ct SL xs ⟨"PatternMillModel", "sign", "(I)I"⟩ prog_10_method_3_code 2 (some .int) (rmL 0 0 0) (T_Model_sign SL xs) := ct_of (by decide) co_Model_sign fo_Model ko_Model so_Model hSL (fun h => absurd h (by decide)) (by decide) (calls_of (I := []) (by decide +kernel) ( fun _ h => absurd h List.not_mem_nil))
theorem ct_Mill_isVariable (hSL : rng SL) : Ct SL xs ⟨"PatternMill", "isVariable", "(I)Z"⟩ prog_1_method_3_code 1 (some .boolean) (rmL 0 0 0) (T_Mill_isVariable SL xs) := ct_of (by decide) co_Mill_isVariable fo_Mill ko_Mill so_Mill hSL (fun h => absurd h (by decide)) (by decide) (calls_of (I := []) (by decide +kernel) ( fun _ h => absurd h List.not_mem_nil))
theorem ct_Text_part (hSL : rng SL) : Ct SL xs ⟨"PatternMill$Text", "part", "([BII)V"⟩ prog_8_method_4_code 4 (none) (rmL 2 0 0) (T_Text_part SL xs) := ct_of (by decide) co_Text_part fo_Text ko_Text so_Text hSL (fun h => absurd h (by decide)) (by decide) (calls_of (I := [.invokestatic 19]) (by decide +kernel) (List.forall_mem_cons.mpr ⟨ok_s rfl (fun l => callC_of (by decide +kernel) (by decide) (by decide)), fun _ h => absurd h List.not_mem_nil⟩))
theorem ct_Text_become (hSL : rng SL) : Ct SL xs ⟨"PatternMill$Text", "become", "(LPatternMill$Text;)V"⟩ prog_8_method_5_code 2 (none) (rmL 3 0 0) (T_Text_become SL xs) := ct_of (by decide) co_Text_become fo_Text ko_Text so_Text hSL (fun h => absurd h (by decide)) (by decide) (calls_of (I := [.invokevirtual 25]) (by decide +kernel) (List.forall_mem_cons.mpr ⟨ok_v rfl (fun l => callV_of (ct_Text_part hSL) (by decide +kernel) (by decide +kernel) (by decide) rfl (by decide) (by decide)), fun _ h => absurd h List.not_mem_nil⟩))
theorem ct_Text_take (hSL : rng SL) : Ct SL xs ⟨"PatternMill$Text", "take", "(LPatternMill$Text;)V"⟩ prog_8_method_6_code 2 (none) (rmL 4 0 0) (T_Text_take SL xs) := ct_of (by decide) co_Text_take fo_Text ko_Text so_Text hSL (fun h => absurd h (by decide)) (by decide) (calls_of (I := [.invokevirtual 29]) (by decide +kernel) (List.forall_mem_cons.mpr ⟨ok_v rfl (fun l => callV_of (ct_Text_become hSL) (by decide +kernel) (by decide +kernel) (by decide) rfl (by decide) (by decide)), fun _ h => absurd h List.not_mem_nil⟩))
theorem ct_Mill_let (hSL : rng SL) : Ct SL xs ⟨"PatternMill", "let", "(I)Z"⟩ prog_1_method_4_code 2 (some .boolean) (rmL 5 0 0) (T_Mill_let SL xs) := ct_of (by decide) co_Mill_let fo_Mill ko_Mill so_Mill hSL (fun h => absurd h (by decide)) (by decide) (calls_of (I := [.invokestatic 51, .invokevirtual 55]) (by decide +kernel) (List.forall_mem_cons.mpr ⟨ok_s rfl (fun l => callS_of (ct_Mill_isVariable hSL) (by decide +kernel) (by decide +kernel) (by decide) (by decide)), List.forall_mem_cons.mpr ⟨ok_v rfl (fun l => callV_of (ct_Text_take hSL) (by decide +kernel) (by decide +kernel) (by decide) rfl (by decide) (by decide)), fun _ h => absurd h List.not_mem_nil⟩⟩))
theorem ct_Model_isVariable (hSL : rng SL) : Ct SL xs ⟨"PatternMillModel", "isVariable", "(I)Z"⟩ prog_10_method_4_code 1 (some .boolean) (rmL 0 0 0) (T_Model_isVariable SL xs) := ct_of (by decide) co_Model_isVariable fo_Model ko_Model so_Model hSL (fun h => absurd h (by decide)) (by decide) (calls_of (I := []) (by decide +kernel) ( fun _ h => absurd h List.not_mem_nil))
theorem ct_Model_let (hSL : rng SL) : Ct SL xs ⟨"PatternMillModel", "let", "(I)Z"⟩ prog_10_method_5_code 3 (some .boolean) (rmL 1 0 0) (T_Model_let SL xs) := ct_of (by decide) co_Model_let fo_Model ko_Model so_Model hSL (fun h => absurd h (by decide)) (by decide) (calls_of (I := [.invokestatic 73]) (by decide +kernel) (List.forall_mem_cons.mpr ⟨ok_s rfl (fun l => callS_of (ct_Model_isVariable hSL) (by decide +kernel) (by decide +kernel) (by decide) (by decide)), fun _ h => absurd h List.not_mem_nil⟩))
theorem ct_Mill_value (hSL : rng SL) : Ct SL xs ⟨"PatternMill", "value", "(II)I"⟩ prog_1_method_5_code 3 (some .int) (rmL 1 0 0) (T_Mill_value SL xs) := ct_of (by decide) co_Mill_value fo_Mill ko_Mill so_Mill hSL (fun h => absurd h (by decide)) (by decide) (calls_of (I := [.invokestatic 51]) (by decide +kernel) (List.forall_mem_cons.mpr ⟨ok_s rfl (fun l => callS_of (ct_Mill_isVariable hSL) (by decide +kernel) (by decide +kernel) (by decide) (by decide)), fun _ h => absurd h List.not_mem_nil⟩))
theorem ct_Model_value (hSL : rng SL) : Ct SL xs ⟨"PatternMillModel", "value", "(II)I"⟩ prog_10_method_6_code 3 (some .int) (rmL 1 0 0) (T_Model_value SL xs) := ct_of (by decide) co_Model_value fo_Model ko_Model so_Model hSL (fun h => absurd h (by decide)) (by decide) (calls_of (I := [.invokestatic 73]) (by decide +kernel) (List.forall_mem_cons.mpr ⟨ok_s rfl (fun l => callS_of (ct_Model_isVariable hSL) (by decide +kernel) (by decide +kernel) (by decide) (by decide)), fun _ h => absurd h List.not_mem_nil⟩))
theorem ct_Mill_length (hSL : rng SL) : Ct SL xs ⟨"PatternMill", "length", "(I)I"⟩ prog_1_method_6_code 2 (some .int) (rmL 1 0 0) (T_Mill_length SL xs) := ct_of (by decide) co_Mill_length fo_Mill ko_Mill so_Mill hSL (fun h => absurd h (by decide)) (by decide) (calls_of (I := [.invokestatic 51]) (by decide +kernel) (List.forall_mem_cons.mpr ⟨ok_s rfl (fun l => callS_of (ct_Mill_isVariable hSL) (by decide +kernel) (by decide +kernel) (by decide) (by decide)), fun _ h => absurd h List.not_mem_nil⟩))
theorem ct_Model_length (hSL : rng SL) : Ct SL xs ⟨"PatternMillModel", "length", "(I)I"⟩ prog_10_method_7_code 2 (some .int) (rmL 1 0 0) (T_Model_length SL xs) := ct_of (by decide) co_Model_length fo_Model ko_Model so_Model hSL (fun h => absurd h (by decide)) (by decide) (calls_of (I := [.invokestatic 73]) (by decide +kernel) (List.forall_mem_cons.mpr ⟨ok_s rfl (fun l => callS_of (ct_Model_isVariable hSL) (by decide +kernel) (by decide +kernel) (by decide) (by decide)), fun _ h => absurd h List.not_mem_nil⟩))
theorem ct_Kind_fits (hSL : rng SL) : Ct SL xs ⟨"PatternMill$Kind", "fits", "(III)Z"⟩ prog_5_method_4_code 3 (some .boolean) (rmL 0 0 0) (T_Kind_fits SL xs) := ct_of (by decide) co_Kind_fits fo_Kind ko_Kind so_Kind hSL (fun h => absurd h (by decide)) (by decide) (calls_of (I := []) (by decide +kernel) ( fun _ h => absurd h List.not_mem_nil))
theorem ct_Kind_suits (hSL : rng SL) : Ct SL xs ⟨"PatternMill$Kind", "suits", "(III)Z"⟩ prog_5_method_5_code 4 (some .boolean) (rmL 1 0 0) (T_Kind_suits SL xs) := ct_of (by decide) co_Kind_suits fo_Kind ko_Kind so_Kind hSL (fun h => absurd h (by decide)) (by decide) (calls_of (I := [.invokestatic 110]) (by decide +kernel) (List.forall_mem_cons.mpr ⟨ok_s rfl (fun l => callS_of (ct_Kind_fits hSL) (by decide +kernel) (by decide +kernel) (by decide) (by decide)), fun _ h => absurd h List.not_mem_nil⟩))
theorem ct_Mill_node (hSL : rng SL) : Ct SL xs ⟨"PatternMill", "node", "(III)I"⟩ prog_1_method_7_code 6 (some .int) (rmL 5 2 66) (T_Mill_node SL xs) := ct_of (by decide) co_Mill_node fo_Mill ko_Mill so_Mill hSL (fun h => absurd h (by decide)) (by decide) (calls_of (I := [.invokevirtual 70, .invokespecial 9, .invokevirtual 55]) (by decide +kernel) (List.forall_mem_cons.mpr ⟨ok_v rfl (fun l => callV_of (ct_Kind_suits hSL) (by decide +kernel) (by decide +kernel) (by decide) rfl (by decide) (by decide)), List.forall_mem_cons.mpr ⟨ok_i rfl (fun l => callIN_of (ct_Text_init hSL) (by decide +kernel) (by decide +kernel) (by decide +kernel) rfl (by decide) (by decide)), List.forall_mem_cons.mpr ⟨ok_v rfl (fun l => callV_of (ct_Text_take hSL) (by decide +kernel) (by decide +kernel) (by decide) rfl (by decide) (by decide)), fun _ h => absurd h List.not_mem_nil⟩⟩⟩))
theorem ct_Model_isNode (hSL : rng SL) : Ct SL xs ⟨"PatternMillModel", "isNode", "(I)Z"⟩ prog_10_method_8_code 2 (some .boolean) (rmL 0 0 0) (T_Model_isNode SL xs) := ct_of (by decide) co_Model_isNode fo_Model ko_Model so_Model hSL (fun h => absurd h (by decide)) (by decide) (calls_of (I := []) (by decide +kernel) ( fun _ h => absurd h List.not_mem_nil))
theorem ct_Model_can (hSL : rng SL) : Ct SL xs ⟨"PatternMillModel", "can", "(III)Z"⟩ prog_10_method_9_code 4 (some .boolean) (rmL 1 0 0) (T_Model_can SL xs) := ct_of (by decide) co_Model_can fo_Model ko_Model so_Model hSL (fun h => absurd h (by decide)) (by decide) (calls_of (I := [.invokevirtual 80, .invokestatic 73]) (by decide +kernel) (List.forall_mem_cons.mpr ⟨ok_v rfl (fun l => callV_of (ct_Model_isNode hSL) (by decide +kernel) (by decide +kernel) (by decide) rfl (by decide) (by decide)), List.forall_mem_cons.mpr ⟨ok_s rfl (fun l => callS_of (ct_Model_isVariable hSL) (by decide +kernel) (by decide +kernel) (by decide) (by decide)), fun _ h => absurd h List.not_mem_nil⟩⟩))
theorem ct_Model_node (hSL : rng SL) : Ct SL xs ⟨"PatternMillModel", "node", "(III)I"⟩ prog_10_method_10_code 7 (some .int) (rmL 2 0 0) (T_Model_node SL xs) := ct_of (by decide) co_Model_node fo_Model ko_Model so_Model hSL (fun h => absurd h (by decide)) (by decide) (calls_of (I := [.invokevirtual 83]) (by decide +kernel) (List.forall_mem_cons.mpr ⟨ok_v rfl (fun l => callV_of (ct_Model_can hSL) (by decide +kernel) (by decide +kernel) (by decide) rfl (by decide) (by decide)), fun _ h => absurd h List.not_mem_nil⟩))
theorem ct_Mill_clear (hSL : rng SL) : Ct SL xs ⟨"PatternMill", "clear", "()V"⟩ prog_1_method_8_code 1 (none) (rmL 0 0 0) (T_Mill_clear SL xs) := ct_of (by decide) co_Mill_clear fo_Mill ko_Mill so_Mill hSL (fun h => absurd h (by decide)) (by decide) (calls_of (I := []) (by decide +kernel) ( fun _ h => absurd h List.not_mem_nil))
theorem ct_Model_clear (hSL : rng SL) : Ct SL xs ⟨"PatternMillModel", "clear", "()V"⟩ prog_10_method_11_code 1 (none) (rmL 0 0 0) (T_Model_clear SL xs) := ct_of (by decide) co_Model_clear fo_Model ko_Model so_Model hSL (fun h => absurd h (by decide)) (by decide) (calls_of (I := []) (by decide +kernel) ( fun _ h => absurd h List.not_mem_nil))
theorem ct_Nodes_is (hSL : rng SL) : Ct SL xs ⟨"PatternMill$Nodes", "is", "(I)Z"⟩ prog_7_method_2_code 2 (some .boolean) (rmL 0 0 0) (T_Nodes_is SL xs) := ct_of (by decide) co_Nodes_is fo_Nodes ko_Nodes so_Nodes hSL (fun h => absurd h (by decide)) (by decide) (calls_of (I := []) (by decide +kernel) ( fun _ h => absurd h List.not_mem_nil))
theorem ct_Enum_ordinal (hSL : rng SL) : Ct SL xs ⟨"java/lang/Enum", "ordinal", "()I"⟩ prog_11_method_2_code 1 (some .int) (rmL 0 0 0) (T_Enum_ordinal SL xs) := ct_of (by decide) co_Enum_ordinal fo_Enum ko_Enum so_Enum hSL (fun h => absurd h (by decide)) (by decide) (calls_of (I := []) (by decide +kernel) ( fun _ h => absurd h List.not_mem_nil))
theorem ct_Mill_about (hSL : rng SL) : Ct SL xs ⟨"PatternMill", "about", "(II)I"⟩ prog_1_method_9_code 3 (some .int) (rmL 1 0 0) (T_Mill_about SL xs) := ct_of (by decide) co_Mill_about fo_Mill ko_Mill so_Mill hSL (fun h => absurd h (by decide)) (by decide) (calls_of (I := [.invokevirtual 99, .invokevirtual 102]) (by decide +kernel) (List.forall_mem_cons.mpr ⟨ok_v rfl (fun l => callV_of (ct_Nodes_is hSL) (by decide +kernel) (by decide +kernel) (by decide) rfl (by decide) (by decide)), List.forall_mem_cons.mpr ⟨ok_v rfl (fun l => callU_of (x := ⟨"PatternMill$Kind", "ordinal", "()I"⟩) (owner := "java/lang/Enum") (ct_Enum_ordinal hSL) (by decide +kernel) rfl (by decide +kernel) (by decide) rfl (by decide) (by decide)), fun _ h => absurd h List.not_mem_nil⟩⟩))
theorem ct_Model_about (hSL : rng SL) : Ct SL xs ⟨"PatternMillModel", "about", "(II)I"⟩ prog_10_method_12_code 3 (some .int) (rmL 1 0 0) (T_Model_about SL xs) := ct_of (by decide) co_Model_about fo_Model ko_Model so_Model hSL (fun h => absurd h (by decide)) (by decide) (calls_of (I := [.invokevirtual 80]) (by decide +kernel) (List.forall_mem_cons.mpr ⟨ok_v rfl (fun l => callV_of (ct_Model_isNode hSL) (by decide +kernel) (by decide +kernel) (by decide) rfl (by decide) (by decide)), fun _ h => absurd h List.not_mem_nil⟩))
theorem ct_Goals_add (hSL : rng SL) : Ct SL xs ⟨"PatternMill$Goals", "add", "(IIII)I"⟩ prog_3_method_2_code 5 (some .int) (rmL 0 0 0) (T_Goals_add SL xs) := ct_of (by decide) co_Goals_add fo_Goals ko_Goals so_Goals hSL (fun h => absurd h (by decide)) (by decide) (calls_of (I := []) (by decide +kernel) ( fun _ h => absurd h List.not_mem_nil))
theorem ct_Kept_add (hSL : rng SL) : Ct SL xs ⟨"PatternMill$Kept", "add", "(III)V"⟩ prog_4_method_2_code 4 (none) (rmL 0 0 0) (T_Kept_add SL xs) := ct_of (by decide) co_Kept_add fo_Kept ko_Kept so_Kept hSL (fun h => absurd h (by decide)) (by decide) (calls_of (I := []) (by decide +kernel) ( fun _ h => absurd h List.not_mem_nil))
theorem ct_Text_isAt (hSL : rng SL) : Ct SL xs ⟨"PatternMill$Text", "isAt", "(LPatternMill$Text;I)Z"⟩ prog_8_method_8_code 4 (some .boolean) (rmL 0 0 0) (T_Text_isAt SL xs) := ct_of (by decide) co_Text_isAt fo_Text ko_Text so_Text hSL (fun h => absurd h (by decide)) (by decide) (calls_of (I := []) (by decide +kernel) ( fun _ h => absurd h List.not_mem_nil))
theorem ct_Matcher_choose (hSL : rng SL) : Ct SL xs ⟨"PatternMill$Matcher", "choose", "(IIII)V"⟩ prog_6_method_2_code 6 (none) (rmL 0 0 0) (T_Matcher_choose SL xs) := ct_of (by decide) co_Matcher_choose fo_Matcher ko_Matcher so_Matcher hSL (fun h => absurd h (by decide)) (by decide) (calls_of (I := []) (by decide +kernel) ( fun _ h => absurd h List.not_mem_nil))
theorem ct_Matcher_further (hSL : rng SL) : Ct SL xs ⟨"PatternMill$Matcher", "further", "()V"⟩ prog_6_method_4_code 1 (none) (rmL 1 0 0) (T_Matcher_further SL xs) := ct_of (by decide) co_Matcher_further fo_Matcher ko_Matcher so_Matcher hSL (fun h => absurd h (by decide)) (by decide) (calls_of (I := [.invokevirtual 93]) (by decide +kernel) (List.forall_mem_cons.mpr ⟨ok_v rfl (fun l => callV_of (ct_Matcher_choose hSL) (by decide +kernel) (by decide +kernel) (by decide) rfl (by decide) (by decide)), fun _ h => absurd h List.not_mem_nil⟩))
theorem ct_Matcher_balances (hSL : rng SL) : Ct SL xs ⟨"PatternMill$Matcher", "balances", "(I)Z"⟩ prog_6_method_5_code 4 (some .boolean) (rmL 1 0 0) (T_Matcher_balances SL xs) := ct_of (by decide) co_Matcher_balances fo_Matcher ko_Matcher so_Matcher hSL (fun h => absurd h (by decide)) (by decide) (calls_of (I := [.invokevirtual 93]) (by decide +kernel) (List.forall_mem_cons.mpr ⟨ok_v rfl (fun l => callV_of (ct_Matcher_choose hSL) (by decide +kernel) (by decide +kernel) (by decide) rfl (by decide) (by decide)), fun _ h => absurd h List.not_mem_nil⟩))
theorem ct_Matcher_back (hSL : rng SL) : ∀ n, Ct SL xs ⟨"PatternMill$Matcher", "back", "()Z"⟩ prog_6_method_3_code 3 (some .boolean) (rmL (2 + n) 0 0) (T_Matcher_back SL xs n)
  | 0 => fun l G av s F h => h.elim
  | n + 1 => by
    have ih := ct_Matcher_back hSL n
    exact ct_of (by decide) co_Matcher_back fo_Matcher ko_Matcher so_Matcher hSL (fun h => absurd h (by decide)) (by decide) (calls_of (I := [.invokevirtual 81, .invokevirtual 84, .invokevirtual 88]) (by decide +kernel) (List.forall_mem_cons.mpr ⟨ok_v rfl (fun l => callV_of (ct_Matcher_further hSL) (by decide +kernel) (by decide +kernel) (by decide) rfl (by simp only [rmL]; omega) (by simp only [rmL]; omega)), List.forall_mem_cons.mpr ⟨ok_v rfl (fun l => callV_of (ct_Matcher_balances hSL) (by decide +kernel) (by decide +kernel) (by decide) rfl (by simp only [rmL]; omega) (by simp only [rmL]; omega)), List.forall_mem_cons.mpr ⟨ok_v rfl (fun l => callV_of ih (by decide +kernel) (by decide +kernel) (by decide) rfl (by simp only [rmL]; omega) (by simp only [rmL]; omega)), fun _ h => absurd h List.not_mem_nil⟩⟩⟩))
theorem ct_Matcher_goes (hSL : rng SL) : Ct SL xs ⟨"PatternMill$Matcher", "goes", "(ZI)Z"⟩ prog_6_method_6_code 3 (some .boolean) (rmL 73 0 0) (T_Matcher_goes SL xs) := ct_of (by decide) co_Matcher_goes fo_Matcher ko_Matcher so_Matcher hSL (fun h => absurd h (by decide)) (by decide) (calls_of (I := [.invokevirtual 88]) (by decide +kernel) (List.forall_mem_cons.mpr ⟨ok_v rfl (fun l => callV_of (ct_Matcher_back hSL 70) (by decide +kernel) (by decide +kernel) (by decide) rfl (by decide) (by decide)), fun _ h => absurd h List.not_mem_nil⟩))
theorem ct_Text_has (hSL : rng SL) : Ct SL xs ⟨"PatternMill$Text", "has", "(B)Z"⟩ prog_8_method_7_code 4 (some .boolean) (rmL 0 0 0) (T_Text_has SL xs) := ct_of (by decide) co_Text_has fo_Text ko_Text so_Text hSL (fun h => absurd h (by decide)) (by decide) (calls_of (I := []) (by decide +kernel) ( fun _ h => absurd h List.not_mem_nil))
theorem ct_Matcher_isSign (hSL : rng SL) : Ct SL xs ⟨"PatternMill$Matcher", "isSign", "(LPatternMill$Text;Z)Z"⟩ prog_6_method_9_code 3 (some .boolean) (rmL 1 0 0) (T_Matcher_isSign SL xs) := ct_of (by decide) co_Matcher_isSign fo_Matcher ko_Matcher so_Matcher hSL (fun h => absurd h (by decide)) (by decide) (calls_of (I := [.invokevirtual 100]) (by decide +kernel) (List.forall_mem_cons.mpr ⟨ok_v rfl (fun l => callV_of (ct_Text_has hSL) (by decide +kernel) (by decide +kernel) (by decide) rfl (by decide) (by decide)), fun _ h => absurd h List.not_mem_nil⟩))
theorem ct_Matcher_run (hSL : rng SL) : Ct SL xs ⟨"PatternMill$Matcher", "run", "(LPatternMill$Text;)I"⟩ prog_6_method_7_code 3 (some .int) (rmL 1 0 0) (T_Matcher_run SL xs) := ct_of (by decide) co_Matcher_run fo_Matcher ko_Matcher so_Matcher hSL (fun h => absurd h (by decide)) (by decide) (calls_of (I := [.invokevirtual 100]) (by decide +kernel) (List.forall_mem_cons.mpr ⟨ok_v rfl (fun l => callV_of (ct_Text_has hSL) (by decide +kernel) (by decide +kernel) (by decide) rfl (by decide) (by decide)), fun _ h => absurd h List.not_mem_nil⟩))
theorem ct_Matcher_breaks (hSL : rng SL) : Ct SL xs ⟨"PatternMill$Matcher", "breaks", "(LPatternMill$Text;)I"⟩ prog_6_method_8_code 3 (some .int) (rmL 1 0 0) (T_Matcher_breaks SL xs) := ct_of (by decide) co_Matcher_breaks fo_Matcher ko_Matcher so_Matcher hSL (fun h => absurd h (by decide)) (by decide) (calls_of (I := [.invokevirtual 100]) (by decide +kernel) (List.forall_mem_cons.mpr ⟨ok_v rfl (fun l => callV_of (ct_Text_has hSL) (by decide +kernel) (by decide +kernel) (by decide) rfl (by decide) (by decide)), fun _ h => absurd h List.not_mem_nil⟩))
theorem ct_Text_digits (hSL : rng SL) : Ct SL xs ⟨"PatternMill$Text", "digits", "(I)V"⟩ prog_8_method_9_code 2 (none) (rmL 1 0 0) (T_Text_digits SL xs) := ct_of (by decide) co_Text_digits fo_Text ko_Text so_Text hSL (fun h => absurd h (by decide)) (by decide) (calls_of (I := [.invokevirtual 33]) (by decide +kernel) (List.forall_mem_cons.mpr ⟨ok_v rfl (fun l => callV_of (ct_Text_add hSL) (by decide +kernel) (by decide +kernel) (by decide) rfl (by decide) (by decide)), fun _ h => absurd h List.not_mem_nil⟩))
theorem ct_Matcher_composes (hSL : rng SL) : Ct SL xs ⟨"PatternMill$Matcher", "composes", "(III)Z"⟩ prog_6_method_11_code 5 (some .boolean) (rmL 73 0 0) (T_Matcher_composes SL xs) := ct_of (by decide) co_Matcher_composes fo_Matcher ko_Matcher so_Matcher hSL (fun h => absurd h (by decide)) (by decide) (calls_of (I := [.invokevirtual 118, .invokevirtual 93, .invokevirtual 84, .invokevirtual 88, .invokevirtual 150, .invokevirtual 158, .invokevirtual 162]) (by decide +kernel) (List.forall_mem_cons.mpr ⟨ok_v rfl (fun l => callU_of (x := ⟨"PatternMill$Kind", "ordinal", "()I"⟩) (owner := "java/lang/Enum") (ct_Enum_ordinal hSL) (by decide +kernel) rfl (by decide +kernel) (by decide) rfl (by decide) (by decide)), List.forall_mem_cons.mpr ⟨ok_v rfl (fun l => callV_of (ct_Matcher_choose hSL) (by decide +kernel) (by decide +kernel) (by decide) rfl (by decide) (by decide)), List.forall_mem_cons.mpr ⟨ok_v rfl (fun l => callV_of (ct_Matcher_balances hSL) (by decide +kernel) (by decide +kernel) (by decide) rfl (by decide) (by decide)), List.forall_mem_cons.mpr ⟨ok_v rfl (fun l => callV_of (ct_Matcher_back hSL 70) (by decide +kernel) (by decide +kernel) (by decide) rfl (by decide) (by decide)), List.forall_mem_cons.mpr ⟨ok_v rfl (fun l => callV_of (ct_Goals_add hSL) (by decide +kernel) (by decide +kernel) (by decide) rfl (by decide) (by decide)), List.forall_mem_cons.mpr ⟨ok_v rfl (fun l => callV_of (ct_Text_digits hSL) (by decide +kernel) (by decide +kernel) (by decide) rfl (by decide) (by decide)), List.forall_mem_cons.mpr ⟨ok_v rfl (fun l => callV_of (ct_Nodes_is hSL) (by decide +kernel) (by decide +kernel) (by decide) rfl (by decide) (by decide)), fun _ h => absurd h List.not_mem_nil⟩⟩⟩⟩⟩⟩⟩))
theorem ct_Matcher_begins (hSL : rng SL) : Ct SL xs ⟨"PatternMill$Matcher", "begins", "(I)Z"⟩ prog_6_method_10_code 5 (some .boolean) (rmL 74 0 0) (T_Matcher_begins SL xs) := ct_of (by decide) co_Matcher_begins fo_Matcher ko_Matcher so_Matcher hSL (fun h => absurd h (by decide)) (by decide) (calls_of (I := [.invokevirtual 118, .invokevirtual 124, .invokevirtual 128, .invokevirtual 132, .invokevirtual 136, .invokevirtual 140, .invokevirtual 146]) (by decide +kernel) (List.forall_mem_cons.mpr ⟨ok_v rfl (fun l => callU_of (x := ⟨"PatternMill$Kind", "ordinal", "()I"⟩) (owner := "java/lang/Enum") (ct_Enum_ordinal hSL) (by decide +kernel) rfl (by decide +kernel) (by decide) rfl (by decide) (by decide)), List.forall_mem_cons.mpr ⟨ok_v rfl (fun l => callV_of (ct_Text_isAt hSL) (by decide +kernel) (by decide +kernel) (by decide) rfl (by decide) (by decide)), List.forall_mem_cons.mpr ⟨ok_v rfl (fun l => callV_of (ct_Matcher_goes hSL) (by decide +kernel) (by decide +kernel) (by decide) rfl (by decide) (by decide)), List.forall_mem_cons.mpr ⟨ok_v rfl (fun l => callV_of (ct_Matcher_isSign hSL) (by decide +kernel) (by decide +kernel) (by decide) rfl (by decide) (by decide)), List.forall_mem_cons.mpr ⟨ok_v rfl (fun l => callV_of (ct_Matcher_run hSL) (by decide +kernel) (by decide +kernel) (by decide) rfl (by decide) (by decide)), List.forall_mem_cons.mpr ⟨ok_v rfl (fun l => callV_of (ct_Matcher_breaks hSL) (by decide +kernel) (by decide +kernel) (by decide) rfl (by decide) (by decide)), List.forall_mem_cons.mpr ⟨ok_v rfl (fun l => callV_of (ct_Matcher_composes hSL) (by decide +kernel) (by decide +kernel) (by decide) rfl (by decide) (by decide)), fun _ h => absurd h List.not_mem_nil⟩⟩⟩⟩⟩⟩⟩))
theorem ct_Matcher_works (hSL : rng SL) : Ct SL xs ⟨"PatternMill$Matcher", "works", "()Z"⟩ prog_6_method_12_code 3 (some .boolean) (rmL 75 0 0) (T_Matcher_works SL xs) := ct_of (by decide) co_Matcher_works fo_Matcher ko_Matcher so_Matcher hSL (fun h => absurd h (by decide)) (by decide) (calls_of (I := [.invokevirtual 177, .invokevirtual 180, .invokevirtual 184]) (by decide +kernel) (List.forall_mem_cons.mpr ⟨ok_v rfl (fun l => callV_of (ct_Kept_add hSL) (by decide +kernel) (by decide +kernel) (by decide) rfl (by decide) (by decide)), List.forall_mem_cons.mpr ⟨ok_v rfl (fun l => callV_of (ct_Text_part hSL) (by decide +kernel) (by decide +kernel) (by decide) rfl (by decide) (by decide)), List.forall_mem_cons.mpr ⟨ok_v rfl (fun l => callV_of (ct_Matcher_begins hSL) (by decide +kernel) (by decide +kernel) (by decide) rfl (by decide) (by decide)), fun _ h => absurd h List.not_mem_nil⟩⟩⟩))
theorem ct_Matcher_from (hSL : rng SL) : Ct SL xs ⟨"PatternMill$Matcher", "from", "(II)I"⟩ prog_6_method_13_code 3 (some .int) (rmL 76 0 0) (T_Matcher_from SL xs) := ct_of (by decide) co_Matcher_from fo_Matcher ko_Matcher so_Matcher hSL (fun h => absurd h (by decide)) (by decide) (calls_of (I := [.invokevirtual 150, .invokevirtual 187]) (by decide +kernel) (List.forall_mem_cons.mpr ⟨ok_v rfl (fun l => callV_of (ct_Goals_add hSL) (by decide +kernel) (by decide +kernel) (by decide) rfl (by decide) (by decide)), List.forall_mem_cons.mpr ⟨ok_v rfl (fun l => callV_of (ct_Matcher_works hSL) (by decide +kernel) (by decide +kernel) (by decide) rfl (by decide) (by decide)), fun _ h => absurd h List.not_mem_nil⟩⟩))
theorem ct_Matcher_match (hSL : rng SL) : Ct SL xs ⟨"PatternMill$Matcher", "match", "(LPatternMill$Text;IZ)I"⟩ prog_6_method_14_code 6 (some .int) (rmL 77 0 0) (T_Matcher_match SL xs) := ct_of (by decide) co_Matcher_match fo_Matcher ko_Matcher so_Matcher hSL (fun h => absurd h (by decide)) (by decide) (calls_of (I := [.invokevirtual 190, .invokevirtual 200, .invokevirtual 180]) (by decide +kernel) (List.forall_mem_cons.mpr ⟨ok_v rfl (fun l => callV_of (ct_Text_become hSL) (by decide +kernel) (by decide +kernel) (by decide) rfl (by decide) (by decide)), List.forall_mem_cons.mpr ⟨ok_v rfl (fun l => callV_of (ct_Matcher_from hSL) (by decide +kernel) (by decide +kernel) (by decide) rfl (by decide) (by decide)), List.forall_mem_cons.mpr ⟨ok_v rfl (fun l => callV_of (ct_Text_part hSL) (by decide +kernel) (by decide +kernel) (by decide) rfl (by decide) (by decide)), fun _ h => absurd h List.not_mem_nil⟩⟩⟩))
theorem ct_Mill_match (hSL : rng SL) : Ct SL xs ⟨"PatternMill", "match", "(IIZ)I"⟩ prog_1_method_10_code 4 (some .int) (rmL 78 0 0) (T_Mill_match SL xs) := ct_of (by decide) co_Mill_match fo_Mill ko_Mill so_Mill hSL (fun h => absurd h (by decide)) (by decide) (calls_of (I := [.invokestatic 51, .invokevirtual 99, .invokevirtual 109]) (by decide +kernel) (List.forall_mem_cons.mpr ⟨ok_s rfl (fun l => callS_of (ct_Mill_isVariable hSL) (by decide +kernel) (by decide +kernel) (by decide) (by decide)), List.forall_mem_cons.mpr ⟨ok_v rfl (fun l => callV_of (ct_Nodes_is hSL) (by decide +kernel) (by decide +kernel) (by decide) rfl (by decide) (by decide)), List.forall_mem_cons.mpr ⟨ok_v rfl (fun l => callV_of (ct_Matcher_match hSL) (by decide +kernel) (by decide +kernel) (by decide) rfl (by decide) (by decide)), fun _ h => absurd h List.not_mem_nil⟩⟩⟩))
theorem ct_Model_begin (hSL : rng SL) : Ct SL xs ⟨"PatternMillModel", "begin", "(III)V"⟩ prog_10_method_20_code 4 (none) (rmL 0 0 0) (T_Model_begin SL xs) := ct_of (by decide) co_Model_begin fo_Model ko_Model so_Model hSL (fun h => absurd h (by decide)) (by decide) (calls_of (I := []) (by decide +kernel) ( fun _ h => absurd h List.not_mem_nil))
theorem ct_Model_succeeds (hSL : rng SL) : Ct SL xs ⟨"PatternMillModel", "succeeds", "(I)V"⟩ prog_10_method_21_code 2 (none) (rmL 0 0 0) (T_Model_succeeds SL xs) := ct_of (by decide) co_Model_succeeds fo_Model ko_Model so_Model hSL (fun h => absurd h (by decide)) (by decide) (calls_of (I := []) (by decide +kernel) ( fun _ h => absurd h List.not_mem_nil))
theorem ct_Model_isIn (hSL : rng SL) : Ct SL xs ⟨"PatternMillModel", "isIn", "(II)Z"⟩ prog_10_method_13_code 4 (some .boolean) (rmL 0 0 0) (T_Model_isIn SL xs) := ct_of (by decide) co_Model_isIn fo_Model ko_Model so_Model hSL (fun h => absurd h (by decide)) (by decide) (calls_of (I := []) (by decide +kernel) ( fun _ h => absurd h List.not_mem_nil))
theorem ct_Model_behind (hSL : rng SL) : Ct SL xs ⟨"PatternMillModel", "behind", "([BIII)I"⟩ prog_10_method_14_code 6 (some .int) (rmL 0 0 0) (T_Model_behind SL xs) := ct_of (by decide) co_Model_behind fo_Model ko_Model so_Model hSL (fun h => absurd h (by decide)) (by decide) (calls_of (I := []) (by decide +kernel) ( fun _ h => absurd h List.not_mem_nil))
theorem ct_Model_span (hSL : rng SL) : Ct SL xs ⟨"PatternMillModel", "span", "(II)I"⟩ prog_10_method_15_code 4 (some .int) (rmL 1 0 0) (T_Model_span SL xs) := ct_of (by decide) co_Model_span fo_Model ko_Model so_Model hSL (fun h => absurd h (by decide)) (by decide) (calls_of (I := [.invokevirtual 90]) (by decide +kernel) (List.forall_mem_cons.mpr ⟨ok_v rfl (fun l => callV_of (ct_Model_isIn hSL) (by decide +kernel) (by decide +kernel) (by decide) rfl (by decide) (by decide)), fun _ h => absurd h List.not_mem_nil⟩))
theorem ct_Model_stop (hSL : rng SL) : Ct SL xs ⟨"PatternMillModel", "stop", "(II)I"⟩ prog_10_method_16_code 4 (some .int) (rmL 1 0 0) (T_Model_stop SL xs) := ct_of (by decide) co_Model_stop fo_Model ko_Model so_Model hSL (fun h => absurd h (by decide)) (by decide) (calls_of (I := [.invokevirtual 90]) (by decide +kernel) (List.forall_mem_cons.mpr ⟨ok_v rfl (fun l => callV_of (ct_Model_isIn hSL) (by decide +kernel) (by decide +kernel) (by decide) rfl (by decide) (by decide)), fun _ h => absurd h List.not_mem_nil⟩))
theorem ct_Model_balanced (hSL : rng SL) : Ct SL xs ⟨"PatternMillModel", "balanced", "(II)I"⟩ prog_10_method_17_code 5 (some .int) (rmL 0 0 0) (T_Model_balanced SL xs) := ct_of (by decide) co_Model_balanced fo_Model ko_Model so_Model hSL (fun h => absurd h (by decide)) (by decide) (calls_of (I := []) (by decide +kernel) ( fun _ h => absurd h List.not_mem_nil))
theorem ct_Model_told (hSL : rng SL) : Ct SL xs ⟨"PatternMillModel", "told", "(II)I"⟩ prog_10_method_19_code 3 (some .int) (rmL 0 0 0) (T_Model_told SL xs) := ct_of (by decide) co_Model_told fo_Model ko_Model so_Model hSL (fun h => absurd h (by decide)) (by decide) (calls_of (I := []) (by decide +kernel) ( fun _ h => absurd h List.not_mem_nil))
theorem ct_Model_plain (hSL : rng SL) : Ct SL xs ⟨"PatternMillModel", "plain", "(II)I"⟩ prog_10_method_18_code 5 (some .int) (rmL 2 0 0) (T_Model_plain SL xs) := ct_of (by decide) co_Model_plain fo_Model ko_Model so_Model hSL (fun h => absurd h (by decide)) (by decide) (calls_of (I := [.invokevirtual 90, .invokevirtual 94, .invokevirtual 98, .invokevirtual 102, .invokevirtual 105, .invokevirtual 108]) (by decide +kernel) (List.forall_mem_cons.mpr ⟨ok_v rfl (fun l => callV_of (ct_Model_isIn hSL) (by decide +kernel) (by decide +kernel) (by decide) rfl (by decide) (by decide)), List.forall_mem_cons.mpr ⟨ok_v rfl (fun l => callV_of (ct_Model_behind hSL) (by decide +kernel) (by decide +kernel) (by decide) rfl (by decide) (by decide)), List.forall_mem_cons.mpr ⟨ok_v rfl (fun l => callV_of (ct_Model_span hSL) (by decide +kernel) (by decide +kernel) (by decide) rfl (by decide) (by decide)), List.forall_mem_cons.mpr ⟨ok_v rfl (fun l => callV_of (ct_Model_stop hSL) (by decide +kernel) (by decide +kernel) (by decide) rfl (by decide) (by decide)), List.forall_mem_cons.mpr ⟨ok_v rfl (fun l => callV_of (ct_Model_balanced hSL) (by decide +kernel) (by decide +kernel) (by decide) rfl (by decide) (by decide)), List.forall_mem_cons.mpr ⟨ok_v rfl (fun l => callV_of (ct_Model_told hSL) (by decide +kernel) (by decide +kernel) (by decide) rfl (by decide) (by decide)), fun _ h => absurd h List.not_mem_nil⟩⟩⟩⟩⟩⟩))
theorem ct_Model_begins (hSL : rng SL) : Ct SL xs ⟨"PatternMillModel", "begins", "()V"⟩ prog_10_method_22_code 4 (none) (rmL 3 0 0) (T_Model_begins SL xs) := ct_of (by decide) co_Model_begins fo_Model ko_Model so_Model hSL (fun h => absurd h (by decide)) (by decide) (calls_of (I := [.invokevirtual 127, .invokevirtual 131, .invokevirtual 80, .invokevirtual 135]) (by decide +kernel) (List.forall_mem_cons.mpr ⟨ok_v rfl (fun l => callV_of (ct_Model_succeeds hSL) (by decide +kernel) (by decide +kernel) (by decide) rfl (by decide) (by decide)), List.forall_mem_cons.mpr ⟨ok_v rfl (fun l => callV_of (ct_Model_begin hSL) (by decide +kernel) (by decide +kernel) (by decide) rfl (by decide) (by decide)), List.forall_mem_cons.mpr ⟨ok_v rfl (fun l => callV_of (ct_Model_isNode hSL) (by decide +kernel) (by decide +kernel) (by decide) rfl (by decide) (by decide)), List.forall_mem_cons.mpr ⟨ok_v rfl (fun l => callV_of (ct_Model_plain hSL) (by decide +kernel) (by decide +kernel) (by decide) rfl (by decide) (by decide)), fun _ h => absurd h List.not_mem_nil⟩⟩⟩⟩))
theorem ct_Model_goesBack (hSL : rng SL) : Ct SL xs ⟨"PatternMillModel", "goesBack", "()V"⟩ prog_10_method_23_code 3 (none) (rmL 1 0 0) (T_Model_goesBack SL xs) := ct_of (by decide) co_Model_goesBack fo_Model ko_Model so_Model hSL (fun h => absurd h (by decide)) (by decide) (calls_of (I := [.invokevirtual 127, .invokevirtual 105, .invokevirtual 131]) (by decide +kernel) (List.forall_mem_cons.mpr ⟨ok_v rfl (fun l => callV_of (ct_Model_succeeds hSL) (by decide +kernel) (by decide +kernel) (by decide) rfl (by decide) (by decide)), List.forall_mem_cons.mpr ⟨ok_v rfl (fun l => callV_of (ct_Model_balanced hSL) (by decide +kernel) (by decide +kernel) (by decide) rfl (by decide) (by decide)), List.forall_mem_cons.mpr ⟨ok_v rfl (fun l => callV_of (ct_Model_begin hSL) (by decide +kernel) (by decide +kernel) (by decide) rfl (by decide) (by decide)), fun _ h => absurd h List.not_mem_nil⟩⟩⟩))
theorem ct_Model_becomes (hSL : rng SL) : Ct SL xs ⟨"PatternMillModel", "becomes", "(II)V"⟩ prog_10_method_24_code 4 (none) (rmL 0 0 0) (T_Model_becomes SL xs) := ct_of (by decide) co_Model_becomes fo_Model ko_Model so_Model hSL (fun h => absurd h (by decide)) (by decide) (calls_of (I := []) (by decide +kernel) ( fun _ h => absurd h List.not_mem_nil))
theorem ct_Model_hasSucceeded (hSL : rng SL) : Ct SL xs ⟨"PatternMillModel", "hasSucceeded", "(I)V"⟩ prog_10_method_25_code 5 (none) (rmL 1 0 0) (T_Model_hasSucceeded SL xs) := ct_of (by decide) co_Model_hasSucceeded fo_Model ko_Model so_Model hSL (fun h => absurd h (by decide)) (by decide) (calls_of (I := [.invokevirtual 131, .invokevirtual 127, .invokevirtual 141]) (by decide +kernel) (List.forall_mem_cons.mpr ⟨ok_v rfl (fun l => callV_of (ct_Model_begin hSL) (by decide +kernel) (by decide +kernel) (by decide) rfl (by decide) (by decide)), List.forall_mem_cons.mpr ⟨ok_v rfl (fun l => callV_of (ct_Model_succeeds hSL) (by decide +kernel) (by decide +kernel) (by decide) rfl (by decide) (by decide)), List.forall_mem_cons.mpr ⟨ok_v rfl (fun l => callV_of (ct_Model_becomes hSL) (by decide +kernel) (by decide +kernel) (by decide) rfl (by decide) (by decide)), fun _ h => absurd h List.not_mem_nil⟩⟩⟩))
theorem ct_Model_hasFailed (hSL : rng SL) : Ct SL xs ⟨"PatternMillModel", "hasFailed", "(I)V"⟩ prog_10_method_26_code 5 (none) (rmL 1 0 0) (T_Model_hasFailed SL xs) := ct_of (by decide) co_Model_hasFailed fo_Model ko_Model so_Model hSL (fun h => absurd h (by decide)) (by decide) (calls_of (I := [.invokevirtual 131, .invokevirtual 127]) (by decide +kernel) (List.forall_mem_cons.mpr ⟨ok_v rfl (fun l => callV_of (ct_Model_begin hSL) (by decide +kernel) (by decide +kernel) (by decide) rfl (by decide) (by decide)), List.forall_mem_cons.mpr ⟨ok_v rfl (fun l => callV_of (ct_Model_succeeds hSL) (by decide +kernel) (by decide +kernel) (by decide) rfl (by decide) (by decide)), fun _ h => absurd h List.not_mem_nil⟩⟩))
theorem ct_Model_tries (hSL : rng SL) : Ct SL xs ⟨"PatternMillModel", "tries", "(II)I"⟩ prog_10_method_27_code 5 (some .int) (rmL 4 0 0) (T_Model_tries SL xs) := ct_of (by decide) co_Model_tries fo_Model ko_Model so_Model hSL (fun h => absurd h (by decide)) (by decide) (calls_of (I := [.invokevirtual 131, .invokevirtual 145, .invokevirtual 148, .invokevirtual 151, .invokevirtual 154]) (by decide +kernel) (List.forall_mem_cons.mpr ⟨ok_v rfl (fun l => callV_of (ct_Model_begin hSL) (by decide +kernel) (by decide +kernel) (by decide) rfl (by decide) (by decide)), List.forall_mem_cons.mpr ⟨ok_v rfl (fun l => callV_of (ct_Model_begins hSL) (by decide +kernel) (by decide +kernel) (by decide) rfl (by decide) (by decide)), List.forall_mem_cons.mpr ⟨ok_v rfl (fun l => callV_of (ct_Model_goesBack hSL) (by decide +kernel) (by decide +kernel) (by decide) rfl (by decide) (by decide)), List.forall_mem_cons.mpr ⟨ok_v rfl (fun l => callV_of (ct_Model_hasSucceeded hSL) (by decide +kernel) (by decide +kernel) (by decide) rfl (by decide) (by decide)), List.forall_mem_cons.mpr ⟨ok_v rfl (fun l => callV_of (ct_Model_hasFailed hSL) (by decide +kernel) (by decide +kernel) (by decide) rfl (by decide) (by decide)), fun _ h => absurd h List.not_mem_nil⟩⟩⟩⟩⟩))
theorem ct_Model_keep (hSL : rng SL) : Ct SL xs ⟨"PatternMillModel", "keep", "(I)V"⟩ prog_10_method_28_code 6 (none) (rmL 1 0 0) (T_Model_keep SL xs) := ct_of (by decide) co_Model_keep fo_Model ko_Model so_Model hSL (fun h => absurd h (by decide)) (by decide) (calls_of (I := [.invokevirtual 141]) (by decide +kernel) (List.forall_mem_cons.mpr ⟨ok_v rfl (fun l => callV_of (ct_Model_becomes hSL) (by decide +kernel) (by decide +kernel) (by decide) rfl (by decide) (by decide)), fun _ h => absurd h List.not_mem_nil⟩))
theorem ct_Model_match (hSL : rng SL) : Ct SL xs ⟨"PatternMillModel", "match", "(IIZ)I"⟩ prog_10_method_29_code 7 (some .int) (rmL 5 0 0) (T_Model_match SL xs) := ct_of (by decide) co_Model_match fo_Model ko_Model so_Model hSL (fun h => absurd h (by decide)) (by decide) (calls_of (I := [.invokestatic 73, .invokevirtual 80, .invokevirtual 166, .invokevirtual 169]) (by decide +kernel) (List.forall_mem_cons.mpr ⟨ok_s rfl (fun l => callS_of (ct_Model_isVariable hSL) (by decide +kernel) (by decide +kernel) (by decide) (by decide)), List.forall_mem_cons.mpr ⟨ok_v rfl (fun l => callV_of (ct_Model_isNode hSL) (by decide +kernel) (by decide +kernel) (by decide) rfl (by decide) (by decide)), List.forall_mem_cons.mpr ⟨ok_v rfl (fun l => callV_of (ct_Model_tries hSL) (by decide +kernel) (by decide +kernel) (by decide) rfl (by decide) (by decide)), List.forall_mem_cons.mpr ⟨ok_v rfl (fun l => callV_of (ct_Model_keep hSL) (by decide +kernel) (by decide +kernel) (by decide) rfl (by decide) (by decide)), fun _ h => absurd h List.not_mem_nil⟩⟩⟩⟩))
theorem ct_Mill_isWell (hSL : rng SL) : Ct SL xs ⟨"PatternMill", "isWell", "()Z"⟩ prog_1_method_11_code 1 (some .boolean) (rmL 0 0 0) (T_Mill_isWell SL xs) := ct_of (by decide) co_Mill_isWell fo_Mill ko_Mill so_Mill hSL (fun h => absurd h (by decide)) (by decide) (calls_of (I := []) (by decide +kernel) ( fun _ h => absurd h List.not_mem_nil))
theorem ct_Mill_latest (hSL : rng SL) : Ct SL xs ⟨"PatternMill", "latest", "(I)I"⟩ prog_1_method_12_code 2 (some .int) (rmL 1 0 0) (T_Mill_latest SL xs) := ct_of (by decide) co_Mill_latest fo_Mill ko_Mill so_Mill hSL (fun h => absurd h (by decide)) (by decide) (calls_of (I := [.invokevirtual 116]) (by decide +kernel) (List.forall_mem_cons.mpr ⟨ok_v rfl (fun l => callV_of (ct_Mill_isWell hSL) (by decide +kernel) (by decide +kernel) (by decide) rfl (by decide) (by decide)), fun _ h => absurd h List.not_mem_nil⟩))
theorem ct_Model_latest (hSL : rng SL) : Ct SL xs ⟨"PatternMillModel", "latest", "(I)I"⟩ prog_10_method_30_code 2 (some .int) (rmL 0 0 0) (T_Model_latest SL xs) := ct_of (by decide) co_Model_latest fo_Model ko_Model so_Model hSL (fun h => absurd h (by decide)) (by decide) (calls_of (I := []) (by decide +kernel) ( fun _ h => absurd h List.not_mem_nil))
theorem ct_Mill_replace (hSL : rng SL) : Ct SL xs ⟨"PatternMill", "replace", "(I)Z"⟩ prog_1_method_13_code 5 (some .boolean) (rmL 4 0 0) (T_Mill_replace SL xs) := ct_of (by decide) co_Mill_replace fo_Mill ko_Mill so_Mill hSL (fun h => absurd h (by decide)) (by decide) (calls_of (I := [.invokestatic 51, .invokevirtual 116, .invokevirtual 128, .invokevirtual 43, .invokevirtual 132]) (by decide +kernel) (List.forall_mem_cons.mpr ⟨ok_s rfl (fun l => callS_of (ct_Mill_isVariable hSL) (by decide +kernel) (by decide +kernel) (by decide) (by decide)), List.forall_mem_cons.mpr ⟨ok_v rfl (fun l => callV_of (ct_Mill_isWell hSL) (by decide +kernel) (by decide +kernel) (by decide) rfl (by decide) (by decide)), List.forall_mem_cons.mpr ⟨ok_v rfl (fun l => callV_of (ct_Text_part hSL) (by decide +kernel) (by decide +kernel) (by decide) rfl (by decide) (by decide)), List.forall_mem_cons.mpr ⟨ok_v rfl (fun l => callV_of (ct_Text_add hSL) (by decide +kernel) (by decide +kernel) (by decide) rfl (by decide) (by decide)), List.forall_mem_cons.mpr ⟨ok_v rfl (fun l => callV_of (ct_Text_become hSL) (by decide +kernel) (by decide +kernel) (by decide) rfl (by decide) (by decide)), fun _ h => absurd h List.not_mem_nil⟩⟩⟩⟩⟩))
theorem ct_Model_replace (hSL : rng SL) : Ct SL xs ⟨"PatternMillModel", "replace", "(I)Z"⟩ prog_10_method_31_code 4 (some .boolean) (rmL 1 0 0) (T_Model_replace SL xs) := ct_of (by decide) co_Model_replace fo_Model ko_Model so_Model hSL (fun h => absurd h (by decide)) (by decide) (calls_of (I := [.invokestatic 73]) (by decide +kernel) (List.forall_mem_cons.mpr ⟨ok_s rfl (fun l => callS_of (ct_Model_isVariable hSL) (by decide +kernel) (by decide +kernel) (by decide) (by decide)), fun _ h => absurd h List.not_mem_nil⟩))
theorem law_calls (hSL : rng SL) : ∀ l pc i nx tg cas k n mc ms T, c_Law_law pc = some (i, nx, tg, cas) → isInv i k → cs_Law_law SL xs k = some (n, mc, ms, T) → CallR SL xs l "PatternMillLaw" room_1 i n mc ms T := calls_of (I := [.invokespecial 9, .invokespecial 12, .invokevirtual 13, .invokevirtual 17, .invokevirtual 18, .invokevirtual 22, .invokevirtual 23, .invokevirtual 27, .invokevirtual 28, .invokevirtual 31, .invokevirtual 32, .invokevirtual 36, .invokevirtual 37, .invokevirtual 40, .invokevirtual 41, .invokevirtual 44, .invokevirtual 45, .invokevirtual 49, .invokevirtual 50, .invokevirtual 53, .invokevirtual 54, .invokevirtual 57]) (by decide +kernel) (List.forall_mem_cons.mpr ⟨ok_i rfl (fun l => callI_of (ct_Mill_init hSL) (by decide +kernel) (by decide +kernel) rfl (by decide) (by decide)), List.forall_mem_cons.mpr ⟨ok_i rfl (fun l => callI_of (ct_Model_init hSL) (by decide +kernel) (by decide +kernel) rfl (by decide) (by decide)), List.forall_mem_cons.mpr ⟨ok_v rfl (fun l => callV_of (ct_Mill_sign hSL) (by decide +kernel) (by decide +kernel) (by decide) rfl (by decide) (by decide)), List.forall_mem_cons.mpr ⟨ok_v rfl (fun l => callV_of (ct_Model_sign hSL) (by decide +kernel) (by decide +kernel) (by decide) rfl (by decide) (by decide)), List.forall_mem_cons.mpr ⟨ok_v rfl (fun l => callV_of (ct_Mill_let hSL) (by decide +kernel) (by decide +kernel) (by decide) rfl (by decide) (by decide)), List.forall_mem_cons.mpr ⟨ok_v rfl (fun l => callV_of (ct_Model_let hSL) (by decide +kernel) (by decide +kernel) (by decide) rfl (by decide) (by decide)), List.forall_mem_cons.mpr ⟨ok_v rfl (fun l => callV_of (ct_Mill_value hSL) (by decide +kernel) (by decide +kernel) (by decide) rfl (by decide) (by decide)), List.forall_mem_cons.mpr ⟨ok_v rfl (fun l => callV_of (ct_Model_value hSL) (by decide +kernel) (by decide +kernel) (by decide) rfl (by decide) (by decide)), List.forall_mem_cons.mpr ⟨ok_v rfl (fun l => callV_of (ct_Mill_length hSL) (by decide +kernel) (by decide +kernel) (by decide) rfl (by decide) (by decide)), List.forall_mem_cons.mpr ⟨ok_v rfl (fun l => callV_of (ct_Model_length hSL) (by decide +kernel) (by decide +kernel) (by decide) rfl (by decide) (by decide)), List.forall_mem_cons.mpr ⟨ok_v rfl (fun l => callV_of (ct_Mill_node hSL) (by decide +kernel) (by decide +kernel) (by decide) rfl (by decide) (by decide)), List.forall_mem_cons.mpr ⟨ok_v rfl (fun l => callV_of (ct_Model_node hSL) (by decide +kernel) (by decide +kernel) (by decide) rfl (by decide) (by decide)), List.forall_mem_cons.mpr ⟨ok_v rfl (fun l => callV_of (ct_Mill_clear hSL) (by decide +kernel) (by decide +kernel) (by decide) rfl (by decide) (by decide)), List.forall_mem_cons.mpr ⟨ok_v rfl (fun l => callV_of (ct_Model_clear hSL) (by decide +kernel) (by decide +kernel) (by decide) rfl (by decide) (by decide)), List.forall_mem_cons.mpr ⟨ok_v rfl (fun l => callV_of (ct_Mill_about hSL) (by decide +kernel) (by decide +kernel) (by decide) rfl (by decide) (by decide)), List.forall_mem_cons.mpr ⟨ok_v rfl (fun l => callV_of (ct_Model_about hSL) (by decide +kernel) (by decide +kernel) (by decide) rfl (by decide) (by decide)), List.forall_mem_cons.mpr ⟨ok_v rfl (fun l => callV_of (ct_Mill_match hSL) (by decide +kernel) (by decide +kernel) (by decide) rfl (by decide) (by decide)), List.forall_mem_cons.mpr ⟨ok_v rfl (fun l => callV_of (ct_Model_match hSL) (by decide +kernel) (by decide +kernel) (by decide) rfl (by decide) (by decide)), List.forall_mem_cons.mpr ⟨ok_v rfl (fun l => callV_of (ct_Mill_latest hSL) (by decide +kernel) (by decide +kernel) (by decide) rfl (by decide) (by decide)), List.forall_mem_cons.mpr ⟨ok_v rfl (fun l => callV_of (ct_Model_latest hSL) (by decide +kernel) (by decide +kernel) (by decide) rfl (by decide) (by decide)), List.forall_mem_cons.mpr ⟨ok_v rfl (fun l => callV_of (ct_Mill_replace hSL) (by decide +kernel) (by decide +kernel) (by decide) rfl (by decide) (by decide)), List.forall_mem_cons.mpr ⟨ok_v rfl (fun l => callV_of (ct_Model_replace hSL) (by decide +kernel) (by decide +kernel) (by decide) rfl (by decide) (by decide)), fun _ h => absurd h List.not_mem_nil⟩⟩⟩⟩⟩⟩⟩⟩⟩⟩⟩⟩⟩⟩⟩⟩⟩⟩⟩⟩⟩⟩)
end
end
section
/-! THE CLAIM OUT OF ONE WALK OF THE LAW'S BODY. Your part is whole_start (and what it stands on); all else here is the same for every law, but numbers. -/
def R_law : String := "PatternMillLaw"
def lw_P (b : Addr) (xs : List Int32) (args : Array Value) (s : State) : Prop := args = #[.ref b] ∧ s.IntsAt b xs ∧ xs.length ≤ 2048 ∧ (Jvm.Cond.and given_1 narrow_1).before args s = true
def lw_Q (_ : Array Value) (s : State) (o : Outcome) (t : State) : Prop := o = .returned (some (.int 1)) ∧ Framed s o t [] 600000 7302250
def lw_Z (below : List Frame) (a : Array Value) (s : State) : State → Prop := fun t => ∃ o, t.status = .running ∧ Ended t below o ∧ lw_Q a s o t
/-- the law's own end, with 1 on the stack, nothing written that was there before, its room as the claim has it -/
theorem lw_ret {p : Program} {l : Launch} {e : Env} {s : State} {m : MethodId} {below : List Frame} {meth : Method} {c : Code} {b : Nat} (hx : p.tables.exec = Jvm.exec) (hb : c.code = code) (hr : meth.sig.returnType = ret) (hlocks : meth.locks = false) {pc : Nat} {H : Heap} {ls : Array Slot} (hdg : decode code pc = .ok (.ireturn, 1)) : W p l e room_1 s m #[Value.ref b] below meth c H [] 600000 7302250 (lw_Z below #[Value.ref b] s) (F0 m pc ls [.int 1]) := by
  intro T hT X
  obtain ⟨fs, hret, hrun, hended, hW, hframe⟩ := X.leave (v := some (.int 1)) (hlocks := hlocks) (fun h => by rw [hr] at h; cases h)
  have hmeth' : T.vm.method? m = some meth := X.method'
  refine ⟨T.setFrames fs, ?_, .returned (some (.int 1)), hrun, hended, rfl, ⟨_, rfl⟩, hW, hframe⟩
  jvm_step X.here [X.here.top, hx, hb, hdg, hmeth', hr, ret, narrow_b1]
  (try refine ⟨rfl, ?_⟩); (try refine ⟨rfl, ?_⟩)
  first | (intro acts; rw [hret _ acts rfl rfl rfl]) | rw [hret _ _ rfl rfl rfl]
  exact Steps.refl _
/-- what holds at the law's entry: the machine, the code, the tables' words (any of lw_tbl by 'hts w (by decide +kernel)'), the script of L ints xs at the cell b, what the Statement gives of the start (any of its parts by flat_of_before) -/
def lw_At (p : Program) (s : State) (m : MethodId) (meth : Method) (c : Code) (b L : Nat) (xs : Nat → Int32) : Prop :=
  p.tables.exec = Jvm.exec ∧ c.code = code ∧ meth.sig.returnType = ret ∧ c.maxLocals = 4 ∧ s.vm.findClass R_law = some m.cls ∧ (∀ w ∈ lw_tbl, w.before #[Value.ref b] s = true) ∧ va_X b L xs s s.heap ∧ b < s.heap.size ∧ meth.locks = false ∧ (Jvm.Cond.and given_1 narrow_1).before #[Value.ref b] s = true

/-! what the Statement gives of the constants -/
def nchk (nm : Nat → Nat → Cond) : List Cond → Nat → List (Nat × Nat × Nat) → Bool
  | _, _, [] => true
  | [], _, _ :: _ => false
  | w :: r, n, q :: t => bif Nat.beq n q.1 then decide (w = nm q.2.1 q.2.2) && nchk nm r (n + 1) t else nchk nm r (n + 1) (q :: t)
theorem nchk_mem (nm : Nat → Nat → Cond) : ∀ (L : List Cond) (n : Nat) (P : List (Nat × Nat × Nat)), nchk nm L n P = true → ∀ q ∈ P, nm q.2.1 q.2.2 ∈ L
  | _, _, [], _, q, hq => absurd hq List.not_mem_nil
  | [], _, _ :: _, h, q, hq => by simp [nchk] at h
  | w :: r, n, x :: t, h, q, hq => by
    unfold nchk at h
    cases hb : Nat.beq n x.1
    · rw [hb] at h
      exact List.mem_cons_of_mem _ (nchk_mem nm r (n + 1) (x :: t) h q hq)
    · rw [hb] at h
      simp only [cond_true, Bool.and_eq_true, decide_eq_true_eq] at h
      rcases List.mem_cons.mp hq with rfl | hq
      · rw [← h.1]
        exact List.mem_cons_self
      · exact List.mem_cons_of_mem _ (nchk_mem nm r (n + 1) t h.2 q hq)
def kSt (i : Nat) : Term := .static "PatternMill$Kind" (kNames.getD i "") "LPatternMill$Kind;"
def kPairs : List (Nat × Nat × Nat) := [(43, 19, 0), (49, 19, 1), (50, 0, 1), (56, 19, 2), (57, 0, 2), (58, 1, 2), (64, 19, 3), (65, 0, 3), (66, 1, 3), (67, 2, 3), (73, 19, 4), (74, 0, 4), (75, 1, 4), (76, 2, 4), (77, 3, 4), (83, 19, 5), (84, 0, 5), (85, 1, 5), (86, 2, 5), (87, 3, 5), (88, 4, 5), (94, 19, 6), (95, 0, 6), (96, 1, 6), (97, 2, 6), (98, 3, 6), (99, 4, 6), (100, 5, 6), (106, 19, 7), (107, 0, 7), (108, 1, 7), (109, 2, 7), (110, 3, 7), (111, 4, 7), (112, 5, 7), (113, 6, 7), (119, 19, 8), (120, 0, 8), (121, 1, 8), (122, 2, 8), (123, 3, 8), (124, 4, 8), (125, 5, 8), (126, 6, 8), (127, 7, 8), (133, 19, 9), (134, 0, 9), (135, 1, 9), (136, 2, 9), (137, 3, 9), (138, 4, 9), (139, 5, 9), (140, 6, 9), (141, 7, 9), (142, 8, 9), (148, 19, 10), (149, 0, 10), (150, 1, 10), (151, 2, 10), (152, 3, 10), (153, 4, 10), (154, 5, 10), (155, 6, 10), (156, 7, 10), (157, 8, 10), (158, 9, 10), (164, 19, 11), (165, 0, 11), (166, 1, 11), (167, 2, 11), (168, 3, 11), (169, 4, 11), (170, 5, 11), (171, 6, 11), (172, 7, 11), (173, 8, 11), (174, 9, 11), (175, 10, 11), (181, 19, 12), (182, 0, 12), (183, 1, 12), (184, 2, 12), (185, 3, 12), (186, 4, 12), (187, 5, 12), (188, 6, 12), (189, 7, 12), (190, 8, 12), (191, 9, 12), (192, 10, 12), (193, 11, 12), (199, 19, 13), (200, 0, 13), (201, 1, 13), (202, 2, 13), (203, 3, 13), (204, 4, 13), (205, 5, 13), (206, 6, 13), (207, 7, 13), (208, 8, 13), (209, 9, 13), (210, 10, 13), (211, 11, 13), (212, 12, 13), (218, 19, 14), (219, 0, 14), (220, 1, 14), (221, 2, 14), (222, 3, 14), (223, 4, 14), (224, 5, 14), (225, 6, 14), (226, 7, 14), (227, 8, 14), (228, 9, 14), (229, 10, 14), (230, 11, 14), (231, 12, 14), (232, 13, 14), (238, 19, 15), (239, 0, 15), (240, 1, 15), (241, 2, 15), (242, 3, 15), (243, 4, 15), (244, 5, 15), (245, 6, 15), (246, 7, 15), (247, 8, 15), (248, 9, 15), (249, 10, 15), (250, 11, 15), (251, 12, 15), (252, 13, 15), (253, 14, 15), (259, 19, 16), (260, 0, 16), (261, 1, 16), (262, 2, 16), (263, 3, 16), (264, 4, 16), (265, 5, 16), (266, 6, 16), (267, 7, 16), (268, 8, 16), (269, 9, 16), (270, 10, 16), (271, 11, 16), (272, 12, 16), (273, 13, 16), (274, 14, 16), (275, 15, 16), (281, 19, 17), (282, 0, 17), (283, 1, 17), (284, 2, 17), (285, 3, 17), (286, 4, 17), (287, 5, 17), (288, 6, 17), (289, 7, 17), (290, 8, 17), (291, 9, 17), (292, 10, 17), (293, 11, 17), (294, 12, 17), (295, 13, 17), (296, 14, 17), (297, 15, 17), (298, 16, 17), (304, 19, 18), (305, 0, 18), (306, 1, 18), (307, 2, 18), (308, 3, 18), (309, 4, 18), (310, 5, 18), (311, 6, 18), (312, 7, 18), (313, 8, 18), (314, 9, 18), (315, 10, 18), (316, 11, 18), (317, 12, 18), (318, 13, 18), (319, 14, 18), (320, 15, 18), (321, 16, 18), (322, 17, 18), (328, 19, 20), (329, 0, 20), (330, 1, 20), (331, 2, 20), (332, 3, 20), (333, 4, 20), (334, 5, 20), (335, 6, 20), (336, 7, 20), (337, 8, 20), (338, 9, 20), (339, 10, 20), (340, 11, 20), (341, 12, 20), (342, 13, 20), (343, 14, 20), (344, 15, 20), (345, 16, 20), (346, 17, 20), (347, 18, 20), (353, 19, 21), (354, 0, 21), (355, 1, 21), (356, 2, 21), (357, 3, 21), (358, 4, 21), (359, 5, 21), (360, 6, 21), (361, 7, 21), (362, 8, 21), (363, 9, 21), (364, 10, 21), (365, 11, 21), (366, 12, 21), (367, 13, 21), (368, 14, 21), (369, 15, 21), (370, 16, 21), (371, 17, 21), (372, 18, 21), (373, 20, 21), (379, 19, 22), (380, 0, 22), (381, 1, 22), (382, 2, 22), (383, 3, 22), (384, 4, 22), (385, 5, 22), (386, 6, 22), (387, 7, 22), (388, 8, 22), (389, 9, 22), (390, 10, 22), (391, 11, 22), (392, 12, 22), (393, 13, 22), (394, 14, 22), (395, 15, 22), (396, 16, 22), (397, 17, 22), (398, 18, 22), (399, 20, 22), (400, 21, 22), (406, 19, 23), (407, 0, 23), (408, 1, 23), (409, 2, 23), (410, 3, 23), (411, 4, 23), (412, 5, 23), (413, 6, 23), (414, 7, 23), (415, 8, 23), (416, 9, 23), (417, 10, 23), (418, 11, 23), (419, 12, 23), (420, 13, 23), (421, 14, 23), (422, 15, 23), (423, 16, 23), (424, 17, 23), (425, 18, 23), (426, 20, 23), (427, 21, 23), (428, 22, 23)]
theorem kPairs_ok : nchk (fun i j => Cond.not (.eq (kSt i) (kSt j))) (flatC (Jvm.Cond.and given_1 narrow_1)) 0 kPairs = true := by decide +kernel
theorem kPairs_all : (List.range 24).all (fun i => (List.range 24).all (fun j => Nat.beq i j || kPairs.any (fun q => Nat.beq q.2.1 i && Nat.beq q.2.2 j) || kPairs.any (fun q => Nat.beq q.2.1 j && Nat.beq q.2.2 i))) = true := by decide +kernel
theorem kw1 : (List.range 24).all (fun i => decide (Cond.laysStatic "PatternMill$Kind" (kNames.getD i "") "LPatternMill$Kind;" ∈ lw_tbl)) = true := by decide +kernel
theorem kw2 : (List.range 24).all (fun i => decide (Cond.exactly (kSt i) "PatternMill$Kind" ∈ flatC (Jvm.Cond.and given_1 narrow_1))) = true := by decide +kernel
theorem kw3 : kTab.all (fun q => (List.range 24).all (fun i => decide (Cond.eq (.field (kSt i) q.1 q.2.1 q.2.2.1) (.int (q.2.2.2.getD i 0)) ∈ flatC (Jvm.Cond.and given_1 narrow_1)))) = true := by decide +kernel
def kAr : Term := .static "PatternMill" "KINDS" "[LPatternMill$Kind;"
theorem kw5 : (List.range 24).all (fun i => decide (Cond.eq (.elem kAr (.int (Int32.ofNat i))) (kSt i) ∈ flatC (Jvm.Cond.and given_1 narrow_1))) = true := by decide +kernel
theorem kw6 : decide (Cond.arrayOf kAr (.object "PatternMill$Kind") ∈ flatC (Jvm.Cond.and given_1 narrow_1)) = true ∧ decide (Cond.eq (.length kAr) (.int 24) ∈ flatC (Jvm.Cond.and given_1 narrow_1)) = true := by decide +kernel
theorem asg_self (vm : Vm) (c : ClassId) : vm.assignable c c = true := by
  show vm.assignableAux (255 + 1) c c = true
  rw [Vm.assignableAux]
  simp only [beq_self_eq_true, Bool.true_or]
/-- the walk of the law's body out of its transformer -/
theorem start_W {p : Program} {e : Env} {s : State} {m : MethodId} {below : List Frame} {meth : Method} {c : Code} (l : Launch) {b L : Nat} {xs : Nat → Int32} (ρ : Rh) (hL : L ≤ 2048) (C0 : lw_At p s m meth c b L xs)
    (hX0 : Xz L (fun j => (xs j).toInt) (m_Law_law L (fun j => (xs j).toInt)) (fun v _ => v = some (.inl 1)) (0, entL [.inr (some (47, 0))] 4, [], (0, (fun _ _ _ => 0), ρ), 0, 0)) : W p l e room_1 s m #[Value.ref b] below meth c s.heap [] 0 0 (lw_Z below #[Value.ref b] s) (entryFrame m ([Value.ref b] : List Value).toArray 4) := by
  obtain ⟨hx, hb, hr, hml, hown, hts, hX, hbl, hlocks, hgv⟩ := C0
  have hfl := flat_of_before _ hgv
  have hgw : ∀ w ∈ gw, w.before #[Value.ref b] s = true := fun w hw => hts w (List.mem_filter.mp hw).1
  -- classes
  have h8 : ∀ ci : Nat, ∃ (q : ClassId × (Nat → Nat)), ci < 8 → u_Kn s (clr ci).1 (clr ci).2.1 (clr ci).2.2 q.1 q.2 := by
    intro ci
    by_cases hc : ci < 8
    · obtain ⟨cC, iS, h⟩ := u_known hgw (cl_in hc) (hgw _ (by have := (cl_in2 ci hc).1; rw [← cl_nm ci hc] at this; exact this))
      exact ⟨(cC, iS), fun _ => h⟩
    · exact ⟨(0, fun _ => 0), fun h => absurd h hc⟩
  obtain ⟨dq, hdq⟩ := Classical.axiomOfChoice h8
  -- classes of arrays
  have harrs : ([Cond.arrayClass .int, Cond.arrayClass .byte, Cond.arrayClass .boolean] : List Cond).all (fun w => decide (w ∈ lw_tbl) && goodWord w) = true := by decide +kernel
  have hovK : (Cond.arrayOver (.object "PatternMill$Kind")).before #[Value.ref b] s = true := hts _ (by decide +kernel)
  have hovT : (Cond.arrayOver (.object "PatternMill$Text")).before #[Value.ref b] s = true := hts _ (by decide +kernel)
  obtain ⟨c0, k0, m0, a01, a02, a03⟩ := Cond.arrayClass_spec (hgw _ (gw_all harrs (Cond.arrayClass .int) (by simp)))
  obtain ⟨c1, k1, m1, a11, a12, a13⟩ := Cond.arrayClass_spec (hgw _ (gw_all harrs (Cond.arrayClass .byte) (by simp)))
  obtain ⟨c2, k2, m2, a21, a22, a23⟩ := Cond.arrayClass_spec (hgw _ (gw_all harrs (Cond.arrayClass .boolean) (by simp)))
  obtain ⟨m3, c3, k3, a30, -, a32, a33, a31⟩ := Cond.arrayOver_spec hovK
  obtain ⟨m4, c4, k4, a40, -, a42, a43, a41⟩ := Cond.arrayOver_spec hovT
  -- constants
  have hA : ∀ a : Nat, a < s.heap.size → ¬ s.heap.size ≤ a := fun a h => by omega
  have hini : (Cond.initialized "PatternMill$Kind").before #[Value.ref b] s = true := hts _ (by decide +kernel)
  have hlen : kNames.length = 24 := rfl
  obtain ⟨adK, hEn, hev⟩ := va_Enof2 (args := #[Value.ref b]) (s := s) (E := "PatternMill$Kind") (d := "LPatternMill$Kind;") (nm := kNames) (F := kTab) (A := fun q => s.heap.size ≤ q)
    (fun i hi => hts _ (by have := List.all_eq_true.mp kw1 i (List.mem_range.mpr hi); simpa using this)) hini
    (fun i hi => hfl _ (of_decide_eq_true (List.all_eq_true.mp kw2 i (List.mem_range.mpr hi))))
    (fun q hq i hi => hfl _ (of_decide_eq_true (List.all_eq_true.mp (List.all_eq_true.mp kw3 q hq) i (List.mem_range.mpr hi))))
    (fun i j hi hj hij => by
      have := List.all_eq_true.mp (List.all_eq_true.mp kPairs_all i (List.mem_range.mpr hi)) j (List.mem_range.mpr hj)
      simp only [Bool.or_eq_true] at this
      rcases this with (h | h) | h
      · exact absurd (Nat.eq_of_beq_eq_true h) hij
      · obtain ⟨q, h1, h2⟩ := List.any_eq_true.mp h
        simp only [Bool.and_eq_true] at h2
        have := nchk_mem _ _ _ _ kPairs_ok q h1
        rw [Nat.eq_of_beq_eq_true h2.1, Nat.eq_of_beq_eq_true h2.2] at this
        exact Or.inl (hfl _ this)
      · obtain ⟨q, h1, h2⟩ := List.any_eq_true.mp h
        simp only [Bool.and_eq_true] at h2
        have := nchk_mem _ _ _ _ kPairs_ok q h1
        rw [Nat.eq_of_beq_eq_true h2.1, Nat.eq_of_beq_eq_true h2.2] at this
        exact Or.inr (hfl _ this)) hA
  have hev : ∀ i, i < 24 → (kSt i).eval #[Value.ref b] s none [] s = some (.ref (adK i)) := hev
  obtain ⟨tK, htK, hTab⟩ := va_Tof (args := #[Value.ref b]) (s := s) (tm := kAr) (ty := .object "PatternMill$Kind") (N := 24) (f := fun i => .ref (adK i)) (A := fun q => s.heap.size ≤ q) (by decide) (hfl _ (of_decide_eq_true kw6.1)) (va_eqt (hfl _ (of_decide_eq_true kw6.2)))
    (fun j hj => va_eqv (hfl _ (of_decide_eq_true (List.all_eq_true.mp kw5 j (List.mem_range.mpr hj)))) (hev j hj)) hA
  have hZ : va_Z "PatternMill" "KINDS" "[LPatternMill$Kind;" (.ref tK) (fun q => s.heap.size ≤ q) s s.heap := va_Zof (args := #[Value.ref b]) (hts _ (by decide +kernel)) (hts _ (by decide +kernel)) htK hA
  -- the world
  obtain ⟨G, hG⟩ : ∃ G : Gp, G = (s.heap.size, (fun a i => if a = 45 then adK i else if a = 46 then tK else b), ((fun ci => (dq ci).1), (fun ci => (dq ci).2)), (fun t => match t with | 0 => c0 | 1 => c1 | 2 => c2 | 3 => c3 | _ => c4)) := ⟨_, rfl⟩
  have g1 : G.1 = s.heap.size := by rw [hG]
  have g45 : G.2.1 45 = adK := by rw [hG]; rfl
  have g46 : G.2.1 46 0 = tK := by rw [hG]; rfl
  have g47 : G.2.1 47 0 = b := by rw [hG]; rfl
  have hK : KK G s := by
    refine ⟨⟨fun ci q hq => ?_, fun k q hq => ?_⟩, fun w hw hn => ?_, va_AO.of hovK, va_AO.of hovT, ?_⟩
    · have hc : ci < 8 := by
        have := (List.getElem?_eq_some_iff.mp hq).1
        exact this
      rw [cl_at hc] at hq
      cases hq
      rw [hG]
      exact hdq ci hc
    · have hk : k < 5 := (List.getElem?_eq_some_iff.mp hq).1
      have hk5 : k = 0 ∨ k = 1 ∨ k = 2 ∨ k = 3 ∨ k = 4 := by omega
      rw [hG] at hq
      rcases hk5 with rfl | rfl | rfl | rfl | rfl
      · cases hq
        exact ⟨fun n z => ⟨fun k h => (by cases h), k0, a02, m0, a03⟩, a01⟩
      · cases hq
        exact ⟨fun n z => ⟨fun k h => (by cases h), k1, a12, m1, a13⟩, a11⟩
      · cases hq
        exact ⟨fun n z => ⟨fun k h => (by cases h), k2, a22, m2, a23⟩, a21⟩
      · cases hq
        exact ⟨fun n z => ⟨fun k h => (by cases h), k3, a32, m3, a33⟩, k3, m3, a32, a33, a30, a31⟩
      · cases hq
        exact ⟨fun n z => ⟨fun k h => (by cases h), k4, a42, m4, a43⟩, k4, m4, a42, a43, a40, a41⟩
    · refine va_Nw.of ?_ (hts w hw)
      cases w <;> first | (cases hn; done) | rfl
    · obtain ⟨kc, hkc, -⟩ := Vm.findClass_spec a30
      exact ⟨m3, kc, a30, hkc, asg_self _ _⟩
  have hC : CN G L (fun j => (xs j).toInt) s s.heap := by
    refine ⟨?_, ?_, ?_, ?_, ?_, fun j => rng_32 _⟩
    · rw [g45, g1]
      exact hEn
    · rw [g46, g1]
      exact hZ
    · rw [g46, g45, g1]
      exact hTab
    · rw [g47]
      have e1 : (fun j => Int32.ofInt ((xs j).toInt)) = xs := funext fun j => of_to _
      rw [e1]
      exact hX
    · rw [g47, g1]
      exact hbl
  have hcv : cv G (.inr (some (47, 0))) = .ref b := by
    show Value.ref (adr G (47, 0)) = _
    rw [show adr G (47, 0) = G.2.1 47 0 from rfl, g47]
  have S : CallFix p m c code 4 s #[Value.ref b] gw "PatternMillLaw" := ⟨hx, hb, hml, hown, hgw⟩
  have hSL : rng L := ⟨by omega, by omega⟩
  have K := hX0 (Wm 0 G p l e room_1 s m #[Value.ref b] below meth c 4 (lw_Z below #[Value.ref b] s)) (fun cf hcf => ?_)
  · have hl : lh G ((lg_sl ([.inr (some (47, 0))].map (cv G)) ++ List.replicate (4 - (lg_sl ([.inr (some (47, 0))].map (cv G))).length) Slot.unset).toArray) 4 (entL [.inr (some (47, 0))] 4) := by
      have h1 := lv_entry ([.inr (some (47, 0))].map (cv G)) (n := 4) (by rw [lg_len]; decide)
      rw [← lvl_ent G (4 - 1) [.inr (some (47, 0))] 0] at h1
      exact h1
    have K2 := K s.heap [] _ ⟨fun k q hq => (by cases hq), (by rw [g1]; rfl)⟩ ⟨fun _ _ _ => rng0, fun _ _ _ _ h _ => absurd h.2 (Nat.not_lt_zero _), fun _ _ _ _ _ => b8_0⟩ ⟨fun v hv => absurd hv List.not_mem_nil, fun i v hv => by
      have := nth_ent hv
      rw [List.mem_singleton] at this
      subst this
      exact Or.inr (Or.inr (Or.inr ⟨rfl, rfl⟩))⟩ va_S.rf hl ⟨Nat.le_refl _, Nat.zero_le _, Nat.zero_le _⟩
    rw [List.map_singleton, hcv] at K2
    rw [lg_entry_eq]
    exact K2
  · refine sound S co_Law_law fo_Law ko_Law so_Law hK hC (by rw [g1]; exact Nat.le_refl _) hSL (Nat.le_refl _) (Nat.le_refl _) (fun h => absurd h (by decide)) (law_calls hSL l) ?_ ?_ cf hcf
    · intro pc ls H locs kc ks x s' hd hF h12 hP' hW' hx' hS' hk
      cases hF
      rw [g1] at hS'
      refine va_forget (fun q hq => hS'.2.2 q hq) ?_
      refine W.widen (k := 600000) (n := 7302250) hk.2.1 hk.2.2 ?_
      exact lw_ret hx hb hr hlocks hd
    · intro pc ls H locs kc ks s' hd hF h0 hP' hW' hS' hk
      cases hF
end
section
/-! The pure part: references as they stand once all is made -/
def rX (kn : Nat → Option Nat) (tx : Nat → Bool) : Rh := fun a b j => match a with
  | 0 => match j with
    | 0 => some (1, 0)
    | 1 => some (1, 1)
    | 2 => some (3, 0)
    | 3 => some (4, 0)
    | 4 => some (9, 0)
    | _ => none
  | 1 => match j with
    | 0 => some (2, b)
    | _ => none
  | 3 => if j < 8 then some (1, 3 + j) else none
  | 4 => match j with
    | 0 => some (5, 0)
    | 1 => some (6, 0)
    | 2 => some (7, 0)
    | 3 => some (8, 0)
    | _ => none
  | 5 => match b with
    | 0 => (kn j).map (fun k => (45, k))
    | _ => none
  | 8 => match b with
    | 0 => if tx j = true then some (1, 11 + j) else none
    | _ => none
  | 9 => match j with
    | 0 => some (4, 0)
    | 1 => some (3, 0)
    | 2 => some (1, 2)
    | 3 => some (10, 0)
    | 4 => some (15, 0)
    | 5 => some (22, 0)
    | _ => none
  | 10 => match j with
    | 0 => some (11, 0)
    | 1 => some (12, 0)
    | 2 => some (13, 0)
    | 3 => some (14, 0)
    | _ => none
  | 15 => match j with
    | 0 => some (16, 0)
    | 1 => some (17, 0)
    | 2 => some (18, 0)
    | 3 => some (19, 0)
    | 4 => some (20, 0)
    | 5 => some (21, 0)
    | _ => none
  | 22 => match j with
    | 0 => some (23, 0)
    | 1 => some (24, 0)
    | 2 => some (25, 0)
    | _ => none
  | 26 => match j with
    | 1 => some (27, 0)
    | 3 => some (28, 0)
    | 4 => some (29, 0)
    | 6 => some (30, 0)
    | 7 => some (31, 0)
    | 8 => some (32, 0)
    | 9 => some (33, 0)
    | 10 => some (34, 0)
    | 15 => some (35, 0)
    | 17 => some (36, 0)
    | 18 => some (37, 0)
    | 19 => some (38, 0)
    | 20 => some (39, 0)
    | 21 => some (40, 0)
    | 22 => some (41, 0)
    | 23 => some (42, 0)
    | 24 => some (43, 0)
    | 30 => some (44, 0)
    | _ => none
  | _ => none
theorem upS_same {f : Sg} {a b j : Nat} {v : Int} : upS f a b j v a b j = v := by simp [upS]
theorem upS_ne {f : Sg} {a b j a' b' j' : Nat} {v : Int} (h : ¬ (a' = a ∧ b' = b ∧ j' = j)) : upS f a b j v a' b' j' = f a' b' j' := by simp [upS, h]
theorem call_eq {T : Tr} {av : List Av} {s s0 : St} {v0 : Option Av} {P : Option Av → St → Prop} (hT : ∀ F : Option Av → St → Prop, F v0 s0 → T av s F) (h : P v0 s0) : ∃ Y : Option Av → St → Prop, T av s Y ∧ ∀ v s', Y v s' → P v s' :=
  ⟨fun v s' => v = v0 ∧ s' = s0, hT _ ⟨rfl, rfl⟩, fun v s' e => by obtain ⟨rfl, rfl⟩ := e; exact h⟩
theorem call_any {T : Tr} {av : List Av} {s : St} {P Y : Option Av → St → Prop} (hT : T av s Y) (h : ∀ v s', Y v s' → P v s') : ∃ Y : Option Av → St → Prop, T av s Y ∧ ∀ v s', Y v s' → P v s' := ⟨Y, hT, h⟩
section
variable {SL : Nat} {xs : Nat → Int} {nx : Nat} {σ : Sg} {kn : Nat → Option Nat} {tx : Nat → Bool} {F : Option Av → St → Prop} {t : Nat}
theorem tw_Text_isFull (hF : F (some (.inl (if σ 1 t 1 = 64 then 1 else 0))) (nx, σ, rX kn tx)) : T_Text_isFull SL xs [.inr (some (1, t))] (nx, σ, rX kn tx) F := by
  refine run 20 ?_
  refine And.intro (fun h => ?_) (fun h => ?_)
  · have h : ¬ σ 1 t 1 = 64 := h
    rw [if_neg h] at hF
    exact And.intro (Or.inl rfl) hF
  · have h : σ 1 t 1 = 64 := Classical.not_not.mp h
    rw [if_pos h] at hF
    exact And.intro (Or.inr rfl) hF
theorem tw_Text_add {x : Int} (hs : 0 ≤ σ 1 t 1 ∧ σ 1 t 1 < 64) (hF : F none (nx, upS (upS σ 2 t (σ 1 t 1).toNat (b8 (b8 x))) 1 t 1 (wr (σ 1 t 1 + 1)), rX kn tx)) : T_Text_add SL xs [.inr (some (1, t)), .inl x] (nx, σ, rX kn tx) F := by
  refine run 20 ?_
  refine And.intro hs ?_
  exact hF
theorem tw_Mill_isVariable {s : St} {v : Int} (hF : F (some (.inl (if 0 ≤ v ∧ v < 8 then 1 else 0))) s) : T_Mill_isVariable SL xs [.inl v] s F := by
  refine run 20 ?_
  refine And.intro (fun h => ?_) (fun h => ?_)
  · have h : v < 0 := h
    rw [if_neg (by omega)] at hF
    exact And.intro (Or.inl rfl) hF
  · have h : ¬ v < 0 := h
    refine And.intro (fun h2 => ?_) (fun h2 => ?_)
    · have h2 : 8 ≤ v := h2
      rw [if_neg (by omega)] at hF
      exact And.intro (Or.inl rfl) hF
    · have h2 : ¬ 8 ≤ v := h2
      rw [if_pos (by omega)] at hF
      exact And.intro (Or.inr rfl) hF
/-- a text: its length and its signs -/
def tl (f : Nat → Int) (len : Int) (l : List Int) : Prop := len = l.length ∧ ∀ i, i < l.length → f i = l.getD i 0
theorem tw_Text_part {b0 : Nat} {f u : Int} (h : 0 ≤ f ∧ f ≤ u ∧ u ≤ 64) (hF : F none (nx, cpS (upS σ 1 t 1 (u - f)) 2 b0 f.toNat 2 t 0 (u - f).toNat, rX kn tx)) : T_Text_part SL xs [.inr (some (1, t)), .inr (some (2, b0)), .inl f, .inl u] (nx, σ, rX kn tx) F := by
  have e1 : wr (u - f) = u - f := wr_eq ⟨by omega, by omega⟩
  refine run 20 ?_
  refine call_eq (v0 := none) (s0 := (nx, cpS (upS σ 1 t 1 (wr (u - f))) 2 b0 f.toNat 2 t 0 (upS σ 1 t 1 (wr (u - f)) 1 t 1).toNat, rX kn tx)) (fun F hF => ?_) ?_
  · refine And.intro ?_ hF
    show 0 ≤ f ∧ (0 : Int) ≤ 0 ∧ 0 ≤ upS σ 1 t 1 (wr (u - f)) 1 t 1 ∧ f + upS σ 1 t 1 (wr (u - f)) 1 t 1 ≤ 64 ∧ 0 + upS σ 1 t 1 (wr (u - f)) 1 t 1 ≤ 64
    rw [upS_same, e1]
    omega
  · rw [upS_same, e1]
    exact hF
theorem tw_Text_become {o : Nat} (h : 0 ≤ σ 1 o 1 ∧ σ 1 o 1 ≤ 64) (hF : F none (nx, cpS (upS σ 1 t 1 (σ 1 o 1)) 2 o 0 2 t 0 (σ 1 o 1).toNat, rX kn tx)) : T_Text_become SL xs [.inr (some (1, t)), .inr (some (1, o))] (nx, σ, rX kn tx) F := by
  refine run 20 ?_
  refine call_eq (v0 := none) (s0 := (nx, cpS (upS σ 1 t 1 (σ 1 o 1)) 2 o 0 2 t 0 (σ 1 o 1).toNat, rX kn tx)) (fun F hF => ?_) ?_
  · refine tw_Text_part (f := 0) (u := σ 1 o 1) ⟨by omega, by omega, by omega⟩ ?_
    rw [show σ 1 o 1 - 0 = σ 1 o 1 by omega]
    exact hF
  · exact hF
theorem tw_Text_take {o : Nat} (h : 0 ≤ σ 1 o 1 ∧ σ 1 o 1 ≤ 64) (hF : F none (nx, upS (cpS (upS σ 1 t 1 (σ 1 o 1)) 2 o 0 2 t 0 (σ 1 o 1).toNat) 1 o 1 0, rX kn tx)) : T_Text_take SL xs [.inr (some (1, t)), .inr (some (1, o))] (nx, σ, rX kn tx) F := by
  refine run 20 ?_
  refine call_eq (v0 := none) (s0 := (nx, cpS (upS σ 1 t 1 (σ 1 o 1)) 2 o 0 2 t 0 (σ 1 o 1).toNat, rX kn tx)) (fun F hF => ?_) ?_
  · exact tw_Text_become h hF
  · exact hF
theorem wo00 : w_or 0 0 = 0 := by decide
theorem wo01 : w_or 0 1 = 1 := by decide
theorem wo10 : w_or 1 0 = 1 := by decide
theorem wo11 : w_or 1 1 = 1 := by decide
theorem take_s {l : List Int} {i : Nat} (h : i < l.length) : l.take (i + 1) = l.take i ++ [l.getD i 0] := by
  rw [List.take_add_one, List.getD_eq_getElem?_getD, List.getElem?_eq_getElem h]
  rfl
theorem lp_Text_has {x : Int} {l : List Int} (hl : tl (σ 2 t) (σ 1 t 1) l) (h64 : l.length ≤ 64) (hF : F (some (.inl (if x ∈ l then 1 else 0))) (nx, σ, rX kn tx)) : ∀ (m i : Nat), i + m = l.length → ∀ acc : Int, acc = (if x ∈ l.take i then 1 else 0) → Xz SL xs (m_Text_has SL xs) F (4, [some (.inr (some (1, t))), some (.inl x), some (.inl acc), some (.inl i)], [], (nx, σ, rX kn tx), 0, 0) := by
  have hlen : σ 1 t 1 = l.length := hl.1
  intro m
  induction m with
  | zero =>
    intro i hi acc hacc
    have hi : i = l.length := by omega
    subst hi
    rw [List.take_length] at hacc
    refine run 30 ?_
    refine And.intro (fun h => ?_) (fun h => absurd (show σ 1 t 1 ≤ (l.length : Int) by rw [hlen]; exact Int.le_refl _) h)
    refine And.intro ?_ (by rw [hacc]; exact hF)
    rw [hacc]
    split
    · exact Or.inr rfl
    · exact Or.inl rfl
  | succ m ih =>
    intro i hi acc hacc
    refine run 40 ?_
    refine And.intro (fun h => absurd h (show ¬ σ 1 t 1 ≤ (i : Int) by rw [hlen]; omega)) (fun h => ?_)
    refine And.intro ⟨by omega, show (i : Int) < 64 by omega⟩ ?_
    have hsg : σ 2 t (i : Int).toNat = l.getD i 0 := by rw [show (i : Int).toNat = i by omega]; exact hl.2 i (by omega)
    have hw : wr ((i : Int) + 1) = ((i + 1 : Nat) : Int) := by rw [wr_eq ⟨by omega, by omega⟩]; omega
    have htk := take_s (l := l) (i := i) (by omega)
    refine And.intro (fun h => ?_) (fun h => ?_)
    · have h : ¬ σ 2 t (i : Int).toNat = x := h
      rw [hsg] at h
      have hx : (x ∈ l.take (i + 1)) ↔ (x ∈ l.take i) := by
        rw [htk, List.mem_append, List.mem_singleton]
        exact ⟨fun q => q.elim id (fun q => absurd q.symm h), Or.inl⟩
      have K := ih (i + 1) (by omega) (w_or acc 0) (by
        rw [hacc]
        by_cases hq : x ∈ l.take i
        · rw [if_pos hq, if_pos (hx.mpr hq)]
          exact wo10
        · rw [if_neg hq, if_neg (fun z => hq (hx.mp z))]
          exact wo00)
      rw [← hw] at K
      exact leaf (by first | exact run 1 K | exact run 2 K | exact run 3 K | exact run 4 K | exact run 5 K | exact run 6 K | exact run 7 K | exact run 8 K)
    · have h : σ 2 t (i : Int).toNat = x := Classical.not_not.mp h
      rw [hsg] at h
      have hx : x ∈ l.take (i + 1) := by
        rw [htk, List.mem_append, List.mem_singleton]
        exact Or.inr h.symm
      have K := ih (i + 1) (by omega) (w_or acc 1) (by
        rw [hacc, if_pos hx]
        split
        · exact wo11
        · exact wo01)
      rw [← hw] at K
      exact leaf (by first | exact run 1 K | exact run 2 K | exact run 3 K | exact run 4 K | exact run 5 K | exact run 6 K | exact run 7 K | exact run 8 K)
theorem tw_Text_has {x : Int} {l : List Int} (hl : tl (σ 2 t) (σ 1 t 1) l) (h64 : l.length ≤ 64) (hF : F (some (.inl (if x ∈ l then 1 else 0))) (nx, σ, rX kn tx)) : T_Text_has SL xs [.inr (some (1, t)), .inl x] (nx, σ, rX kn tx) F := by
  refine run 4 ?_
  exact lp_Text_has hl h64 hF l.length 0 (by omega) 0 (by simp)
/-- a text stands in another from a place on -/
def atT (l S : List Int) (p : Nat) : Prop := (S.drop p).take l.length = l
theorem atT_len {l S : List Int} {p : Nat} (h : atT l S p) (hp : p ≤ S.length) : p + l.length ≤ S.length := by
  have := congrArg List.length h
  simp at this
  omega
theorem atT_iff {l S : List Int} {p : Nat} (hl : p + l.length ≤ S.length) : atT l S p ↔ ∀ i, i < l.length → l.getD i 0 = S.getD (p + i) 0 := by
  have key : ∀ i, i < l.length → ((S.drop p).take l.length)[i]? = S[p + i]? := fun i hi => by
    rw [List.getElem?_take, if_pos hi, List.getElem?_drop]
  constructor
  · intro h i hi
    have h1 := key i hi
    rw [show (S.drop p).take l.length = l from h] at h1
    rw [List.getD_eq_getElem?_getD, List.getD_eq_getElem?_getD, h1]
  · intro h
    apply List.ext_getElem?
    intro i
    by_cases hi : i < l.length
    · rw [key i hi]
      have h1 := h i hi
      rw [List.getD_eq_getElem?_getD, List.getD_eq_getElem?_getD, List.getElem?_eq_getElem hi, List.getElem?_eq_getElem (show p + i < S.length by omega)] at h1
      rw [List.getElem?_eq_getElem hi, List.getElem?_eq_getElem (show p + i < S.length by omega)]
      simp only [Option.getD_some] at h1
      rw [h1]
    · rw [List.getElem?_eq_none (by simp; omega), List.getElem?_eq_none (by omega)]
theorem lp_Text_isAt {o p : Nat} {l S : List Int} (hl : tl (σ 2 t) (σ 1 t 1) l) (h64 : l.length ≤ 64) (hS : tl (σ 2 o) (σ 1 o 1) S) (hS64 : S.length ≤ 64) (hp : p + l.length ≤ S.length) (hF1 : atT l S p → F (some (.inl 1)) (nx, σ, rX kn tx)) (hF0 : ¬ atT l S p → F (some (.inl 0)) (nx, σ, rX kn tx)) : ∀ (m i : Nat), i + m = l.length → (∀ j, j < i → l.getD j 0 = S.getD (p + j) 0) → Xz SL xs (m_Text_isAt SL xs) F (17, [some (.inr (some (1, t))), some (.inr (some (1, o))), some (.inl p), some (.inl i)], [], (nx, σ, rX kn tx), 0, 0) := by
  have hlen : σ 1 t 1 = l.length := hl.1
  intro m
  induction m with
  | zero =>
    intro i hi hpre
    have hi : i = l.length := by omega
    subst hi
    refine run 30 ?_
    refine And.intro (fun h => ?_) (fun h => absurd (show σ 1 t 1 ≤ (l.length : Int) by rw [hlen]; exact Int.le_refl _) h)
    refine And.intro (fun h => absurd (show (l.length : Int) = σ 1 t 1 from hlen.symm) h) (fun h => ?_)
    exact And.intro (Or.inr rfl) (hF1 ((atT_iff hp).mpr hpre))
  | succ m ih =>
    intro i hi hpre
    have hsg : σ 2 t (i : Int).toNat = l.getD i 0 := by rw [show (i : Int).toNat = i by omega]; exact hl.2 i (by omega)
    have hw2 : wr ((p : Int) + i) = ((p + i : Nat) : Int) := by rw [wr_eq ⟨by omega, by omega⟩]; omega
    have hso : σ 2 o (wr ((p : Int) + i)).toNat = S.getD (p + i) 0 := by rw [hw2, Int.toNat_natCast]; exact hS.2 (p + i) (by omega)
    have hw : wr ((i : Int) + 1) = ((i + 1 : Nat) : Int) := by rw [wr_eq ⟨by omega, by omega⟩]; omega
    refine run 40 ?_
    refine And.intro (fun h => absurd h (show ¬ σ 1 t 1 ≤ (i : Int) by rw [hlen]; omega)) (fun h => ?_)
    refine And.intro ⟨by omega, show (i : Int) < 64 by omega⟩ ?_
    refine And.intro ⟨by rw [hw2]; omega, by rw [hw2]; show ((p + i : Nat) : Int) < 64; omega⟩ ?_
    refine And.intro (fun h => ?_) (fun h => ?_)
    · have h : ¬ σ 2 t (i : Int).toNat = σ 2 o (wr ((p : Int) + i)).toNat := h
      rw [hsg, hso] at h
      refine And.intro (fun h2 => ?_) (fun h2 => absurd (Classical.not_not.mp h2) (show ¬ (i : Int) = σ 1 t 1 by rw [hlen]; omega))
      exact And.intro (Or.inl rfl) (hF0 (fun q => h ((atT_iff hp).mp q i (by omega))))
    · have h : σ 2 t (i : Int).toNat = σ 2 o (wr ((p : Int) + i)).toNat := Classical.not_not.mp h
      rw [hsg, hso] at h
      have K := ih (i + 1) (by omega) (fun j hj => by
        by_cases hji : j = i
        · subst hji
          exact h
        · exact hpre j (by omega))
      rw [← hw] at K
      exact leaf (by first | exact run 1 K | exact run 2 K | exact run 3 K | exact run 4 K | exact run 5 K | exact run 6 K | exact run 7 K | exact run 8 K)
theorem tw_Text_isAt {o p : Nat} {l S : List Int} (hl : tl (σ 2 t) (σ 1 t 1) l) (h64 : l.length ≤ 64) (hS : tl (σ 2 o) (σ 1 o 1) S) (hS64 : S.length ≤ 64) (hp : p ≤ S.length) (hF1 : atT l S p → F (some (.inl 1)) (nx, σ, rX kn tx)) (hF0 : ¬ atT l S p → F (some (.inl 0)) (nx, σ, rX kn tx)) : T_Text_isAt SL xs [.inr (some (1, t)), .inr (some (1, o)), .inl p] (nx, σ, rX kn tx) F := by
  have hlen : σ 1 t 1 = l.length := hl.1
  have hlen2 : σ 1 o 1 = S.length := hS.1
  have hw : wr ((p : Int) + σ 1 t 1) = ((p + l.length : Nat) : Int) := by rw [hlen, wr_eq ⟨by omega, by omega⟩]; omega
  refine run 12 ?_
  refine And.intro (fun h => ?_) (fun h => ?_)
  · have h : wr ((p : Int) + σ 1 t 1) ≤ σ 1 o 1 := h
    rw [hw, hlen2] at h
    exact leaf (run 2 (lp_Text_isAt hl h64 hS hS64 (by omega) hF1 hF0 l.length 0 (by omega) (fun j hj => by omega)))
  · have h : ¬ wr ((p : Int) + σ 1 t 1) ≤ σ 1 o 1 := h
    rw [hw, hlen2] at h
    exact And.intro (Or.inl rfl) (hF0 (fun q => by have := atT_len q hp; omega))
end
end
section
/-! What matching is, without any program: goals, choices, kept texts as lists -/
def scanB (f : Int → Bool) (S : List Int) : Nat → Nat → Nat
  | 0, k => k
  | m + 1, k => if f (S.getD k 0) = true then scanB f S m (k + 1) else k
def spn (l S : List Int) (p : Nat) : Nat := scanB (fun x => decide (x ∈ l)) S (S.length - p) p
def brk (l S : List Int) (p : Nat) : Nat := scanB (fun x => !decide (x ∈ l)) S (S.length - p) p
def brc (x : Int) : Int := if x = 40 then 1 else if x = 41 then -1 else 0
def balF (S : List Int) : Nat → Int → Nat → Option Nat
  | 0, _, _ => none
  | m + 1, d, p => if d + brc (S.getD p 0) < 0 then none else if 0 < d + brc (S.getD p 0) then balF S m (d + brc (S.getD p 0)) (p + 1) else some (p + 1)
def balN (S : List Int) (p : Nat) : Option Nat := balF S (S.length - p) 0 p
def dig (n : Nat) : List Int := if 9 < n then [((48 + n / 10 : Nat) : Int), ((48 + n % 10 : Nat) : Int)] else [((48 + n % 10 : Nat) : Int)]
abbrev Gl : Type := Nat × Nat × Nat
abbrev Kp : Type := Nat × Nat × Nat
abbrev Ch : Type := Nat × Nat × List Gl × List Kp
abbrev Nu : Type := Nat → List Int
/-- nodes' kinds, firsts, seconds, words; the subject; how many nodes -/
abbrev Ev : Type := (Nat → Nat) × (Nat → Nat) × (Nat → Nat) × (Nat → List Int) × List Int × Nat
abbrev ekd (E : Ev) (k : Nat) : Nat := E.1 k
abbrev efa (E : Ev) (k : Nat) : Nat := E.2.1 k
abbrev efb (E : Ev) (k : Nat) : Nat := E.2.2.1 k
abbrev ewd (E : Ev) (k : Nat) : List Int := E.2.2.2.1 k
abbrev esb (E : Ev) : List Int := E.2.2.2.2.1
abbrev ect (E : Ev) : Nat := E.2.2.2.2.2
def upN (ν : Nu) (v : Nat) (l : List Int) : Nu := fun w => if w = v then l else ν w
/-- a state: 0 a node begins, 1 going back, 2 the goals are done; node, place, goals, choices, kept, variables, steps -/
abbrev As : Type := Nat × Nat × Nat × List Gl × List Ch × List Kp × Nu × Nat
abbrev BS (k p : Nat) (g : List Gl) (c : List Ch) (q : List Kp) (ν : Nu) (n : Nat) : As := (0, k, p, g, c, q, ν, n)
abbrev KS (c : List Ch) (ν : Nu) (n : Nat) : As := (1, 0, 0, [], c, [], ν, n)
abbrev GS (p : Nat) (g : List Gl) (c : List Ch) (q : List Kp) (ν : Nu) (n : Nat) : As := (2, 0, p, g, c, q, ν, n)
/-- a node that needs no others and leaves no choice: where it succeeds -/
def plA (E : Ev) (ν : Nu) (k p : Nat) : Option Nat := match ekd E k with
  | 0 => if (esb E).drop p |>.take (ewd E k).length |> (· = ewd E k) then some (p + (ewd E k).length) else none
  | 1 => if p < (esb E).length ∧ (esb E).getD p 0 ∈ ewd E k then some (p + 1) else none
  | 2 => if p < (esb E).length ∧ ¬ (esb E).getD p 0 ∈ ewd E k then some (p + 1) else none
  | 3 => if p < (esb E).length ∧ (esb E).getD p 0 ∈ ewd E k then some (spn (ewd E k) (esb E) p) else none
  | 4 => if brk (ewd E k) (esb E) p < (esb E).length then some (brk (ewd E k) (esb E) p) else none
  | 5 => if p + efa E k ≤ (esb E).length then some (p + efa E k) else none
  | 6 => if p = efa E k then some p else none
  | 7 => if p + efa E k = (esb E).length then some p else none
  | 8 => if p ≤ efa E k ∧ efa E k ≤ (esb E).length then some (efa E k) else none
  | 9 => if p + efa E k ≤ (esb E).length then some ((esb E).length - efa E k) else none
  | 10 => some (esb E).length
  | 22 => if (esb E).drop p |>.take (ν (efa E k)).length |> (· = ν (efa E k)) then some (p + (ν (efa E k)).length) else none
  | _ => none
def stepB (E : Ev) (k p : Nat) (g : List Gl) (c : List Ch) (q : List Kp) (ν : Nu) (n : Nat) : As ⊕ (Nat × As) := match ekd E k with
  | 11 => .inl (GS p g (if p < (esb E).length then (1, p, g, q) :: c else c) q ν n)
  | 12 => match balN (esb E) p with
    | some p' => .inl (GS p' g ((2, p', g, q) :: c) q ν n)
    | none => .inl (KS c ν n)
  | 14 => .inl (GS p g ((3, p, g, q) :: c) q ν n)
  | 15 => .inr (2, KS c ν n)
  | 16 => .inl (GS p g ((0, p, (0, efa E k, 0) :: (0, k, 0) :: g, q) :: c) q ν n)
  | 17 => .inl (GS p ((0, efa E k, 0) :: (0, efb E k, 0) :: g) c q ν n)
  | 18 => .inl (GS p ((0, efa E k, 0) :: g) ((0, p, (0, efb E k, 0) :: g, q) :: c) q ν n)
  | 19 => .inl (GS p ((0, efa E k, 0) :: (1, efb E k, p) :: g) c q ν n)
  | 20 => .inl (GS p ((0, efa E k, 0) :: (2, efb E k, p) :: g) c q ν n)
  | 21 => .inl (GS p g c q (upN ν (efa E k) (dig p)) n)
  | 23 => if efa E k < ect E then .inl (GS p ((0, efa E k, 0) :: g) c q ν n) else .inl (KS c ν n)
  | _ => match plA E ν k p with
    | some p' => .inl (GS p' g c q ν n)
    | none => .inl (KS c ν n)
def stepG (E : Ev) (p : Nat) (g : List Gl) (c : List Ch) (q : List Kp) (ν : Nu) (n : Nat) : As ⊕ (Nat × As) := match g with
  | [] => .inr (1, GS p [] c q ν n)
  | (0, k, _) :: r => if n = 3000 then .inr (3, KS c ν n) else .inl (BS k p r c q ν (n + 1))
  | (1, v, f) :: r => .inl (GS p r c (q ++ [(v, f, p)]) ν n)
  | (_, v, f) :: r => .inl (GS p r c q (upN ν v (((esb E).drop f).take (p - f))) n)
def stepK (E : Ev) (c : List Ch) (ν : Nu) (n : Nat) : As ⊕ (Nat × As) := match c with
  | [] => .inr (0, KS [] ν n)
  | (0, p, g, q) :: r => .inl (GS p g r q ν n)
  | (1, p, g, q) :: r => .inl (GS (p + 1) g (if p + 1 < (esb E).length then (1, p + 1, g, q) :: r else r) q ν n)
  | (2, p, g, q) :: r => match balN (esb E) p with
    | some p' => .inl (GS p' g ((2, p', g, q) :: r) q ν n)
    | none => .inl (KS r ν n)
  | _ :: r => .inr (2, KS r ν n)
def astep (E : Ev) (x : As) : As ⊕ (Nat × As) := match x with
  | (0, k, p, g, c, q, ν, n) => stepB E k p g c q ν n
  | (1, _, _, _, c, _, ν, n) => stepK E c ν n
  | (_, _, p, g, c, q, ν, n) => stepG E p g c q ν n
def runA (E : Ev) : Nat → As → Option (Nat × As)
  | 0, _ => none
  | f + 1, x => match astep E x with
    | .inl y => runA E f y
    | .inr z => some z
theorem runA_B {E : Ev} {f k p : Nat} {g : List Gl} {c : List Ch} {q : List Kp} {ν : Nu} {n : Nat} : runA E (f + 1) (BS k p g c q ν n) = match stepB E k p g c q ν n with | .inl y => runA E f y | .inr z => some z := rfl
theorem runA_K {E : Ev} {f : Nat} {c : List Ch} {ν : Nu} {n : Nat} : runA E (f + 1) (KS c ν n) = match stepK E c ν n with | .inl y => runA E f y | .inr z => some z := rfl
theorem runA_G {E : Ev} {f p : Nat} {g : List Gl} {c : List Ch} {q : List Kp} {ν : Nu} {n : Nat} : runA E (f + 1) (GS p g c q ν n) = match stepG E p g c q ν n with | .inl y => runA E f y | .inr z => some z := rfl
/-- it comes to an end -/
def TotA (E : Ev) (x : As) : Prop := ∃ f z, runA E f x = some z
theorem tot_step {E : Ev} {x y : As} (h : astep E x = .inl y) (hy : TotA E y) : TotA E x := by
  obtain ⟨f, z, hf⟩ := hy
  exact ⟨f + 1, z, by simp [runA, h, hf]⟩
theorem tot_end {E : Ev} {x : As} {z : Nat × As} (h : astep E x = .inr z) : TotA E x := ⟨1, z, by simp [runA, h]⟩
theorem stepB_cases (E : Ev) (k p : Nat) (g : List Gl) (c : List Ch) (q : List Kp) (ν : Nu) (n : Nat) : (∃ p' g' c' q' ν', stepB E k p g c q ν n = .inl (GS p' g' c' q' ν' n)) ∨ stepB E k p g c q ν n = .inl (KS c ν n) ∨ ∃ z, stepB E k p g c q ν n = .inr z := by
  unfold stepB
  split
  all_goals first
    | exact Or.inl ⟨_, _, _, _, _, rfl⟩
    | exact Or.inr (Or.inr ⟨_, rfl⟩)
    | (split <;> first | exact Or.inl ⟨_, _, _, _, _, rfl⟩ | exact Or.inr (Or.inl rfl))
theorem totA (E : Ev) : ∀ m, (∀ k p g c q ν n, n + m = 3000 → TotA E (BS k p g c q ν n)) ∧ (∀ p g c q ν n, n + m = 3000 → TotA E (GS p g c q ν n)) := by
  intro m
  induction m with
  | zero =>
    have hG : ∀ g p c q ν n, n + 0 = 3000 → TotA E (GS p g c q ν n) := by
      intro g
      induction g with
      | nil => intro p c q ν n hn; exact tot_end rfl
      | cons x r ih =>
        intro p c q ν n hn
        obtain ⟨w, k, f⟩ := x
        rcases w with _ | _ | w
        · have hn : n = 3000 := by omega
          exact tot_end (z := (3, KS c ν n)) (by show stepG E p ((0, k, f) :: r) c q ν n = _; simp [stepG, hn])
        · exact tot_step rfl (ih _ _ _ _ _ hn)
        · exact tot_step rfl (ih _ _ _ _ _ hn)
    have hK : ∀ c ν n, n + 0 = 3000 → TotA E (KS c ν n) := by
      intro c
      induction c with
      | nil => intro ν n hn; exact tot_end rfl
      | cons x r ih =>
        intro ν n hn
        obtain ⟨w, p, g, q⟩ := x
        rcases w with _ | _ | _ | w
        · exact tot_step rfl (hG _ _ _ _ _ _ hn)
        · exact tot_step rfl (hG _ _ _ _ _ _ hn)
        · cases hb : balN (esb E) p with
          | none => exact tot_step (y := KS r ν n) (by show stepK E ((2, p, g, q) :: r) ν n = _; simp [stepK, hb]) (ih _ _ hn)
          | some p' => exact tot_step (y := GS p' g ((2, p', g, q) :: r) q ν n) (by show stepK E ((2, p, g, q) :: r) ν n = _; simp [stepK, hb]) (hG _ _ _ _ _ _ hn)
        · exact tot_end rfl
    refine ⟨fun k p g c q ν n hn => ?_, fun p g c q ν n hn => hG g p c q ν n hn⟩
    rcases stepB_cases E k p g c q ν n with ⟨p', g', c', q', ν', h⟩ | h | ⟨z, h⟩
    · exact tot_step h (hG _ _ _ _ _ _ hn)
    · exact tot_step h (hK _ _ _ hn)
    · exact tot_end h
  | succ m ihm =>
    have hG : ∀ g p c q ν n, n + (m + 1) = 3000 → TotA E (GS p g c q ν n) := by
      intro g
      induction g with
      | nil => intro p c q ν n hn; exact tot_end rfl
      | cons x r ih =>
        intro p c q ν n hn
        obtain ⟨w, k, f⟩ := x
        rcases w with _ | _ | w
        · exact tot_step (y := BS k p r c q ν (n + 1)) (by show stepG E p ((0, k, f) :: r) c q ν n = _; simp only [stepG]; rw [if_neg (by omega)]) (ihm.1 _ _ _ _ _ _ _ (by omega))
        · exact tot_step rfl (ih _ _ _ _ _ hn)
        · exact tot_step rfl (ih _ _ _ _ _ hn)
    have hK : ∀ c ν n, n + (m + 1) = 3000 → TotA E (KS c ν n) := by
      intro c
      induction c with
      | nil => intro ν n hn; exact tot_end rfl
      | cons x r ih =>
        intro ν n hn
        obtain ⟨w, p, g, q⟩ := x
        rcases w with _ | _ | _ | w
        · exact tot_step rfl (hG _ _ _ _ _ _ hn)
        · exact tot_step rfl (hG _ _ _ _ _ _ hn)
        · cases hb : balN (esb E) p with
          | none => exact tot_step (y := KS r ν n) (by show stepK E ((2, p, g, q) :: r) ν n = _; simp [stepK, hb]) (ih _ _ hn)
          | some p' => exact tot_step (y := GS p' g ((2, p', g, q) :: r) q ν n) (by show stepK E ((2, p, g, q) :: r) ν n = _; simp [stepK, hb]) (hG _ _ _ _ _ _ hn)
        · exact tot_end rfl
    refine ⟨fun k p g c q ν n hn => ?_, fun p g c q ν n hn => hG g p c q ν n hn⟩
    rcases stepB_cases E k p g c q ν n with ⟨p', g', c', q', ν', h⟩ | h | ⟨z, h⟩
    · exact tot_step h (hG _ _ _ _ _ _ hn)
    · exact tot_step h (hK _ _ _ hn)
    · exact tot_end h
end
section
/-! The component's small methods -/
theorem upS_upS {f : Sg} {a b j : Nat} {v w : Int} : upS (upS f a b j v) a b j w = upS f a b j w := by
  funext a' b' j'
  simp only [upS]
  split <;> rfl
theorem upS_id {f : Sg} {a b j : Nat} {v : Int} (h : f a b j = v) : upS f a b j v = f := by
  funext a' b' j'
  simp only [upS]
  split
  · rename_i hq
    obtain ⟨rfl, rfl, rfl⟩ := hq
    exact h.symm
  · rfl
theorem b8s : ∀ k : Nat, k < 128 → b8 (k : Int) = k := by decide +kernel
def gadW (σ : Sg) (w a f g t : Int) : Sg := upS (upS (upS (upS (upS σ 11 0 (σ 10 0 4).toNat w) 12 0 (σ 10 0 4).toNat a) 13 0 (σ 10 0 4).toNat f) 14 0 (σ 10 0 4).toNat g) 10 0 4 t
def gad (σ : Sg) (w a f g : Int) : Sg := gadW σ w a f g (σ 10 0 4 + 1)
def kad (σ : Sg) (v f u : Int) : Sg := upS (upS (upS (upS σ 23 0 (σ 22 0 3).toNat v) 24 0 (σ 22 0 3).toNat f) 25 0 (σ 22 0 3).toNat u) 22 0 3 (σ 22 0 3 + 1)
def cadW (σ : Sg) (k p g z : Int) : Sg := upS (upS (upS (upS (upS (upS (upS σ 16 0 (σ 15 0 6).toNat k) 17 0 (σ 15 0 6).toNat p) 18 0 (σ 15 0 6).toNat g) 19 0 (σ 15 0 6).toNat (σ 10 0 4)) 20 0 (σ 15 0 6).toNat (σ 22 0 3)) 21 0 (σ 15 0 6).toNat 0) 15 0 6 z
def cad (σ : Sg) (k p g : Int) : Sg := cadW σ k p g (σ 15 0 6 + 1)
section
variable {SL : Nat} {xs : Nat → Int} {nx : Nat} {σ : Sg} {kn : Nat → Option Nat} {tx : Nat → Bool} {F : Option Av → St → Prop} {t : Nat}
theorem tw_Goals_add {w : Nat} {a f g : Int} (ht : 0 ≤ σ 10 0 4 ∧ σ 10 0 4 < 8192) (hw : w < 128) (hF : F (some (.inl (σ 10 0 4))) (nx, gad σ w a f g, rX kn tx)) : T_Goals_add SL xs [.inr (some (10, 0)), .inl w, .inl a, .inl f, .inl g] (nx, σ, rX kn tx) F := by
  have e0 : wr (σ 10 0 4 + 1) = σ 10 0 4 + 1 := wr_eq ⟨by omega, by omega⟩
  have e1 : wr (wr (σ 10 0 4 + 1) - 1) = σ 10 0 4 := by rw [e0, wr_eq ⟨by omega, by omega⟩]; omega
  have K : F (some (.inl (wr (wr (σ 10 0 4 + 1) - 1)))) (nx, gadW σ (b8 (b8 w)) a f g (wr (σ 10 0 4 + 1)), rX kn tx) := by
    rw [e1, e0, b8s w hw, b8s w hw]
    exact hF
  refine run 50 ?_
  refine And.intro ht ?_
  refine And.intro ht ?_
  refine And.intro ht ?_
  refine And.intro ht ?_
  exact K
theorem tw_Kept_add {v f u : Int} (ht : 0 ≤ σ 22 0 3 ∧ σ 22 0 3 < 8192) (hF : F none (nx, kad σ v f u, rX kn tx)) : T_Kept_add SL xs [.inr (some (22, 0)), .inl v, .inl f, .inl u] (nx, σ, rX kn tx) F := by
  have e0 : wr (σ 22 0 3 + 1) = σ 22 0 3 + 1 := wr_eq ⟨by omega, by omega⟩
  have K : F none (nx, upS (upS (upS (upS σ 23 0 (σ 22 0 3).toNat v) 24 0 (σ 22 0 3).toNat f) 25 0 (σ 22 0 3).toNat u) 22 0 3 (wr (σ 22 0 3 + 1)), rX kn tx) := by
    rw [e0]
    exact hF
  refine run 50 ?_
  refine And.intro ht ?_
  refine And.intro ht ?_
  refine And.intro ht ?_
  exact K
theorem tw_Matcher_choose {k : Nat} {p g : Int} (ht : 0 ≤ σ 15 0 6 ∧ σ 15 0 6 < 4096) (hk : k < 128) (hF : F none (nx, cad σ k p g, rX kn tx)) : T_Matcher_choose SL xs [.inr (some (9, 0)), .inl k, .inl p, .inl g, .inl 0] (nx, σ, rX kn tx) F := by
  have e0 : wr (σ 15 0 6 + 1) = σ 15 0 6 + 1 := wr_eq ⟨by omega, by omega⟩
  have K : F none (nx, cadW σ (b8 (b8 k)) p g (wr (σ 15 0 6 + 1)), rX kn tx) := by
    rw [e0, b8s k hk, b8s k hk]
    exact hF
  refine run 60 ?_
  refine And.intro ht ?_
  refine And.intro ht ?_
  refine And.intro ht ?_
  refine And.intro ht ?_
  refine And.intro ht ?_
  refine And.intro ht ?_
  exact K
theorem tw_Matcher_further {p n : Nat} (hp : σ 9 0 7 = p) (hn : σ 1 2 1 = n) (h64 : n ≤ 64) (hpn : p < 100) (ht : 0 ≤ σ 15 0 6 ∧ σ 15 0 6 < 4096)
    (hF1 : p + 1 < n → F none (nx, cad (upS σ 9 0 7 ((p + 1 : Nat) : Int)) 1 ((p + 1 : Nat) : Int) (σ 9 0 8), rX kn tx)) (hF0 : ¬ p + 1 < n → F none (nx, upS σ 9 0 7 ((p + 1 : Nat) : Int), rX kn tx)) : T_Matcher_further SL xs [.inr (some (9, 0))] (nx, σ, rX kn tx) F := by
  have e0 : wr (σ 9 0 7 + 1) = ((p + 1 : Nat) : Int) := by rw [hp, wr_eq ⟨by omega, by omega⟩]; omega
  rw [← e0] at hF1 hF0
  refine run 60 ?_
  refine And.intro (fun h => ?_) (fun h => ?_)
  · have h : σ 1 2 1 ≤ wr (σ 9 0 7 + 1) := h
    rw [e0, hn] at h
    exact hF0 (by omega)
  · have h : ¬ σ 1 2 1 ≤ wr (σ 9 0 7 + 1) := h
    rw [e0, hn] at h
    exact call_eq (fun F hF => tw_Matcher_choose (k := 1) (σ := upS σ 9 0 7 (wr (σ 9 0 7 + 1))) ht (by omega) hF) (hF1 (by omega))
theorem lp_Matcher_balances {S : List Int} {g : Int} (hS : tl (σ 2 2) (σ 1 2 1) S) (h64 : S.length ≤ 64) (ht : 0 ≤ σ 15 0 6 ∧ σ 15 0 6 < 4096) (op : Int) : ∀ (m : Nat) (d : Int) (p : Nat) (l3 : Option Av), p + m = S.length → 0 ≤ d → d ≤ p →
    (∀ p', balF S m d p = some p' → F (some (.inl 1)) (nx, cad (upS σ 9 0 7 (p' : Int)) 2 (p' : Int) (σ 9 0 8), rX kn tx)) → (balF S m d p = none → ∀ p' : Int, F (some (.inl 0)) (nx, upS σ 9 0 7 p', rX kn tx)) →
    Xz SL xs (m_Matcher_balances SL xs) F (2, [some (.inr (some (9, 0))), some (.inl op), some (.inl d), l3], [], (nx, upS σ 9 0 7 (p : Int), rX kn tx), 0, 0) := by
  have hlen : σ 1 2 1 = S.length := hS.1
  intro m
  induction m with
  | zero =>
    intro d p l3 hp hd hdp hF1 hF0
    refine run 60 ?_
    refine And.intro (fun h => ?_) (fun h => ?_)
    · exact And.intro (Or.inl rfl) (hF0 rfl _)
    · have h : ¬ σ 1 2 1 ≤ (p : Int) := h
      rw [hlen] at h
      omega
  | succ m ih =>
    intro d p l3 hp hd hdp hF1 hF0
    have hsg : σ 2 2 (p : Int).toNat = S.getD p 0 := by rw [show (p : Int).toNat = p by omega]; exact hS.2 p (by omega)
    have hw : wr ((p : Int) + 1) = ((p + 1 : Nat) : Int) := by rw [wr_eq ⟨by omega, by omega⟩]; omega
    have fin : ∀ (b : Int), brc (S.getD p 0) = b → (b = 1 ∨ b = -1 ∨ b = 0) → Xz SL xs (m_Matcher_balances SL xs) F (51, [some (.inr (some (9, 0))), some (.inl op), some (.inl d), some (.inl (σ 2 2 (p : Int).toNat))], [.inl b, .inl d], (nx, upS σ 9 0 7 (p : Int), rX kn tx), 0, 0) := by
      intro b hb hb3
      have hwd : wr (d + b) = d + b := wr_eq ⟨by omega, by omega⟩
      refine run 60 ?_
      refine And.intro (fun h => ?_) (fun h => ?_)
      · have h : 0 ≤ wr (d + b) := h
        rw [hwd] at h
        refine And.intro (fun h2 => ?_) (fun h2 => ?_)
        · have h2 : wr (d + b) ≤ 0 := h2
          rw [hwd] at h2
          have hbal : balF S (m + 1) d p = some (p + 1) := by
            simp only [balF, hb]
            rw [if_neg (by omega), if_neg (by omega)]
          have K := hF1 (p + 1) hbal
          rw [← hw, ← upS_upS (v := (p : Int))] at K
          exact call_eq (fun F hF => tw_Matcher_choose (k := 2) (σ := upS (upS σ 9 0 7 (p : Int)) 9 0 7 (wr ((p : Int) + 1))) (g := σ 9 0 8) (p := wr ((p : Int) + 1)) ht (by omega) hF) (And.intro (Or.inr rfl) K)
        · have h2 : ¬ wr (d + b) ≤ 0 := h2
          rw [hwd] at h2
          have hbal : balF S (m + 1) d p = balF S m (d + b) (p + 1) := by
            simp only [balF, hb]
            rw [if_neg (by omega), if_pos (by omega)]
          rw [hbal] at hF1 hF0
          have K := ih (d + b) (p + 1) (some (.inl (σ 2 2 (p : Int).toNat))) (by omega) (by omega) (by omega) hF1 hF0
          rw [← hw, ← hwd, ← upS_upS (v := (p : Int))] at K
          exact leaf (by first | exact run 1 K | exact run 2 K | exact run 3 K)
      · have h : ¬ 0 ≤ wr (d + b) := h
        rw [hwd] at h
        have hbal : balF S (m + 1) d p = none := by
          simp only [balF, hb]
          rw [if_pos (by omega)]
        exact And.intro (Or.inl rfl) (hF0 hbal _)
    refine run 60 ?_
    refine And.intro (fun h => ?_) (fun h => ?_)
    · have h : σ 1 2 1 ≤ (p : Int) := h
      rw [hlen] at h
      omega
    · refine And.intro ⟨show (0 : Int) ≤ (p : Int) by omega, show (p : Int) < 64 by omega⟩ ?_
      refine And.intro (fun h => ?_) (fun h => ?_)
      · have h : ¬ σ 2 2 (p : Int).toNat = 40 := h
        rw [hsg] at h
        refine And.intro (fun h2 => ?_) (fun h2 => ?_)
        · have h2 : ¬ σ 2 2 (p : Int).toNat = 41 := h2
          rw [hsg] at h2
          have K := fin 0 (by unfold brc; rw [if_neg h, if_neg h2]) (by omega)
          exact leaf (by first | exact run 1 K | exact run 2 K | exact run 3 K)
        · have h2 : σ 2 2 (p : Int).toNat = 41 := Classical.not_not.mp h2
          rw [hsg] at h2
          have K := fin (-1) (by unfold brc; rw [if_neg h, if_pos h2]) (by omega)
          exact leaf (by first | exact run 1 K | exact run 2 K | exact run 3 K)
      · have h : σ 2 2 (p : Int).toNat = 40 := Classical.not_not.mp h
        rw [hsg] at h
        have K := fin 1 (by unfold brc; rw [if_pos h]) (by omega)
        exact leaf (by first | exact run 1 K | exact run 2 K | exact run 3 K)
theorem tw_Matcher_balances {S : List Int} {p : Nat} (hS : tl (σ 2 2) (σ 1 2 1) S) (h64 : S.length ≤ 64) (ht : 0 ≤ σ 15 0 6 ∧ σ 15 0 6 < 4096) (hp : σ 9 0 7 = p) (hpn : p ≤ S.length)
    (hF1 : ∀ p', balN S p = some p' → F (some (.inl 1)) (nx, cad (upS σ 9 0 7 (p' : Int)) 2 (p' : Int) (σ 9 0 8), rX kn tx)) (hF0 : balN S p = none → ∀ p' : Int, F (some (.inl 0)) (nx, upS σ 9 0 7 p', rX kn tx)) : T_Matcher_balances SL xs [.inr (some (9, 0)), .inl 0] (nx, σ, rX kn tx) F := by
  have K := lp_Matcher_balances (SL := SL) (xs := xs) (g := 0) hS h64 ht 0 (S.length - p) 0 p none (by omega) (by omega) (by omega) hF1 hF0
  rw [upS_id hp] at K
  exact run 2 K
theorem lp_Matcher_run {l S : List Int} {t : Nat} (hl : tl (σ 2 t) (σ 1 t 1) l) (hl64 : l.length ≤ 64) (hS : tl (σ 2 2) (σ 1 2 1) S) (h64 : S.length ≤ 64) : ∀ (m p : Nat), p + m = S.length → F (some (.inl (scanB (fun x => decide (x ∈ l)) S m p : Nat))) (nx, σ, rX kn tx) → Xz SL xs (m_Matcher_run SL xs) F (5, [some (.inr (some (9, 0))), some (.inr (some (1, t))), some (.inl p)], [], (nx, σ, rX kn tx), 0, 0) := by
  have hlen : σ 1 2 1 = S.length := hS.1
  intro m
  induction m with
  | zero =>
    intro p hp hF
    refine run 60 ?_
    refine And.intro (fun h => hF) (fun h => ?_)
    have h : ¬ σ 1 2 1 ≤ (p : Int) := h
    rw [hlen] at h
    omega
  | succ m ih =>
    intro p hp hF
    have hsg : σ 2 2 (p : Int).toNat = S.getD p 0 := by rw [show (p : Int).toNat = p by omega]; exact hS.2 p (by omega)
    have hw : wr ((p : Int) + 1) = ((p + 1 : Nat) : Int) := by rw [wr_eq ⟨by omega, by omega⟩]; omega
    refine run 60 ?_
    refine And.intro (fun h => ?_) (fun h => ?_)
    · have h : σ 1 2 1 ≤ (p : Int) := h
      rw [hlen] at h
      omega
    · refine And.intro ⟨show (0 : Int) ≤ (p : Int) by omega, show (p : Int) < 64 by omega⟩ ?_
      refine call_eq (fun F hF => tw_Text_has hl hl64 hF) ?_
      refine And.intro (fun h => ?_) (fun h => ?_)
      · have h : (if σ 2 2 (p : Int).toNat ∈ l then (1 : Int) else 0) = 0 := h
        rw [hsg] at h
        have hn : ¬ S.getD p 0 ∈ l := fun q => by rw [if_pos q] at h; omega
        simp only [scanB, decide_eq_true_eq] at hF
        rw [if_neg hn] at hF
        exact hF
      · have h : ¬ (if σ 2 2 (p : Int).toNat ∈ l then (1 : Int) else 0) = 0 := h
        rw [hsg] at h
        have hn : S.getD p 0 ∈ l := Classical.not_not.mp (fun q => h (by rw [if_neg q]))
        simp only [scanB, decide_eq_true_eq] at hF
        rw [if_pos hn] at hF
        have K := ih (p + 1) (by omega) hF
        rw [← hw] at K
        exact leaf (by first | exact run 1 K | exact run 2 K | exact run 3 K)
theorem tw_Matcher_run {l S : List Int} {t p : Nat} (hl : tl (σ 2 t) (σ 1 t 1) l) (hl64 : l.length ≤ 64) (hS : tl (σ 2 2) (σ 1 2 1) S) (h64 : S.length ≤ 64) (hp : σ 9 0 7 = p) (hpn : p ≤ S.length) (hF : F (some (.inl (spn l S p : Nat))) (nx, σ, rX kn tx)) : T_Matcher_run SL xs [.inr (some (9, 0)), .inr (some (1, t))] (nx, σ, rX kn tx) F := by
  have K := lp_Matcher_run (SL := SL) (xs := xs) hl hl64 hS h64 (S.length - p) p (by omega) hF
  rw [← hp] at K
  exact run 3 K
theorem lp_Matcher_breaks {l S : List Int} {t : Nat} (hl : tl (σ 2 t) (σ 1 t 1) l) (hl64 : l.length ≤ 64) (hS : tl (σ 2 2) (σ 1 2 1) S) (h64 : S.length ≤ 64) : ∀ (m p : Nat), p + m = S.length → F (some (.inl (scanB (fun x => !decide (x ∈ l)) S m p : Nat))) (nx, σ, rX kn tx) → Xz SL xs (m_Matcher_breaks SL xs) F (5, [some (.inr (some (9, 0))), some (.inr (some (1, t))), some (.inl p)], [], (nx, σ, rX kn tx), 0, 0) := by
  have hlen : σ 1 2 1 = S.length := hS.1
  intro m
  induction m with
  | zero =>
    intro p hp hF
    refine run 60 ?_
    refine And.intro (fun h => hF) (fun h => ?_)
    have h : ¬ σ 1 2 1 ≤ (p : Int) := h
    rw [hlen] at h
    omega
  | succ m ih =>
    intro p hp hF
    have hsg : σ 2 2 (p : Int).toNat = S.getD p 0 := by rw [show (p : Int).toNat = p by omega]; exact hS.2 p (by omega)
    have hw : wr ((p : Int) + 1) = ((p + 1 : Nat) : Int) := by rw [wr_eq ⟨by omega, by omega⟩]; omega
    refine run 60 ?_
    refine And.intro (fun h => ?_) (fun h => ?_)
    · have h : σ 1 2 1 ≤ (p : Int) := h
      rw [hlen] at h
      omega
    · refine And.intro ⟨show (0 : Int) ≤ (p : Int) by omega, show (p : Int) < 64 by omega⟩ ?_
      refine call_eq (fun F hF => tw_Text_has hl hl64 hF) ?_
      refine And.intro (fun h => ?_) (fun h => ?_)
      · have h : ¬ (if σ 2 2 (p : Int).toNat ∈ l then (1 : Int) else 0) = 0 := h
        rw [hsg] at h
        have hn : S.getD p 0 ∈ l := Classical.not_not.mp (fun q => h (by rw [if_neg q]))
        simp only [scanB, Bool.not_eq_true', decide_eq_false_iff_not] at hF
        rw [if_neg (fun q => q hn)] at hF
        exact hF
      · have h : (if σ 2 2 (p : Int).toNat ∈ l then (1 : Int) else 0) = 0 := Classical.not_not.mp h
        rw [hsg] at h
        have hn : ¬ S.getD p 0 ∈ l := fun q => by rw [if_pos q] at h; omega
        simp only [scanB, Bool.not_eq_true', decide_eq_false_iff_not] at hF
        rw [if_pos hn] at hF
        have K := ih (p + 1) (by omega) hF
        rw [← hw] at K
        exact leaf (by first | exact run 1 K | exact run 2 K | exact run 3 K)
theorem tw_Matcher_breaks {l S : List Int} {t p : Nat} (hl : tl (σ 2 t) (σ 1 t 1) l) (hl64 : l.length ≤ 64) (hS : tl (σ 2 2) (σ 1 2 1) S) (h64 : S.length ≤ 64) (hp : σ 9 0 7 = p) (hpn : p ≤ S.length) (hF : F (some (.inl (brk l S p : Nat))) (nx, σ, rX kn tx)) : T_Matcher_breaks SL xs [.inr (some (9, 0)), .inr (some (1, t))] (nx, σ, rX kn tx) F := by
  have K := lp_Matcher_breaks (SL := SL) (xs := xs) hl hl64 hS h64 (S.length - p) p (by omega) hF
  rw [← hp] at K
  exact run 3 K
theorem tw_Matcher_isSign {l S : List Int} {t p : Nat} {b : Int} (hl : tl (σ 2 t) (σ 1 t 1) l) (hl64 : l.length ≤ 64) (hS : tl (σ 2 2) (σ 1 2 1) S) (h64 : S.length ≤ 64) (hp : σ 9 0 7 = p) (hpn : p ≤ S.length) (hF : F (some (.inl (if p < S.length ∧ (if S.getD p 0 ∈ l then (1 : Int) else 0) = b then 1 else 0))) (nx, σ, rX kn tx)) : T_Matcher_isSign SL xs [.inr (some (9, 0)), .inr (some (1, t)), .inl b] (nx, σ, rX kn tx) F := by
  have hlen : σ 1 2 1 = S.length := hS.1
  refine run 60 ?_
  refine And.intro (fun h => ?_) (fun h => ?_)
  · have h : σ 1 2 1 ≤ σ 9 0 7 := h
    rw [hlen, hp] at h
    rw [if_neg (by omega)] at hF
    exact And.intro (Or.inl rfl) hF
  · have h : ¬ σ 1 2 1 ≤ σ 9 0 7 := h
    rw [hlen, hp] at h
    have hsg : σ 2 2 (σ 9 0 7).toNat = S.getD p 0 := by rw [hp, show (p : Int).toNat = p by omega]; exact hS.2 p (by omega)
    refine And.intro ⟨show (0 : Int) ≤ σ 9 0 7 by rw [hp]; omega, show σ 9 0 7 < 64 by rw [hp]; omega⟩ ?_
    refine call_eq (fun F hF => tw_Text_has hl hl64 hF) ?_
    refine And.intro (fun h2 => ?_) (fun h2 => ?_)
    · have h2 : ¬ (if σ 2 2 (σ 9 0 7).toNat ∈ l then (1 : Int) else 0) = b := h2
      rw [hsg] at h2
      rw [if_neg (fun q => h2 q.2)] at hF
      exact And.intro (Or.inl rfl) hF
    · have h2 : (if σ 2 2 (σ 9 0 7).toNat ∈ l then (1 : Int) else 0) = b := Classical.not_not.mp h2
      rw [hsg] at h2
      rw [if_pos ⟨by omega, h2⟩] at hF
      exact And.intro (Or.inr rfl) hF
theorem tw_Nodes_is {x : Int} (hF : F (some (.inl (if 0 ≤ x ∧ x < σ 4 0 4 then 1 else 0))) (nx, σ, rX kn tx)) : T_Nodes_is SL xs [.inr (some (4, 0)), .inl x] (nx, σ, rX kn tx) F := by
  refine run 30 ?_
  refine And.intro (fun h => ?_) (fun h => ?_)
  · have h : x < 0 := h
    rw [if_neg (by omega)] at hF
    exact And.intro (Or.inl rfl) hF
  · have h : ¬ x < 0 := h
    refine And.intro (fun h2 => ?_) (fun h2 => ?_)
    · have h2 : σ 4 0 4 ≤ x := h2
      rw [if_neg (by omega)] at hF
      exact And.intro (Or.inl rfl) hF
    · have h2 : ¬ σ 4 0 4 ≤ x := h2
      rw [if_pos (by omega)] at hF
      exact And.intro (Or.inr rfl) hF
theorem tw_Enum_ordinal {s : St} {k : Nat} (hF : F (some (.inl k)) s) : T_Enum_ordinal SL xs [.inr (some (45, k))] s F := run 10 hF
/-- a text is set, nothing else changes -/
def setT (σ : Sg) (t : Nat) (l : List Int) (σ' : Sg) : Prop := tl (σ' 2 t) (σ' 1 t 1) l ∧ ∀ a b j, ¬ (a = 1 ∧ b = t ∧ j = 1) → ¬ (a = 2 ∧ b = t) → σ' a b j = σ a b j
theorem digs : ∀ n : Nat, n < 65 → b8 (b8 (wr (48 + w_div n 10))) = ((48 + n / 10 : Nat) : Int) ∧ b8 (b8 (wr (48 + w_rem n 10))) = ((48 + n % 10 : Nat) : Int) := by decide +kernel
theorem tw_Text_digits {n : Nat} (hn : n < 65) (hF : ∀ σ', setT σ t (dig n) σ' → F none (nx, σ', rX kn tx)) : T_Text_digits SL xs [.inr (some (1, t)), .inl n] (nx, σ, rX kn tx) F := by
  obtain ⟨d1, d2⟩ := digs n hn
  have w1 : wr ((0 : Int) + 1) = 1 := by decide
  have w2 : wr ((1 : Int) + 1) = 2 := by decide
  refine run 40 ?_
  refine And.intro (fun h => ?_) (fun h => ?_)
  · have h : (n : Int) ≤ 9 := h
    refine And.intro (show ¬ (10 : Int) = 0 by omega) ?_
    refine call_eq (fun F hF => tw_Text_add (σ := upS σ 1 t 1 0) (by rw [upS_same]; omega) hF) ?_
    rw [upS_same, d2, w1]
    refine hF _ ⟨⟨?_, fun i hi => ?_⟩, fun a b j h1 h2 => ?_⟩
    · rw [upS_same]
      simp [dig, show ¬ 9 < n by omega]
    · have hi : i = 0 := by simp [dig, show ¬ 9 < n by omega] at hi; exact hi
      subst hi
      simp [upS, dig, show ¬ 9 < n by omega]
    · rw [upS_ne h1, upS_ne (fun q => h2 ⟨q.1, q.2.1⟩), upS_ne h1]
  · have h : ¬ (n : Int) ≤ 9 := h
    refine And.intro (show ¬ (10 : Int) = 0 by omega) ?_
    refine call_eq (fun F hF => tw_Text_add (σ := upS σ 1 t 1 0) (by rw [upS_same]; omega) hF) ?_
    rw [upS_same, d1, w1]
    refine And.intro (show ¬ (10 : Int) = 0 by omega) ?_
    refine call_eq (fun F hF => tw_Text_add (σ := upS (upS (upS σ 1 t 1 0) 2 t (0 : Int).toNat ((48 + n / 10 : Nat) : Int)) 1 t 1 1) (by rw [upS_same]; omega) hF) ?_
    rw [upS_same, d2, w2]
    refine hF _ ⟨⟨?_, fun i hi => ?_⟩, fun a b j h1 h2 => ?_⟩
    · rw [upS_same]
      simp [dig, show 9 < n by omega]
    · have hi : i = 0 ∨ i = 1 := by simp [dig, show 9 < n by omega] at hi; omega
      rcases hi with rfl | rfl
      · simp [upS, dig, show 9 < n by omega]
      · simp [upS, dig, show 9 < n by omega]
    · rw [upS_ne h1, upS_ne (fun q => h2 ⟨q.1, q.2.1⟩), upS_ne h1, upS_ne (fun q => h2 ⟨q.1, q.2.1⟩), upS_ne h1]
end
end
section
/-! What holds of the states of matching -/
def wfg (E : Ev) (p : Nat) (x : Gl) : Prop := (x.1 = 0 ∧ x.2.1 < ect E) ∨ ((x.1 = 1 ∨ x.1 = 2) ∧ x.2.1 < 8 ∧ x.2.2 ≤ p)
def kcn : List Gl → Nat
  | [] => 0
  | x :: r => (if x.1 = 1 then 1 else 0) + kcn r
def bcn : List Ch → Nat
  | [] => 0
  | x :: r => (if x.1 = 2 then 1 else 0) + bcn r
def wfk (E : Ev) (x : Kp) : Prop := x.1 < 8 ∧ x.2.1 ≤ x.2.2 ∧ x.2.2 ≤ (esb E).length
def wfc (E : Ev) (n : Nat) : List Ch → Prop
  | [] => True
  | x :: r => x.1 ≤ 3 ∧ x.2.1 ≤ (esb E).length ∧ (x.1 = 1 → x.2.1 < (esb E).length) ∧ bcn (x :: r) ≤ x.2.1 ∧ (∀ g ∈ x.2.2.1, wfg E x.2.1 g) ∧ x.2.2.2.length + kcn x.2.2.1 ≤ n ∧ (∀ q ∈ x.2.2.2, wfk E q) ∧ wfc E n r
def EvOK (E : Ev) : Prop := (esb E).length ≤ 64 ∧ ect E ≤ 64 ∧ ∀ k, k < ect E → ekd E k < 24 ∧ efa E k < 2147483648 ∧ (16 ≤ ekd E k ∧ ekd E k ≤ 20 → efa E k < ect E) ∧ (ekd E k = 17 ∨ ekd E k = 18 → efb E k < ect E) ∧ (ekd E k = 19 ∨ ekd E k = 20 → efb E k < 8) ∧ (ekd E k = 21 ∨ ekd E k = 22 → efa E k < 8)
def IG (E : Ev) (p : Nat) (g : List Gl) (c : List Ch) (q : List Kp) (n : Nat) : Prop := p ≤ (esb E).length ∧ bcn c ≤ p ∧ (∀ x ∈ g, wfg E p x) ∧ wfc E n c ∧ c.length ≤ n ∧ q.length + kcn g ≤ n ∧ n ≤ 3000 ∧ ∀ x ∈ q, wfk E x
def IB (E : Ev) (k p : Nat) (g : List Gl) (c : List Ch) (q : List Kp) (n : Nat) : Prop := k < ect E ∧ p ≤ (esb E).length ∧ bcn c ≤ p ∧ (∀ x ∈ g, wfg E p x) ∧ wfc E n c ∧ c.length + 1 ≤ n ∧ q.length + kcn g + 1 ≤ n ∧ n ≤ 3000 ∧ ∀ x ∈ q, wfk E x
def IK (E : Ev) (c : List Ch) (n : Nat) : Prop := wfc E n c ∧ c.length ≤ n ∧ n ≤ 3000
section
variable {E : Ev} {p p' k v f n : Nat} {g : List Gl} {c r : List Ch} {q : List Kp} {x : Ch}
theorem wfg.mono (h : p ≤ p') {x : Gl} (hx : wfg E p x) : wfg E p' x := by
  rcases hx with h1 | ⟨h1, h2, h3⟩
  · exact Or.inl h1
  · exact Or.inr ⟨h1, h2, by omega⟩
theorem wfc.mono {n' : Nat} (h : n ≤ n') : ∀ {c : List Ch}, wfc E n c → wfc E n' c
  | [], _ => trivial
  | x :: r, ⟨h1, h2, h2', h3, h4, h5, h6, h7⟩ => ⟨h1, h2, h2', h3, h4, by omega, h6, wfc.mono h h7⟩
theorem bcn_le {x : Ch} {r : List Ch} : bcn r ≤ bcn (x :: r) := by simp only [bcn]; omega
theorem IG.begin (h : IG E p ((0, k, f) :: g) c q n) (hn : ¬ n = 3000) : IB E k p g c q (n + 1) := by
  obtain ⟨h1, h2, h3, h4, h5, h6, h7, h8⟩ := h
  have hk : k < ect E := by
    rcases h3 _ List.mem_cons_self with h | ⟨h, -⟩
    · exact h.2
    · simp at h
  refine ⟨hk, h1, h2, fun x hx => h3 x (List.mem_cons_of_mem _ hx), h4.mono (by omega), by omega, ?_, by omega, h8⟩
  simp only [kcn] at h6
  simp at h6
  omega
theorem IG.kept (h : IG E p ((1, v, f) :: g) c q n) : v < 8 ∧ f ≤ p ∧ q.length < n ∧ IG E p g c (q ++ [(v, f, p)]) n := by
  obtain ⟨h1, h2, h3, h4, h5, h6, h7, h8⟩ := h
  have hv : v < 8 ∧ f ≤ p := by
    rcases h3 _ List.mem_cons_self with h | ⟨-, h⟩
    · simp at h
    · exact h
  simp only [kcn] at h6
  simp at h6
  refine ⟨hv.1, hv.2, by omega, h1, h2, fun x hx => h3 x (List.mem_cons_of_mem _ hx), h4, h5, by simp; omega, h7, fun x hx => ?_⟩
  rcases List.mem_append.mp hx with hx | hx
  · exact h8 x hx
  · rw [List.mem_singleton] at hx
    subst hx
    exact ⟨hv.1, hv.2, h1⟩
theorem IG.told {w : Nat} (hw : ¬ w = 0) (hw1 : ¬ w = 1) (h : IG E p ((w, v, f) :: g) c q n) : w = 2 ∧ v < 8 ∧ f ≤ p ∧ IG E p g c q n := by
  obtain ⟨h1, h2, h3, h4, h5, h6, h7, h8⟩ := h
  have hv : w = 2 ∧ v < 8 ∧ f ≤ p := by
    rcases h3 _ List.mem_cons_self with h | ⟨h, h9⟩
    · exact absurd h.1 hw
    · exact ⟨h.resolve_left hw1, h9⟩
  simp only [kcn] at h6
  refine ⟨hv.1, hv.2.1, hv.2.2, h1, h2, fun x hx => h3 x (List.mem_cons_of_mem _ hx), h4, h5, by omega, h7, h8⟩
/-- goals are put ahead: not the kept ones -/
theorem IB.go {g' : List Gl} (h : IB E k p g c q n) (hp : p ≤ p') (hp' : p' ≤ (esb E).length) (hg : ∀ x ∈ g', x ∈ g ∨ wfg E p' x) (hk : kcn g' ≤ kcn g + 1) : IG E p' g' c q n := by
  obtain ⟨h0, h1, h2, h3, h4, h5, h6, h7, h8⟩ := h
  refine ⟨hp', by omega, fun x hx => ?_, h4, by omega, by omega, h7, h8⟩
  rcases hg x hx with h | h
  · exact (h3 x h).mono hp
  · exact h
/-- a choice is left -/
theorem IB.ch {g' : List Gl} {w : Nat} (h : IB E k p g c q n) (hw : w ≤ 3) (hp : p ≤ p') (hp' : p' ≤ (esb E).length) (hw1 : w = 1 → p' < (esb E).length) (hw2 : w = 2 → p < p') (hg : ∀ x ∈ g', x ∈ g ∨ wfg E p' x) (hk : kcn g' ≤ kcn g + 1) : wfc E n ((w, p', g', q) :: c) ∧ ((w, p', g', q) :: c).length ≤ n ∧ bcn ((w, p', g', q) :: c) ≤ p' := by
  obtain ⟨h0, h1, h2, h3, h4, h5, h6, h7, h8⟩ := h
  have hb : bcn ((w, p', g', q) :: c) ≤ p' := by
    simp only [bcn]
    split
    · rename_i e
      have := hw2 e
      omega
    · omega
  refine ⟨⟨hw, hp', hw1, hb, fun x hx => ?_, by simp only; omega, h8, h4⟩, by simp; omega, hb⟩
  rcases hg x hx with h | h
  · exact (h3 x h).mono hp
  · exact h
theorem IB.back (h : IB E k p g c q n) : IK E c n := ⟨h.2.2.2.2.1, by have := h.2.2.2.2.2.1; omega, h.2.2.2.2.2.2.2.1⟩
theorem IK.pop (h : IK E (x :: r) n) : IG E x.2.1 x.2.2.1 r x.2.2.2 n ∧ IK E r n := by
  obtain ⟨⟨h1, h2, h2', h3, h4, h5, h6, h7⟩, h8, h9⟩ := h
  simp at h8
  exact ⟨⟨h2, by have := bcn_le (x := x) (r := r); omega, h4, h7, by omega, h5, h9, h6⟩, h7, by omega, h9⟩
/-- a choice is put back with a place further on -/
theorem IK.put {w : Nat} (h : IK E (x :: r) n) (hw : w ≤ 3) (hp : x.2.1 < p') (hp' : p' ≤ (esb E).length) (hw1 : w = 1 → p' < (esb E).length) : IG E p' x.2.2.1 ((w, p', x.2.2.1, x.2.2.2) :: r) x.2.2.2 n ∧ IG E p' x.2.2.1 r x.2.2.2 n := by
  obtain ⟨⟨h1, h2, h2', h3, h4, h5, h6, h7⟩, h8, h9⟩ := h
  simp at h8
  have hb := bcn_le (x := x) (r := r)
  have hb2 : bcn ((w, p', x.2.2.1, x.2.2.2) :: r) ≤ p' := by
    simp only [bcn]
    split <;> omega
  exact ⟨⟨hp', hb2, fun y hy => (h4 y hy).mono (by omega), ⟨hw, hp', hw1, hb2, fun y hy => (h4 y hy).mono (by show x.2.1 ≤ p'; omega), h5, h6, h7⟩, by simp; omega, h5, h9, h6⟩, ⟨hp', by omega, fun y hy => (h4 y hy).mono (by omega), h7, by omega, h5, h9, h6⟩⟩
theorem balF_bd (S : List Int) : ∀ (m : Nat) (d : Int) (p p' : Nat), balF S m d p = some p' → p < p' ∧ p' ≤ p + m
  | 0, d, p, p', h => by cases h
  | m + 1, d, p, p', h => by
    simp only [balF] at h
    split at h
    · cases h
    · split at h
      · have := balF_bd S m _ (p + 1) p' h
        omega
      · cases h
        omega
theorem balN_bd {S : List Int} {p p' : Nat} (hp : p ≤ S.length) (h : balN S p = some p') : p < p' ∧ p' ≤ S.length := by
  have := balF_bd S _ _ _ _ h
  omega
theorem scan_bd (fn : Int → Bool) (S : List Int) : ∀ m p, p ≤ scanB fn S m p ∧ scanB fn S m p ≤ p + m
  | 0, p => by simp [scanB]
  | m + 1, p => by
    simp only [scanB]
    split
    · have := scan_bd fn S m (p + 1)
      omega
    · omega
theorem plA_bd {ν : Nu} {pl : Nat} (hp : p ≤ (esb E).length) (h : plA E ν k p = some pl) : p ≤ pl ∧ pl ≤ (esb E).length := by
  unfold plA at h
  split at h
  all_goals first
    | (cases h; done)
    | (cases h; omega)
    | (split at h <;> first | (cases h; done) | skip)
  case h_1 hq =>
    cases h
    have := atT_len hq hp
    omega
  case h_2 hq => cases h; omega
  case h_3 hq => cases h; omega
  case h_4 hq =>
    cases h
    have := scan_bd (fun x => decide (x ∈ ewd E k)) (esb E) ((esb E).length - p) p
    unfold spn
    omega
  case h_5 hq =>
    cases h
    have := scan_bd (fun x => !decide (x ∈ ewd E k)) (esb E) ((esb E).length - p) p
    unfold brk
    omega
  case h_6 hq => cases h; omega
  case h_7 hq => cases h; omega
  case h_8 hq => cases h; omega
  case h_9 hq => cases h; omega
  case h_10 hq => cases h; omega
  case h_12 hq =>
    cases h
    have := atT_len hq hp
    omega
end
end
section
/-! How the component's cells hold the states of matching -/
def chn (σ : Sg) : Nat → Int → List Gl → Prop
  | _, g, [] => g = -1
  | tp, g, x :: r => ∃ i : Nat, g = i ∧ i < tp ∧ σ 11 0 i = x.1 ∧ σ 12 0 i = x.2.1 ∧ σ 13 0 i = x.2.2 ∧ chn σ i (σ 14 0 i) r
def kpR (σ : Sg) (q : List Kp) : Prop := ∀ i, i < q.length → σ 23 0 i = (q.getD i (0, 0, 0)).1 ∧ σ 24 0 i = (q.getD i (0, 0, 0)).2.1 ∧ σ 25 0 i = (q.getD i (0, 0, 0)).2.2
def chR (σ : Sg) : Nat → Nat → List Ch → Prop
  | _, _, [] => True
  | tp, kl, x :: r => σ 16 0 r.length = x.1 ∧ σ 17 0 r.length = x.2.1 ∧ σ 21 0 r.length = 0 ∧ ∃ t : Nat, σ 19 0 r.length = t ∧ t ≤ tp ∧ chn σ t (σ 18 0 r.length) x.2.2.1 ∧ σ 20 0 r.length = x.2.2.2.length ∧ x.2.2.2.length ≤ kl ∧ kpR σ x.2.2.2 ∧ chR σ t x.2.2.2.length r
theorem chn.frame {σ σ' : Sg} : ∀ {g : List Gl} {tp : Nat} {x : Int}, (∀ a i, 11 ≤ a → a ≤ 14 → i < tp → σ' a 0 i = σ a 0 i) → chn σ tp x g → chn σ' tp x g
  | [], _, _, _, h => h
  | y :: r, tp, x, hf, ⟨i, h1, h2, h3, h4, h5, h6⟩ => ⟨i, h1, h2, by rw [hf 11 i (by omega) (by omega) h2]; exact h3, by rw [hf 12 i (by omega) (by omega) h2]; exact h4, by rw [hf 13 i (by omega) (by omega) h2]; exact h5, by
      rw [hf 14 i (by omega) (by omega) h2]
      exact chn.frame (fun a j ha hb hj => hf a j ha hb (by omega)) h6⟩
theorem chn.mono {σ : Sg} {tp tp' : Nat} (h : tp ≤ tp') : ∀ {g : List Gl} {x : Int}, chn σ tp x g → chn σ tp' x g
  | [], _, h1 => h1
  | _ :: _, _, ⟨i, h1, h2, h3⟩ => ⟨i, h1, by omega, h3⟩
theorem kpR.frame {σ σ' : Sg} {q : List Kp} (hf : ∀ a i, 23 ≤ a → a ≤ 25 → i < q.length → σ' a 0 i = σ a 0 i) (h : kpR σ q) : kpR σ' q := fun i hi => by
  obtain ⟨h1, h2, h3⟩ := h i hi
  exact ⟨by rw [hf 23 i (by omega) (by omega) hi]; exact h1, by rw [hf 24 i (by omega) (by omega) hi]; exact h2, by rw [hf 25 i (by omega) (by omega) hi]; exact h3⟩
theorem chR.frame {σ σ' : Sg} : ∀ {c : List Ch} {tp kl : Nat}, (∀ a i, 11 ≤ a → a ≤ 14 → i < tp → σ' a 0 i = σ a 0 i) → (∀ a i, 23 ≤ a → a ≤ 25 → i < kl → σ' a 0 i = σ a 0 i) → (∀ a i, 16 ≤ a → a ≤ 21 → i < c.length → σ' a 0 i = σ a 0 i) → chR σ tp kl c → chR σ' tp kl c
  | [], _, _, _, _, _, _ => trivial
  | x :: r, tp, kl, f1, f2, f3, ⟨h1, h2, h2', t, h3, h4, h5, h6, h7, h8, h9⟩ => by
    have e : ∀ a, 16 ≤ a → a ≤ 21 → σ' a 0 r.length = σ a 0 r.length := fun a ha hb => f3 a r.length ha hb (by simp)
    refine ⟨by rw [e 16 (by omega) (by omega)]; exact h1, by rw [e 17 (by omega) (by omega)]; exact h2, by rw [e 21 (by omega) (by omega)]; exact h2', t, by rw [e 19 (by omega) (by omega)]; exact h3, h4, ?_, by rw [e 20 (by omega) (by omega)]; exact h6, h7, h8.frame (fun a i ha hb hi => f2 a i ha hb (by omega)), ?_⟩
    · rw [e 18 (by omega) (by omega)]
      exact h5.frame (fun a i ha hb hi => f1 a i ha hb (by omega))
    · exact h9.frame (fun a i ha hb hi => f1 a i ha hb (by omega)) (fun a i ha hb hi => f2 a i ha hb (by omega)) (fun a i ha hb hi => f3 a i ha hb (by simp; omega))
theorem chR.mono {σ : Sg} {tp tp' kl kl' : Nat} (h : tp ≤ tp') (h' : kl ≤ kl') : ∀ {c : List Ch}, chR σ tp kl c → chR σ tp' kl' c
  | [], _ => trivial
  | _ :: _, ⟨h1, h2, h2', t, h3, h4, h5, h6, h7, h8⟩ => ⟨h1, h2, h2', t, h3, by omega, h5, h6, by omega, h8⟩
/-- what stays while it matches -/
def fr (σ0 σ : Sg) : Prop := ∀ a b j, ¬ (9 ≤ a ∧ a ≤ 25 ∧ ¬ (a = 9 ∧ 10 ≤ j)) → ¬ ((a = 1 ∨ a = 2) ∧ 3 ≤ b ∧ b < 11) → σ a b j = σ0 a b j
theorem fr.up {σ0 σ : Sg} {a b j : Nat} {v : Int} (h : fr σ0 σ) (h1 : 9 ≤ a) (h2 : a ≤ 25) (h5 : ¬ (a = 9 ∧ 10 ≤ j)) : fr σ0 (upS σ a b j v) := fun a' b' j' h3 h4 => by
  rw [upS_ne (fun q => h3 ⟨by omega, by omega, by omega⟩)]
  exact h a' b' j' h3 h4
theorem fr.txt {σ0 σ σ' : Sg} {v : Nat} {l : List Int} (h : fr σ0 σ) (hv : v < 8) (hs : setT σ (3 + v) l σ') : fr σ0 σ' := fun a' b' j' h3 h4 => by
  rw [hs.2 a' b' j' (fun q => h4 ⟨Or.inl q.1, by omega, by omega⟩) (fun q => h4 ⟨Or.inr q.1, by omega, by omega⟩)]
  exact h a' b' j' h3 h4
def EvC (E : Ev) (σ : Sg) (kn : Nat → Option Nat) (tx : Nat → Bool) : Prop := σ 4 0 4 = ect E ∧ tl (σ 2 2) (σ 1 2 1) (esb E) ∧ ∀ k, k < ect E → kn k = some (ekd E k) ∧ σ 6 0 k = efa E k ∧ σ 7 0 k = efb E k ∧ tx k = true ∧ tl (σ 2 (11 + k)) (σ 1 (11 + k) 1) (ewd E k) ∧ (ewd E k).length ≤ 64
def NuC (ν : Nu) (σ : Sg) : Prop := ∀ v, v < 8 → tl (σ 2 (3 + v)) (σ 1 (3 + v) 1) (ν v) ∧ (ν v).length ≤ 64
def RB (E : Ev) (kn : Nat → Option Nat) (tx : Nat → Bool) (σ0 σ : Sg) (ν : Nu) (n : Nat) : Prop := fr σ0 σ ∧ EvOK E ∧ EvC E σ0 kn tx ∧ NuC ν σ ∧ σ 9 0 6 = n
def RG (E : Ev) (kn : Nat → Option Nat) (tx : Nat → Bool) (σ0 σ : Sg) (tp p : Nat) (g : List Gl) (c : List Ch) (q : List Kp) (ν : Nu) (n : Nat) : Prop :=
  RB E kn tx σ0 σ ν n ∧ σ 9 0 7 = p ∧ chn σ tp (σ 9 0 8) g ∧ σ 10 0 4 = tp ∧ tp ≤ 2 * n + 1 ∧ σ 15 0 6 = c.length ∧ chR σ tp q.length c ∧ σ 22 0 3 = q.length ∧ kpR σ q
def RK (E : Ev) (kn : Nat → Option Nat) (tx : Nat → Bool) (σ0 σ : Sg) (c : List Ch) (ν : Nu) (n : Nat) : Prop := RB E kn tx σ0 σ ν n ∧ σ 15 0 6 = c.length ∧ ∃ tp kl : Nat, tp ≤ 2 * n + 1 ∧ chR σ tp kl c
section
variable {E : Ev} {kn : Nat → Option Nat} {tx : Nat → Bool} {σ0 σ : Sg} {tp p n k : Nat} {g : List Gl} {c r : List Ch} {q : List Kp} {ν : Nu} {x : Ch}
theorem RB.up {a j : Nat} {v : Int} (h : RB E kn tx σ0 σ ν n) (h1 : 9 ≤ a) (h2 : a ≤ 25) (h3 : ¬ (a = 9 ∧ (j = 6 ∨ 10 ≤ j))) : RB E kn tx σ0 (upS σ a 0 j v) ν n := by
  obtain ⟨f, eo, e, nu, hn⟩ := h
  refine ⟨f.up h1 h2 (by omega), eo, e, fun v hv => ?_, by rw [upS_ne (fun q => h3 ⟨by omega, by omega⟩)]; exact hn⟩
  obtain ⟨⟨h4, h5⟩, h6⟩ := nu v hv
  exact ⟨⟨by rw [upS_ne (by omega)]; exact h4, fun i hi => by rw [upS_ne (by omega)]; exact h5 i hi⟩, h6⟩
theorem RB.sub (h : RB E kn tx σ0 σ ν n) : tl (σ 2 2) (σ 1 2 1) (esb E) ∧ (esb E).length ≤ 64 := by
  obtain ⟨f, eo, e, nu, hn⟩ := h
  exact ⟨⟨by rw [f 1 2 1 (by omega) (by omega)]; exact e.2.1.1, fun i hi => by rw [f 2 2 i (by omega) (by omega)]; exact e.2.1.2 i hi⟩, eo.1⟩
theorem RB.node (h : RB E kn tx σ0 σ ν n) (hk : k < ect E) : kn k = some (ekd E k) ∧ σ 6 0 k = efa E k ∧ σ 7 0 k = efb E k ∧ tx k = true ∧ tl (σ 2 (11 + k)) (σ 1 (11 + k) 1) (ewd E k) ∧ (ewd E k).length ≤ 64 := by
  obtain ⟨f, eo, e, nu, hn⟩ := h
  obtain ⟨h1, h2, h3, h4, ⟨h5, h6⟩, h7⟩ := e.2.2 k hk
  exact ⟨h1, by rw [f 6 0 k (by omega) (by omega)]; exact h2, by rw [f 7 0 k (by omega) (by omega)]; exact h3, h4, ⟨by rw [f 1 (11 + k) 1 (by omega) (by omega)]; exact h5, fun i hi => by rw [f 2 (11 + k) i (by omega) (by omega)]; exact h6 i hi⟩, h7⟩
theorem RB.cnt (h : RB E kn tx σ0 σ ν n) : σ 4 0 4 = ect E := by
  rw [h.1 4 0 4 (by omega) (by omega)]
  exact h.2.2.1.1
theorem RB.set {v : Nat} {l : List Int} {σ' : Sg} (h : RB E kn tx σ0 σ ν n) (hv : v < 8) (hl : l.length ≤ 64) (hs : setT σ (3 + v) l σ') : RB E kn tx σ0 σ' (upN ν v l) n := by
  obtain ⟨f, eo, e, nu, hn⟩ := h
  refine ⟨f.txt hv hs, eo, e, fun w hw => ?_, by rw [hs.2 9 0 6 (by omega) (by omega)]; exact hn⟩
  by_cases hwv : w = v
  · subst hwv
    simp only [upN, if_true]
    exact ⟨hs.1, hl⟩
  · simp only [upN, if_neg hwv]
    obtain ⟨⟨h4, h5⟩, h6⟩ := nu w hw
    exact ⟨⟨by rw [hs.2 1 (3 + w) 1 (by omega) (by omega)]; exact h4, fun i hi => by rw [hs.2 2 (3 + w) i (by omega) (by omega)]; exact h5 i hi⟩, h6⟩
/-- the place is set -/
theorem RG.place {p' : Nat} (h : RG E kn tx σ0 σ tp p g c q ν n) : RG E kn tx σ0 (upS σ 9 0 7 (p' : Int)) tp p' g c q ν n := by
  obtain ⟨hb, h1, h2, h3, h4, h5, h6, h7, h8⟩ := h
  refine ⟨hb.up (by omega) (by omega) (by omega), upS_same, ?_, by rw [upS_ne (by omega)]; exact h3, h4, by rw [upS_ne (by omega)]; exact h5, ?_, by rw [upS_ne (by omega)]; exact h7, ?_⟩
  · rw [upS_ne (by omega)]
    exact h2.frame (fun a i ha hb hi => upS_ne (by omega))
  · exact h6.frame (fun a i ha hb hi => upS_ne (by omega)) (fun a i ha hb hi => upS_ne (by omega)) (fun a i ha hb hi => upS_ne (by omega))
  · exact h8.frame (fun a i ha hb hi => upS_ne (by omega))
theorem RG.back (h : RG E kn tx σ0 σ tp p g c q ν n) : RK E kn tx σ0 σ c ν n := ⟨h.1, h.2.2.2.2.2.1, tp, q.length, h.2.2.2.2.1, h.2.2.2.2.2.2.1⟩
theorem RK.up {a j : Nat} {v : Int} (h : RK E kn tx σ0 σ c ν n) (ha : a = 9 ∨ a = 10 ∨ a = 22) (h3 : ¬ (a = 9 ∧ (j = 6 ∨ 10 ≤ j))) : RK E kn tx σ0 (upS σ a 0 j v) c ν n := by
  obtain ⟨hb, h1, tp, kl, h2, h4⟩ := h
  exact ⟨hb.up (by omega) (by omega) h3, by rw [upS_ne (by omega)]; exact h1, tp, kl, h2, h4.frame (fun a i ha hb hi => upS_ne (by omega)) (fun a i ha hb hi => upS_ne (by omega)) (fun a i ha hb hi => upS_ne (by omega))⟩
/-- a cell is added to the goals (not yet the first one) -/
theorem gad_at {w a f x : Int} (ht : σ 10 0 4 = tp) : gad σ w a f x 11 0 tp = w ∧ gad σ w a f x 12 0 tp = a ∧ gad σ w a f x 13 0 tp = f ∧ gad σ w a f x 14 0 tp = x ∧ gad σ w a f x 10 0 4 = ((tp + 1 : Nat) : Int) := by
  simp only [gad, gadW, ht, Int.toNat_natCast]
  refine ⟨by simp [upS], by simp [upS], by simp [upS], by simp [upS], by rw [upS_same]; omega⟩
theorem gad_ne {w a f x : Int} (ht : σ 10 0 4 = tp) {a' b' j' : Nat} (h : ¬ (11 ≤ a' ∧ a' ≤ 14 ∧ j' = tp)) (h2 : ¬ (a' = 10 ∧ j' = 4)) : gad σ w a f x a' b' j' = σ a' b' j' := by
  simp only [gad, gadW, ht, Int.toNat_natCast]
  rw [upS_ne (by omega), upS_ne (by omega), upS_ne (by omega), upS_ne (by omega), upS_ne (by omega)]
theorem RG.addG {w a f : Nat} {x : Int} {g' : List Gl} (h : RG E kn tx σ0 σ tp p g c q ν n) (hx : chn σ tp x g') (hn : tp + 1 ≤ 2 * n + 1) :
    RG E kn tx σ0 (gad σ w a f x) (tp + 1) p g c q ν n ∧ chn (gad σ w a f x) (tp + 1) (tp : Int) ((w, a, f) :: g') := by
  obtain ⟨hb, h1, h2, h3, h4, h5, h6, h7, h8⟩ := h
  have at_ := gad_at (σ := σ) (w := w) (a := a) (f := f) (x := x) h3
  have ne := fun {a' b' j' : Nat} => gad_ne (σ := σ) (w := w) (a := a) (f := f) (x := x) h3 (a' := a') (b' := b') (j' := j')
  have fr1 : ∀ a' i, 11 ≤ a' → a' ≤ 14 → i < tp → gad σ w a f x a' 0 i = σ a' 0 i := fun a' i _ _ hi => ne (by omega) (by omega)
  refine ⟨⟨?_, by rw [ne (by omega) (by omega)]; exact h1, ?_, at_.2.2.2.2, hn, by rw [ne (by omega) (by omega)]; exact h5, ?_, by rw [ne (by omega) (by omega)]; exact h7, h8.frame (fun a' i _ _ hi => ne (by omega) (by omega))⟩, tp, rfl, by omega, at_.1, at_.2.1, at_.2.2.1, ?_⟩
  · exact ((((hb.up (by omega) (by omega) (by omega)).up (by omega) (by omega) (by omega)).up (by omega) (by omega) (by omega)).up (by omega) (by omega) (by omega)).up (by omega) (by omega) (by omega)
  · rw [ne (by omega) (by omega)]
    exact (h2.frame fr1).mono (by omega)
  · exact (h6.frame fr1 (fun a' i _ _ hi => ne (by omega) (by omega)) (fun a' i _ _ hi => ne (by omega) (by omega))).mono (by omega) (Nat.le_refl _)
  · rw [at_.2.2.2.1]
    exact hx.frame fr1
/-- the first goal is set -/
theorem RG.goal {g' : List Gl} {x : Int} (h : RG E kn tx σ0 σ tp p g c q ν n) (hx : chn σ tp x g') : RG E kn tx σ0 (upS σ 9 0 8 x) tp p g' c q ν n := by
  obtain ⟨hb, h1, h2, h3, h4, h5, h6, h7, h8⟩ := h
  refine ⟨hb.up (by omega) (by omega) (by omega), by rw [upS_ne (by omega)]; exact h1, ?_, by rw [upS_ne (by omega)]; exact h3, h4, by rw [upS_ne (by omega)]; exact h5, ?_, by rw [upS_ne (by omega)]; exact h7, ?_⟩
  · rw [upS_same]
    exact hx.frame (fun a i ha hb hi => upS_ne (by omega))
  · exact h6.frame (fun a i ha hb hi => upS_ne (by omega)) (fun a i ha hb hi => upS_ne (by omega)) (fun a i ha hb hi => upS_ne (by omega))
  · exact h8.frame (fun a i ha hb hi => upS_ne (by omega))
theorem RG.res {x : Int} (h : RG E kn tx σ0 σ tp p g c q ν n) : RG E kn tx σ0 (upS σ 9 0 9 x) tp p g c q ν n := by
  obtain ⟨hb, h1, h2, h3, h4, h5, h6, h7, h8⟩ := h
  refine ⟨hb.up (by omega) (by omega) (by omega), by rw [upS_ne (by omega)]; exact h1, ?_, by rw [upS_ne (by omega)]; exact h3, h4, by rw [upS_ne (by omega)]; exact h5, ?_, by rw [upS_ne (by omega)]; exact h7, ?_⟩
  · rw [upS_ne (by omega)]
    exact h2.frame (fun a i ha hb hi => upS_ne (by omega))
  · exact h6.frame (fun a i ha hb hi => upS_ne (by omega)) (fun a i ha hb hi => upS_ne (by omega)) (fun a i ha hb hi => upS_ne (by omega))
  · exact h8.frame (fun a i ha hb hi => upS_ne (by omega))
theorem cad_at {w p x : Int} {m : Nat} (ht : σ 15 0 6 = m) : cad σ w p x 16 0 m = w ∧ cad σ w p x 17 0 m = p ∧ cad σ w p x 18 0 m = x ∧ cad σ w p x 19 0 m = σ 10 0 4 ∧ cad σ w p x 20 0 m = σ 22 0 3 ∧ cad σ w p x 21 0 m = 0 ∧ cad σ w p x 15 0 6 = ((m + 1 : Nat) : Int) := by
  simp only [cad, cadW, ht, Int.toNat_natCast]
  refine ⟨by simp [upS], by simp [upS], by simp [upS], by simp [upS], by simp [upS], by simp [upS], by rw [upS_same]; omega⟩
theorem cad_ne {w p x : Int} {m : Nat} (ht : σ 15 0 6 = m) {a' b' j' : Nat} (h : ¬ (16 ≤ a' ∧ a' ≤ 21 ∧ j' = m)) (h2 : ¬ (a' = 15 ∧ j' = 6)) : cad σ w p x a' b' j' = σ a' b' j' := by
  simp only [cad, cadW, ht, Int.toNat_natCast]
  rw [upS_ne (by omega), upS_ne (by omega), upS_ne (by omega), upS_ne (by omega), upS_ne (by omega), upS_ne (by omega), upS_ne (by omega)]
/-- a choice is put on the pile -/
theorem RG.addC {w pc : Nat} {x : Int} {g' : List Gl} (h : RG E kn tx σ0 σ tp p g c q ν n) (hx : chn σ tp x g') : RG E kn tx σ0 (cad σ w pc x) tp p g ((w, pc, g', q) :: c) q ν n := by
  obtain ⟨hb, h1, h2, h3, h4, h5, h6, h7, h8⟩ := h
  have at_ := cad_at (σ := σ) (w := w) (p := pc) (x := x) h5
  have ne := fun {a' b' j' : Nat} => cad_ne (σ := σ) (w := w) (p := pc) (x := x) h5 (a' := a') (b' := b') (j' := j')
  have fr1 : ∀ a' i, 11 ≤ a' → a' ≤ 14 → i < tp → cad σ w pc x a' 0 i = σ a' 0 i := fun a' i _ _ hi => ne (by omega) (by omega)
  have fr2 : ∀ a' i, 23 ≤ a' → a' ≤ 25 → i < q.length → cad σ w pc x a' 0 i = σ a' 0 i := fun a' i _ _ hi => ne (by omega) (by omega)
  refine ⟨?_, by rw [ne (by omega) (by omega)]; exact h1, ?_, by rw [ne (by omega) (by omega)]; exact h3, h4, at_.2.2.2.2.2.2, ⟨at_.1, at_.2.1, at_.2.2.2.2.2.1, tp, by rw [at_.2.2.2.1]; exact h3, Nat.le_refl _, ?_, by rw [at_.2.2.2.2.1]; exact h7, Nat.le_refl _, h8.frame fr2, ?_⟩, by rw [ne (by omega) (by omega)]; exact h7, h8.frame fr2⟩
  · exact ((((((hb.up (by omega) (by omega) (by omega)).up (by omega) (by omega) (by omega)).up (by omega) (by omega) (by omega)).up (by omega) (by omega) (by omega)).up (by omega) (by omega) (by omega)).up (by omega) (by omega) (by omega)).up (by omega) (by omega) (by omega)
  · rw [ne (by omega) (by omega)]
    exact h2.frame fr1
  · rw [at_.2.2.1]
    exact hx.frame fr1
  · exact h6.frame fr1 fr2 (fun a' i _ _ hi => ne (by omega) (by omega))
theorem kad_at {v f u : Int} {m : Nat} (ht : σ 22 0 3 = m) : kad σ v f u 23 0 m = v ∧ kad σ v f u 24 0 m = f ∧ kad σ v f u 25 0 m = u ∧ kad σ v f u 22 0 3 = ((m + 1 : Nat) : Int) := by
  simp only [kad, ht, Int.toNat_natCast]
  refine ⟨by simp [upS], by simp [upS], by simp [upS], by rw [upS_same]; omega⟩
theorem kad_ne {v f u : Int} {m : Nat} (ht : σ 22 0 3 = m) {a' b' j' : Nat} (h : ¬ (23 ≤ a' ∧ a' ≤ 25 ∧ j' = m)) (h2 : ¬ (a' = 22 ∧ j' = 3)) : kad σ v f u a' b' j' = σ a' b' j' := by
  simp only [kad, ht, Int.toNat_natCast]
  rw [upS_ne (by omega), upS_ne (by omega), upS_ne (by omega), upS_ne (by omega)]
theorem RG.addK {v f u : Nat} (h : RG E kn tx σ0 σ tp p g c q ν n) : RG E kn tx σ0 (kad σ v f u) tp p g c (q ++ [(v, f, u)]) ν n := by
  obtain ⟨hb, h1, h2, h3, h4, h5, h6, h7, h8⟩ := h
  have at_ := kad_at (σ := σ) (v := v) (f := f) (u := u) h7
  have ne := fun {a' b' j' : Nat} => kad_ne (σ := σ) (v := v) (f := f) (u := u) h7 (a' := a') (b' := b') (j' := j')
  have fr2 : ∀ a' i, 23 ≤ a' → a' ≤ 25 → i < q.length → kad σ v f u a' 0 i = σ a' 0 i := fun a' i _ _ hi => ne (by omega) (by omega)
  refine ⟨?_, by rw [ne (by omega) (by omega)]; exact h1, ?_, by rw [ne (by omega) (by omega)]; exact h3, h4, by rw [ne (by omega) (by omega)]; exact h5, ?_, by rw [at_.2.2.2]; simp, fun i hi => ?_⟩
  · exact (((hb.up (by omega) (by omega) (by omega)).up (by omega) (by omega) (by omega)).up (by omega) (by omega) (by omega)).up (by omega) (by omega) (by omega)
  · rw [ne (by omega) (by omega)]
    exact h2.frame (fun a' i _ _ hi => ne (by omega) (by omega))
  · exact (h6.frame (fun a' i _ _ hi => ne (by omega) (by omega)) fr2 (fun a' i _ _ hi => ne (by omega) (by omega))).mono (Nat.le_refl _) (by simp)
  · by_cases hq : i < q.length
    · rw [List.getD_eq_getElem?_getD, List.getElem?_append_left hq, ← List.getD_eq_getElem?_getD, fr2 23 i (by omega) (by omega) hq, fr2 24 i (by omega) (by omega) hq, fr2 25 i (by omega) (by omega) hq]
      exact h8 i hq
    · have hi2 : i = q.length := by simp at hi; omega
      subst hi2
      rw [List.getD_eq_getElem?_getD, List.getElem?_append_right (Nat.le_refl _), Nat.sub_self]
      exact ⟨at_.1, at_.2.1, at_.2.2.1⟩
/-- a variable is set -/
theorem RG.set {v : Nat} {l : List Int} {σ' : Sg} (h : RG E kn tx σ0 σ tp p g c q ν n) (hv : v < 8) (hl : l.length ≤ 64) (hs : setT σ (3 + v) l σ') : RG E kn tx σ0 σ' tp p g c q (upN ν v l) n := by
  obtain ⟨hb, h1, h2, h3, h4, h5, h6, h7, h8⟩ := h
  have ne : ∀ a b j, 9 ≤ a → σ' a b j = σ a b j := fun a b j ha => hs.2 a b j (by omega) (by omega)
  refine ⟨hb.set hv hl hs, by rw [ne 9 0 7 (by omega)]; exact h1, ?_, by rw [ne 10 0 4 (by omega)]; exact h3, h4, by rw [ne 15 0 6 (by omega)]; exact h5, ?_, by rw [ne 22 0 3 (by omega)]; exact h7, ?_⟩
  · rw [ne 9 0 8 (by omega)]
    exact h2.frame (fun a i ha hb hi => ne a 0 i (by omega))
  · exact h6.frame (fun a i ha hb hi => ne a 0 i (by omega)) (fun a i ha hb hi => ne a 0 i (by omega)) (fun a i ha hb hi => ne a 0 i (by omega))
  · exact h8.frame (fun a i ha hb hi => ne a 0 i (by omega))
/-- the topmost choice is taken -/
def bkS (σ : Sg) (z : Int) : Sg := upS (upS (upS (upS (upS σ 15 0 6 z) 10 0 4 (σ 19 0 z.toNat)) 22 0 3 (σ 20 0 z.toNat)) 9 0 7 (σ 17 0 z.toNat)) 9 0 8 (σ 18 0 z.toNat)
theorem RK.pop (h : RK E kn tx σ0 σ (x :: r) ν n) : ∃ tp, RG E kn tx σ0 (bkS σ (r.length : Int)) tp x.2.1 x.2.2.1 r x.2.2.2 ν n := by
  obtain ⟨hb, h1, tp, kl, h2, q1, q2, q2', t, q3, q4, q5, q6, q7, q8, q9⟩ := h
  have ne : ∀ a' b' j', ¬ (a' = 15 ∧ j' = 6) → ¬ (a' = 10 ∧ j' = 4) → ¬ (a' = 22 ∧ j' = 3) → ¬ (a' = 9 ∧ (j' = 7 ∨ j' = 8)) → bkS σ (r.length : Int) a' b' j' = σ a' b' j' := by
    intro a' b' j' k1 k2 k3 k4
    simp only [bkS]
    rw [upS_ne (by omega), upS_ne (by omega), upS_ne (by omega), upS_ne (by omega), upS_ne (by omega)]
  have e10 : bkS σ (r.length : Int) 10 0 4 = t := by
    simp only [bkS, Int.toNat_natCast]
    rw [upS_ne (by omega), upS_ne (by omega), upS_ne (by omega), upS_same]
    exact q3
  have e15 : bkS σ (r.length : Int) 15 0 6 = r.length := by
    simp only [bkS, Int.toNat_natCast]
    rw [upS_ne (by omega), upS_ne (by omega), upS_ne (by omega), upS_ne (by omega), upS_same]
  have e22 : bkS σ (r.length : Int) 22 0 3 = x.2.2.2.length := by
    simp only [bkS, Int.toNat_natCast]
    rw [upS_ne (by omega), upS_ne (by omega), upS_same]
    exact q6
  have e97 : bkS σ (r.length : Int) 9 0 7 = x.2.1 := by
    simp only [bkS, Int.toNat_natCast]
    rw [upS_ne (by omega), upS_same]
    exact q2
  have e98 : bkS σ (r.length : Int) 9 0 8 = σ 18 0 r.length := by
    simp only [bkS, Int.toNat_natCast]
    rw [upS_same]
  refine ⟨t, ?_, e97, ?_, e10, by omega, e15, ?_, e22, ?_⟩
  · exact ((((hb.up (by omega) (by omega) (by omega)).up (by omega) (by omega) (by omega)).up (by omega) (by omega) (by omega)).up (by omega) (by omega) (by omega)).up (by omega) (by omega) (by omega)
  · rw [e98]
    exact q5.frame (fun a i ha hb hi => ne a 0 i (by omega) (by omega) (by omega) (by omega))
  · exact q9.frame (fun a i ha hb hi => ne a 0 i (by omega) (by omega) (by omega) (by omega)) (fun a i ha hb hi => ne a 0 i (by omega) (by omega) (by omega) (by omega)) (fun a i ha hb hi => ne a 0 i (by omega) (by omega) (by omega) (by omega))
  · exact q8.frame (fun a i ha hb hi => ne a 0 i (by omega) (by omega) (by omega) (by omega))
end
end
section
/-! The component goes back, goes on -/
def lkI : List (Int × Nat) → Int → Option Nat
  | [], _ => none
  | q :: r, x => if x = q.1 then some q.2 else lkI r x
theorem swt_in {x : Int} {P : Nat → Prop} {d t : Nat} : ∀ {l : List (Int × Nat)}, lkI l x = some t → P t → swt x P d l
  | [], h, _ => by cases h
  | q :: r, h, hP => by
    simp only [lkI] at h
    refine ⟨fun e => ?_, fun e => ?_⟩
    · rw [if_pos e] at h
      cases h
      exact hP
    · rw [if_neg e] at h
      exact swt_in h hP
theorem swt_out {x : Int} {P : Nat → Prop} {d : Nat} : ∀ {l : List (Int × Nat)}, lkI l x = none → P d → swt x P d l
  | [], _, hP => hP
  | q :: r, h, hP => by
    simp only [lkI] at h
    refine ⟨fun e => ?_, fun e => ?_⟩
    · rw [if_pos e] at h
      cases h
    · rw [if_neg e] at h
      exact swt_out h hP
def yν (y : As) : Nu := y.2.2.2.2.2.2.1
def yn (y : As) : Nat := y.2.2.2.2.2.2.2
/-- behind a step: on, or at an end -/
def Gon (E : Ev) (kn : Nat → Option Nat) (tx : Nat → Bool) (σ0 : Sg) (f o : Nat) (y : As) (r : Int) (σ' : Sg) : Prop :=
  (r = 1 ∧ ∃ f' tp p g c q ν n, f' < f ∧ runA E f' (GS p g c q ν n) = some (o, y) ∧ RG E kn tx σ0 σ' tp p g c q ν n ∧ IG E p g c q n) ∨ (r = 0 ∧ ¬ o = 1 ∧ σ' 9 0 9 = o ∧ RB E kn tx σ0 σ' (yν y) (yn y))
section
variable {SL : Nat} {xs : Nat → Int} {nx : Nat} {σ σ0 : Sg} {kn : Nat → Option Nat} {tx : Nat → Bool} {F : Option Av → St → Prop} {E : Ev} {ν : Nu} {n o : Nat} {y : As}
theorem Gon.mono {f f' : Nat} {r : Int} {σ' : Sg} (h : f ≤ f') (hg : Gon E kn tx σ0 f o y r σ') : Gon E kn tx σ0 f' o y r σ' := by
  rcases hg with ⟨h1, f2, tp, p, g, c, q, ν, n, h2, h3⟩ | h1
  · exact Or.inl ⟨h1, f2, tp, p, g, c, q, ν, n, by omega, h3⟩
  · exact Or.inr h1
theorem runK {E : Ev} {f o : Nat} {c : List Ch} {ν : Nu} {n : Nat} {y : As} (h : runA E f (KS c ν n) = some (o, y)) : ∃ f', f = f' + 1 ∧ (match stepK E c ν n with | .inl z => runA E f' z | .inr z => some z) = some (o, y) := by
  cases f with
  | zero => cases h
  | succ f' => exact ⟨f', rfl, h⟩
theorem runB {E : Ev} {f o k p : Nat} {g : List Gl} {c : List Ch} {q : List Kp} {ν : Nu} {n : Nat} {y : As} (h : runA E f (BS k p g c q ν n) = some (o, y)) : ∃ f', f = f' + 1 ∧ (match stepB E k p g c q ν n with | .inl z => runA E f' z | .inr z => some z) = some (o, y) := by
  cases f with
  | zero => cases h
  | succ f' => exact ⟨f', rfl, h⟩
theorem runG {E : Ev} {f o p : Nat} {g : List Gl} {c : List Ch} {q : List Kp} {ν : Nu} {n : Nat} {y : As} (h : runA E f (GS p g c q ν n) = some (o, y)) : ∃ f', f = f' + 1 ∧ (match stepG E p g c q ν n with | .inl z => runA E f' z | .inr z => some z) = some (o, y) := by
  cases f with
  | zero => cases h
  | succ f' => exact ⟨f', rfl, h⟩
theorem tw_back : ∀ (c : List Ch) (d : Nat) (σ : Sg) (f : Nat) (F : Option Av → St → Prop), bcn c < d → RK E kn tx σ0 σ c ν n → IK E c n → runA E f (KS c ν n) = some (o, y) → (∀ r σ', Gon E kn tx σ0 f o y r σ' → F (some (.inl r)) (nx, σ', rX kn tx)) → T_Matcher_back SL xs d [.inr (some (9, 0))] (nx, σ, rX kn tx) F
  | [], d, σ, f, F, hd, hR, hI, hrun, hF => by
    obtain ⟨f', rfl, hrun⟩ := runK hrun
    cases hrun
    obtain ⟨d, rfl⟩ : ∃ d', d = d' + 1 := ⟨d - 1, by omega⟩
    refine run 20 ?_
    refine And.intro (fun h => absurd (show σ 15 0 6 = 0 from hR.2.1) h) (fun h => ?_)
    exact And.intro (Or.inl rfl) (hF 0 (upS σ 9 0 9 0) (Or.inr ⟨rfl, by omega, upS_same, hR.1.up (by omega) (by omega) (by omega)⟩))
  | x :: r, d, σ, f, F, hd, hR, hI, hrun, hF => by
    obtain ⟨f', rfl, hrun⟩ := runK hrun
    obtain ⟨d, rfl⟩ : ∃ d', d = d' + 1 := ⟨d - 1, by omega⟩
    have hlen : σ 15 0 6 = ((r.length + 1 : Nat) : Int) := hR.2.1
    have hcl : r.length + 1 ≤ 3000 := by
      have := hI.2.1
      have := hI.2.2
      simp at *
      omega
    have ew : wr (σ 15 0 6 - 1) = (r.length : Int) := by rw [hlen, wr_eq ⟨by omega, by omega⟩]; omega
    have hidx : 0 ≤ wr (σ 15 0 6 - 1) ∧ wr (σ 15 0 6 - 1) < 4096 := by rw [ew]; omega
    obtain ⟨tp, hG⟩ := hR.pop
    obtain ⟨hIG, hIr⟩ := hI.pop
    obtain ⟨hw3, -⟩ := hI.1
    have hkind : σ 16 0 (wr (σ 15 0 6 - 1)).toNat = x.1 := by
      rw [ew, Int.toNat_natCast]
      obtain ⟨tp', kl, -, q1, -⟩ := hR.2.2
      exact q1
    have hdep : σ 21 0 (wr (σ 15 0 6 - 1)).toNat = 0 := by
      rw [ew, Int.toNat_natCast]
      obtain ⟨tp', kl, -, -, -, q1, -⟩ := hR.2.2
      exact q1
    have hS := hG.1.sub
    have hct : 0 ≤ bkS σ (wr (σ 15 0 6 - 1)) 15 0 6 ∧ bkS σ (wr (σ 15 0 6 - 1)) 15 0 6 < 4096 := by
      rw [ew, hG.2.2.2.2.2.1]
      omega
    rw [← ew] at hG
    refine run 60 ?_
    refine And.intro (fun h => ?_) (fun h => absurd (Classical.not_not.mp h) (show ¬ σ 15 0 6 = 0 by rw [hlen]; omega))
    refine And.intro hidx ?_
    refine And.intro hidx ?_
    refine And.intro hidx ?_
    refine And.intro hidx ?_
    refine And.intro hidx ?_
    obtain ⟨w, p, g, q⟩ := x
    simp only at hw3 hkind hG hIG
    rcases w with _ | _ | _ | w
    · refine swt_out (show lkI _ (σ 16 0 (wr (σ 15 0 6 - 1)).toNat) = none by rw [hkind]; rfl) ?_
      exact And.intro (Or.inr rfl) (hF 1 (bkS σ (wr (σ 15 0 6 - 1))) (Or.inl ⟨rfl, f', tp, p, g, r, q, ν, n, by omega, hrun, hG, hIG⟩))
    · refine swt_in (t := 123) (show lkI _ (σ 16 0 (wr (σ 15 0 6 - 1)).toNat) = some 123 by rw [hkind]; rfl) ?_
      refine call_any (Y := fun v s' => v = none ∧ ∃ σ', s' = (nx, σ', rX kn tx) ∧ Gon E kn tx σ0 (f' + 1) o y 1 σ') (tw_Matcher_further (σ := bkS σ (wr (σ 15 0 6 - 1))) hG.2.1 hS.1.1 hS.2 (by have := hIG.1; have := hS.2; omega) hct (fun h => ⟨rfl, _, rfl, ?_⟩) (fun h => ⟨rfl, _, rfl, ?_⟩)) ?_
      · have hlt : p < (esb E).length := hI.1.2.2.1 rfl
        have hrun : runA E f' (GS (p + 1) g (if p + 1 < (esb E).length then (1, p + 1, g, q) :: r else r) q ν n) = some (o, y) := hrun
        rw [if_pos h] at hrun
        have hG2 := (hG.place (p' := p + 1)).addC (w := 1) (pc := p + 1) (hG.place (p' := p + 1)).2.2.1
        rw [upS_ne (by omega)] at hG2
        exact Or.inl ⟨rfl, f', tp, p + 1, g, _, q, ν, n, by omega, hrun, hG2, (hI.put (w := 1) (p' := p + 1) (by omega) (by simp) (by omega) (fun _ => h)).1⟩
      · have hlt : p < (esb E).length := hI.1.2.2.1 rfl
        have hrun : runA E f' (GS (p + 1) g (if p + 1 < (esb E).length then (1, p + 1, g, q) :: r else r) q ν n) = some (o, y) := hrun
        rw [if_neg h] at hrun
        exact Or.inl ⟨rfl, f', tp, p + 1, g, _, q, ν, n, by omega, hrun, hG.place, (hI.put (w := 0) (p' := p + 1) (by omega) (by simp) (by omega) (fun h => by cases h)).2⟩
      · intro v s' hv
        obtain ⟨rfl, σ', rfl, hg⟩ := hv
        exact And.intro (Or.inr rfl) (hF 1 σ' hg)
    · refine swt_in (t := 129) (show lkI _ (σ 16 0 (wr (σ 15 0 6 - 1)).toNat) = some 129 by rw [hkind]; rfl) ?_
      refine And.intro hidx ?_
      have hbp : p ≤ (esb E).length := hIG.1
      have hrun : (match (match balN (esb E) p with | some p' => Sum.inl (GS p' g ((2, p', g, q) :: r) q ν n) | none => Sum.inl (KS r ν n) : As ⊕ (Nat × As)) with | .inl z => runA E f' z | .inr z => some z) = some (o, y) := hrun
      refine call_any (Y := fun v s' => (v = some (.inl 1) ∧ ∃ σ', s' = (nx, σ', rX kn tx) ∧ Gon E kn tx σ0 (f' + 1) o y 1 σ') ∨ (v = some (.inl 0) ∧ ∃ σ', s' = (nx, σ', rX kn tx) ∧ RK E kn tx σ0 σ' r ν n ∧ runA E f' (KS r ν n) = some (o, y))) ?_ ?_
      · have K := tw_Matcher_balances (SL := SL) (xs := xs) (nx := nx) (σ := bkS σ (wr (σ 15 0 6 - 1))) (kn := kn) (tx := tx) (F := fun v s' => (v = some (.inl 1) ∧ ∃ σ', s' = (nx, σ', rX kn tx) ∧ Gon E kn tx σ0 (f' + 1) o y 1 σ') ∨ (v = some (.inl 0) ∧ ∃ σ', s' = (nx, σ', rX kn tx) ∧ RK E kn tx σ0 σ' r ν n ∧ runA E f' (KS r ν n) = some (o, y))) hS.1 hS.2 hct hG.2.1 hbp (fun p' hp' => Or.inl ⟨rfl, _, rfl, ?_⟩) (fun h p' => Or.inr ⟨rfl, _, rfl, ?_, ?_⟩)
        · have e0 : (bkS σ (wr (σ 15 0 6 - 1))) 21 0 (wr (σ 15 0 6 - 1)).toNat = 0 := hdep
          have K2 : T_Matcher_balances SL xs [.inr (some (9, 0)), .inl ((bkS σ (wr (σ 15 0 6 - 1))) 21 0 (wr (σ 15 0 6 - 1)).toNat)] (nx, bkS σ (wr (σ 15 0 6 - 1)), rX kn tx) (fun v s' => (v = some (.inl 1) ∧ ∃ σ', s' = (nx, σ', rX kn tx) ∧ Gon E kn tx σ0 (f' + 1) o y 1 σ') ∨ (v = some (.inl 0) ∧ ∃ σ', s' = (nx, σ', rX kn tx) ∧ RK E kn tx σ0 σ' r ν n ∧ runA E f' (KS r ν n) = some (o, y))) := by
            rw [e0]
            exact K
          exact K2
        · have hb := balN_bd hbp hp'
          rw [hp'] at hrun
          have hG2 := (hG.place (p' := p')).addC (w := 2) (pc := p') (hG.place (p' := p')).2.2.1
          rw [upS_ne (by omega)] at hG2
          exact Or.inl ⟨rfl, f', tp, p', g, _, q, ν, n, by omega, hrun, hG2, (hI.put (w := 2) (p' := p') (by omega) (by simp only; omega) hb.2 (fun h => by cases h)).1⟩
        · exact hG.back.up (Or.inl rfl) (by omega)
        · rw [h] at hrun
          exact hrun
      · intro v s' hv
        rcases hv with ⟨rfl, σ', rfl, hg⟩ | ⟨rfl, σ', rfl, hRr, hr2⟩
        · refine And.intro (fun h => ?_) (fun h => absurd (show ¬ (1 : Int) = 0 by omega) h)
          exact And.intro (Or.inr rfl) (hF 1 σ' hg)
        · refine And.intro (fun h => absurd (show (0 : Int) = 0 from rfl) h) (fun h => ?_)
          have hd2 : bcn r < d := by
            simp only [bcn] at hd
            simp at hd
            omega
          refine call_any (Y := fun v s' => ∃ r0 σ', v = some (.inl r0) ∧ s' = (nx, σ', rX kn tx) ∧ Gon E kn tx σ0 (f' + 1) o y r0 σ') (tw_back r d σ' f' _ hd2 hRr hIr hr2 (fun r0 σ'' hg => ⟨r0, σ'', rfl, rfl, hg.mono (by omega)⟩)) ?_
          intro v s' hv
          obtain ⟨r0, σ'', rfl, rfl, hg⟩ := hv
          have hr01 : r0 = 1 ∨ r0 = 0 := by
            rcases hg with h | h
            · exact Or.inl h.1
            · exact Or.inr h.1
          rcases hr01 with rfl | rfl
          · refine And.intro (fun h => absurd (show (1 : Int) = 0 from h) (by omega)) (fun h => ?_)
            exact And.intro (Or.inr rfl) (hF 1 σ'' hg)
          · refine And.intro (fun h => ?_) (fun h => absurd (show (0 : Int) = 0 from rfl) h)
            exact And.intro (Or.inl rfl) (hF 0 σ'' hg)
    · have hw : w = 0 := by omega
      subst hw
      refine swt_in (t := 116) (show lkI _ (σ 16 0 (wr (σ 15 0 6 - 1)).toNat) = some 116 by rw [hkind]; rfl) ?_
      cases hrun
      exact And.intro (Or.inl rfl) (hF 0 (upS (bkS σ (wr (σ 15 0 6 - 1))) 9 0 9 2) (Or.inr ⟨rfl, by omega, upS_same, hG.1.up (by omega) (by omega) (by omega)⟩))
end
end
section
/-! The component: one node, one goal, a match from one place on -/
section
variable {SL : Nat} {xs : Nat → Int} {nx : Nat} {σ σ0 : Sg} {kn : Nat → Option Nat} {tx : Nat → Bool} {F : Option Av → St → Prop} {E : Ev} {ν : Nu} {n o k p tp f : Nat} {g : List Gl} {c : List Ch} {q : List Kp} {y : As}
theorem IB.len (h : IB E k p g c q n) (hE : (esb E).length ≤ 64) : p ≤ 64 ∧ bcn c < 70 := by
  obtain ⟨h0, h1, h2, -⟩ := h
  omega
def aft (E : Ev) (f : Nat) (g : List Gl) (c : List Ch) (q : List Kp) (ν : Nu) (n : Nat) : Option Nat → Option (Nat × As)
  | some p' => runA E f (GS p' g c q ν n)
  | none => runA E f (KS c ν n)
theorem tw_goes {w to : Int} {r : Option Nat} (hR : RG E kn tx σ0 σ tp p g c q ν n) (hI : IB E k p g c q n) (hr : ∀ p', r = some p' → p ≤ p' ∧ p' ≤ (esb E).length ∧ to = p' ∧ w = 1) (hw : r = none → w = 0)
    (hrun : aft E f g c q ν n r = some (o, y)) (hF : ∀ r σ', Gon E kn tx σ0 (f + 1) o y r σ' → F (some (.inl r)) (nx, σ', rX kn tx)) :
    T_Matcher_goes SL xs [.inr (some (9, 0)), .inl w, .inl to] (nx, σ, rX kn tx) F := by
  have hb := hI.len hR.1.sub.2
  cases r with
  | some p' =>
    obtain ⟨h1, h2, rfl, rfl⟩ := hr p' rfl
    refine run 20 ?_
    refine And.intro (fun h => ?_) (fun h => absurd (show ¬ (1 : Int) = 0 by omega) h)
    exact And.intro (Or.inr rfl) (hF 1 _ (Or.inl ⟨rfl, f, tp, p', g, c, q, ν, n, by omega, hrun, hR.place, hI.go h1 h2 (fun x hx => Or.inl hx) (by omega)⟩))
  | none =>
    have hw := hw rfl
    subst hw
    refine run 20 ?_
    refine And.intro (fun h => absurd (show (0 : Int) = 0 from rfl) h) (fun h => ?_)
    refine call_any (Y := fun v s' => ∃ r0 σ', v = some (.inl r0) ∧ s' = (nx, σ', rX kn tx) ∧ Gon E kn tx σ0 (f + 1) o y r0 σ') (tw_back c 70 σ f _ hb.2 hR.back hI.back hrun (fun r0 σ'' hg => ⟨r0, σ'', rfl, rfl, hg.mono (by omega)⟩)) ?_
    intro v s' hv
    obtain ⟨r0, σ'', rfl, rfl, hg⟩ := hv
    have hr01 : r0 = 0 ∨ r0 = 1 := by
      rcases hg with h | h
      · exact Or.inr h.1
      · exact Or.inl h.1
    exact And.intro hr01 (hF r0 σ'' hg)
def cmL : List (Int × Nat) := [(11, 80), (12, 110), (13, 375), (14, 131), (15, 147), (16, 154), (17, 194), (18, 224), (19, 272), (20, 272), (21, 324), (22, 375), (23, 339)]
abbrev cmX (SL : Nat) (xs : Nat → Int) (F : Option Av → St → Prop) (pc : Nat) (k a b : Int) (s : St) : Prop := Xz SL xs (m_Matcher_composes SL xs) F (pc, [some (.inr (some (9, 0))), some (.inl k), some (.inl a), some (.inl b), none], [], s, 0, 0)
theorem cm_sw {t kd : Nat} {a b : Int} (hk : k < 64) (hn : kn k = some kd) (h : lkI cmL (kd : Int) = some t) (K : cmX SL xs F t k a b (nx, σ, rX kn tx)) : T_Matcher_composes SL xs [.inr (some (9, 0)), .inl k, .inl a, .inl b] (nx, σ, rX kn tx) F := by
  refine run 7 ?_
  refine And.intro ⟨show (0 : Int) ≤ (k : Int) by omega, show (k : Int) < 64 by omega⟩ ?_
  refine call_eq (v0 := some (.inl (kd : Int))) (s0 := (nx, σ, rX kn tx)) (fun F hF => ?_) ?_
  · show vT 8 (T_Enum_ordinal SL xs) [.inr ((kn (k : Int).toNat).map (fun k => (45, k)))] (nx, σ, rX kn tx) F
    rw [Int.toNat_natCast, hn]
    exact tw_Enum_ordinal hF
  · refine swt_in (t := t) (show lkI _ (kd : Int) = some t from h) ?_
    exact K
theorem cm_11 {a b : Int} (hk : ekd E k = 11) (hR : RG E kn tx σ0 σ tp p g c q ν n) (hI : IB E k p g c q n) (hrun : runA E (f + 1) (BS k p g c q ν n) = some (o, y)) (hF : ∀ r σ', Gon E kn tx σ0 (f + 1) o y r σ' → F (some (.inl r)) (nx, σ', rX kn tx)) : cmX SL xs F 80 k a b (nx, σ, rX kn tx) := by
  have hrun : runA E f (GS p g (if p < (esb E).length then (1, p, g, q) :: c else c) q ν n) = some (o, y) := by
    rw [runA_B] at hrun
    simp only [stepB, hk] at hrun
    exact hrun
  have hS := hR.1.sub
  have hl : σ 1 2 1 = (esb E).length := hS.1.1
  have hp : σ 9 0 7 = p := hR.2.1
  have hc : σ 15 0 6 = c.length := hR.2.2.2.2.2.1
  have hcl := hI.back.2
  refine run 40 ?_
  refine And.intro (fun h => ?_) (fun h => ?_)
  · have h : σ 1 2 1 ≤ σ 9 0 7 := h
    rw [hl, hp] at h
    rw [if_neg (by omega)] at hrun
    exact And.intro (Or.inr rfl) (hF 1 _ (Or.inl ⟨rfl, f, tp, p, g, c, q, ν, n, by omega, hrun, hR, hI.go (Nat.le_refl _) hI.2.1 (fun x hx => Or.inl hx) (by omega)⟩))
  · have h : ¬ σ 1 2 1 ≤ σ 9 0 7 := h
    rw [hl, hp] at h
    rw [if_pos (by omega)] at hrun
    refine call_eq (fun F hF => tw_Matcher_choose (k := 1) (by rw [hc]; omega) (by omega) hF) ?_
    have hR2 : RG E kn tx σ0 (cad σ (1 : Nat) (σ 9 0 7) (σ 9 0 8)) tp p g ((1, p, g, q) :: c) q ν n := by
      rw [hp]
      exact hR.addC (w := 1) (pc := p) hR.2.2.1
    have hch := hI.ch (w := 1) (p' := p) (g' := g) (by omega) (Nat.le_refl _) hI.2.1 (fun _ => by omega) (fun h => by cases h) (fun x hx => Or.inl hx) (by omega)
    have hgo := hI.go (p' := p) (g' := g) (Nat.le_refl _) hI.2.1 (fun x hx => Or.inl hx) (by omega)
    exact And.intro (Or.inr rfl) (hF 1 _ (Or.inl ⟨rfl, f, tp, _, g, _, q, ν, n, by omega, hrun, hR2, ⟨hgo.1, hch.2.2, hgo.2.2.1, hch.1, hch.2.1, hgo.2.2.2.2.2⟩⟩))
theorem IB.gc {g1 g2 : List Gl} {w : Nat} (h : IB E k p g c q n) (hw : w = 0 ∨ w = 3) (h1 : ∀ x ∈ g1, x ∈ g ∨ wfg E p x) (h2 : kcn g1 ≤ kcn g + 1) (h3 : ∀ x ∈ g2, x ∈ g ∨ wfg E p x) (h4 : kcn g2 ≤ kcn g + 1) : IG E p g1 ((w, p, g2, q) :: c) q n := by
  have hch := h.ch (w := w) (p' := p) (g' := g2) (by omega) (Nat.le_refl _) h.2.1 (fun e => by omega) (fun e => by omega) h3 h4
  have hgo := h.go (p' := p) (g' := g1) (Nat.le_refl _) h.2.1 h1 h2
  exact ⟨hgo.1, hch.2.2, hgo.2.2.1, hch.1, hch.2.1, hgo.2.2.2.2.2⟩
/-- going back out of a node, at the end of a method -/
theorem cm_back (hR : RG E kn tx σ0 σ tp p g c q ν n) (hI : IB E k p g c q n) (hrun : runA E f (KS c ν n) = some (o, y)) (hF : ∀ r σ', Gon E kn tx σ0 (f + 1) o y r σ' → F (some (.inl r)) (nx, σ', rX kn tx)) : vT 3 (T_Matcher_back SL xs 70) [.inr (some (9, 0))] (nx, σ, rX kn tx) (fun v s' => ∃ r0 σ', (r0 = 0 ∨ r0 = 1) ∧ v = some (.inl r0) ∧ s' = (nx, σ', rX kn tx) ∧ Gon E kn tx σ0 (f + 1) o y r0 σ') := by
  refine tw_back c 70 σ f _ (hI.len hR.1.sub.2).2 hR.back hI.back hrun (fun r0 σ'' hg => ⟨r0, σ'', ?_, rfl, rfl, hg.mono (by omega)⟩)
  rcases hg with h | h
  · exact Or.inr h.1
  · exact Or.inl h.1
theorem cm_12 {a b : Int} (hk : ekd E k = 12) (hR : RG E kn tx σ0 σ tp p g c q ν n) (hI : IB E k p g c q n) (hrun : runA E (f + 1) (BS k p g c q ν n) = some (o, y)) (hF : ∀ r σ', Gon E kn tx σ0 (f + 1) o y r σ' → F (some (.inl r)) (nx, σ', rX kn tx)) : cmX SL xs F 110 k a b (nx, σ, rX kn tx) := by
  have hrun : (match balN (esb E) p with | some p' => runA E f (GS p' g ((2, p', g, q) :: c) q ν n) | none => runA E f (KS c ν n)) = some (o, y) := by
    rw [runA_B] at hrun
    simp only [stepB, hk] at hrun
    cases hb : balN (esb E) p with
    | some p' => rw [hb] at hrun; exact hrun
    | none => rw [hb] at hrun; exact hrun
  have hS := hR.1.sub
  have hp : σ 9 0 7 = p := hR.2.1
  have hc : σ 15 0 6 = c.length := hR.2.2.2.2.2.1
  have hcl := hI.back.2
  have hbp : p ≤ (esb E).length := hI.2.1
  refine run 40 ?_
  refine call_any (Y := fun v s' => (v = some (.inl 1) ∧ ∃ σ', s' = (nx, σ', rX kn tx) ∧ Gon E kn tx σ0 (f + 1) o y 1 σ') ∨ (v = some (.inl 0) ∧ ∃ σ', s' = (nx, σ', rX kn tx) ∧ RK E kn tx σ0 σ' c ν n ∧ runA E f (KS c ν n) = some (o, y))) (tw_Matcher_balances (S := esb E) (p := p) hS.1 hS.2 (by rw [hc]; omega) hp hbp (fun p' hp' => Or.inl ⟨rfl, _, rfl, ?_⟩) (fun h p' => Or.inr ⟨rfl, _, rfl, ?_, ?_⟩)) ?_
  · have hb := balN_bd hbp hp'
    rw [hp'] at hrun
    have hG2 := (hR.place (p' := p')).addC (w := 2) (pc := p') (hR.place (p' := p')).2.2.1
    rw [upS_ne (by omega)] at hG2
    have hch := hI.ch (w := 2) (p' := p') (g' := g) (by omega) (by omega) hb.2 (fun e => by omega) (fun e => by omega) (fun x hx => Or.inl hx) (by omega)
    have hgo := hI.go (p' := p') (g' := g) (by omega) hb.2 (fun x hx => Or.inl hx) (by omega)
    exact Or.inl ⟨rfl, f, tp, p', g, _, q, ν, n, by omega, hrun, hG2, ⟨hgo.1, hch.2.2, hgo.2.2.1, hch.1, hch.2.1, hgo.2.2.2.2.2⟩⟩
  · exact hR.back.up (Or.inl rfl) (by omega)
  · rw [h] at hrun
    exact hrun
  · intro v s' hv
    rcases hv with ⟨rfl, σ', rfl, hg⟩ | ⟨rfl, σ', rfl, hRr, hr2⟩
    · refine And.intro (fun h => ?_) (fun h => absurd (show ¬ (1 : Int) = 0 by omega) h)
      exact And.intro (Or.inr rfl) (hF 1 σ' hg)
    · refine And.intro (fun h => absurd (show (0 : Int) = 0 from rfl) h) (fun h => ?_)
      refine call_any (Y := fun v s' => ∃ r0 σ', v = some (.inl r0) ∧ s' = (nx, σ', rX kn tx) ∧ Gon E kn tx σ0 (f + 1) o y r0 σ') (tw_back c 70 σ' f _ (hI.len hS.2).2 hRr hI.back hr2 (fun r0 σ'' hg => ⟨r0, σ'', rfl, rfl, hg.mono (by omega)⟩)) ?_
      intro v s' hv
      obtain ⟨r0, σ'', rfl, rfl, hg⟩ := hv
      have hr01 : r0 = 1 ∨ r0 = 0 := by
        rcases hg with h | h
        · exact Or.inl h.1
        · exact Or.inr h.1
      rcases hr01 with rfl | rfl
      · refine And.intro (fun h => absurd (show (1 : Int) = 0 from h) (by omega)) (fun h => ?_)
        exact And.intro (Or.inr rfl) (hF 1 σ'' hg)
      · refine And.intro (fun h => ?_) (fun h => absurd (show (0 : Int) = 0 from rfl) h)
        exact And.intro (Or.inl rfl) (hF 0 σ'' hg)
theorem cm_14 {a b : Int} (hk : ekd E k = 14) (hR : RG E kn tx σ0 σ tp p g c q ν n) (hI : IB E k p g c q n) (hrun : runA E (f + 1) (BS k p g c q ν n) = some (o, y)) (hF : ∀ r σ', Gon E kn tx σ0 (f + 1) o y r σ' → F (some (.inl r)) (nx, σ', rX kn tx)) : cmX SL xs F 131 k a b (nx, σ, rX kn tx) := by
  have hrun : runA E f (GS p g ((3, p, g, q) :: c) q ν n) = some (o, y) := by
    rw [runA_B] at hrun
    simp only [stepB, hk] at hrun
    exact hrun
  have hp : σ 9 0 7 = p := hR.2.1
  have hc : σ 15 0 6 = c.length := hR.2.2.2.2.2.1
  have hcl := hI.back.2
  refine run 40 ?_
  refine call_eq (fun F hF => tw_Matcher_choose (k := 3) (by rw [hc]; omega) (by omega) hF) ?_
  have hR2 : RG E kn tx σ0 (cad σ (3 : Nat) (σ 9 0 7) (σ 9 0 8)) tp p g ((3, p, g, q) :: c) q ν n := by
    rw [hp]
    exact hR.addC (w := 3) (pc := p) hR.2.2.1
  exact And.intro (Or.inr rfl) (hF 1 _ (Or.inl ⟨rfl, f, tp, _, g, _, q, ν, n, by omega, hrun, hR2, hI.gc (Or.inr rfl) (fun x hx => Or.inl hx) (by omega) (fun x hx => Or.inl hx) (by omega)⟩))
theorem cm_15 {a b : Int} (hk : ekd E k = 15) (hR : RG E kn tx σ0 σ tp p g c q ν n) (hI : IB E k p g c q n) (hrun : runA E (f + 1) (BS k p g c q ν n) = some (o, y)) (hF : ∀ r σ', Gon E kn tx σ0 (f + 1) o y r σ' → F (some (.inl r)) (nx, σ', rX kn tx)) : cmX SL xs F 147 k a b (nx, σ, rX kn tx) := by
  rw [runA_B] at hrun
  simp only [stepB, hk] at hrun
  cases hrun
  refine run 40 ?_
  exact And.intro (Or.inl rfl) (hF 0 (upS σ 9 0 9 2) (Or.inr ⟨rfl, by omega, upS_same, hR.1.up (by omega) (by omega) (by omega)⟩))
theorem cm_16 {a : Nat} {b : Int} (hk : ekd E k = 16) (ha : efa E k = a) (ht : tp + 1 ≤ 2 * n) (hR : RG E kn tx σ0 σ tp p g c q ν n) (hI : IB E k p g c q n) (hrun : runA E (f + 1) (BS k p g c q ν n) = some (o, y)) (hF : ∀ r σ', Gon E kn tx σ0 (f + 1) o y r σ' → F (some (.inl r)) (nx, σ', rX kn tx)) : cmX SL xs F 154 k a b (nx, σ, rX kn tx) := by
  have hrun : runA E f (GS p g ((0, p, (0, a, 0) :: (0, k, 0) :: g, q) :: c) q ν n) = some (o, y) := by
    rw [runA_B] at hrun
    simp only [stepB, hk, ha] at hrun
    exact hrun
  have hae : a < ect E := by
    have := (hR.1.2.1.2.2 k hI.1).2.2.1 (by omega)
    omega
  have hp : σ 9 0 7 = p := hR.2.1
  have hcl := hI.back.2
  have htp : σ 10 0 4 = tp := hR.2.2.2.1
  have hn : n ≤ 3000 := hcl.2
  obtain ⟨hR1, hx1⟩ := hR.addG (w := 0) (a := k) (f := 0) hR.2.2.1 (by omega)
  have h1 : gad σ (0 : Nat) (k : Int) (0 : Nat) (σ 9 0 8) 10 0 4 = ((tp + 1 : Nat) : Int) := hR1.2.2.2.1
  rw [← htp] at hx1
  obtain ⟨hR2, hx2⟩ := hR1.addG (w := 0) (a := a) (f := 0) hx1 (by omega)
  have h3 : σ 15 0 6 = c.length := hR.2.2.2.2.2.1
  rw [← h1] at hx2
  have hR3 := hR2.addC (w := 0) (pc := p) hx2
  rw [← hp] at hR3
  refine run 40 ?_
  refine call_eq (fun F hF => tw_Goals_add (w := 0) (by rw [htp]; omega) (by omega) hF) ?_
  refine call_eq (fun F hF => tw_Goals_add (w := 0) (σ := gad σ (0 : Nat) (k : Int) (0 : Nat) (σ 9 0 8)) (a := (a : Int)) (f := 0) (g := σ 10 0 4) (by rw [h1]; omega) (by omega) hF) ?_
  refine call_eq (fun F hF => tw_Matcher_choose (k := 0) (σ := gad (gad σ (0 : Nat) (k : Int) (0 : Nat) (σ 9 0 8)) (0 : Nat) (a : Int) (0 : Nat) (σ 10 0 4)) (p := σ 9 0 7) (g := gad σ (0 : Nat) (k : Int) (0 : Nat) (σ 9 0 8) 10 0 4) (by rw [hR2.2.2.2.2.2.1]; omega) (by omega) hF) ?_
  exact And.intro (Or.inr rfl) (hF 1 _ (Or.inl ⟨rfl, f, tp + 1 + 1, _, g, _, q, ν, n, by omega, hrun, hR3, hI.gc (Or.inl rfl) (fun x hx => Or.inl hx) (by omega) (fun x hx => by
    rcases List.mem_cons.mp hx with rfl | hx
    · exact Or.inr (Or.inl ⟨rfl, hae⟩)
    · rcases List.mem_cons.mp hx with rfl | hx
      · exact Or.inr (Or.inl ⟨rfl, hI.1⟩)
      · exact Or.inl hx) (by simp [kcn])⟩))
theorem cm_17 {a b : Nat} (hk : ekd E k = 17) (ha : efa E k = a) (hb : efb E k = b) (ht : tp + 1 ≤ 2 * n) (hR : RG E kn tx σ0 σ tp p g c q ν n) (hI : IB E k p g c q n) (hrun : runA E (f + 1) (BS k p g c q ν n) = some (o, y)) (hF : ∀ r σ', Gon E kn tx σ0 (f + 1) o y r σ' → F (some (.inl r)) (nx, σ', rX kn tx)) : cmX SL xs F 194 k a b (nx, σ, rX kn tx) := by
  have hrun : runA E f (GS p ((0, a, 0) :: (0, b, 0) :: g) c q ν n) = some (o, y) := by
    rw [runA_B] at hrun
    simp only [stepB, hk, ha, hb] at hrun
    exact hrun
  have hae : a < ect E := by
    have := (hR.1.2.1.2.2 k hI.1).2.2.1 (by omega)
    omega
  have hbe : b < ect E := by
    have := (hR.1.2.1.2.2 k hI.1).2.2.2.1 (by omega)
    omega
  have hcl := hI.back.2
  have htp : σ 10 0 4 = tp := hR.2.2.2.1
  have hn : n ≤ 3000 := hcl.2
  obtain ⟨hR1, hx1⟩ := hR.addG (w := 0) (a := b) (f := 0) hR.2.2.1 (by omega)
  have h1 : gad σ (0 : Nat) (b : Int) (0 : Nat) (σ 9 0 8) 10 0 4 = ((tp + 1 : Nat) : Int) := hR1.2.2.2.1
  rw [← htp] at hx1
  obtain ⟨hR2, hx2⟩ := hR1.addG (w := 0) (a := a) (f := 0) hx1 (by omega)
  rw [← h1] at hx2
  have hR3 := hR2.goal hx2
  refine run 40 ?_
  refine call_eq (fun F hF => tw_Goals_add (w := 0) (by rw [htp]; omega) (by omega) hF) ?_
  refine call_eq (fun F hF => tw_Goals_add (w := 0) (σ := gad σ (0 : Nat) (b : Int) (0 : Nat) (σ 9 0 8)) (a := (a : Int)) (f := 0) (g := σ 10 0 4) (by rw [h1]; omega) (by omega) hF) ?_
  exact And.intro (Or.inr rfl) (hF 1 _ (Or.inl ⟨rfl, f, tp + 1 + 1, _, _, _, q, ν, n, by omega, hrun, hR3, hI.go (Nat.le_refl _) hI.2.1 (fun x hx => by
    rcases List.mem_cons.mp hx with rfl | hx
    · exact Or.inr (Or.inl ⟨rfl, hae⟩)
    · rcases List.mem_cons.mp hx with rfl | hx
      · exact Or.inr (Or.inl ⟨rfl, hbe⟩)
      · exact Or.inl hx) (by simp [kcn])⟩))
theorem cm_18 {a b : Nat} (hk : ekd E k = 18) (ha : efa E k = a) (hb : efb E k = b) (ht : tp + 1 ≤ 2 * n) (hR : RG E kn tx σ0 σ tp p g c q ν n) (hI : IB E k p g c q n) (hrun : runA E (f + 1) (BS k p g c q ν n) = some (o, y)) (hF : ∀ r σ', Gon E kn tx σ0 (f + 1) o y r σ' → F (some (.inl r)) (nx, σ', rX kn tx)) : cmX SL xs F 224 k a b (nx, σ, rX kn tx) := by
  have hrun : runA E f (GS p ((0, a, 0) :: g) ((0, p, (0, b, 0) :: g, q) :: c) q ν n) = some (o, y) := by
    rw [runA_B] at hrun
    simp only [stepB, hk, ha, hb] at hrun
    exact hrun
  have hae : a < ect E := by
    have := (hR.1.2.1.2.2 k hI.1).2.2.1 (by omega)
    omega
  have hbe : b < ect E := by
    have := (hR.1.2.1.2.2 k hI.1).2.2.2.1 (by omega)
    omega
  have hcl := hI.back.2
  have hp : σ 9 0 7 = p := hR.2.1
  have htp : σ 10 0 4 = tp := hR.2.2.2.1
  have hn : n ≤ 3000 := hcl.2
  obtain ⟨hR1, hx1⟩ := hR.addG (w := 0) (a := b) (f := 0) hR.2.2.1 (by omega)
  rw [← htp] at hx1
  have hR2 := hR1.addC (w := 0) (pc := p) hx1
  rw [← hp] at hR2
  have h1 : cad (gad σ (0 : Nat) (b : Int) (0 : Nat) (σ 9 0 8)) (0 : Nat) (σ 9 0 7) (σ 10 0 4) 10 0 4 = ((tp + 1 : Nat) : Int) := hR2.2.2.2.1
  obtain ⟨hR3, hx3⟩ := hR2.addG (w := 0) (a := a) (f := 0) hR2.2.2.1 (by omega)
  rw [← h1] at hx3
  have hR4 := hR3.goal hx3
  refine run 40 ?_
  refine call_eq (fun F hF => tw_Goals_add (w := 0) (by rw [htp]; omega) (by omega) hF) ?_
  refine call_eq (fun F hF => tw_Matcher_choose (k := 0) (σ := gad σ (0 : Nat) (b : Int) (0 : Nat) (σ 9 0 8)) (p := σ 9 0 7) (g := σ 10 0 4) (by rw [hR1.2.2.2.2.2.1]; omega) (by omega) hF) ?_
  refine call_eq (fun F hF => tw_Goals_add (w := 0) (σ := cad (gad σ (0 : Nat) (b : Int) (0 : Nat) (σ 9 0 8)) (0 : Nat) (σ 9 0 7) (σ 10 0 4)) (a := (a : Int)) (f := 0) (g := cad (gad σ (0 : Nat) (b : Int) (0 : Nat) (σ 9 0 8)) (0 : Nat) (σ 9 0 7) (σ 10 0 4) 9 0 8) (by rw [h1]; omega) (by omega) hF) ?_
  exact And.intro (Or.inr rfl) (hF 1 _ (Or.inl ⟨rfl, f, tp + 1 + 1, _, _, _, q, ν, n, by omega, hrun, hR4, hI.gc (Or.inl rfl) (fun x hx => by
    rcases List.mem_cons.mp hx with rfl | hx
    · exact Or.inr (Or.inl ⟨rfl, hae⟩)
    · exact Or.inl hx) (by simp [kcn]) (fun x hx => by
    rcases List.mem_cons.mp hx with rfl | hx
    · exact Or.inr (Or.inl ⟨rfl, hbe⟩)
    · exact Or.inl hx) (by simp [kcn])⟩))
theorem cm_19 {a b w kd : Nat} (hk : ekd E k = kd) (hkd : (kd = 19 ∧ w = 1) ∨ (kd = 20 ∧ w = 2)) (ha : efa E k = a) (hb : efb E k = b) (ht : tp + 1 ≤ 2 * n) (hR : RG E kn tx σ0 σ tp p g c q ν n) (hI : IB E k p g c q n) (hrun : runA E (f + 1) (BS k p g c q ν n) = some (o, y)) (hF : ∀ r σ', Gon E kn tx σ0 (f + 1) o y r σ' → F (some (.inl r)) (nx, σ', rX kn tx)) : cmX SL xs F 272 k a b (nx, σ, rX kn tx) := by
  have hrun : runA E f (GS p ((0, a, 0) :: (w, b, p) :: g) c q ν n) = some (o, y) := by
    rw [runA_B] at hrun
    rcases hkd with ⟨rfl, rfl⟩ | ⟨rfl, rfl⟩
    · simp only [stepB, hk, ha, hb] at hrun
      exact hrun
    · simp only [stepB, hk, ha, hb] at hrun
      exact hrun
  have hae : a < ect E := by
    have := (hR.1.2.1.2.2 k hI.1).2.2.1 (by omega)
    omega
  have hbe : b < 8 := by
    have := (hR.1.2.1.2.2 k hI.1).2.2.2.2.1 (by omega)
    omega
  have hcl := hI.back.2
  have hk64 : k < 64 := by
    have := hI.1
    have := hR.1.2.1.2.1
    omega
  have hkn : kn k = some kd := by rw [(hR.1.node hI.1).1, hk]
  have hp : σ 9 0 7 = p := hR.2.1
  have htp : σ 10 0 4 = tp := hR.2.2.2.1
  have hn : n ≤ 3000 := hcl.2
  obtain ⟨hR1, hx1⟩ := hR.addG (w := w) (a := b) (f := p) hR.2.2.1 (by omega)
  rw [← hp] at hR1 hx1
  have h1 : gad σ (w : Int) (b : Int) (σ 9 0 7) (σ 9 0 8) 10 0 4 = ((tp + 1 : Nat) : Int) := hR1.2.2.2.1
  rw [← htp] at hx1
  obtain ⟨hR2, hx2⟩ := hR1.addG (w := 0) (a := a) (f := 0) hx1 (by omega)
  rw [← h1] at hx2
  have hR3 := hR2.goal hx2
  have K : Xz SL xs (m_Matcher_composes SL xs) F (304, [some (.inr (some (9, 0))), some (.inl k), some (.inl a), some (.inl b), none], [.inl w, .inr (some (10, 0)), .inl 0, .inl a, .inl 0, .inr (some (10, 0)), .inr (some (9, 0))], (nx, σ, rX kn tx), 0, 0) := by
    refine run 40 ?_
    refine call_eq (fun F hF => tw_Goals_add (w := w) (by rw [htp]; omega) (by omega) hF) ?_
    refine call_eq (fun F hF => tw_Goals_add (w := 0) (σ := gad σ (w : Int) (b : Int) (σ 9 0 7) (σ 9 0 8)) (a := (a : Int)) (f := 0) (g := σ 10 0 4) (by rw [h1]; omega) (by omega) hF) ?_
    exact And.intro (Or.inr rfl) (hF 1 _ (Or.inl ⟨rfl, f, tp + 1 + 1, _, _, _, q, ν, n, by omega, hrun, hR3, hI.go (Nat.le_refl _) hI.2.1 (fun x hx => by
      rcases List.mem_cons.mp hx with rfl | hx
      · exact Or.inr (Or.inl ⟨rfl, hae⟩)
      · rcases List.mem_cons.mp hx with rfl | hx
        · exact Or.inr (Or.inr ⟨by simp only; omega, hbe, Nat.le_refl _⟩)
        · exact Or.inl hx) (by simp only [kcn]; split <;> split <;> omega)⟩))
  have e : (kn (k : Int).toNat).map (fun k => (45, k)) = some (45, kd) := by rw [Int.toNat_natCast, hkn]; rfl
  have K2 : Xz SL xs (m_Matcher_composes SL xs) F (293, [some (.inr (some (9, 0))), some (.inl k), some (.inl a), some (.inl b), none], [.inr (some (45, kd)), .inr (some (10, 0)), .inl 0, .inl a, .inl 0, .inr (some (10, 0)), .inr (some (9, 0))], (nx, σ, rX kn tx), 0, 0) := by
    refine run 2 ?_
    refine And.intro (fun h => ?_) (fun h => ?_)
    · have h : ¬ kd = 19 := h
      have hw : w = 2 := by omega
      subst hw
      exact leaf (by first | exact run 1 K | exact run 2 K | exact run 3 K)
    · have h : kd = 19 := h
      have hw : w = 1 := by omega
      subst hw
      exact leaf (by first | exact run 1 K | exact run 2 K | exact run 3 K)
  rw [← e] at K2
  refine run 13 ?_
  refine And.intro ⟨show (0 : Int) ≤ (k : Int) by omega, show (k : Int) < 64 by omega⟩ ?_
  exact leaf K2
theorem cm_21 {a : Nat} {b : Int} (hk : ekd E k = 21) (ha : efa E k = a) (hR : RG E kn tx σ0 σ tp p g c q ν n) (hI : IB E k p g c q n) (hrun : runA E (f + 1) (BS k p g c q ν n) = some (o, y)) (hF : ∀ r σ', Gon E kn tx σ0 (f + 1) o y r σ' → F (some (.inl r)) (nx, σ', rX kn tx)) : cmX SL xs F 324 k a b (nx, σ, rX kn tx) := by
  have hrun : runA E f (GS p g c q (upN ν a (dig p)) n) = some (o, y) := by
    rw [runA_B] at hrun
    simp only [stepB, hk, ha] at hrun
    exact hrun
  have hae : a < 8 := by
    have := (hR.1.2.1.2.2 k hI.1).2.2.2.2.2 (by omega)
    omega
  have hp : σ 9 0 7 = p := hR.2.1
  have hpl := (hI.len hR.1.sub.2).1
  have e : (if (a : Int).toNat < 8 then some (1, 3 + (a : Int).toNat) else none) = some (1, 3 + a) := by rw [Int.toNat_natCast, if_pos hae]
  have hd : (dig p).length ≤ 64 := by unfold dig; split <;> simp
  refine run 40 ?_
  refine And.intro ⟨show (0 : Int) ≤ (a : Int) by omega, show (a : Int) < 8 by omega⟩ ?_
  refine call_any (Y := fun v s' => v = none ∧ ∃ σ', s' = (nx, σ', rX kn tx) ∧ setT σ (3 + a) (dig p) σ') ?_ ?_
  · show vT 1 (T_Text_digits SL xs) [.inr (if (a : Int).toNat < 8 then some (1, 3 + (a : Int).toNat) else none), .inl (σ 9 0 7)] (nx, σ, rX kn tx) _
    rw [e, hp]
    exact tw_Text_digits (n := p) (t := 3 + a) (by omega) (fun σ' h => ⟨rfl, σ', rfl, h⟩)
  · intro v s' hv
    obtain ⟨rfl, σ', rfl, hs⟩ := hv
    exact And.intro (Or.inr rfl) (hF 1 _ (Or.inl ⟨rfl, f, tp, _, _, _, q, _, n, by omega, hrun, hR.set hae hd hs, hI.go (Nat.le_refl _) hI.2.1 (fun x hx => Or.inl hx) (by omega)⟩))
theorem cm_def {a b : Int} (hR : RG E kn tx σ0 σ tp p g c q ν n) (hI : IB E k p g c q n) (hrun : runA E f (KS c ν n) = some (o, y)) (hF : ∀ r σ', Gon E kn tx σ0 (f + 1) o y r σ' → F (some (.inl r)) (nx, σ', rX kn tx)) : cmX SL xs F 375 k a b (nx, σ, rX kn tx) := by
  refine run 40 ?_
  refine call_any (cm_back hR hI hrun hF) ?_
  intro v s' hv
  obtain ⟨r0, σ', hr, rfl, rfl, hg⟩ := hv
  exact And.intro hr (hF r0 σ' hg)
theorem cm_23 {a : Nat} {b : Int} (hk : ekd E k = 23) (ha : efa E k = a) (ht : tp + 1 ≤ 2 * n) (hR : RG E kn tx σ0 σ tp p g c q ν n) (hI : IB E k p g c q n) (hrun : runA E (f + 1) (BS k p g c q ν n) = some (o, y)) (hF : ∀ r σ', Gon E kn tx σ0 (f + 1) o y r σ' → F (some (.inl r)) (nx, σ', rX kn tx)) : cmX SL xs F 339 k a b (nx, σ, rX kn tx) := by
  have hrun : (if a < ect E then runA E f (GS p ((0, a, 0) :: g) c q ν n) else runA E f (KS c ν n)) = some (o, y) := by
    rw [runA_B] at hrun
    simp only [stepB, hk, ha] at hrun
    by_cases h : a < ect E
    · rw [if_pos h] at hrun ⊢
      exact hrun
    · rw [if_neg h] at hrun ⊢
      exact hrun
  have hct := hR.1.cnt
  have hcl := hI.back.2
  have htp : σ 10 0 4 = tp := hR.2.2.2.1
  have hn : n ≤ 3000 := hcl.2
  refine run 40 ?_
  refine call_eq (fun F hF => tw_Nodes_is hF) ?_
  refine And.intro (fun h => ?_) (fun h => ?_)
  · have h : ¬ (if 0 ≤ (a : Int) ∧ (a : Int) < σ 4 0 4 then (1 : Int) else 0) = 0 := h
    have hlt : a < ect E := by
      rw [hct] at h
      split at h
      · omega
      · exact absurd rfl h
    rw [if_pos hlt] at hrun
    obtain ⟨hR1, hx1⟩ := hR.addG (w := 0) (a := a) (f := 0) hR.2.2.1 (by omega)
    rw [← htp] at hx1
    refine call_eq (fun F hF => tw_Goals_add (w := 0) (by rw [htp]; omega) (by omega) hF) ?_
    exact And.intro (Or.inr rfl) (hF 1 _ (Or.inl ⟨rfl, f, tp + 1, _, _, _, q, ν, n, by omega, hrun, hR1.goal hx1, hI.go (Nat.le_refl _) hI.2.1 (fun x hx => by
      rcases List.mem_cons.mp hx with rfl | hx
      · exact Or.inr (Or.inl ⟨rfl, hlt⟩)
      · exact Or.inl hx) (by simp [kcn])⟩))
  · have h : (if 0 ≤ (a : Int) ∧ (a : Int) < σ 4 0 4 then (1 : Int) else 0) = 0 := Classical.not_not.mp h
    have hlt : ¬ a < ect E := by
      rw [hct] at h
      split at h
      · omega
      · omega
    rw [if_neg hlt] at hrun
    refine call_any (cm_back hR hI hrun hF) ?_
    intro v s' hv
    obtain ⟨r0, σ', hr, rfl, rfl, hg⟩ := hv
    exact And.intro hr (hF r0 σ' hg)
theorem tw_composes {kd : Nat} (hk : ekd E k = kd) (hkd : 11 ≤ kd ∧ kd < 24 ∧ ¬ kd = 22) (ht : tp + 1 ≤ 2 * n) (hR : RG E kn tx σ0 σ tp p g c q ν n) (hI : IB E k p g c q n) (hrun : runA E (f + 1) (BS k p g c q ν n) = some (o, y)) (hF : ∀ r σ', Gon E kn tx σ0 (f + 1) o y r σ' → F (some (.inl r)) (nx, σ', rX kn tx)) : T_Matcher_composes SL xs [.inr (some (9, 0)), .inl k, .inl (efa E k : Nat), .inl (efb E k : Nat)] (nx, σ, rX kn tx) F := by
  have hk64 : k < 64 := by
    have := hI.1
    have := hR.1.2.1.2.1
    omega
  have hkn : kn k = some kd := by rw [(hR.1.node hI.1).1, hk]
  have hcase : kd = 11 ∨ kd = 12 ∨ kd = 13 ∨ kd = 14 ∨ kd = 15 ∨ kd = 16 ∨ kd = 17 ∨ kd = 18 ∨ kd = 19 ∨ kd = 20 ∨ kd = 21 ∨ kd = 23 := by omega
  rcases hcase with rfl | rfl | rfl | rfl | rfl | rfl | rfl | rfl | rfl | rfl | rfl | rfl
  · exact cm_sw hk64 hkn rfl (cm_11 hk hR hI hrun hF)
  · exact cm_sw hk64 hkn rfl (cm_12 hk hR hI hrun hF)
  · refine cm_sw hk64 hkn rfl (cm_def hR hI ?_ hF)
    rw [runA_B] at hrun
    simp only [stepB, plA, hk] at hrun
    exact hrun
  · exact cm_sw hk64 hkn rfl (cm_14 hk hR hI hrun hF)
  · exact cm_sw hk64 hkn rfl (cm_15 hk hR hI hrun hF)
  · exact cm_sw hk64 hkn rfl (cm_16 hk rfl ht hR hI hrun hF)
  · exact cm_sw hk64 hkn rfl (cm_17 hk rfl rfl ht hR hI hrun hF)
  · exact cm_sw hk64 hkn rfl (cm_18 hk rfl rfl ht hR hI hrun hF)
  · exact cm_sw hk64 hkn rfl (cm_19 hk (Or.inl ⟨rfl, rfl⟩) rfl rfl ht hR hI hrun hF)
  · exact cm_sw hk64 hkn rfl (cm_19 hk (Or.inr ⟨rfl, rfl⟩) rfl rfl ht hR hI hrun hF)
  · exact cm_sw hk64 hkn rfl (cm_21 hk rfl hR hI hrun hF)
  · exact cm_sw hk64 hkn rfl (cm_23 hk rfl ht hR hI hrun hF)
end
end
section
/-! The component: a node begins -/
section
variable {SL : Nat} {xs : Nat → Int} {nx : Nat} {σ σ0 : Sg} {kn : Nat → Option Nat} {tx : Nat → Bool} {F : Option Av → St → Prop} {E : Ev} {ν : Nu} {n o k p tp f : Nat} {g : List Gl} {c : List Ch} {q : List Kp} {y : As}
def bgL : List (Int × Nat) := [(0, 176), (1, 202), (2, 219), (3, 236), (4, 252), (5, 277), (6, 304), (7, 326), (8, 351), (9, 376), (10, 401), (11, 445), (12, 445), (13, 445), (14, 445), (15, 445), (16, 445), (17, 445), (18, 445), (19, 445), (20, 445), (21, 445), (22, 409)]
abbrev bgX (SL : Nat) (xs : Nat → Int) (F : Option Av → St → Prop) (pc : Nat) (k a : Int) (t : Nat) (e : Int) (s : St) : Prop := Xz SL xs (m_Matcher_begins SL xs) F (pc, [some (.inr (some (9, 0))), some (.inl k), some (.inl a), some (.inr (some (1, t))), some (.inl e)], [], s, 0, 0)
theorem bg_sw {t kd : Nat} {σ' : Sg} (hk : k < 64) (hn : kn k = some kd) (htx : tx k = true) (h : (lkI bgL (kd : Int)).getD 445 = t) (hs : ¬ σ 9 0 6 = 3000) (hσ : σ' = upS σ 9 0 6 (wr (σ 9 0 6 + 1))) (K : bgX SL xs F t k (σ' 6 0 k) (11 + k) (σ' 1 2 1) (nx, σ', rX kn tx)) : T_Matcher_begins SL xs [.inr (some (9, 0)), .inl k] (nx, σ, rX kn tx) F := by
  subst hσ
  have e : (if tx (k : Int).toNat = true then some (1, 11 + (k : Int).toNat) else none) = some (1, 11 + k) := by rw [Int.toNat_natCast, if_pos htx]
  have K1 : Xz SL xs (m_Matcher_begins SL xs) F (46, [some (.inr (some (9, 0))), some (.inl k), some (.inl (upS σ 9 0 6 (wr (σ 9 0 6 + 1)) 6 0 (k : Int).toNat)), none, none], [.inr (some (1, 11 + k))], (nx, upS σ 9 0 6 (wr (σ 9 0 6 + 1)), rX kn tx), 0, 0) := by
    refine run 12 ?_
    refine And.intro ⟨show (0 : Int) ≤ (k : Int) by omega, show (k : Int) < 64 by omega⟩ ?_
    refine call_eq (v0 := some (.inl (kd : Int))) (s0 := (nx, upS σ 9 0 6 (wr (σ 9 0 6 + 1)), rX kn tx)) (fun F hF => ?_) ?_
    · show vT 8 (T_Enum_ordinal SL xs) [.inr ((kn (k : Int).toNat).map (fun k => (45, k)))] (nx, upS σ 9 0 6 (wr (σ 9 0 6 + 1)), rX kn tx) F
      rw [Int.toNat_natCast, hn]
      exact tw_Enum_ordinal hF
    · cases hl : lkI bgL (kd : Int) with
      | some t' =>
        rw [hl] at h
        have h : t' = t := h
        subst h
        refine swt_in (t := t') (show lkI _ (kd : Int) = some t' from hl) ?_
        exact K
      | none =>
        rw [hl] at h
        have h : 445 = t := h
        subst h
        refine swt_out (show lkI _ (kd : Int) = none from hl) ?_
        exact K
  rw [← e] at K1
  refine run 21 ?_
  refine And.intro (fun h => ?_) (fun h => absurd (Classical.not_not.mp h) hs)
  refine And.intro ⟨show (0 : Int) ≤ (k : Int) by omega, show (k : Int) < 64 by omega⟩ ?_
  refine And.intro ⟨show (0 : Int) ≤ (k : Int) by omega, show (k : Int) < 64 by omega⟩ ?_
  exact leaf K1
theorem bg_go {w to : Int} {r : Option Nat} (hR : RG E kn tx σ0 σ tp p g c q ν n) (hI : IB E k p g c q n) (hr : ∀ p', r = some p' → p ≤ p' ∧ p' ≤ (esb E).length ∧ to = p' ∧ w = 1) (hw : r = none → w = 0)
    (hrun : aft E f g c q ν n r = some (o, y)) :
    vT 3 (T_Matcher_goes SL xs) [.inr (some (9, 0)), .inl w, .inl to] (nx, σ, rX kn tx) (fun v s' => ∃ r0 σ', (r0 = 0 ∨ r0 = 1) ∧ v = some (.inl r0) ∧ s' = (nx, σ', rX kn tx) ∧ Gon E kn tx σ0 (f + 1) o y r0 σ') := by
  refine tw_goes hR hI hr hw hrun (fun r0 σ' hg => ⟨r0, σ', ?_, rfl, rfl, hg⟩)
  rcases hg with h | h
  · exact Or.inr h.1
  · exact Or.inl h.1
theorem bg_0 {a : Int} (hk : ekd E k = 0) (hR : RG E kn tx σ0 σ tp p g c q ν n) (hI : IB E k p g c q n) (hrun : aft E f g c q ν n (plA E ν k p) = some (o, y)) (hF : ∀ r σ', Gon E kn tx σ0 (f + 1) o y r σ' → F (some (.inl r)) (nx, σ', rX kn tx)) : bgX SL xs F 176 k a (11 + k) (esb E).length (nx, σ, rX kn tx) := by
  have hS := hR.1.sub
  have hp : σ 9 0 7 = p := hR.2.1
  have hpl := (hI.len hS.2).1
  obtain ⟨-, -, -, -, hw, hw64⟩ := hR.1.node hI.1
  have hwl : σ 1 (11 + k) 1 = (ewd E k).length := hw.1
  have hpd := fun p' => plA_bd (E := E) (ν := ν) (k := k) (pl := p') hI.2.1
  have ewr : wr (σ 9 0 7 + σ 1 (11 + k) 1) = ((p + (ewd E k).length : Nat) : Int) := by rw [hp, hwl, wr_eq ⟨by omega, by omega⟩]; omega
  refine run 40 ?_
  refine call_any (Y := fun v s' => s' = (nx, σ, rX kn tx) ∧ ((v = some (.inl 1) ∧ atT (ewd E k) (esb E) p) ∨ (v = some (.inl 0) ∧ ¬ atT (ewd E k) (esb E) p))) ?_ ?_
  · show vT 1 (T_Text_isAt SL xs) [.inr (some (1, 11 + k)), .inr (some (1, 2)), .inl (σ 9 0 7)] (nx, σ, rX kn tx) _
    rw [hp]
    exact tw_Text_isAt hw hw64 hS.1 hS.2 hI.2.1 (fun h => ⟨rfl, Or.inl ⟨rfl, h⟩⟩) (fun h => ⟨rfl, Or.inr ⟨rfl, h⟩⟩)
  · intro v s' hv
    obtain ⟨rfl, ⟨rfl, hat⟩ | ⟨rfl, hat⟩⟩ := hv
    · have hpl : plA E ν k p = some (p + (ewd E k).length) := by
        simp only [plA, hk]
        exact if_pos hat
      refine call_any (bg_go (w := 1) (to := wr (σ 9 0 7 + σ 1 (11 + k) 1)) hR hI (fun p' e => ?_) (fun e => ?_) hrun) ?_
      · have := hpd p' e
        rw [hpl] at e
        cases e
        exact ⟨this.1, this.2, ewr, rfl⟩
      · rw [hpl] at e
        cases e
      · intro v s' hv
        obtain ⟨r0, σ', hr, rfl, rfl, hg⟩ := hv
        exact And.intro hr (hF r0 σ' hg)
    · have hpl : plA E ν k p = none := by
        simp only [plA, hk]
        exact if_neg hat
      refine call_any (bg_go (w := 0) (to := wr (σ 9 0 7 + σ 1 (11 + k) 1)) hR hI (fun p' e => ?_) (fun e => rfl) hrun) ?_
      · rw [hpl] at e
        cases e
      · intro v s' hv
        obtain ⟨r0, σ', hr, rfl, rfl, hg⟩ := hv
        exact And.intro hr (hF r0 σ' hg)
theorem bg_fin {w to : Int} {P : Option Av → St → Prop} (hR : RG E kn tx σ0 σ tp p g c q ν n) (hI : IB E k p g c q n) (hrun : aft E f g c q ν n (plA E ν k p) = some (o, y)) (hF : ∀ r σ', Gon E kn tx σ0 (f + 1) o y r σ' → F (some (.inl r)) (nx, σ', rX kn tx)) (h1 : ∀ p', plA E ν k p = some p' → to = p' ∧ w = 1) (h0 : plA E ν k p = none → w = 0) (hP : ∀ r0 σ', (r0 = 0 ∨ r0 = 1) → F (some (.inl r0)) (nx, σ', rX kn tx) → P (some (.inl r0)) (nx, σ', rX kn tx)) : ∃ Y : Option Av → St → Prop, vT 3 (T_Matcher_goes SL xs) [.inr (some (9, 0)), .inl w, .inl to] (nx, σ, rX kn tx) Y ∧ ∀ v s', Y v s' → P v s' := by
  refine call_any (bg_go (w := w) (to := to) hR hI (fun p' e => ?_) h0 hrun) ?_
  · have := plA_bd (E := E) (ν := ν) (k := k) (pl := p') hI.2.1 e
    exact ⟨this.1, this.2, h1 p' e⟩
  · intro v s' hv
    obtain ⟨r0, σ', hr, rfl, rfl, hg⟩ := hv
    exact hP r0 σ' hr (hF r0 σ' hg)
theorem ite1 {C : Prop} [Decidable C] : ((if C then (1 : Int) else 0) = 1) ↔ C := by
  by_cases h : C
  · rw [if_pos h]; exact ⟨fun _ => h, fun _ => rfl⟩
  · rw [if_neg h]; exact ⟨fun e => by omega, fun e => absurd e h⟩
theorem ite0 {C : Prop} [Decidable C] : ((if C then (1 : Int) else 0) = 0) ↔ ¬ C := by
  by_cases h : C
  · rw [if_pos h]; exact ⟨fun e => by omega, fun e => absurd h e⟩
  · rw [if_neg h]; exact ⟨fun _ => h, fun _ => rfl⟩
theorem some_of_if {C : Prop} [Decidable C] {x x' : Nat} (h : (if C then some x else none) = some x') : C ∧ x = x' := by
  split at h
  · cases h
    exact ⟨‹_›, rfl⟩
  · cases h
theorem none_of_if {C : Prop} [Decidable C] {x : Nat} (h : (if C then some x else none) = none) : ¬ C := by
  split at h
  · cases h
  · assumption
theorem bg_1 {a : Int} (hk : ekd E k = 1) (hR : RG E kn tx σ0 σ tp p g c q ν n) (hI : IB E k p g c q n) (hrun : aft E f g c q ν n (plA E ν k p) = some (o, y)) (hF : ∀ r σ', Gon E kn tx σ0 (f + 1) o y r σ' → F (some (.inl r)) (nx, σ', rX kn tx)) : bgX SL xs F 202 k a (11 + k) (esb E).length (nx, σ, rX kn tx) := by
  have hS := hR.1.sub
  have hp : σ 9 0 7 = p := hR.2.1
  have hpl := (hI.len hS.2).1
  have hS64 := hS.2
  have hpn : p ≤ (esb E).length := hI.2.1
  obtain ⟨-, -, -, -, hw, hw64⟩ := hR.1.node hI.1
  have ewr : wr (σ 9 0 7 + 1) = ((p + 1 : Nat) : Int) := by rw [hp, wr_eq ⟨by omega, by omega⟩]; omega
  have hq : plA E ν k p = if p < (esb E).length ∧ (esb E).getD p 0 ∈ ewd E k then some (p + 1) else none := by simp only [plA, hk]
  have hbi : ((if (esb E).getD p 0 ∈ ewd E k then (1 : Int) else 0) = 1) ↔ (esb E).getD p 0 ∈ ewd E k := ite1
  refine run 40 ?_
  refine call_eq (fun F hF => tw_Matcher_isSign (b := 1) hw hw64 hS.1 hS.2 hp hpn hF) ?_
  refine bg_fin (to := wr (σ 9 0 7 + 1)) hR hI hrun hF (fun p' e => ?_) (fun e => ?_) (fun r0 σ' hr hf => And.intro hr hf)
  · rw [hq] at e
    obtain ⟨h1, rfl⟩ := some_of_if e
    exact ⟨ewr, if_pos ⟨h1.1, hbi.mpr h1.2⟩⟩
  · rw [hq] at e
    have h1 := none_of_if e
    exact if_neg (fun z => h1 ⟨z.1, hbi.mp z.2⟩)
theorem bg_2 {a : Int} (hk : ekd E k = 2) (hR : RG E kn tx σ0 σ tp p g c q ν n) (hI : IB E k p g c q n) (hrun : aft E f g c q ν n (plA E ν k p) = some (o, y)) (hF : ∀ r σ', Gon E kn tx σ0 (f + 1) o y r σ' → F (some (.inl r)) (nx, σ', rX kn tx)) : bgX SL xs F 219 k a (11 + k) (esb E).length (nx, σ, rX kn tx) := by
  have hS := hR.1.sub
  have hp : σ 9 0 7 = p := hR.2.1
  have hpl := (hI.len hS.2).1
  have hS64 := hS.2
  have hpn : p ≤ (esb E).length := hI.2.1
  obtain ⟨-, -, -, -, hw, hw64⟩ := hR.1.node hI.1
  have ewr : wr (σ 9 0 7 + 1) = ((p + 1 : Nat) : Int) := by rw [hp, wr_eq ⟨by omega, by omega⟩]; omega
  have hq : plA E ν k p = if p < (esb E).length ∧ ¬ (esb E).getD p 0 ∈ ewd E k then some (p + 1) else none := by simp only [plA, hk]
  have hbi : ((if (esb E).getD p 0 ∈ ewd E k then (1 : Int) else 0) = 0) ↔ ¬ (esb E).getD p 0 ∈ ewd E k := ite0
  refine run 40 ?_
  refine call_eq (fun F hF => tw_Matcher_isSign (b := 0) hw hw64 hS.1 hS.2 hp hpn hF) ?_
  refine bg_fin (to := wr (σ 9 0 7 + 1)) hR hI hrun hF (fun p' e => ?_) (fun e => ?_) (fun r0 σ' hr hf => And.intro hr hf)
  · rw [hq] at e
    obtain ⟨h1, rfl⟩ := some_of_if e
    exact ⟨ewr, if_pos ⟨h1.1, hbi.mpr h1.2⟩⟩
  · rw [hq] at e
    have h1 := none_of_if e
    exact if_neg (fun z => h1 ⟨z.1, hbi.mp z.2⟩)
theorem bg_3 {a : Int} (hk : ekd E k = 3) (hR : RG E kn tx σ0 σ tp p g c q ν n) (hI : IB E k p g c q n) (hrun : aft E f g c q ν n (plA E ν k p) = some (o, y)) (hF : ∀ r σ', Gon E kn tx σ0 (f + 1) o y r σ' → F (some (.inl r)) (nx, σ', rX kn tx)) : bgX SL xs F 236 k a (11 + k) (esb E).length (nx, σ, rX kn tx) := by
  have hS := hR.1.sub
  have hp : σ 9 0 7 = p := hR.2.1
  have hpl := (hI.len hS.2).1
  have hS64 := hS.2
  have hpn : p ≤ (esb E).length := hI.2.1
  obtain ⟨-, -, -, -, hw, hw64⟩ := hR.1.node hI.1
  have hq : plA E ν k p = if p < (esb E).length ∧ (esb E).getD p 0 ∈ ewd E k then some (spn (ewd E k) (esb E) p) else none := by simp only [plA, hk]
  have hbi : ((if (esb E).getD p 0 ∈ ewd E k then (1 : Int) else 0) = 1) ↔ (esb E).getD p 0 ∈ ewd E k := ite1
  refine run 40 ?_
  refine call_eq (fun F hF => tw_Matcher_isSign (b := 1) hw hw64 hS.1 hS.2 hp hpn hF) ?_
  refine call_eq (fun F hF => tw_Matcher_run hw hw64 hS.1 hS.2 hp hpn hF) ?_
  refine bg_fin hR hI hrun hF (fun p' e => ?_) (fun e => ?_) (fun r0 σ' hr hf => And.intro hr hf)
  · rw [hq] at e
    obtain ⟨h1, rfl⟩ := some_of_if e
    exact ⟨rfl, if_pos ⟨h1.1, hbi.mpr h1.2⟩⟩
  · rw [hq] at e
    have h1 := none_of_if e
    exact if_neg (fun z => h1 ⟨z.1, hbi.mp z.2⟩)
theorem bg_4 {a : Int} (hk : ekd E k = 4) (hR : RG E kn tx σ0 σ tp p g c q ν n) (hI : IB E k p g c q n) (hrun : aft E f g c q ν n (plA E ν k p) = some (o, y)) (hF : ∀ r σ', Gon E kn tx σ0 (f + 1) o y r σ' → F (some (.inl r)) (nx, σ', rX kn tx)) : bgX SL xs F 252 k a (11 + k) (esb E).length (nx, σ, rX kn tx) := by
  have hS := hR.1.sub
  have hp : σ 9 0 7 = p := hR.2.1
  have hpl := (hI.len hS.2).1
  have hS64 := hS.2
  have hpn : p ≤ (esb E).length := hI.2.1
  obtain ⟨-, -, -, -, hw, hw64⟩ := hR.1.node hI.1
  have hq : plA E ν k p = if brk (ewd E k) (esb E) p < (esb E).length then some (brk (ewd E k) (esb E) p) else none := by simp only [plA, hk]
  refine run 40 ?_
  refine call_eq (fun F hF => tw_Matcher_breaks hw hw64 hS.1 hS.2 hp hpn hF) ?_
  refine And.intro (fun h => ?_) (fun h => ?_)
  · have h : ((esb E).length : Int) ≤ (brk (ewd E k) (esb E) p : Nat) := h
    refine call_eq (fun F hF => tw_Matcher_breaks hw hw64 hS.1 hS.2 hp hpn hF) ?_
    refine bg_fin (w := 0) hR hI hrun hF (fun p' e => ?_) (fun e => rfl) (fun r0 σ' hr hf => And.intro hr hf)
    rw [hq] at e
    obtain ⟨h1, rfl⟩ := some_of_if e
    omega
  · have h : ¬ ((esb E).length : Int) ≤ (brk (ewd E k) (esb E) p : Nat) := h
    refine call_eq (fun F hF => tw_Matcher_breaks hw hw64 hS.1 hS.2 hp hpn hF) ?_
    refine bg_fin (w := 1) hR hI hrun hF (fun p' e => ?_) (fun e => ?_) (fun r0 σ' hr hf => And.intro hr hf)
    · rw [hq] at e
      obtain ⟨h1, rfl⟩ := some_of_if e
      exact ⟨rfl, rfl⟩
    · rw [hq] at e
      have h1 := none_of_if e
      omega
theorem bg_5 (hk : ekd E k = 5) (hR : RG E kn tx σ0 σ tp p g c q ν n) (hI : IB E k p g c q n) (hrun : aft E f g c q ν n (plA E ν k p) = some (o, y)) (hF : ∀ r σ', Gon E kn tx σ0 (f + 1) o y r σ' → F (some (.inl r)) (nx, σ', rX kn tx)) : bgX SL xs F 277 k (efa E k : Nat) (11 + k) (esb E).length (nx, σ, rX kn tx) := by
  have hS := hR.1.sub
  have hp : σ 9 0 7 = p := hR.2.1
  have hpl := (hI.len hS.2).1
  have hS64 := hS.2
  have hpn : p ≤ (esb E).length := hI.2.1
  obtain ⟨-, -, -, -, hw, hw64⟩ := hR.1.node hI.1
  have ha : efa E k < 2147483648 := (hR.1.2.1.2.2 k hI.1).2.1
  have hq : plA E ν k p = if p + efa E k ≤ (esb E).length then some (p + efa E k) else none := by simp only [plA, hk]
  refine run 40 ?_
  refine And.intro (fun h => ?_) (fun h => ?_)
  · have h : wr (((esb E).length : Int) - σ 9 0 7) < (efa E k : Nat) := h
    rw [hp] at h
    rw [wr_eq ⟨by omega, by omega⟩] at h
    refine bg_fin (w := 0) (to := wr (σ 9 0 7 + (efa E k : Nat))) hR hI hrun hF (fun p' e => ?_) (fun e => rfl) (fun r0 σ' hr hf => And.intro hr hf)
    rw [hq] at e
    obtain ⟨h1, rfl⟩ := some_of_if e
    omega
  · have h : ¬ (wr (((esb E).length : Int) - σ 9 0 7) < (efa E k : Nat)) := h
    rw [hp] at h
    rw [wr_eq ⟨by omega, by omega⟩] at h
    refine bg_fin (w := 1) (to := wr (σ 9 0 7 + (efa E k : Nat))) hR hI hrun hF (fun p' e => ?_) (fun e => ?_) (fun r0 σ' hr hf => And.intro hr hf)
    · rw [hq] at e
      obtain ⟨h1, rfl⟩ := some_of_if e
      exact ⟨by rw [hp, wr_eq ⟨by omega, by omega⟩]; omega, rfl⟩
    · rw [hq] at e
      have h1 := none_of_if e
      omega
theorem bg_6 (hk : ekd E k = 6) (hR : RG E kn tx σ0 σ tp p g c q ν n) (hI : IB E k p g c q n) (hrun : aft E f g c q ν n (plA E ν k p) = some (o, y)) (hF : ∀ r σ', Gon E kn tx σ0 (f + 1) o y r σ' → F (some (.inl r)) (nx, σ', rX kn tx)) : bgX SL xs F 304 k (efa E k : Nat) (11 + k) (esb E).length (nx, σ, rX kn tx) := by
  have hS := hR.1.sub
  have hp : σ 9 0 7 = p := hR.2.1
  have hpl := (hI.len hS.2).1
  have hS64 := hS.2
  have hpn : p ≤ (esb E).length := hI.2.1
  obtain ⟨-, -, -, -, hw, hw64⟩ := hR.1.node hI.1
  have ha : efa E k < 2147483648 := (hR.1.2.1.2.2 k hI.1).2.1
  have hq : plA E ν k p = if p = efa E k then some (p) else none := by simp only [plA, hk]
  refine run 40 ?_
  refine And.intro (fun h => ?_) (fun h => ?_)
  · have h : ¬ σ 9 0 7 = (efa E k : Nat) := h
    rw [hp] at h
    refine bg_fin (w := 0) (to := σ 9 0 7) hR hI hrun hF (fun p' e => ?_) (fun e => rfl) (fun r0 σ' hr hf => And.intro hr hf)
    rw [hq] at e
    obtain ⟨h1, rfl⟩ := some_of_if e
    omega
  · have h : ¬ (¬ σ 9 0 7 = (efa E k : Nat)) := h
    rw [hp] at h
    refine bg_fin (w := 1) (to := σ 9 0 7) hR hI hrun hF (fun p' e => ?_) (fun e => ?_) (fun r0 σ' hr hf => And.intro hr hf)
    · rw [hq] at e
      obtain ⟨h1, rfl⟩ := some_of_if e
      exact ⟨hp, rfl⟩
    · rw [hq] at e
      have h1 := none_of_if e
      omega
theorem bg_7 (hk : ekd E k = 7) (hR : RG E kn tx σ0 σ tp p g c q ν n) (hI : IB E k p g c q n) (hrun : aft E f g c q ν n (plA E ν k p) = some (o, y)) (hF : ∀ r σ', Gon E kn tx σ0 (f + 1) o y r σ' → F (some (.inl r)) (nx, σ', rX kn tx)) : bgX SL xs F 326 k (efa E k : Nat) (11 + k) (esb E).length (nx, σ, rX kn tx) := by
  have hS := hR.1.sub
  have hp : σ 9 0 7 = p := hR.2.1
  have hpl := (hI.len hS.2).1
  have hS64 := hS.2
  have hpn : p ≤ (esb E).length := hI.2.1
  obtain ⟨-, -, -, -, hw, hw64⟩ := hR.1.node hI.1
  have ha : efa E k < 2147483648 := (hR.1.2.1.2.2 k hI.1).2.1
  have hq : plA E ν k p = if p + efa E k = (esb E).length then some (p) else none := by simp only [plA, hk]
  refine run 40 ?_
  refine And.intro (fun h => ?_) (fun h => ?_)
  · have h : ¬ σ 9 0 7 = wr (((esb E).length : Int) - (efa E k : Nat)) := h
    rw [hp] at h
    rw [wr_eq ⟨by omega, by omega⟩] at h
    refine bg_fin (w := 0) (to := σ 9 0 7) hR hI hrun hF (fun p' e => ?_) (fun e => rfl) (fun r0 σ' hr hf => And.intro hr hf)
    rw [hq] at e
    obtain ⟨h1, rfl⟩ := some_of_if e
    omega
  · have h : ¬ (¬ σ 9 0 7 = wr (((esb E).length : Int) - (efa E k : Nat))) := h
    rw [hp] at h
    rw [wr_eq ⟨by omega, by omega⟩] at h
    refine bg_fin (w := 1) (to := σ 9 0 7) hR hI hrun hF (fun p' e => ?_) (fun e => ?_) (fun r0 σ' hr hf => And.intro hr hf)
    · rw [hq] at e
      obtain ⟨h1, rfl⟩ := some_of_if e
      exact ⟨hp, rfl⟩
    · rw [hq] at e
      have h1 := none_of_if e
      omega
theorem bg_9 (hk : ekd E k = 9) (hR : RG E kn tx σ0 σ tp p g c q ν n) (hI : IB E k p g c q n) (hrun : aft E f g c q ν n (plA E ν k p) = some (o, y)) (hF : ∀ r σ', Gon E kn tx σ0 (f + 1) o y r σ' → F (some (.inl r)) (nx, σ', rX kn tx)) : bgX SL xs F 376 k (efa E k : Nat) (11 + k) (esb E).length (nx, σ, rX kn tx) := by
  have hS := hR.1.sub
  have hp : σ 9 0 7 = p := hR.2.1
  have hpl := (hI.len hS.2).1
  have hS64 := hS.2
  have hpn : p ≤ (esb E).length := hI.2.1
  obtain ⟨-, -, -, -, hw, hw64⟩ := hR.1.node hI.1
  have ha : efa E k < 2147483648 := (hR.1.2.1.2.2 k hI.1).2.1
  have hq : plA E ν k p = if p + efa E k ≤ (esb E).length then some ((esb E).length - efa E k) else none := by simp only [plA, hk]
  refine run 40 ?_
  refine And.intro (fun h => ?_) (fun h => ?_)
  · have h : wr (((esb E).length : Int) - (efa E k : Nat)) < σ 9 0 7 := h
    rw [hp] at h
    rw [wr_eq ⟨by omega, by omega⟩] at h
    refine bg_fin (w := 0) (to := wr (((esb E).length : Int) - (efa E k : Nat))) hR hI hrun hF (fun p' e => ?_) (fun e => rfl) (fun r0 σ' hr hf => And.intro hr hf)
    rw [hq] at e
    obtain ⟨h1, rfl⟩ := some_of_if e
    omega
  · have h : ¬ (wr (((esb E).length : Int) - (efa E k : Nat)) < σ 9 0 7) := h
    rw [hp] at h
    rw [wr_eq ⟨by omega, by omega⟩] at h
    refine bg_fin (w := 1) (to := wr (((esb E).length : Int) - (efa E k : Nat))) hR hI hrun hF (fun p' e => ?_) (fun e => ?_) (fun r0 σ' hr hf => And.intro hr hf)
    · rw [hq] at e
      obtain ⟨h1, rfl⟩ := some_of_if e
      exact ⟨by rw [wr_eq ⟨by omega, by omega⟩]; omega, rfl⟩
    · rw [hq] at e
      have h1 := none_of_if e
      omega
theorem bg_8 (hk : ekd E k = 8) (hR : RG E kn tx σ0 σ tp p g c q ν n) (hI : IB E k p g c q n) (hrun : aft E f g c q ν n (plA E ν k p) = some (o, y)) (hF : ∀ r σ', Gon E kn tx σ0 (f + 1) o y r σ' → F (some (.inl r)) (nx, σ', rX kn tx)) : bgX SL xs F 351 k (efa E k : Nat) (11 + k) (esb E).length (nx, σ, rX kn tx) := by
  have hS := hR.1.sub
  have hp : σ 9 0 7 = p := hR.2.1
  have hpl := (hI.len hS.2).1
  have hS64 := hS.2
  have hpn : p ≤ (esb E).length := hI.2.1
  obtain ⟨-, -, -, -, hw, hw64⟩ := hR.1.node hI.1
  have hq : plA E ν k p = if p ≤ efa E k ∧ efa E k ≤ (esb E).length then some (efa E k) else none := by simp only [plA, hk]
  refine run 40 ?_
  refine And.intro (fun h => ?_) (fun h => ?_)
  · have h : ((efa E k : Nat) : Int) < σ 9 0 7 := h
    rw [hp] at h
    refine bg_fin (w := 0) (to := (efa E k : Nat)) hR hI hrun hF (fun p' e => ?_) (fun e => rfl) (fun r0 σ' hr hf => And.intro hr hf)
    rw [hq] at e
    obtain ⟨h1, rfl⟩ := some_of_if e
    omega
  · have h : ¬ ((efa E k : Nat) : Int) < σ 9 0 7 := h
    rw [hp] at h
    refine And.intro (fun h2 => ?_) (fun h2 => ?_)
    · have h2 : ((esb E).length : Int) < (efa E k : Nat) := h2
      refine bg_fin (w := 0) (to := (efa E k : Nat)) hR hI hrun hF (fun p' e => ?_) (fun e => rfl) (fun r0 σ' hr hf => And.intro hr hf)
      rw [hq] at e
      obtain ⟨h1, rfl⟩ := some_of_if e
      omega
    · have h2 : ¬ ((esb E).length : Int) < (efa E k : Nat) := h2
      refine bg_fin (w := 1) (to := (efa E k : Nat)) hR hI hrun hF (fun p' e => ?_) (fun e => ?_) (fun r0 σ' hr hf => And.intro hr hf)
      · rw [hq] at e
        obtain ⟨h1, rfl⟩ := some_of_if e
        exact ⟨rfl, rfl⟩
      · rw [hq] at e
        have h1 := none_of_if e
        omega
theorem bg_10 {a : Int} (hk : ekd E k = 10) (hR : RG E kn tx σ0 σ tp p g c q ν n) (hI : IB E k p g c q n) (hrun : aft E f g c q ν n (plA E ν k p) = some (o, y)) (hF : ∀ r σ', Gon E kn tx σ0 (f + 1) o y r σ' → F (some (.inl r)) (nx, σ', rX kn tx)) : bgX SL xs F 401 k a (11 + k) (esb E).length (nx, σ, rX kn tx) := by
  have hq : plA E ν k p = some (esb E).length := by simp only [plA, hk]
  refine run 40 ?_
  refine bg_fin (w := 1) (to := (esb E).length) hR hI hrun hF (fun p' e => ?_) (fun e => ?_) (fun r0 σ' hr hf => And.intro hr hf)
  · rw [hq] at e
    cases e
    exact ⟨rfl, rfl⟩
  · rw [hq] at e
    cases e
theorem bg_22 (hk : ekd E k = 22) (hR : RG E kn tx σ0 σ tp p g c q ν n) (hI : IB E k p g c q n) (hrun : aft E f g c q ν n (plA E ν k p) = some (o, y)) (hF : ∀ r σ', Gon E kn tx σ0 (f + 1) o y r σ' → F (some (.inl r)) (nx, σ', rX kn tx)) : bgX SL xs F 409 k (efa E k : Nat) (11 + k) (esb E).length (nx, σ, rX kn tx) := by
  have hS := hR.1.sub
  have hp : σ 9 0 7 = p := hR.2.1
  have hpl := (hI.len hS.2).1
  have hS64 := hS.2
  have hpn : p ≤ (esb E).length := hI.2.1
  obtain ⟨-, -, -, -, hw, hw64⟩ := hR.1.node hI.1
  have hae : efa E k < 8 := (hR.1.2.1.2.2 k hI.1).2.2.2.2.2 (Or.inr hk)
  obtain ⟨hv, hv64⟩ := hR.1.2.2.2.1 (efa E k) hae
  have hvl : σ 1 (3 + efa E k) 1 = (ν (efa E k)).length := hv.1
  have e : (if ((efa E k : Nat) : Int).toNat < 8 then some (1, 3 + ((efa E k : Nat) : Int).toNat) else none) = some (1, 3 + efa E k) := by rw [Int.toNat_natCast, if_pos hae]
  have ewr : wr (σ 9 0 7 + σ 1 (3 + efa E k) 1) = ((p + (ν (efa E k)).length : Nat) : Int) := by rw [hp, hvl, wr_eq ⟨by omega, by omega⟩]; omega
  have hix : 0 ≤ ((efa E k : Nat) : Int) ∧ ((efa E k : Nat) : Int) < 8 := by omega
  have K : ∀ w : Int, (w = 1 ∧ atT (ν (efa E k)) (esb E) p) ∨ (w = 0 ∧ ¬ atT (ν (efa E k)) (esb E) p) → Xz SL xs (m_Matcher_begins SL xs) F (437, [some (.inr (some (9, 0))), some (.inl (k : Int)), some (.inl ((efa E k : Nat) : Int)), some (.inr (some (1, 11 + k))), some (.inl ((esb E).length : Int))], [.inr (some (1, 3 + efa E k)), .inl (σ 9 0 7), .inl w, .inr (some (9, 0))], (nx, σ, rX kn tx), 0, 0) := by
    intro w hw
    refine run 4 ?_
    refine bg_fin (w := w) (to := wr (σ 9 0 7 + σ 1 (3 + efa E k) 1)) hR hI hrun hF (fun p' e => ?_) (fun e => ?_) (fun r0 σ' hr hf => And.intro hr hf)
    · rcases hw with ⟨hw, hat⟩ | ⟨hw, hat⟩
      · have hpl : plA E ν k p = some (p + (ν (efa E k)).length) := by
          simp only [plA, hk]
          exact if_pos hat
        rw [hpl] at e
        cases e
        exact ⟨ewr, hw⟩
      · have hpl : plA E ν k p = none := by
          simp only [plA, hk]
          exact if_neg hat
        rw [hpl] at e
        cases e
    · rcases hw with ⟨hw, hat⟩ | ⟨hw, hat⟩
      · have hpl : plA E ν k p = some (p + (ν (efa E k)).length) := by
          simp only [plA, hk]
          exact if_pos hat
        rw [hpl] at e
        cases e
      · exact hw
  refine run 17 ?_
  refine And.intro hix ?_
  refine call_any (Y := fun v s' => s' = (nx, σ, rX kn tx) ∧ ∃ w : Int, v = some (.inl w) ∧ ((w = 1 ∧ atT (ν (efa E k)) (esb E) p) ∨ (w = 0 ∧ ¬ atT (ν (efa E k)) (esb E) p))) ?_ ?_
  · show vT 1 (T_Text_isAt SL xs) [.inr (if ((efa E k : Nat) : Int).toNat < 8 then some (1, 3 + ((efa E k : Nat) : Int).toNat) else none), .inr (some (1, 2)), .inl (σ 9 0 7)] (nx, σ, rX kn tx) _
    rw [hp, e]
    exact tw_Text_isAt hv hv64 hS.1 hS.2 hI.2.1 (fun h => ⟨rfl, 1, rfl, Or.inl ⟨rfl, h⟩⟩) (fun h => ⟨rfl, 0, rfl, Or.inr ⟨rfl, h⟩⟩)
  · intro v s' hv
    obtain ⟨rfl, w, rfl, hw⟩ := hv
    have K := K w hw
    rw [← e] at K
    refine And.intro hix ?_
    exact leaf K
theorem aft_B {kd : Nat} (hk : ekd E k = kd) (hkd : kd ≤ 10 ∨ kd = 22) (hrun : runA E (f + 1) (BS k p g c q ν n) = some (o, y)) : aft E f g c q ν n (plA E ν k p) = some (o, y) := by
  have hs : stepB E k p g c q ν n = match plA E ν k p with | some p' => .inl (GS p' g c q ν n) | none => .inl (KS c ν n) := by
    have hcase : kd = 0 ∨ kd = 1 ∨ kd = 2 ∨ kd = 3 ∨ kd = 4 ∨ kd = 5 ∨ kd = 6 ∨ kd = 7 ∨ kd = 8 ∨ kd = 9 ∨ kd = 10 ∨ kd = 22 := by omega
    rcases hcase with rfl | rfl | rfl | rfl | rfl | rfl | rfl | rfl | rfl | rfl | rfl | rfl <;> simp only [stepB, hk] <;> rfl
  rw [runA_B, hs] at hrun
  cases hb : plA E ν k p with
  | some p' => rw [hb] at hrun; exact hrun
  | none => rw [hb] at hrun; exact hrun
theorem RG.count (h : RG E kn tx σ0 σ tp p g c q ν n) : RG E kn tx σ0 (upS σ 9 0 6 ((n + 1 : Nat) : Int)) tp p g c q ν (n + 1) := by
  obtain ⟨⟨f, eo, e, nu, hn⟩, h1, h2, h3, h4, h5, h6, h7, h8⟩ := h
  refine ⟨⟨f.up (by omega) (by omega) (by omega), eo, e, fun v hv => ?_, upS_same⟩, by rw [upS_ne (by omega)]; exact h1, ?_, by rw [upS_ne (by omega)]; exact h3, by omega, by rw [upS_ne (by omega)]; exact h5, ?_, by rw [upS_ne (by omega)]; exact h7, ?_⟩
  · obtain ⟨⟨h4, h5⟩, h6⟩ := nu v hv
    exact ⟨⟨by rw [upS_ne (by omega)]; exact h4, fun i hi => by rw [upS_ne (by omega)]; exact h5 i hi⟩, h6⟩
  · rw [upS_ne (by omega)]
    exact h2.frame (fun a i ha hb hi => upS_ne (by omega))
  · exact h6.frame (fun a i ha hb hi => upS_ne (by omega)) (fun a i ha hb hi => upS_ne (by omega)) (fun a i ha hb hi => upS_ne (by omega))
  · exact h8.frame (fun a i ha hb hi => upS_ne (by omega))
theorem tw_begins {z : Nat} (hR : RG E kn tx σ0 σ tp p g c q ν n) (hI : IG E p ((0, k, z) :: g) c q n) (hrun : runA E f (GS p ((0, k, z) :: g) c q ν n) = some (o, y)) (hF : ∀ r σ', Gon E kn tx σ0 f o y r σ' → F (some (.inl r)) (nx, σ', rX kn tx)) : T_Matcher_begins SL xs [.inr (some (9, 0)), .inl k] (nx, σ, rX kn tx) F := by
  obtain ⟨f, rfl, hrun⟩ := runG hrun
  have hst : σ 9 0 6 = n := hR.1.2.2.2.2
  by_cases hn : n = 3000
  · simp only [stepG, hn, if_true] at hrun
    cases hrun
    refine run 30 ?_
    refine And.intro (fun h => absurd (show σ 9 0 6 = 3000 by rw [hst, hn]; rfl) h) (fun h => ?_)
    exact And.intro (Or.inl rfl) (hF 0 (upS σ 9 0 9 3) (Or.inr ⟨rfl, by omega, upS_same, by subst hn; exact hR.1.up (by omega) (by omega) (by omega)⟩))
  · have hI2 := hI.begin hn
    have hrun : runA E f (BS k p g c q ν (n + 1)) = some (o, y) := by
      have hrun : (match (if n = 3000 then Sum.inr (3, KS c ν n) else Sum.inl (BS k p g c q ν (n + 1)) : As ⊕ (Nat × As)) with | .inl z => runA E f z | .inr z => some z) = some (o, y) := hrun
      rw [if_neg hn] at hrun
      exact hrun
    have hF := fun r σ' (h : Gon E kn tx σ0 f o y r σ') => hF r σ' (h.mono (by omega))
    obtain ⟨f, rfl, -⟩ := runB hrun
    have hn3 := hI2.back.2.2
    have hw : wr (σ 9 0 6 + 1) = ((n + 1 : Nat) : Int) := by rw [hst, wr_eq ⟨by omega, by omega⟩]; omega
    have hR2 := hR.count
    rw [← hw] at hR2
    have ht : tp + 1 ≤ 2 * (n + 1) := by
      have := hR.2.2.2.2.1
      omega
    have hs : ¬ σ 9 0 6 = 3000 := by rw [hst]; omega
    have hk64 : k < 64 := by
      have := hI2.1
      have := hR.1.2.1.2.1
      omega
    obtain ⟨k1, k2, k3, k4, -, -⟩ := hR2.1.node hI2.1
    have hl : (upS σ 9 0 6 (wr (σ 9 0 6 + 1))) 1 2 1 = (esb E).length := hR2.1.sub.1.1
    have hk24 := (hR.1.2.1.2.2 k hI2.1).1
    have fin : ∀ t, (lkI bgL (ekd E k : Nat)).getD 445 = t → bgX SL xs F t k (efa E k : Nat) (11 + k) (esb E).length (nx, upS σ 9 0 6 (wr (σ 9 0 6 + 1)), rX kn tx) → T_Matcher_begins SL xs [.inr (some (9, 0)), .inl k] (nx, σ, rX kn tx) F := fun t h K => bg_sw hk64 k1 k4 h hs rfl (by rw [k2, hl]; exact K)
    generalize hkd : ekd E k = kd at fin hk24
    have cmp : 11 ≤ kd → ¬ kd = 22 → bgX SL xs F 445 k (efa E k : Nat) (11 + k) (esb E).length (nx, upS σ 9 0 6 (wr (σ 9 0 6 + 1)), rX kn tx) := by
      intro h1 h2
      refine run 30 ?_
      refine And.intro ⟨show (0 : Int) ≤ (k : Int) by omega, show (k : Int) < 64 by omega⟩ ?_
      refine call_any (Y := fun v s' => ∃ r0 σ', (r0 = 0 ∨ r0 = 1) ∧ v = some (.inl r0) ∧ s' = (nx, σ', rX kn tx) ∧ Gon E kn tx σ0 (f + 1) o y r0 σ') ?_ ?_
      · show vT 3 (T_Matcher_composes SL xs) [.inr (some (9, 0)), .inl (k : Int), .inl (efa E k : Nat), .inl (upS σ 9 0 6 (wr (σ 9 0 6 + 1)) 7 0 (k : Int).toNat)] (nx, upS σ 9 0 6 (wr (σ 9 0 6 + 1)), rX kn tx) _
        rw [Int.toNat_natCast, k3]
        refine tw_composes hkd ⟨h1, hk24, h2⟩ ht hR2 hI2 hrun (fun r0 σ' hg => ⟨r0, σ', ?_, rfl, rfl, hg⟩)
        rcases hg with h | h
        · exact Or.inr h.1
        · exact Or.inl h.1
      · intro v s' hv
        obtain ⟨r0, σ', hr, rfl, rfl, hg⟩ := hv
        exact And.intro hr (hF r0 σ' hg)
    by_cases hpl : kd ≤ 10 ∨ kd = 22
    · have hrun := aft_B hkd hpl hrun
      have hcase : kd = 0 ∨ kd = 1 ∨ kd = 2 ∨ kd = 3 ∨ kd = 4 ∨ kd = 5 ∨ kd = 6 ∨ kd = 7 ∨ kd = 8 ∨ kd = 9 ∨ kd = 10 ∨ kd = 22 := by omega
      rcases hcase with rfl | rfl | rfl | rfl | rfl | rfl | rfl | rfl | rfl | rfl | rfl | rfl
      · exact fin _ rfl (bg_0 hkd hR2 hI2 hrun hF)
      · exact fin _ rfl (bg_1 hkd hR2 hI2 hrun hF)
      · exact fin _ rfl (bg_2 hkd hR2 hI2 hrun hF)
      · exact fin _ rfl (bg_3 hkd hR2 hI2 hrun hF)
      · exact fin _ rfl (bg_4 hkd hR2 hI2 hrun hF)
      · exact fin _ rfl (bg_5 hkd hR2 hI2 hrun hF)
      · exact fin _ rfl (bg_6 hkd hR2 hI2 hrun hF)
      · exact fin _ rfl (bg_7 hkd hR2 hI2 hrun hF)
      · exact fin _ rfl (bg_8 hkd hR2 hI2 hrun hF)
      · exact fin _ rfl (bg_9 hkd hR2 hI2 hrun hF)
      · exact fin _ rfl (bg_10 hkd hR2 hI2 hrun hF)
      · exact fin _ rfl (bg_22 hkd hR2 hI2 hrun hF)
    · have cmp2 := cmp (by omega) (by omega)
      have hcase : kd = 11 ∨ kd = 12 ∨ kd = 13 ∨ kd = 14 ∨ kd = 15 ∨ kd = 16 ∨ kd = 17 ∨ kd = 18 ∨ kd = 19 ∨ kd = 20 ∨ kd = 21 ∨ kd = 23 := by omega
      rcases hcase with rfl | rfl | rfl | rfl | rfl | rfl | rfl | rfl | rfl | rfl | rfl | rfl <;> exact fin _ rfl cmp2
end
end
section
/-! The component: one goal, a match from one place on, a match -/
section
variable {SL : Nat} {xs : Nat → Int} {nx : Nat} {σ σ0 : Sg} {kn : Nat → Option Nat} {tx : Nat → Bool} {F : Option Av → St → Prop} {E : Ev} {ν : Nu} {n o k p tp f : Nat} {g : List Gl} {c : List Ch} {q : List Kp} {y : As}
theorem part_set {S : List Int} {a u : Nat} {v : Nat} (hS : tl (σ 2 2) (σ 1 2 1) S) (hau : a ≤ u) (hu : u ≤ S.length) : setT σ (3 + v) ((S.drop a).take (u - a)) (cpS (upS σ 1 (3 + v) 1 ((u : Int) - a)) 2 2 (a : Int).toNat 2 (3 + v) 0 ((u : Int) - a).toNat) := by
  have hlen : ((S.drop a).take (u - a)).length = u - a := by simp; omega
  refine ⟨⟨?_, fun i hi => ?_⟩, fun a' b' j' h1 h2 => ?_⟩
  · rw [hlen]
    simp [cpS, upS]
    omega
  · rw [hlen] at hi
    have h1 : ((S.drop a).take (u - a)).getD i 0 = S.getD (a + i) 0 := by
      rw [List.getD_eq_getElem?_getD, List.getD_eq_getElem?_getD, List.getElem?_take, if_pos hi, List.getElem?_drop]
    rw [h1, ← hS.2 (a + i) (by omega)]
    have e : cpS (upS σ 1 (3 + v) 1 ((u : Int) - a)) 2 2 (a : Int).toNat 2 (3 + v) 0 ((u : Int) - a).toNat 2 (3 + v) i = upS σ 1 (3 + v) 1 ((u : Int) - a) 2 2 ((a : Int).toNat + (i - 0)) := if_pos ⟨rfl, rfl, by omega, by omega⟩
    rw [e, upS_ne (by omega)]
    rfl
  · simp only [cpS]
    rw [if_neg (fun z => h2 ⟨z.1, z.2.1⟩), upS_ne h1]
theorem tw_works {x : Gl} (hR : RG E kn tx σ0 σ tp p (x :: g) c q ν n) (hI : IG E p (x :: g) c q n) (hrun : runA E f (GS p (x :: g) c q ν n) = some (o, y)) (hF : ∀ r σ', Gon E kn tx σ0 f o y r σ' → F (some (.inl r)) (nx, σ', rX kn tx)) : T_Matcher_works SL xs [.inr (some (9, 0))] (nx, σ, rX kn tx) F := by
  obtain ⟨i, hg, hi, x1, x2, x3, x4⟩ := hR.2.2.1
  have hn3 : n ≤ 3000 := hI.2.2.2.2.2.2.1
  have htp := hR.2.2.2.2.1
  have hti : tp ≤ 8192 := by omega
  have hp : σ 9 0 7 = p := hR.2.1
  have hix : 0 ≤ σ 9 0 8 ∧ σ 9 0 8 < 8192 := by rw [hg]; omega
  have hit : (σ 9 0 8).toNat = i := by rw [hg]; simp
  have hR2 : RG E kn tx σ0 (upS σ 9 0 8 (σ 14 0 i)) tp p g c q ν n := hR.goal (x4.mono (by omega))
  obtain ⟨w, v, z⟩ := x
  rw [← hit] at hR2 x1 x2 x3
  have x1 : σ 11 0 (σ 9 0 8).toNat = w := x1
  have x2 : σ 12 0 (σ 9 0 8).toNat = v := x2
  have x3 : σ 13 0 (σ 9 0 8).toNat = z := x3
  refine run 50 ?_
  refine And.intro hix ?_
  refine And.intro hix ?_
  refine And.intro hix ?_
  rcases w with _ | _ | w
  · refine swt_out (show lkI _ (σ 11 0 (σ 9 0 8).toNat) = none by rw [x1]; rfl) ?_
    refine call_any (Y := fun v s' => ∃ r0 σ', (r0 = 0 ∨ r0 = 1) ∧ v = some (.inl r0) ∧ s' = (nx, σ', rX kn tx) ∧ Gon E kn tx σ0 f o y r0 σ') ?_ ?_
    · show vT 3 (T_Matcher_begins SL xs) [.inr (some (9, 0)), .inl (σ 12 0 (σ 9 0 8).toNat)] (nx, upS σ 9 0 8 (σ 14 0 (σ 9 0 8).toNat), rX kn tx) _
      rw [x2]
      refine tw_begins hR2 hI hrun (fun r0 σ' hg => ⟨r0, σ', ?_, rfl, rfl, hg⟩)
      rcases hg with h | h
      · exact Or.inr h.1
      · exact Or.inl h.1
    · intro v s' hv
      obtain ⟨r0, σ', hr, rfl, rfl, hg⟩ := hv
      exact And.intro hr (hF r0 σ' hg)
  · refine swt_in (t := 64) (show lkI _ (σ 11 0 (σ 9 0 8).toNat) = some 64 by rw [x1]; rfl) ?_
    obtain ⟨f, rfl, hrun⟩ := runG hrun
    have hrun : runA E f (GS p g c (q ++ [(v, z, p)]) ν n) = some (o, y) := hrun
    obtain ⟨hv, hz, hql, hI2⟩ := hI.kept
    have hks : σ 22 0 3 = q.length := hR.2.2.2.2.2.2.2.1
    refine And.intro hix ?_
    have hR3 : RG E kn tx σ0 (kad (upS σ 9 0 8 (σ 14 0 (σ 9 0 8).toNat)) (σ 12 0 (σ 9 0 8).toNat) (σ 13 0 (σ 9 0 8).toNat) (σ 9 0 7)) tp p g c (q ++ [(v, z, p)]) ν n := by
      rw [x2, x3, hp]
      exact hR2.addK
    refine call_eq (fun F hF => tw_Kept_add (σ := upS σ 9 0 8 (σ 14 0 (σ 9 0 8).toNat)) (v := σ 12 0 (σ 9 0 8).toNat) (f := σ 13 0 (σ 9 0 8).toNat) (u := σ 9 0 7) (by rw [hR2.2.2.2.2.2.2.2.1]; omega) hF) ?_
    exact And.intro (Or.inr rfl) (hF 1 _ (Or.inl ⟨rfl, f, tp, p, g, c, _, ν, n, by omega, hrun, hR3, hI2⟩))
  · have hI2 := hI.told (by omega) (by omega)
    obtain ⟨hw2, hv, hz, hI2⟩ := hI2
    have hw : w = 0 := by omega
    subst hw
    refine swt_in (t := 87) (show lkI _ (σ 11 0 (σ 9 0 8).toNat) = some 87 by rw [x1]; rfl) ?_
    obtain ⟨f, rfl, hrun⟩ := runG hrun
    have hrun : runA E f (GS p g c q (upN ν v (((esb E).drop z).take (p - z))) n) = some (o, y) := hrun
    have hS := hR2.1.sub
    have hpl : p ≤ (esb E).length := hI.1
    have hS64 := hS.2
    have e : (if (σ 12 0 (σ 9 0 8).toNat).toNat < 8 then some (1, 3 + (σ 12 0 (σ 9 0 8).toNat).toNat) else none) = some (1, 3 + v) := by rw [x2, Int.toNat_natCast, if_pos hv]
    refine And.intro (by show 0 ≤ σ 12 0 (σ 9 0 8).toNat ∧ σ 12 0 (σ 9 0 8).toNat < 8; rw [x2]; omega) ?_
    refine And.intro hix ?_
    have hset := part_set (v := v) hS.1 hz hpl
    have hR3 := hR2.set hv (by simp; omega) hset
    refine call_any (Y := fun v0 s' => v0 = none ∧ ∃ σ', s' = (nx, σ', rX kn tx) ∧ RG E kn tx σ0 σ' tp p g c q (upN ν v (((esb E).drop z).take (p - z))) n) ?_ ?_
    · show vT 1 (T_Text_part SL xs) [.inr (if (σ 12 0 (σ 9 0 8).toNat).toNat < 8 then some (1, 3 + (σ 12 0 (σ 9 0 8).toNat).toNat) else none), .inr (some (2, 2)), .inl (σ 13 0 (σ 9 0 8).toNat), .inl (σ 9 0 7)] (nx, upS σ 9 0 8 (σ 14 0 (σ 9 0 8).toNat), rX kn tx) _
      rw [e, x3, hp]
      exact tw_Text_part (t := 3 + v) (b0 := 2) (f := (z : Int)) (u := (p : Int)) ⟨by omega, by omega, by omega⟩ ⟨rfl, _, rfl, hR3⟩
    · intro v0 s' hv0
      obtain ⟨rfl, σ', rfl, hg⟩ := hv0
      exact And.intro (Or.inr rfl) (hF 1 _ (Or.inl ⟨rfl, f, tp, p, g, c, q, _, n, by omega, hrun, hg, hI2⟩))
/-- how a match from one place on ends -/
def Fend (E : Ev) (kn : Nat → Option Nat) (tx : Nat → Bool) (σ0 : Sg) (o : Nat) (y : As) (σ' : Sg) : Prop :=
  (o = 1 ∧ ∃ tp p c q ν n, y = GS p [] c q ν n ∧ RG E kn tx σ0 σ' tp p [] c q ν n ∧ IG E p [] c q n) ∨ (¬ o = 1 ∧ RB E kn tx σ0 σ' (yν y) (yn y))
theorem lp_from {at_ nd : Int} (hF : ∀ σ', Fend E kn tx σ0 o y σ' → F (some (.inl o)) (nx, σ', rX kn tx)) : ∀ (f : Nat) (σ : Sg) (tp p : Nat) (g : List Gl) (c : List Ch) (q : List Kp) (ν : Nu) (n : Nat), RG E kn tx σ0 σ tp p g c q ν n → IG E p g c q n → runA E f (GS p g c q ν n) = some (o, y) → σ 9 0 9 = 1 →
    Xz SL xs (m_Matcher_from SL xs) F (49, [some (.inr (some (9, 0))), some (.inl at_), some (.inl nd)], [], (nx, σ, rX kn tx), 0, 0) := by
  intro f
  induction f using Nat.strongRecOn with
  | _ f ih =>
    intro σ tp p g c q ν n hR hI hrun h1
    cases g with
    | nil =>
      have hg : σ 9 0 8 = -1 := hR.2.2.1
      obtain ⟨f, rfl, hrun⟩ := runG hrun
      cases hrun
      refine run 20 ?_
      refine And.intro (fun h => ?_) (fun h => absurd (show σ 9 0 8 = -1 from hg) h)
      have K := hF σ (Or.inl ⟨rfl, tp, p, c, q, ν, n, rfl, hR, hI⟩)
      rw [show ((1 : Nat) : Int) = σ 9 0 9 from h1.symm] at K
      exact K
    | cons x g =>
      obtain ⟨i, hg, hi, -⟩ := hR.2.2.1
      refine run 20 ?_
      refine And.intro (fun h => absurd (show σ 9 0 8 = -1 from h) (by rw [hg]; omega)) (fun h => ?_)
      refine call_any (Y := fun v s' => ∃ r0 σ', v = some (.inl r0) ∧ s' = (nx, σ', rX kn tx) ∧ Gon E kn tx σ0 f o y r0 σ') (tw_works hR hI hrun (fun r0 σ' hg => ⟨r0, σ', rfl, rfl, hg⟩)) ?_
      intro v s' hv
      obtain ⟨r0, σ', rfl, rfl, hg⟩ := hv
      rcases hg with ⟨rfl, f', tp', p', g', c', q', ν', n', hf', hrun', hR', hI'⟩ | ⟨rfl, ho, h9, hB⟩
      · refine And.intro (fun h => absurd (show (1 : Int) = 0 from h) (by omega)) (fun h => ?_)
        have K := ih f' hf' (upS σ' 9 0 9 1) tp' p' g' c' q' ν' n' hR'.res hI' hrun' upS_same
        exact leaf (by first | exact run 1 K | exact run 2 K | exact run 3 K | exact run 4 K)
      · refine And.intro (fun h => ?_) (fun h => absurd (show (0 : Int) = 0 from rfl) h)
        have K := hF σ' (Or.inr ⟨ho, hB⟩)
        rw [← h9] at K
        exact K
theorem upS_comm {f : Sg} {a b j a' b' j' : Nat} {v w : Int} (h : ¬ (a = a' ∧ b = b' ∧ j = j')) : upS (upS f a b j v) a' b' j' w = upS (upS f a' b' j' w) a b j v := by
  funext x1 x2 x3
  by_cases h1 : x1 = a ∧ x2 = b ∧ x3 = j
  · obtain ⟨rfl, rfl, rfl⟩ := h1
    rw [upS_ne h, upS_same, upS_same]
  · rw [upS_ne h1]
    by_cases h2 : x1 = a' ∧ x2 = b' ∧ x3 = j'
    · obtain ⟨rfl, rfl, rfl⟩ := h2
      rw [upS_same, upS_same]
    · rw [upS_ne h2, upS_ne h2, upS_ne h1]
theorem gad_comm {w a f x z : Int} : gad (upS σ 9 0 8 z) w a f x = upS (gad σ w a f x) 9 0 8 z := by
  simp only [gad, gadW]
  rw [upS_ne (f := σ) (by omega)]
  rw [upS_comm (a := 9) (by omega), upS_comm (a := 9) (by omega), upS_comm (a := 9) (by omega), upS_comm (a := 9) (by omega), upS_comm (a := 9) (by omega)]
theorem runA_n : ∀ (f : Nat) (x y : As) (o : Nat), yn x ≤ 3000 → runA E f x = some (o, y) → yn y ≤ 3000
  | 0, x, y, o, _, h => by cases h
  | f + 1, x, y, o, hx, h => by
    have key : (∀ z, astep E x = .inl z → yn z ≤ 3000) ∧ (∀ o z, astep E x = .inr (o, z) → yn z ≤ 3000) := by
      obtain ⟨m, k, p, g, c, q, ν, n⟩ := x
      have hx : n ≤ 3000 := hx
      rcases m with _ | _ | m
      · show (∀ z, stepB E k p g c q ν n = .inl z → yn z ≤ 3000) ∧ (∀ o z, stepB E k p g c q ν n = .inr (o, z) → yn z ≤ 3000)
        unfold stepB
        constructor
        · intro z hz
          split at hz
          all_goals first
            | (cases hz; exact hx)
            | (cases hz; done)
            | (split at hz <;> first | (cases hz; exact hx) | (cases hz; done))
        · intro o z hz
          split at hz
          all_goals first
            | (cases hz; exact hx)
            | (cases hz; done)
            | (split at hz <;> first | (cases hz; done) | (cases hz; exact hx))
      · show (∀ z, stepK E c ν n = .inl z → yn z ≤ 3000) ∧ (∀ o z, stepK E c ν n = .inr (o, z) → yn z ≤ 3000)
        unfold stepK
        constructor
        · intro z hz
          split at hz
          all_goals first
            | (cases hz; exact hx)
            | (cases hz; done)
            | (split at hz <;> first | (cases hz; exact hx) | (cases hz; done))
        · intro o z hz
          split at hz
          all_goals first
            | (cases hz; exact hx)
            | (cases hz; done)
            | (split at hz <;> first | (cases hz; done) | (cases hz; exact hx))
      · show (∀ z, stepG E p g c q ν n = .inl z → yn z ≤ 3000) ∧ (∀ o z, stepG E p g c q ν n = .inr (o, z) → yn z ≤ 3000)
        unfold stepG
        constructor
        · intro z hz
          split at hz
          all_goals first
            | (cases hz; exact hx)
            | (cases hz; done)
            | (split at hz <;> first | (cases hz; done) | (cases hz; show n + 1 ≤ 3000; omega))
        · intro o z hz
          split at hz
          all_goals first
            | (cases hz; exact hx)
            | (cases hz; done)
            | (split at hz <;> first | (cases hz; exact hx) | (cases hz; done))
    simp only [runA] at h
    split at h
    · rename_i z hz
      exact runA_n f z y o (key.1 z hz) h
    · rename_i z hz
      cases h
      exact key.2 o y hz
theorem RB.begin (hB : RB E kn tx σ0 σ ν n) (hp : p ≤ (esb E).length) (hk : k < ect E) (hn : n ≤ 3000) : RG E kn tx σ0 (upS (upS (gad (upS (upS (upS (upS σ 10 0 4 0) 15 0 6 0) 22 0 3 0) 9 0 7 p) (0 : Nat) k (0 : Nat) (-1)) 9 0 8 0) 9 0 9 1) 1 p [(0, k, 0)] [] [] ν n ∧ IG E p [(0, k, 0)] [] [] n := by
  have hB2 := ((((hB.up (a := 10) (j := 4) (v := 0) (by omega) (by omega) (by omega)).up (a := 15) (j := 6) (v := 0) (by omega) (by omega) (by omega)).up (a := 22) (j := 3) (v := 0) (by omega) (by omega) (by omega)).up (a := 9) (j := 7) (v := p) (by omega) (by omega) (by omega)).up (a := 9) (j := 8) (v := -1) (by omega) (by omega) (by omega)
  have hR : RG E kn tx σ0 (upS (upS (upS (upS (upS σ 10 0 4 0) 15 0 6 0) 22 0 3 0) 9 0 7 p) 9 0 8 (-1)) 0 p [] [] [] ν n := by
    refine ⟨hB2, ?_, ?_, ?_, by omega, ?_, trivial, ?_, fun i hi => by simp at hi⟩
    · rw [upS_ne (by omega), upS_same]
    · rw [upS_same]; rfl
    · rw [upS_ne (by omega), upS_ne (by omega), upS_ne (by omega), upS_ne (by omega), upS_same]; rfl
    · rw [upS_ne (by omega), upS_ne (by omega), upS_ne (by omega), upS_same]; rfl
    · rw [upS_ne (by omega), upS_ne (by omega), upS_same]; rfl
  obtain ⟨hR1, hx⟩ := hR.addG (w := 0) (a := k) (f := 0) (x := -1) (g' := []) rfl (by omega)
  have hR2 := (hR1.goal hx).res (x := 1)
  rw [gad_comm, upS_upS] at hR2
  refine ⟨hR2, hp, Nat.zero_le _, fun x hx => ?_, trivial, Nat.zero_le _, by simp [kcn], hn, fun x hx => by cases hx⟩
  rw [List.mem_singleton] at hx
  subst hx
  exact Or.inl ⟨rfl, hk⟩
theorem tw_from (hB : RB E kn tx σ0 σ ν n) (hp : p ≤ (esb E).length) (hk : k < ect E) (hn : n ≤ 3000) (hrun : runA E f (GS p [(0, k, 0)] [] [] ν n) = some (o, y)) (hF : ∀ σ', Fend E kn tx σ0 o y σ' → F (some (.inl o)) (nx, σ', rX kn tx)) : T_Matcher_from SL xs [.inr (some (9, 0)), .inl p, .inl k] (nx, σ, rX kn tx) F := by
  obtain ⟨hR, hI⟩ := hB.begin hp hk hn
  have K := lp_from (SL := SL) (xs := xs) (nx := nx) (F := F) (at_ := p) (nd := k) hF f _ _ _ _ _ _ _ _ hR hI hrun upS_same
  have et : upS (upS (upS (upS σ 10 0 4 0) 15 0 6 0) 22 0 3 0) 9 0 7 p 10 0 4 = 0 := by rw [upS_ne (by omega), upS_ne (by omega), upS_ne (by omega), upS_same]
  refine run 40 ?_
  refine call_eq (v0 := some (.inl 0)) (s0 := (nx, gad (upS (upS (upS (upS σ 10 0 4 0) 15 0 6 0) 22 0 3 0) 9 0 7 p) (0 : Nat) k (0 : Nat) (-1), rX kn tx)) (fun F hF => tw_Goals_add (w := 0) (σ := upS (upS (upS (upS σ 10 0 4 0) 15 0 6 0) 22 0 3 0) 9 0 7 p) (a := (k : Int)) (f := 0) (g := -1) (by rw [et]; omega) (by omega) (by rw [et]; exact hF)) ?_
  exact leaf (by first | exact run 1 K | exact run 2 K | exact run 3 K | exact run 4 K | exact run 5 K)
end
end
section
/-! The component: a match -/
def Mt (E : Ev) (k : Nat) : Nat → Nat → Nu → Nat → Nat → Nat → As → Prop
  | 0, b, ν, n, o, bf, y => o = 0 ∧ bf = b ∧ y = KS [] ν n
  | m + 1, b, ν, n, o, bf, y => ∃ f o' y', runA E f (GS b [(0, k, 0)] [] [] ν n) = some (o', y') ∧ ((o' = 0 ∧ Mt E k m (b + 1) (yν y') (yn y') o bf y) ∨ (¬ o' = 0 ∧ o = o' ∧ bf = b + 1 ∧ y = y'))
theorem Mt.ex (E : Ev) (k : Nat) : ∀ (m b : Nat) (ν : Nu) (n : Nat), n ≤ 3000 → ∃ o bf y, Mt E k m b ν n o bf y
  | 0, b, ν, n, hn => ⟨0, b, _, rfl, rfl, rfl⟩
  | m + 1, b, ν, n, hn => by
    obtain ⟨f, ⟨o, y⟩, hr⟩ := (totA E (3000 - n)).2 b [(0, k, 0)] [] [] ν n (by omega)
    by_cases ho : o = 0
    · subst ho
      obtain ⟨o, bf, z, hm⟩ := Mt.ex E k m (b + 1) (yν y) (yn y) (runA_n f (GS b [(0, k, 0)] [] [] ν n) _ _ hn hr)
      exact ⟨o, bf, z, f, 0, y, hr, Or.inl ⟨rfl, hm⟩⟩
    · exact ⟨o, b + 1, y, f, o, y, hr, Or.inr ⟨ho, rfl, rfl, rfl⟩⟩
def keepA (E : Ev) (q : List Kp) (ν : Nu) : Nu := q.foldl (fun ν x => upN ν x.1 (((esb E).drop x.2.1).take (x.2.2 - x.2.1))) ν
/-- what stays during a match -/
def frm (σ0 σ : Sg) : Prop := ∀ a b j, ¬ (9 ≤ a ∧ a ≤ 25) → ¬ ((a = 1 ∨ a = 2) ∧ 2 ≤ b ∧ b < 11) → σ a b j = σ0 a b j
def RB0 (E : Ev) (kn : Nat → Option Nat) (tx : Nat → Bool) (σ : Sg) (ν : Nu) (n : Nat) : Prop := EvOK E ∧ EvC E σ kn tx ∧ NuC ν σ ∧ σ 9 0 6 = n
/-- behind the loop over the places -/
def Mend (E : Ev) (kn : Nat → Option Nat) (tx : Nat → Bool) (σ0 : Sg) (o bf : Nat) (y : As) (σ' : Sg) : Prop :=
  frm σ0 σ' ∧ σ' 9 0 11 = o ∧ σ' 9 0 10 = bf ∧ 1 ≤ bf ∧ bf ≤ 66 ∧ ((o = 1 ∧ ∃ p c q ν n, y = GS p [] c q ν n ∧ p ≤ (esb E).length ∧ RB0 E kn tx σ' ν n ∧ σ' 9 0 7 = p ∧ σ' 22 0 3 = q.length ∧ kpR σ' q ∧ (∀ x ∈ q, wfk E x) ∧ q.length ≤ 3000) ∨ (¬ o = 1 ∧ RB0 E kn tx σ' (yν y) (yn y)))
section
variable {SL : Nat} {xs : Nat → Int} {nx : Nat} {σ σ0 : Sg} {kn : Nat → Option Nat} {tx : Nat → Bool} {F : Option Av → St → Prop} {E : Ev} {ν : Nu} {n o k p tp f : Nat} {g : List Gl} {c : List Ch} {q : List Kp} {y : As}
theorem RB0.rb (h : RB0 E kn tx σ ν n) : RB E kn tx σ σ ν n := ⟨fun _ _ _ _ _ => rfl, h⟩
theorem RB.rb0 (h : RB E kn tx σ0 σ ν n) : RB0 E kn tx σ ν n := ⟨h.2.1, ⟨h.cnt, h.sub.1, fun k hk => h.node hk⟩, h.2.2.2⟩
theorem RB0.up {j : Nat} {v : Int} (h : RB0 E kn tx σ ν n) (hj : ¬ j = 6) : RB0 E kn tx (upS σ 9 0 j v) ν n := by
  obtain ⟨eo, ⟨e1, e2, e3⟩, nu, hn⟩ := h
  refine ⟨eo, ⟨by rw [upS_ne (by omega)]; exact e1, ⟨by rw [upS_ne (by omega)]; exact e2.1, fun i hi => by rw [upS_ne (by omega)]; exact e2.2 i hi⟩, fun k hk => ?_⟩, fun v hv => ?_, by rw [upS_ne (by omega)]; exact hn⟩
  · obtain ⟨h1, h2, h3, h4, h5, h6⟩ := e3 k hk
    exact ⟨h1, by rw [upS_ne (by omega)]; exact h2, by rw [upS_ne (by omega)]; exact h3, h4, ⟨by rw [upS_ne (by omega)]; exact h5.1, fun i hi => by rw [upS_ne (by omega)]; exact h5.2 i hi⟩, h6⟩
  · obtain ⟨h5, h6⟩ := nu v hv
    exact ⟨⟨by rw [upS_ne (by omega)]; exact h5.1, fun i hi => by rw [upS_ne (by omega)]; exact h5.2 i hi⟩, h6⟩
theorem frm.fr {σ1 : Sg} (h : frm σ0 σ) (h2 : fr σ σ1) : frm σ0 σ1 := fun a b j h3 h4 => by rw [h2 a b j (by omega) (by omega), h a b j h3 h4]
theorem frm.up {j : Nat} {v : Int} (h : frm σ0 σ) : frm σ0 (upS σ 9 0 j v) := fun a b j h3 h4 => by rw [upS_ne (by omega), h a b j h3 h4]
theorem Fend.rb (h : Fend E kn tx σ0 o y σ) : RB E kn tx σ0 σ (yν y) (yn y) := by
  rcases h with ⟨-, tp, p, c, q, ν, n, rfl, h, -⟩ | h
  · exact h.1
  · exact h.2
theorem lp_match {last : Nat} {of : Rf} {an : Int} {l5 : Option Av} (hlast : last ≤ (esb E).length) (hk : k < ect E) : ∀ (m b : Nat) (ν : Nu) (n : Nat) (o bf : Nat) (y : As) (σ : Sg), b + m = last + 1 → n ≤ 3000 → Mt E k m b ν n o bf y → RB0 E kn tx σ ν n → frm σ0 σ → σ 9 0 10 = b → σ 9 0 11 = 0 → 1 ≤ b ∨ b ≤ last →
    (∀ σ', Mend E kn tx σ0 o bf y σ' → Xz SL xs (m_Matcher_match SL xs) F (82, [some (.inr (some (9, 0))), some (.inr of), some (.inl k), some (.inl an), some (.inl last), l5], [], (nx, σ', rX kn tx), 0, 0)) →
    Xz SL xs (m_Matcher_match SL xs) F (40, [some (.inr (some (9, 0))), some (.inr of), some (.inl k), some (.inl an), some (.inl last), l5], [], (nx, σ, rX kn tx), 0, 0) := by
  intro m
  induction m with
  | zero =>
    intro b ν n o bf y σ hb hn hm hB hfr h10 h11 hb1 hK
    have hE64 := hB.1.1
    obtain ⟨rfl, rfl, rfl⟩ := hm
    have K := hK σ ⟨hfr, h11, h10, by omega, by omega, Or.inr ⟨by omega, hB⟩⟩
    refine run 4 ?_
    refine And.intro (fun h => leaf K) (fun h => absurd (show (last : Int) < σ 9 0 10 by rw [h10]; omega) h)
  | succ m ih =>
    intro b ν n o bf y σ hb hn hm hB hfr h10 h11 hb1 hK
    have hE64 := hB.1.1
    obtain ⟨f, o', y', hr, hm⟩ := hm
    refine run 20 ?_
    refine And.intro (fun h => ?_) (fun h => ?_)
    · have h : (last : Int) < σ 9 0 10 := h
      rw [h10] at h
      omega
    refine And.intro (fun h => absurd (show σ 9 0 11 = 0 from h11) h) (fun h => ?_)
    refine call_any (Y := fun v s' => v = some (.inl (o' : Int)) ∧ ∃ σ', s' = (nx, σ', rX kn tx) ∧ Fend E kn tx σ o' y' σ') ?_ ?_
    · show vT 3 (T_Matcher_from SL xs) [.inr (some (9, 0)), .inl (σ 9 0 10), .inl (k : Int)] (nx, σ, rX kn tx) _
      rw [h10]
      exact tw_from hB.rb (by omega) hk hn hr (fun σ' hf => ⟨rfl, σ', rfl, hf⟩)
    · intro v s' hv
      obtain ⟨rfl, σ', rfl, hf⟩ := hv
      have h10' : σ' 9 0 10 = b := by rw [hf.rb.1 9 0 10 (by omega) (by omega)]; exact h10
      have hw : wr (σ' 9 0 10 + 1) = ((b + 1 : Nat) : Int) := by rw [h10', wr_eq ⟨by omega, by omega⟩]; omega
      have hfr2 : frm σ0 (upS (upS σ' 9 0 11 o') 9 0 10 (wr (σ' 9 0 10 + 1))) := ((hfr.fr hf.rb.1).up).up
      have e11 : upS (upS σ' 9 0 11 o') 9 0 10 (wr (σ' 9 0 10 + 1)) 9 0 11 = o' := by rw [upS_ne (by omega), upS_same]
      have e10 : upS (upS σ' 9 0 11 o') 9 0 10 (wr (σ' 9 0 10 + 1)) 9 0 10 = ((b + 1 : Nat) : Int) := by rw [upS_same, hw]
      have hB2 : RB0 E kn tx (upS (upS σ' 9 0 11 o') 9 0 10 (wr (σ' 9 0 10 + 1))) (yν y') (yn y') := (hf.rb.rb0.up (by omega)).up (by omega)
      rcases hm with ⟨rfl, hm⟩ | ⟨ho, rfl, rfl, rfl⟩
      · have K := ih (b + 1) (yν y') (yn y') o bf y _ (by omega) (runA_n f (GS b [(0, k, 0)] [] [] ν n) _ _ hn hr) hm hB2 hfr2 e10 e11 (by omega) hK
        exact leaf (by first | exact run 1 K | exact run 2 K | exact run 3 K | exact run 4 K | exact run 5 K | exact run 6 K | exact run 7 K | exact run 8 K)
      · have hM : Mend E kn tx σ0 o (b + 1) y (upS (upS σ' 9 0 11 o) 9 0 10 (wr (σ' 9 0 10 + 1))) := by
          refine ⟨hfr2, e11, e10, by omega, by omega, ?_⟩
          rcases hf with ⟨rfl, tp, p, c, q, ν, n, rfl, hR, hI⟩ | ⟨h1, -⟩
          · refine Or.inl ⟨rfl, p, c, q, ν, n, rfl, hI.1, hB2, ?_, ?_, ?_, hI.2.2.2.2.2.2.2, ?_⟩
            · rw [upS_ne (by omega), upS_ne (by omega)]; exact hR.2.1
            · rw [upS_ne (by omega), upS_ne (by omega)]; exact hR.2.2.2.2.2.2.2.1
            · exact hR.2.2.2.2.2.2.2.2.frame (fun a i _ _ _ => by rw [upS_ne (by omega), upS_ne (by omega)])
            · have := hI.2.2.2.2.2
              omega
          · exact Or.inr ⟨h1, hB2⟩
        have K0 := hK _ hM
        have K : Xz SL xs (m_Matcher_match SL xs) F (40, [some (.inr (some (9, 0))), some (.inr of), some (.inl k), some (.inl an), some (.inl last), l5], [], (nx, upS (upS σ' 9 0 11 o) 9 0 10 (wr (σ' 9 0 10 + 1)), rX kn tx), 0, 0) := by
          refine run 7 ?_
          refine And.intro (fun h => leaf K0) (fun h => ?_)
          refine And.intro (fun h => leaf K0) (fun h => absurd (Classical.not_not.mp h) (show ¬ upS (upS σ' 9 0 11 o) 9 0 10 (wr (σ' 9 0 10 + 1)) 9 0 11 = 0 by rw [e11]; omega))
        exact leaf (by first | exact run 1 K | exact run 2 K | exact run 3 K | exact run 4 K | exact run 5 K | exact run 6 K | exact run 7 K | exact run 8 K)
theorem RB0.set {v : Nat} {l : List Int} {σ' : Sg} (h : RB0 E kn tx σ ν n) (hv : v < 8) (hl : l.length ≤ 64) (hs : setT σ (3 + v) l σ') : RB0 E kn tx σ' (upN ν v l) n := (h.rb.set hv hl hs).rb0
theorem lp_keep {last : Nat} {of : Rf} {an : Int} {q : List Kp} (hq : ∀ x ∈ q, wfk E x) (hq3 : q.length ≤ 3000) (hE64 : (esb E).length ≤ 64) (hF : ∀ σ', frm σ0 σ' → RB0 E kn tx σ' (keepA E q ν) n → (∀ j, σ' 9 0 j = σ 9 0 j) → F (some (.inl (σ' 9 0 11))) (nx, σ', rX kn tx)) : ∀ (m i : Nat) (σ1 : Sg), i + m = q.length → frm σ0 σ1 → RB0 E kn tx σ1 (keepA E (q.take i) ν) n → (∀ j, σ1 9 0 j = σ 9 0 j) → σ1 22 0 3 = q.length → kpR σ1 q →
    Xz SL xs (m_Matcher_match SL xs) F (103, [some (.inr (some (9, 0))), some (.inr of), some (.inl k), some (.inl an), some (.inl last), some (.inl i)], [], (nx, σ1, rX kn tx), 0, 0) := by
  intro m
  induction m with
  | zero =>
    intro i σ1 hi hfr hB h9 h22 hkp
    have hi : i = q.length := by omega
    subst hi
    rw [List.take_length] at hB
    refine run 20 ?_
    refine And.intro (fun h => hF σ1 hfr hB h9) (fun h => absurd (show σ1 22 0 3 ≤ (q.length : Int) by rw [h22]; exact Int.le_refl _) h)
  | succ m ih =>
    intro i σ1 hi hfr hB h9 h22 hkp
    obtain ⟨k1, k2, k3⟩ := hkp i (by omega)
    have hmem : q.getD i (0, 0, 0) ∈ q := by
      rw [List.getD_eq_getElem?_getD, List.getElem?_eq_getElem (by omega)]
      exact List.getElem_mem _
    obtain ⟨w1, w2, w3⟩ := hq _ hmem
    have htk : q.take (i + 1) = q.take i ++ [q.getD i (0, 0, 0)] := by
      rw [List.take_add_one, List.getD_eq_getElem?_getD, List.getElem?_eq_getElem (show i < q.length by omega)]
      rfl
    generalize q.getD i (0, 0, 0) = x at *
    obtain ⟨v, a, u⟩ := x
    simp only at k1 k2 k3 w1 w2 w3
    have hix : (0 : Int) ≤ (i : Int) ∧ (i : Int) < 8192 := by omega
    have e : (if (σ1 23 0 (i : Int).toNat).toNat < 8 then some (1, 3 + (σ1 23 0 (i : Int).toNat).toNat) else none) = some (1, 3 + v) := by rw [Int.toNat_natCast, k1, Int.toNat_natCast, if_pos w1]
    have hS := hB.rb.sub
    have hset := part_set (v := v) hS.1 w2 w3
    have hB2 := hB.set w1 (by simp; omega) hset
    have hw : wr ((i : Int) + 1) = ((i + 1 : Nat) : Int) := by rw [wr_eq ⟨by omega, by omega⟩]; omega
    have K := fun σ' f1 f2 f3 f4 f5 => ih (i + 1) σ' (by omega) f1 f2 f3 f4 f5
    rw [← hw] at K
    refine run 30 ?_
    refine And.intro (fun h => ?_) (fun h => ?_)
    · have h : σ1 22 0 3 ≤ (i : Int) := h
      rw [h22] at h
      omega
    refine And.intro hix ?_
    refine And.intro (by show 0 ≤ σ1 23 0 (i : Int).toNat ∧ σ1 23 0 (i : Int).toNat < 8; rw [Int.toNat_natCast, k1]; omega) ?_
    refine And.intro hix ?_
    refine And.intro hix ?_
    refine call_any (Y := fun v0 s' => v0 = none ∧ ∃ σ', s' = (nx, σ', rX kn tx) ∧ setT σ1 (3 + v) (((esb E).drop a).take (u - a)) σ' ∧ RB0 E kn tx σ' (upN (keepA E (q.take i) ν) v (((esb E).drop a).take (u - a))) n) ?_ ?_
    · show vT 1 (T_Text_part SL xs) [.inr (if (σ1 23 0 (i : Int).toNat).toNat < 8 then some (1, 3 + (σ1 23 0 (i : Int).toNat).toNat) else none), .inr (some (2, 2)), .inl (σ1 24 0 (i : Int).toNat), .inl (σ1 25 0 (i : Int).toNat)] (nx, σ1, rX kn tx) _
      rw [e, Int.toNat_natCast, k2, k3]
      exact tw_Text_part (t := 3 + v) (b0 := 2) (f := (a : Int)) (u := (u : Int)) ⟨by omega, by omega, by omega⟩ ⟨rfl, _, rfl, hset, hB2⟩
    · intro v0 s' hv0
      obtain ⟨rfl, σ', rfl, hs, hB3⟩ := hv0
      have ne : ∀ a b j, 9 ≤ a → σ' a b j = σ1 a b j := fun a b j ha => hs.2 a b j (by omega) (by omega)
      have K := K σ' (fun a' b' j' h3 h4 => by rw [hs.2 a' b' j' (by omega) (by omega)]; exact hfr a' b' j' h3 h4) (by rw [htk]; simp only [keepA, List.foldl_append, List.foldl_cons, List.foldl_nil]; exact hB3) (fun j => by rw [ne 9 0 j (by omega)]; exact h9 j) (by rw [ne 22 0 3 (by omega)]; exact h22) (hkp.frame (fun a' i' _ _ _ => ne a' 0 i' (by omega)))
      exact leaf (by first | exact run 1 K | exact run 2 K | exact run 3 K)
def RM (E : Ev) (kn : Nat → Option Nat) (tx : Nat → Bool) (σ : Sg) (ν : Nu) : Prop := EvOK E ∧ σ 4 0 4 = ect E ∧ (∀ k, k < ect E → kn k = some (ekd E k) ∧ σ 6 0 k = efa E k ∧ σ 7 0 k = efb E k ∧ tx k = true ∧ tl (σ 2 (11 + k)) (σ 1 (11 + k) 1) (ewd E k) ∧ (ewd E k).length ≤ 64) ∧ NuC ν σ
/-- how a match ends -/
def Mfin (E : Ev) (kn : Nat → Option Nat) (tx : Nat → Bool) (σ0 : Sg) (o bf : Nat) (y : As) (σ' : Sg) : Prop :=
  frm σ0 σ' ∧ σ' 9 0 11 = o ∧ ((o = 1 ∧ ∃ p c q ν n, y = GS p [] c q ν n ∧ p ≤ (esb E).length ∧ RB0 E kn tx σ' (keepA E q ν) n ∧ σ' 9 0 7 = p ∧ 1 ≤ bf ∧ bf ≤ 66 ∧ σ' 9 0 10 = (bf : Int) - 1) ∨ (¬ o = 1 ∧ RB0 E kn tx σ' (yν y) (yn y)))
def bcS (σ : Sg) (v : Nat) : Sg := upS (cpS (upS σ 1 2 1 (σ 1 (3 + v) 1)) 2 (3 + v) 0 2 2 0 (σ 1 (3 + v) 1).toNat) 9 0 6 0
theorem bc_ne {v a b j : Nat} (h1 : ¬ (a = 9 ∧ j = 6)) (h2 : ¬ ((a = 1 ∨ a = 2) ∧ b = 2)) : bcS σ v a b j = σ a b j := by
  unfold bcS
  rw [upS_ne (by omega)]
  have e : cpS (upS σ 1 2 1 (σ 1 (3 + v) 1)) 2 (3 + v) 0 2 2 0 (σ 1 (3 + v) 1).toNat a b j = upS σ 1 2 1 (σ 1 (3 + v) 1) a b j := if_neg (by omega)
  rw [e, upS_ne (by omega)]
theorem RM.start {v : Nat} (h : RM E kn tx σ ν) (hv : v < 8) (hE : esb E = ν v) : RB0 E kn tx (bcS σ v) ν 0 := by
  obtain ⟨eo, h1, h2, h3⟩ := h
  obtain ⟨t1, t2⟩ := h3 v hv
  have hlen : σ 1 (3 + v) 1 = (ν v).length := t1.1
  refine ⟨eo, ⟨by rw [bc_ne (by omega) (by omega)]; exact h1, ⟨?_, fun i hi => ?_⟩, fun k hk => ?_⟩, fun w hw => ?_, upS_same⟩
  · rw [hE, ← hlen]
    unfold bcS
    rw [upS_ne (by omega)]
    have e : cpS (upS σ 1 2 1 (σ 1 (3 + v) 1)) 2 (3 + v) 0 2 2 0 (σ 1 (3 + v) 1).toNat 1 2 1 = upS σ 1 2 1 (σ 1 (3 + v) 1) 1 2 1 := if_neg (by omega)
    rw [e, upS_same]
  · rw [hE] at hi ⊢
    unfold bcS
    rw [upS_ne (by omega)]
    have e : cpS (upS σ 1 2 1 (σ 1 (3 + v) 1)) 2 (3 + v) 0 2 2 0 (σ 1 (3 + v) 1).toNat 2 2 i = upS σ 1 2 1 (σ 1 (3 + v) 1) 2 (3 + v) (0 + (i - 0)) := if_pos ⟨rfl, rfl, by omega, by omega⟩
    rw [e, upS_ne (by omega), Nat.zero_add]
    exact t1.2 i hi
  · obtain ⟨k1, k2, k3, k4, k5, k6⟩ := h2 k hk
    exact ⟨k1, by rw [bc_ne (by omega) (by omega)]; exact k2, by rw [bc_ne (by omega) (by omega)]; exact k3, k4, ⟨by rw [bc_ne (by omega) (by omega)]; exact k5.1, fun i hi => by rw [bc_ne (by omega) (by omega)]; exact k5.2 i hi⟩, k6⟩
  · obtain ⟨k5, k6⟩ := h3 w hw
    exact ⟨⟨by rw [bc_ne (by omega) (by omega)]; exact k5.1, fun i hi => by rw [bc_ne (by omega) (by omega)]; exact k5.2 i hi⟩, k6⟩
theorem tw_Matcher_match {v : Nat} {an : Int} {bf : Nat} (h : RM E kn tx σ ν) (hv : v < 8) (hE : esb E = ν v) (hk : k < ect E) (hm : Mt E k ((if an = 0 then (esb E).length else 0) + 1) 0 ν 0 o bf y) (hF : ∀ σ', Mfin E kn tx σ o bf y σ' → F (some (.inl o)) (nx, σ', rX kn tx)) : T_Matcher_match SL xs [.inr (some (9, 0)), .inr (some (1, 3 + v)), .inl k, .inl an] (nx, σ, rX kn tx) F := by
  have hB := h.start hv hE
  obtain ⟨eo, h1, h2, h3⟩ := h
  obtain ⟨t1, t2⟩ := h3 v hv
  have hlen : σ 1 (3 + v) 1 = (ν v).length := t1.1
  have hE64 := eo.1
  have hfr : frm σ (bcS σ v) := fun a b j h3 h4 => bc_ne (by omega) (by omega)
  have hsz : bcS σ v 1 2 1 = (esb E).length := hB.rb.sub.1.1
  have tail : ∀ (last : Nat) (σ1 : Sg), Mend E kn tx σ o bf y σ1 → Xz SL xs (m_Matcher_match SL xs) F (82, [some (.inr (some (9, 0))), some (.inr (some (1, 3 + v))), some (.inl k), some (.inl an), some (.inl last), none], [], (nx, σ1, rX kn tx), 0, 0) := by
    intro last σ1 hM
    obtain ⟨f1, m11, m10, mb1, mb2, hM⟩ := hM
    have ew : wr (σ1 9 0 10 - 1) = (bf : Int) - 1 := by rw [m10, wr_eq ⟨by omega, by omega⟩]
    refine run 12 ?_
    rcases hM with ⟨rfl, p, c, q, ν', n', rfl, hp, hB1, m7, m22, mk, mq, mq3⟩ | ⟨ho, hB1⟩
    · refine And.intro (fun h => absurd (show upS σ1 9 0 10 (wr (σ1 9 0 10 - 1)) 9 0 11 = 1 by rw [upS_ne (by omega)]; exact m11) h) (fun h => ?_)
      have K := lp_keep (SL := SL) (xs := xs) (nx := nx) (F := F) (k := k) (last := last) (of := some (1, 3 + v)) (an := an) (σ0 := σ) (σ := upS σ1 9 0 10 (wr (σ1 9 0 10 - 1))) (kn := kn) (tx := tx) (E := E) (ν := ν') (n := n') (q := q) mq mq3 hE64 (fun σ' q1 q2 q3 => ?_) q.length 0 (upS σ1 9 0 10 (wr (σ1 9 0 10 - 1))) (by omega) f1.up (by exact hB1.up (by omega)) (fun j => rfl) (by rw [upS_ne (by omega)]; exact m22) (mk.frame (fun a i _ _ _ => by rw [upS_ne (by omega)]))
      · exact leaf (by first | exact run 1 K | exact run 2 K | exact run 3 K)
      · have e11 : σ' 9 0 11 = (1 : Nat) := by rw [q3 11, upS_ne (by omega)]; exact m11
        rw [e11]
        exact hF σ' ⟨q1, e11, Or.inl ⟨rfl, p, c, q, ν', n', rfl, hp, q2, by rw [q3 7, upS_ne (by omega)]; exact m7, mb1, mb2, by rw [q3 10, upS_same]; exact ew⟩⟩
    · refine And.intro (fun h => ?_) (fun h => ?_)
      · have e11 : upS σ1 9 0 10 (wr (σ1 9 0 10 - 1)) 9 0 11 = o := by rw [upS_ne (by omega)]; exact m11
        have K := hF (upS σ1 9 0 10 (wr (σ1 9 0 10 - 1))) ⟨f1.up, e11, Or.inr ⟨ho, hB1.up (by omega)⟩⟩
        rw [← e11] at K
        have K2 : Xz SL xs (m_Matcher_match SL xs) F (166, [some (.inr (some (9, 0))), some (.inr (some (1, 3 + v))), some (.inl k), some (.inl an), some (.inl last), none], [], (nx, upS σ1 9 0 10 (wr (σ1 9 0 10 - 1)), rX kn tx), 0, 0) := run 10 K
        exact leaf K2
      · have h : upS σ1 9 0 10 (wr (σ1 9 0 10 - 1)) 9 0 11 = 1 := Classical.not_not.mp h
        rw [upS_ne (by omega), m11] at h
        omega
  refine run 20 ?_
  refine call_eq (fun F hF => tw_Text_become (t := 2) (o := 3 + v) (by rw [hlen]; omega) hF) ?_
  refine And.intro (fun h => ?_) (fun h => ?_)
  · have h : an = 0 := h
    rw [if_pos h] at hm
    have K := lp_match (SL := SL) (xs := xs) (nx := nx) (F := F) (σ0 := σ) (last := (esb E).length) (of := some (1, 3 + v)) (an := an) (l5 := none) (Nat.le_refl _) hk _ _ _ _ _ _ _ (upS (upS (bcS σ v) 9 0 11 0) 9 0 10 0) (by omega) (by omega) hm ((hB.up (by omega)).up (by omega)) ((hfr.up).up) upS_same (by rw [upS_ne (by omega), upS_same]) (by omega) (tail _)
    rw [← hsz] at K
    exact leaf (by first | exact run 1 K | exact run 2 K | exact run 3 K | exact run 4 K | exact run 5 K | exact run 6 K | exact run 7 K | exact run 8 K | exact run 9 K | exact run 10 K | exact run 11 K | exact run 12 K)
  · have h : ¬ an = 0 := h
    rw [if_neg h] at hm
    have K := lp_match (SL := SL) (xs := xs) (nx := nx) (F := F) (σ0 := σ) (last := 0) (of := some (1, 3 + v)) (an := an) (l5 := none) (Nat.zero_le _) hk _ _ _ _ _ _ _ (upS (upS (bcS σ v) 9 0 11 0) 9 0 10 0) (by omega) (by omega) hm ((hB.up (by omega)).up (by omega)) ((hfr.up).up) upS_same (by rw [upS_ne (by omega), upS_same]) (by omega) (tail _)
    exact leaf (by first | exact run 1 K | exact run 2 K | exact run 3 K | exact run 4 K | exact run 5 K | exact run 6 K | exact run 7 K | exact run 8 K | exact run 9 K | exact run 10 K | exact run 11 K | exact run 12 K)
end
end
section
/-! The model: what needs no others -/
def EvM (E : Ev) (σ : Sg) : Prop := σ 26 0 5 = ect E ∧ tl (σ 35 0) (σ 26 0 16) (esb E) ∧ ∀ k, k < ect E → σ 30 0 k = ekd E k ∧ σ 31 0 k = efa E k ∧ σ 32 0 k = efb E k ∧ tl (fun i => σ 33 0 (64 * k + i)) (σ 34 0 k) (ewd E k) ∧ (ewd E k).length ≤ 64
def NuM (ν : Nu) (σ : Sg) : Prop := ∀ v, v < 8 → tl (fun i => σ 28 0 (64 * v + i)) (σ 29 0 v) (ν v) ∧ (ν v).length ≤ 64
def setM (σ : Sg) (v : Nat) (l : List Int) (σ' : Sg) : Prop := tl (fun i => σ' 28 0 (64 * v + i)) (σ' 29 0 v) l ∧ ∀ a b j, ¬ (a = 29 ∧ b = 0 ∧ j = v) → ¬ (a = 28 ∧ b = 0 ∧ 64 * v ≤ j ∧ j < 64 * v + 64) → σ' a b j = σ a b j
def enc : Option Nat → Int
  | some x => x
  | none => -1
def balM (S : List Int) (q : Nat) : Nat → Int → Nat → Option Nat
  | 0, _, _ => none
  | m + 1, d, p => if d + brc (S.getD p 0) < 0 then none else if d + brc (S.getD p 0) = 0 ∧ q < p + 1 then some (p + 1) else balM S q m (d + brc (S.getD p 0)) (p + 1)
theorem balM_F {S : List Int} {q : Nat} : ∀ (m : Nat) (d : Int) (p : Nat), q ≤ p → balM S q m d p = balF S m d p
  | 0, d, p, h => rfl
  | m + 1, d, p, h => by
    simp only [balM, balF]
    by_cases h1 : d + brc (S.getD p 0) < 0
    · rw [if_pos h1, if_pos h1]
    · rw [if_neg h1, if_neg h1]
      by_cases h2 : 0 < d + brc (S.getD p 0)
      · rw [if_neg (by omega), if_pos h2]
        exact balM_F m _ (p + 1) (by omega)
      · rw [if_pos ⟨by omega, by omega⟩, if_neg h2]
theorem balF_M {S : List Int} : ∀ (m : Nat) (d : Int) (p p' q : Nat), balF S m d p = some p' → p' ≤ q → balM S q m d p = balM S q (m - (p' - p)) 0 p'
  | 0, d, p, p', q, h, hq => by cases h
  | m + 1, d, p, p', q, h, hq => by
    have hb := balF_bd S _ _ _ _ h
    simp only [balF] at h
    simp only [balM]
    split at h
    · cases h
    · rename_i h1
      split at h
      · rename_i h2
        have hb2 := balF_bd S _ _ _ _ h
        rw [if_neg h1, if_neg (by omega), balF_M m _ (p + 1) p' q h hq]
        congr 1
        omega
      · rename_i h2
        cases h
        rw [if_neg h1, if_neg (by omega), show d + brc (S.getD p 0) = 0 by omega]
        congr 1
        omega
/-- it is balanced from a place to another -/
def bfx (S : List Int) (p p' : Nat) : Prop := ∀ q, p' ≤ q → balM S q (S.length - p) 0 p = balM S q (S.length - p') 0 p'
theorem bfx.refl {S : List Int} {p : Nat} : bfx S p p := fun _ _ => rfl
theorem bfx.next {S : List Int} {p p' p2 : Nat} (h : bfx S p p') (hb : balN S p' = some p2) (hp : p' ≤ S.length) : bfx S p p2 := fun q hq => by
  have hb2 := balN_bd hp hb
  rw [h q (by omega), balF_M _ _ _ _ q hb hq]
  congr 1
  omega
theorem bfx.val {S : List Int} {p p' : Nat} (h : bfx S p p') : balM S p' (S.length - p) 0 p = balN S p' := by
  rw [h p' (Nat.le_refl _)]
  exact balM_F _ _ _ (Nat.le_refl _)
theorem w64 {k i : Nat} (hk : k < 64) (hi : i < 128) : wr (wr (64 * (k : Int)) + (i : Int)) = ((64 * k + i : Nat) : Int) := by
  rw [wr_eq (x := 64 * (k : Int)) ⟨by omega, by omega⟩, wr_eq ⟨by omega, by omega⟩]
  omega
theorem w640 {k : Nat} (hk : k < 64) : wr (64 * (k : Int)) = ((64 * k : Nat) : Int) := by
  rw [wr_eq (x := 64 * (k : Int)) ⟨by omega, by omega⟩]
  omega
section
variable {SL : Nat} {xs : Nat → Int} {nx : Nat} {σ : Sg} {kn : Nat → Option Nat} {tx : Nat → Bool} {F : Option Av → St → Prop} {E : Ev} {ν : Nu} {k p : Nat}
theorem tw_Model_isVariable {s : St} {v : Int} (hF : F (some (.inl (if 0 ≤ v ∧ v < 8 then 1 else 0))) s) : T_Model_isVariable SL xs [.inl v] s F := by
  refine run 20 ?_
  refine And.intro (fun h => ?_) (fun h => ?_)
  · have h : v < 0 := h
    rw [if_neg (by omega)] at hF
    exact And.intro (Or.inl rfl) hF
  · have h : ¬ v < 0 := h
    refine And.intro (fun h2 => ?_) (fun h2 => ?_)
    · have h2 : 8 ≤ v := h2
      rw [if_neg (by omega)] at hF
      exact And.intro (Or.inl rfl) hF
    · have h2 : ¬ 8 ≤ v := h2
      rw [if_pos (by omega)] at hF
      exact And.intro (Or.inr rfl) hF
theorem tw_Model_isNode {x : Int} (hF : F (some (.inl (if 0 ≤ x ∧ x < σ 26 0 5 then 1 else 0))) (nx, σ, rX kn tx)) : T_Model_isNode SL xs [.inr (some (26, 0)), .inl x] (nx, σ, rX kn tx) F := by
  refine run 30 ?_
  refine And.intro (fun h => ?_) (fun h => ?_)
  · have h : x < 0 := h
    rw [if_neg (by omega)] at hF
    exact And.intro (Or.inl rfl) hF
  · have h : ¬ x < 0 := h
    refine And.intro (fun h2 => ?_) (fun h2 => ?_)
    · have h2 : σ 26 0 5 ≤ x := h2
      rw [if_neg (by omega)] at hF
      exact And.intro (Or.inl rfl) hF
    · have h2 : ¬ σ 26 0 5 ≤ x := h2
      rw [if_pos (by omega)] at hF
      exact And.intro (Or.inr rfl) hF
theorem lp_Model_isIn (hE : EvM E σ) (hO : EvOK E) (hk : k < ect E) (hp : p < (esb E).length) (hF : F (some (.inl (if (esb E).getD p 0 ∈ ewd E k then 1 else 0))) (nx, σ, rX kn tx)) : ∀ (m i : Nat), i + m = (ewd E k).length → ¬ (esb E).getD p 0 ∈ (ewd E k).take i → Xz SL xs (m_Model_isIn SL xs) F (2, [some (.inr (some (26, 0))), some (.inl k), some (.inl p), some (.inl i)], [], (nx, σ, rX kn tx), 0, 0) := by
  obtain ⟨e1, e2, e3⟩ := hE
  obtain ⟨-, -, -, hw, hw64⟩ := e3 k hk
  have hwl : σ 34 0 k = (ewd E k).length := hw.1
  have hS64 := hO.1
  have hk64 : k < 64 := by have := hO.2.1; omega
  have hix : (0 : Int) ≤ (k : Int) ∧ (k : Int) < 64 := by omega
  have hsp : σ 35 0 (p : Int).toNat = (esb E).getD p 0 := by rw [Int.toNat_natCast]; exact e2.2 p hp
  intro m
  induction m with
  | zero =>
    intro i hi hpre
    have hi : i = (ewd E k).length := by omega
    subst hi
    rw [List.take_length] at hpre
    rw [if_neg hpre] at hF
    refine run 30 ?_
    refine And.intro hix ?_
    refine And.intro (fun h => And.intro (Or.inl rfl) hF) (fun h => absurd (show σ 34 0 (k : Int).toNat ≤ ((ewd E k).length : Int) by rw [Int.toNat_natCast, hwl]; exact Int.le_refl _) h)
  | succ m ih =>
    intro i hi hpre
    have hw6 := w64 (k := k) (i := i) hk64 (by omega)
    have hsg : σ 33 0 (wr (wr (64 * (k : Int)) + (i : Int))).toNat = (ewd E k).getD i 0 := by rw [hw6, Int.toNat_natCast]; exact hw.2 i (by omega)
    have hwi : wr ((i : Int) + 1) = ((i + 1 : Nat) : Int) := by rw [wr_eq ⟨by omega, by omega⟩]; omega
    have htk := take_s (l := ewd E k) (i := i) (by omega)
    refine run 30 ?_
    refine And.intro hix ?_
    refine And.intro (fun h => absurd h (show ¬ σ 34 0 (k : Int).toNat ≤ (i : Int) by rw [Int.toNat_natCast, hwl]; omega)) (fun h => ?_)
    refine And.intro (by show 0 ≤ wr (wr (64 * (k : Int)) + (i : Int)) ∧ wr (wr (64 * (k : Int)) + (i : Int)) < 4096; rw [hw6]; omega) ?_
    refine And.intro ⟨show (0 : Int) ≤ (p : Int) by omega, show (p : Int) < 64 by omega⟩ ?_
    refine And.intro (fun h => ?_) (fun h => ?_)
    · have h : ¬ σ 33 0 (wr (wr (64 * (k : Int)) + (i : Int))).toNat = σ 35 0 (p : Int).toNat := h
      rw [hsg, hsp] at h
      have K := ih (i + 1) (by omega) (by
        rw [htk, List.mem_append, List.mem_singleton]
        exact fun z => z.elim hpre (fun z => h z.symm))
      rw [← hwi] at K
      exact leaf (by first | exact run 1 K | exact run 2 K | exact run 3 K)
    · have h : σ 33 0 (wr (wr (64 * (k : Int)) + (i : Int))).toNat = σ 35 0 (p : Int).toNat := Classical.not_not.mp h
      rw [hsg, hsp] at h
      have hin : (esb E).getD p 0 ∈ ewd E k := by
        rw [← h, List.getD_eq_getElem?_getD, List.getElem?_eq_getElem (show i < (ewd E k).length by omega)]
        exact List.getElem_mem _
      rw [if_pos hin] at hF
      exact And.intro (Or.inr rfl) hF
theorem tw_Model_isIn (hE : EvM E σ) (hO : EvOK E) (hk : k < ect E) (hp : p < (esb E).length) (hF : F (some (.inl (if (esb E).getD p 0 ∈ ewd E k then 1 else 0))) (nx, σ, rX kn tx)) : T_Model_isIn SL xs [.inr (some (26, 0)), .inl k, .inl p] (nx, σ, rX kn tx) F := by
  refine run 2 ?_
  exact lp_Model_isIn hE hO hk hp hF _ 0 (Nat.zero_add _) (by simp)
theorem lp_Model_behind33 {L S : List Int} {at_ c : Nat} (hL : tl (fun i => σ 33 0 (at_ + i)) L.length L) (hL64 : L.length ≤ 64) (hat : at_ + L.length ≤ 4096) (hS : tl (σ 35 0) (σ 26 0 16) S) (hS64 : S.length ≤ 64) (hc : c + L.length ≤ S.length) (hF1 : atT L S c → F (some (.inl ((c + L.length : Nat) : Int))) (nx, σ, rX kn tx)) (hF0 : ¬ atT L S c → F (some (.inl (-1))) (nx, σ, rX kn tx)) : ∀ (m i : Nat), i + m = L.length → (∀ j, j < i → L.getD j 0 = S.getD (c + j) 0) → Xz SL xs (m_Model_behind SL xs) F (16, [some (.inr (some (26, 0))), some (.inr (some (33, 0))), some (.inl at_), some (.inl L.length), some (.inl c), some (.inl i)], [], (nx, σ, rX kn tx), 0, 0) := by
  intro m
  induction m with
  | zero =>
    intro i hi hpre
    have hi : i = L.length := by omega
    subst hi
    have K := hF1 ((atT_iff hc).mpr hpre)
    have hw : wr ((c : Int) + (L.length : Int)) = ((c + L.length : Nat) : Int) := by rw [wr_eq ⟨by omega, by omega⟩]; omega
    rw [← hw] at K
    refine run 30 ?_
    refine And.intro (fun h => K) (fun h => absurd (show (L.length : Int) ≤ (L.length : Int) from Int.le_refl _) h)
  | succ m ih =>
    intro i hi hpre
    have hw1 : wr ((at_ : Int) + (i : Int)) = ((at_ + i : Nat) : Int) := by rw [wr_eq ⟨by omega, by omega⟩]; omega
    have hw2 : wr ((c : Int) + (i : Int)) = ((c + i : Nat) : Int) := by rw [wr_eq ⟨by omega, by omega⟩]; omega
    have hwi : wr ((i : Int) + 1) = ((i + 1 : Nat) : Int) := by rw [wr_eq ⟨by omega, by omega⟩]; omega
    have h1 : σ 33 0 (wr ((at_ : Int) + (i : Int))).toNat = L.getD i 0 := by rw [hw1, Int.toNat_natCast]; exact hL.2 i (by omega)
    have h2 : σ 35 0 (wr ((c : Int) + (i : Int))).toNat = S.getD (c + i) 0 := by rw [hw2, Int.toNat_natCast]; exact hS.2 (c + i) (by omega)
    refine run 30 ?_
    refine And.intro (fun h => absurd (show (L.length : Int) ≤ (i : Int) from h) (by omega)) (fun h => ?_)
    refine And.intro (by show 0 ≤ wr ((at_ : Int) + (i : Int)) ∧ wr ((at_ : Int) + (i : Int)) < 4096; rw [hw1]; omega) ?_
    refine And.intro (by show 0 ≤ wr ((c : Int) + (i : Int)) ∧ wr ((c : Int) + (i : Int)) < 64; rw [hw2]; omega) ?_
    refine And.intro (fun h => ?_) (fun h => ?_)
    · have h : σ 33 0 (wr ((at_ : Int) + (i : Int))).toNat = σ 35 0 (wr ((c : Int) + (i : Int))).toNat := h
      rw [h1, h2] at h
      have K := ih (i + 1) (by omega) (fun j hj => by
        by_cases hji : j = i
        · subst hji
          exact h
        · exact hpre j (by omega))
      rw [← hwi] at K
      exact leaf (by first | exact run 1 K | exact run 2 K | exact run 3 K)
    · have h : ¬ σ 33 0 (wr ((at_ : Int) + (i : Int))).toNat = σ 35 0 (wr ((c : Int) + (i : Int))).toNat := h
      rw [h1, h2] at h
      exact hF0 (fun z => h ((atT_iff hc).mp z i (by omega)))
theorem tw_Model_behind33 {L S : List Int} {at_ c : Nat} (hL : tl (fun i => σ 33 0 (at_ + i)) L.length L) (hL64 : L.length ≤ 64) (hat : at_ + L.length ≤ 4096) (hS : tl (σ 35 0) (σ 26 0 16) S) (hS64 : S.length ≤ 64) (hc : c ≤ S.length) (hF1 : atT L S c → F (some (.inl ((c + L.length : Nat) : Int))) (nx, σ, rX kn tx)) (hF0 : ¬ atT L S c → F (some (.inl (-1))) (nx, σ, rX kn tx)) : T_Model_behind SL xs [.inr (some (26, 0)), .inr (some (33, 0)), .inl at_, .inl L.length, .inl c] (nx, σ, rX kn tx) F := by
  have hn : σ 26 0 16 = S.length := hS.1
  have hw : wr (σ 26 0 16 - (c : Int)) = (S.length : Int) - c := by rw [hn, wr_eq ⟨by omega, by omega⟩]
  refine run 8 ?_
  refine And.intro (fun h => ?_) (fun h => ?_)
  · have h : (L.length : Int) ≤ wr (σ 26 0 16 - (c : Int)) := h
    rw [hw] at h
    have K := lp_Model_behind33 (SL := SL) (xs := xs) hL hL64 hat hS hS64 (by omega) hF1 hF0 L.length 0 (Nat.zero_add _) (fun j hj => by omega)
    exact leaf (by first | exact run 1 K | exact run 2 K | exact run 3 K)
  · have h : ¬ (L.length : Int) ≤ wr (σ 26 0 16 - (c : Int)) := h
    rw [hw] at h
    exact hF0 (fun z => by have := atT_len z hc; omega)
theorem lp_Model_behind28 {L S : List Int} {at_ c : Nat} (hL : tl (fun i => σ 28 0 (at_ + i)) L.length L) (hL64 : L.length ≤ 64) (hat : at_ + L.length ≤ 512) (hS : tl (σ 35 0) (σ 26 0 16) S) (hS64 : S.length ≤ 64) (hc : c + L.length ≤ S.length) (hF1 : atT L S c → F (some (.inl ((c + L.length : Nat) : Int))) (nx, σ, rX kn tx)) (hF0 : ¬ atT L S c → F (some (.inl (-1))) (nx, σ, rX kn tx)) : ∀ (m i : Nat), i + m = L.length → (∀ j, j < i → L.getD j 0 = S.getD (c + j) 0) → Xz SL xs (m_Model_behind SL xs) F (16, [some (.inr (some (26, 0))), some (.inr (some (28, 0))), some (.inl at_), some (.inl L.length), some (.inl c), some (.inl i)], [], (nx, σ, rX kn tx), 0, 0) := by
  intro m
  induction m with
  | zero =>
    intro i hi hpre
    have hi : i = L.length := by omega
    subst hi
    have K := hF1 ((atT_iff hc).mpr hpre)
    have hw : wr ((c : Int) + (L.length : Int)) = ((c + L.length : Nat) : Int) := by rw [wr_eq ⟨by omega, by omega⟩]; omega
    rw [← hw] at K
    refine run 30 ?_
    refine And.intro (fun h => K) (fun h => absurd (show (L.length : Int) ≤ (L.length : Int) from Int.le_refl _) h)
  | succ m ih =>
    intro i hi hpre
    have hw1 : wr ((at_ : Int) + (i : Int)) = ((at_ + i : Nat) : Int) := by rw [wr_eq ⟨by omega, by omega⟩]; omega
    have hw2 : wr ((c : Int) + (i : Int)) = ((c + i : Nat) : Int) := by rw [wr_eq ⟨by omega, by omega⟩]; omega
    have hwi : wr ((i : Int) + 1) = ((i + 1 : Nat) : Int) := by rw [wr_eq ⟨by omega, by omega⟩]; omega
    have h1 : σ 28 0 (wr ((at_ : Int) + (i : Int))).toNat = L.getD i 0 := by rw [hw1, Int.toNat_natCast]; exact hL.2 i (by omega)
    have h2 : σ 35 0 (wr ((c : Int) + (i : Int))).toNat = S.getD (c + i) 0 := by rw [hw2, Int.toNat_natCast]; exact hS.2 (c + i) (by omega)
    refine run 30 ?_
    refine And.intro (fun h => absurd (show (L.length : Int) ≤ (i : Int) from h) (by omega)) (fun h => ?_)
    refine And.intro (by show 0 ≤ wr ((at_ : Int) + (i : Int)) ∧ wr ((at_ : Int) + (i : Int)) < 512; rw [hw1]; omega) ?_
    refine And.intro (by show 0 ≤ wr ((c : Int) + (i : Int)) ∧ wr ((c : Int) + (i : Int)) < 64; rw [hw2]; omega) ?_
    refine And.intro (fun h => ?_) (fun h => ?_)
    · have h : σ 28 0 (wr ((at_ : Int) + (i : Int))).toNat = σ 35 0 (wr ((c : Int) + (i : Int))).toNat := h
      rw [h1, h2] at h
      have K := ih (i + 1) (by omega) (fun j hj => by
        by_cases hji : j = i
        · subst hji
          exact h
        · exact hpre j (by omega))
      rw [← hwi] at K
      exact leaf (by first | exact run 1 K | exact run 2 K | exact run 3 K)
    · have h : ¬ σ 28 0 (wr ((at_ : Int) + (i : Int))).toNat = σ 35 0 (wr ((c : Int) + (i : Int))).toNat := h
      rw [h1, h2] at h
      exact hF0 (fun z => h ((atT_iff hc).mp z i (by omega)))
theorem tw_Model_behind28 {L S : List Int} {at_ c : Nat} (hL : tl (fun i => σ 28 0 (at_ + i)) L.length L) (hL64 : L.length ≤ 64) (hat : at_ + L.length ≤ 512) (hS : tl (σ 35 0) (σ 26 0 16) S) (hS64 : S.length ≤ 64) (hc : c ≤ S.length) (hF1 : atT L S c → F (some (.inl ((c + L.length : Nat) : Int))) (nx, σ, rX kn tx)) (hF0 : ¬ atT L S c → F (some (.inl (-1))) (nx, σ, rX kn tx)) : T_Model_behind SL xs [.inr (some (26, 0)), .inr (some (28, 0)), .inl at_, .inl L.length, .inl c] (nx, σ, rX kn tx) F := by
  have hn : σ 26 0 16 = S.length := hS.1
  have hw : wr (σ 26 0 16 - (c : Int)) = (S.length : Int) - c := by rw [hn, wr_eq ⟨by omega, by omega⟩]
  refine run 8 ?_
  refine And.intro (fun h => ?_) (fun h => ?_)
  · have h : (L.length : Int) ≤ wr (σ 26 0 16 - (c : Int)) := h
    rw [hw] at h
    have K := lp_Model_behind28 (SL := SL) (xs := xs) hL hL64 hat hS hS64 (by omega) hF1 hF0 L.length 0 (Nat.zero_add _) (fun j hj => by omega)
    exact leaf (by first | exact run 1 K | exact run 2 K | exact run 3 K)
  · have h : ¬ (L.length : Int) ≤ wr (σ 26 0 16 - (c : Int)) := h
    rw [hw] at h
    exact hF0 (fun z => by have := atT_len z hc; omega)
theorem lp_Model_span (hE : EvM E σ) (hO : EvOK E) (hk : k < ect E) {c : Nat} (hK : Xz SL xs (m_Model_span SL xs) F (25, [some (.inr (some (26, 0))), some (.inl k), some (.inl c), some (.inl (scanB (fun x => decide (x ∈ ewd E k)) (esb E) ((esb E).length - c) c : Nat))], [], (nx, σ, rX kn tx), 0, 0)) : ∀ (m p : Nat), p + m = (esb E).length → scanB (fun x => decide (x ∈ ewd E k)) (esb E) ((esb E).length - c) c = scanB (fun x => decide (x ∈ ewd E k)) (esb E) m p → Xz SL xs (m_Model_span SL xs) F (2, [some (.inr (some (26, 0))), some (.inl k), some (.inl c), some (.inl p)], [], (nx, σ, rX kn tx), 0, 0) := by
  have hn : σ 26 0 16 = (esb E).length := hE.2.1.1
  have hS64 := hO.1
  intro m
  induction m with
  | zero =>
    intro p hp he
    have he : scanB (fun x => decide (x ∈ ewd E k)) (esb E) ((esb E).length - c) c = p := he
    rw [he] at hK
    refine run 4 ?_
    refine And.intro (fun h => leaf hK) (fun h => ?_)
    have h : ¬ σ 26 0 16 ≤ (p : Int) := h
    rw [hn] at h
    omega
  | succ m ih =>
    intro p hp he
    have hw : wr ((p : Int) + 1) = ((p + 1 : Nat) : Int) := by rw [wr_eq ⟨by omega, by omega⟩]; omega
    refine run 12 ?_
    refine And.intro (fun h => ?_) (fun h => ?_)
    · have h : σ 26 0 16 ≤ (p : Int) := h
      rw [hn] at h
      omega
    refine call_eq (fun F hF => tw_Model_isIn hE hO hk (show p < (esb E).length by omega) hF) ?_
    refine And.intro (fun h => ?_) (fun h => ?_)
    · have h : (if (esb E).getD p 0 ∈ ewd E k then (1 : Int) else 0) = 0 := h
      have hin : ¬ (esb E).getD p 0 ∈ ewd E k := ite0.mp h
      have he : scanB (fun x => decide (x ∈ ewd E k)) (esb E) ((esb E).length - c) c = p := by
        rw [he]
        simp only [scanB, decide_eq_true_eq]
        rw [if_neg hin]
      rw [he] at hK
      exact leaf hK
    · have h : ¬ (if (esb E).getD p 0 ∈ ewd E k then (1 : Int) else 0) = 0 := h
      have hin : (esb E).getD p 0 ∈ ewd E k := Classical.not_not.mp (fun z => h (ite0.mpr z))
      have he : scanB (fun x => decide (x ∈ ewd E k)) (esb E) ((esb E).length - c) c = scanB (fun x => decide (x ∈ ewd E k)) (esb E) m (p + 1) := by
        rw [he]
        simp only [scanB, decide_eq_true_eq]
        rw [if_pos hin]
      have K := ih (p + 1) (by omega) he
      rw [← hw] at K
      exact leaf (by first | exact run 1 K | exact run 2 K | exact run 3 K)
theorem lp_Model_stop (hE : EvM E σ) (hO : EvOK E) (hk : k < ect E) {c : Nat} (hK : Xz SL xs (m_Model_stop SL xs) F (25, [some (.inr (some (26, 0))), some (.inl k), some (.inl c), some (.inl (scanB (fun x => !decide (x ∈ ewd E k)) (esb E) ((esb E).length - c) c : Nat))], [], (nx, σ, rX kn tx), 0, 0)) : ∀ (m p : Nat), p + m = (esb E).length → scanB (fun x => !decide (x ∈ ewd E k)) (esb E) ((esb E).length - c) c = scanB (fun x => !decide (x ∈ ewd E k)) (esb E) m p → Xz SL xs (m_Model_stop SL xs) F (2, [some (.inr (some (26, 0))), some (.inl k), some (.inl c), some (.inl p)], [], (nx, σ, rX kn tx), 0, 0) := by
  have hn : σ 26 0 16 = (esb E).length := hE.2.1.1
  have hS64 := hO.1
  intro m
  induction m with
  | zero =>
    intro p hp he
    have he : scanB (fun x => !decide (x ∈ ewd E k)) (esb E) ((esb E).length - c) c = p := he
    rw [he] at hK
    refine run 4 ?_
    refine And.intro (fun h => leaf hK) (fun h => ?_)
    have h : ¬ σ 26 0 16 ≤ (p : Int) := h
    rw [hn] at h
    omega
  | succ m ih =>
    intro p hp he
    have hw : wr ((p : Int) + 1) = ((p + 1 : Nat) : Int) := by rw [wr_eq ⟨by omega, by omega⟩]; omega
    refine run 12 ?_
    refine And.intro (fun h => ?_) (fun h => ?_)
    · have h : σ 26 0 16 ≤ (p : Int) := h
      rw [hn] at h
      omega
    refine call_eq (fun F hF => tw_Model_isIn hE hO hk (show p < (esb E).length by omega) hF) ?_
    refine And.intro (fun h => ?_) (fun h => ?_)
    · have h : ¬ (if (esb E).getD p 0 ∈ ewd E k then (1 : Int) else 0) = 0 := h
      have hin : (esb E).getD p 0 ∈ ewd E k := Classical.not_not.mp (fun z => h (ite0.mpr z))
      have he : scanB (fun x => !decide (x ∈ ewd E k)) (esb E) ((esb E).length - c) c = p := by
        rw [he]
        simp only [scanB, Bool.not_eq_true', decide_eq_false_iff_not]
        rw [if_neg (fun z => z hin)]
      rw [he] at hK
      exact leaf hK
    · have h : ¬ (¬ (if (esb E).getD p 0 ∈ ewd E k then (1 : Int) else 0) = 0) := h
      have hin : ¬ (esb E).getD p 0 ∈ ewd E k := ite0.mp (Classical.not_not.mp h)
      have he : scanB (fun x => !decide (x ∈ ewd E k)) (esb E) ((esb E).length - c) c = scanB (fun x => !decide (x ∈ ewd E k)) (esb E) m (p + 1) := by
        rw [he]
        simp only [scanB, Bool.not_eq_true', decide_eq_false_iff_not]
        rw [if_pos hin]
      have K := ih (p + 1) (by omega) he
      rw [← hw] at K
      exact leaf (by first | exact run 1 K | exact run 2 K | exact run 3 K)
theorem tw_Model_span (hE : EvM E σ) (hO : EvOK E) (hk : k < ect E) (hp : p ≤ (esb E).length) (hF : F (some (.inl (enc (if p < (esb E).length ∧ (esb E).getD p 0 ∈ ewd E k then some (spn (ewd E k) (esb E) p) else none)))) (nx, σ, rX kn tx)) : T_Model_span SL xs [.inr (some (26, 0)), .inl k, .inl p] (nx, σ, rX kn tx) F := by
  refine run 2 ?_
  refine lp_Model_span hE hO hk (c := p) ?_ ((esb E).length - p) p (by omega) rfl
  have hb := scan_bd (fun x => decide (x ∈ ewd E k)) (esb E) ((esb E).length - p) p
  have hiff : p < spn (ewd E k) (esb E) p ↔ (p < (esb E).length ∧ (esb E).getD p 0 ∈ ewd E k) := by
    unfold spn
    cases hm : (esb E).length - p with
    | zero => simp only [scanB]; omega
    | succ m =>
      simp only [scanB, decide_eq_true_eq]
      by_cases hin : (esb E).getD p 0 ∈ ewd E k
      · have := scan_bd (fun x => decide (x ∈ ewd E k)) (esb E) m (p + 1)
        rw [if_pos hin]
        exact ⟨fun _ => ⟨by omega, hin⟩, fun _ => by omega⟩
      · rw [if_neg hin]
        exact ⟨fun z => by omega, fun z => absurd z.2 hin⟩
  refine run 30 ?_
  refine And.intro (fun h => ?_) (fun h => ?_)
  · have h : ((spn (ewd E k) (esb E) p : Nat) : Int) ≤ (p : Int) := h
    rw [if_neg (fun z => by have := hiff.mpr z; omega)] at hF
    exact hF
  · have h : ¬ ((spn (ewd E k) (esb E) p : Nat) : Int) ≤ (p : Int) := h
    rw [if_pos (hiff.mp (by omega))] at hF
    exact hF
theorem tw_Model_stop (hE : EvM E σ) (hO : EvOK E) (hk : k < ect E) (hp : p ≤ (esb E).length) (hF : F (some (.inl (enc (if brk (ewd E k) (esb E) p < (esb E).length then some (brk (ewd E k) (esb E) p) else none)))) (nx, σ, rX kn tx)) : T_Model_stop SL xs [.inr (some (26, 0)), .inl k, .inl p] (nx, σ, rX kn tx) F := by
  have hn : σ 26 0 16 = (esb E).length := hE.2.1.1
  refine run 2 ?_
  refine lp_Model_stop hE hO hk (c := p) ?_ ((esb E).length - p) p (by omega) rfl
  refine run 30 ?_
  refine And.intro (fun h => ?_) (fun h => ?_)
  · have h : σ 26 0 16 ≤ ((brk (ewd E k) (esb E) p : Nat) : Int) := h
    rw [hn] at h
    rw [if_neg (by omega)] at hF
    exact hF
  · have h : ¬ σ 26 0 16 ≤ ((brk (ewd E k) (esb E) p : Nat) : Int) := h
    rw [hn] at h
    rw [if_pos (by omega)] at hF
    exact hF
theorem lp_Model_balanced {S : List Int} {c q : Int} {qn : Nat} (hqn : q = qn) (hS : tl (σ 35 0) (σ 26 0 16) S) (hS64 : S.length ≤ 64) : ∀ (m : Nat) (d : Int) (p : Nat), p + m = S.length → 0 ≤ d → d ≤ p → F (some (.inl (enc (balM S qn m d p)))) (nx, σ, rX kn tx) → Xz SL xs (m_Model_balanced SL xs) F (5, [some (.inr (some (26, 0))), some (.inl c), some (.inl q), some (.inl d), some (.inl p)], [], (nx, σ, rX kn tx), 0, 0) := by
  have hn : σ 26 0 16 = S.length := hS.1
  intro m
  induction m with
  | zero =>
    intro d p hp hd hdp hF
    refine run 30 ?_
    refine And.intro (fun h => hF) (fun h => ?_)
    have h : ¬ σ 26 0 16 ≤ (p : Int) := h
    rw [hn] at h
    omega
  | succ m ih =>
    intro d p hp hd hdp hF
    have hsg : σ 35 0 (p : Int).toNat = S.getD p 0 := by rw [Int.toNat_natCast]; exact hS.2 p (by omega)
    have hw : wr ((p : Int) + 1) = ((p + 1 : Nat) : Int) := by rw [wr_eq ⟨by omega, by omega⟩]; omega
    have hix : (0 : Int) ≤ (p : Int) ∧ (p : Int) < 64 := by omega
    have fin : ∀ (b : Int), brc (S.getD p 0) = b → (b = 1 ∨ b = -1 ∨ b = 0) → Xz SL xs (m_Model_balanced SL xs) F (48, [some (.inr (some (26, 0))), some (.inl c), some (.inl q), some (.inl d), some (.inl p)], [.inl b, .inl d], (nx, σ, rX kn tx), 0, 0) := by
      intro b hb hb3
      have hwd : wr (d + b) = d + b := wr_eq ⟨by omega, by omega⟩
      simp only [balM, hb] at hF
      have go : ¬ d + b < 0 → ¬ (d + b = 0 ∧ qn < p + 1) → Xz SL xs (m_Model_balanced SL xs) F (5, [some (.inr (some (26, 0))), some (.inl c), some (.inl q), some (.inl (wr (d + b))), some (.inl (wr ((p : Int) + 1)))], [], (nx, σ, rX kn tx), 0, 0) := by
        intro h1 h2
        rw [if_neg h1, if_neg h2] at hF
        have K := ih (d + b) (p + 1) (by omega) (by omega) (by omega) hF
        rw [← hw, ← hwd] at K
        exact K
      refine run 20 ?_
      refine And.intro (fun h => ?_) (fun h => ?_)
      · have h : 0 ≤ wr (d + b) := h
        rw [hwd] at h
        refine And.intro (fun h2 => ?_) (fun h2 => ?_)
        · have h2 : ¬ wr (d + b) = 0 := h2
          rw [hwd] at h2
          have K := go (by omega) (by omega)
          exact leaf (by first | exact run 1 K | exact run 2 K | exact run 3 K)
        · have h2 : wr (d + b) = 0 := Classical.not_not.mp h2
          rw [hwd] at h2
          refine And.intro (fun h3 => ?_) (fun h3 => ?_)
          · have h3 : wr ((p : Int) + 1) ≤ q := h3
            rw [hw, hqn] at h3
            have K := go (by omega) (by omega)
            exact leaf (by first | exact run 1 K | exact run 2 K | exact run 3 K)
          · have h3 : ¬ wr ((p : Int) + 1) ≤ q := h3
            rw [hw, hqn] at h3
            rw [if_neg (by omega), if_pos ⟨by omega, by omega⟩] at hF
            have K : F (some (.inl ((p + 1 : Nat) : Int))) (nx, σ, rX kn tx) := hF
            rw [← hw] at K
            exact K
      · have h : ¬ 0 ≤ wr (d + b) := h
        rw [hwd] at h
        rw [if_pos (by omega)] at hF
        exact hF
    refine run 30 ?_
    refine And.intro (fun h => ?_) (fun h => ?_)
    · have h : σ 26 0 16 ≤ (p : Int) := h
      rw [hn] at h
      omega
    refine And.intro hix ?_
    refine And.intro (fun h => ?_) (fun h => ?_)
    · have h : ¬ σ 35 0 (p : Int).toNat = 40 := h
      rw [hsg] at h
      refine And.intro hix ?_
      refine And.intro (fun h2 => ?_) (fun h2 => ?_)
      · have h2 : ¬ σ 35 0 (p : Int).toNat = 41 := h2
        rw [hsg] at h2
        have K := fin 0 (by unfold brc; rw [if_neg h, if_neg h2]) (by omega)
        exact leaf (by first | exact run 1 K | exact run 2 K | exact run 3 K)
      · have h2 : σ 35 0 (p : Int).toNat = 41 := Classical.not_not.mp h2
        rw [hsg] at h2
        have K := fin (-1) (by unfold brc; rw [if_neg h, if_pos h2]) (by omega)
        exact leaf (by first | exact run 1 K | exact run 2 K | exact run 3 K)
    · have h : σ 35 0 (p : Int).toNat = 40 := Classical.not_not.mp h
      rw [hsg] at h
      have K := fin 1 (by unfold brc; rw [if_pos h]) (by omega)
      exact leaf (by first | exact run 1 K | exact run 2 K | exact run 3 K)
theorem tw_Model_balanced {S : List Int} {c q : Nat} (hS : tl (σ 35 0) (σ 26 0 16) S) (hS64 : S.length ≤ 64) (hc : c ≤ S.length) (hF : F (some (.inl (enc (balM S q (S.length - c) 0 c)))) (nx, σ, rX kn tx)) : T_Model_balanced SL xs [.inr (some (26, 0)), .inl c, .inl q] (nx, σ, rX kn tx) F := by
  refine run 4 ?_
  exact lp_Model_balanced (qn := q) rfl hS hS64 (S.length - c) 0 c (by omega) (by omega) (by omega) hF
theorem digm : ∀ n : Nat, n < 65 → b8 (b8 (wr (48 + w_div n 10))) = ((48 + n / 10 : Nat) : Int) ∧ b8 (b8 (wr (48 + w_rem n 10))) = ((48 + n % 10 : Nat) : Int) ∧ (n ≤ 9 → b8 (b8 (wr (48 + n))) = ((48 + n % 10 : Nat) : Int)) := by decide +kernel
theorem tw_Model_told {v c : Nat} (hv : v < 8) (hc : c < 65) (hF : ∀ σ', setM σ v (dig c) σ' → F (some (.inl c)) (nx, σ', rX kn tx)) : T_Model_told SL xs [.inr (some (26, 0)), .inl v, .inl c] (nx, σ, rX kn tx) F := by
  obtain ⟨d1, d2, d3⟩ := digm c hc
  have w0 := w640 (k := v) (by omega)
  have w1 := w64 (k := v) (i := 1) (by omega) (by omega)
  have hiv : (0 : Int) ≤ (v : Int) ∧ (v : Int) < 8 := by omega
  have hi0 : 0 ≤ wr (64 * (v : Int)) ∧ wr (64 * (v : Int)) < 512 := by rw [w0]; omega
  have hi1 : 0 ≤ wr (wr (64 * (v : Int)) + 1) ∧ wr (wr (64 * (v : Int)) + 1) < 512 := by rw [show (1 : Int) = ((1 : Nat) : Int) from rfl, w1]; omega
  have t0 : (wr (64 * (v : Int))).toNat = 64 * v := by rw [w0, Int.toNat_natCast]
  have t1 : (wr (wr (64 * (v : Int)) + 1)).toNat = 64 * v + 1 := by rw [show (1 : Int) = ((1 : Nat) : Int) from rfl, w1, Int.toNat_natCast]
  refine run 50 ?_
  refine And.intro (fun h => ?_) (fun h => ?_)
  · have h : (c : Int) ≤ 9 := h
    refine And.intro hiv ?_
    refine And.intro (fun h' => ?_) (fun h' => absurd h h')
    refine And.intro hi0 ?_
    refine And.intro (show ¬ (10 : Int) = 0 by omega) ?_
    refine And.intro hi1 ?_
    refine hF _ ⟨⟨?_, fun i hi => ?_⟩, fun a b j h1 h2 => ?_⟩
    · show upS (upS (upS σ 29 0 (v : Int).toNat 1) 28 0 (wr (64 * (v : Int))).toNat (b8 (b8 (wr (48 + (c : Int)))))) 28 0 (wr (wr (64 * (v : Int)) + 1)).toNat (b8 (b8 (wr (48 + w_rem c 10)))) 29 0 v = _
      rw [upS_ne (by omega), upS_ne (by omega), Int.toNat_natCast, upS_same]
      simp [dig, show ¬ 9 < c by omega]
    · have hi : i = 0 := by simp [dig, show ¬ 9 < c by omega] at hi; exact hi
      subst hi
      show upS (upS (upS σ 29 0 (v : Int).toNat 1) 28 0 (wr (64 * (v : Int))).toNat (b8 (b8 (wr (48 + (c : Int)))))) 28 0 (wr (wr (64 * (v : Int)) + 1)).toNat (b8 (b8 (wr (48 + w_rem c 10)))) 28 0 (64 * v + 0) = _
      rw [t0, t1, upS_ne (by omega), Nat.add_zero, upS_same, d3 (by omega)]
      simp [dig, show ¬ 9 < c by omega]
    · show upS (upS (upS σ 29 0 (v : Int).toNat 1) 28 0 (wr (64 * (v : Int))).toNat (b8 (b8 (wr (48 + (c : Int)))))) 28 0 (wr (wr (64 * (v : Int)) + 1)).toNat (b8 (b8 (wr (48 + w_rem c 10)))) a b j = _
      rw [t0, t1, upS_ne (by omega), upS_ne (by omega), upS_ne (by omega)]
  · have h : ¬ (c : Int) ≤ 9 := h
    refine And.intro hiv ?_
    refine And.intro (fun h' => absurd h' h) (fun h' => ?_)
    refine And.intro (show ¬ (10 : Int) = 0 by omega) ?_
    refine And.intro hi0 ?_
    refine And.intro (show ¬ (10 : Int) = 0 by omega) ?_
    refine And.intro hi1 ?_
    refine hF _ ⟨⟨?_, fun i hi => ?_⟩, fun a b j h1 h2 => ?_⟩
    · show upS (upS (upS σ 29 0 (v : Int).toNat 2) 28 0 (wr (64 * (v : Int))).toNat (b8 (b8 (wr (48 + w_div c 10))))) 28 0 (wr (wr (64 * (v : Int)) + 1)).toNat (b8 (b8 (wr (48 + w_rem c 10)))) 29 0 v = _
      rw [upS_ne (by omega), upS_ne (by omega), Int.toNat_natCast, upS_same]
      simp [dig, show 9 < c by omega]
    · have hi : i = 0 ∨ i = 1 := by simp [dig, show 9 < c by omega] at hi; omega
      show upS (upS (upS σ 29 0 (v : Int).toNat 2) 28 0 (wr (64 * (v : Int))).toNat (b8 (b8 (wr (48 + w_div c 10))))) 28 0 (wr (wr (64 * (v : Int)) + 1)).toNat (b8 (b8 (wr (48 + w_rem c 10)))) 28 0 (64 * v + i) = _
      rw [t0, t1]
      rcases hi with rfl | rfl
      · rw [upS_ne (by omega), Nat.add_zero, upS_same, d1]
        simp [dig, show 9 < c by omega]
      · rw [upS_same, d2]
        simp [dig, show 9 < c by omega]
    · show upS (upS (upS σ 29 0 (v : Int).toNat 2) 28 0 (wr (64 * (v : Int))).toNat (b8 (b8 (wr (48 + w_div c 10))))) 28 0 (wr (wr (64 * (v : Int)) + 1)).toNat (b8 (b8 (wr (48 + w_rem c 10)))) a b j = _
      rw [t0, t1, upS_ne (by omega), upS_ne (by omega), upS_ne (by omega)]
end
end
section
/-! The model: a node that needs no others -/
section
variable {SL : Nat} {xs : Nat → Int} {nx : Nat} {σ : Sg} {kn : Nat → Option Nat} {tx : Nat → Bool} {F : Option Av → St → Prop} {E : Ev} {ν : Nu} {k p : Nat}
def plL : List (Int × Nat) := [(0, 144), (1, 164), (2, 177), (3, 198), (4, 205), (5, 212), (6, 230), (7, 241), (8, 257), (9, 276), (10, 297), (11, 302), (12, 304), (13, 338), (14, 302), (15, 338), (16, 338), (17, 338), (18, 338), (19, 338), (20, 338), (21, 311), (22, 318)]
abbrev plX (SL : Nat) (xs : Nat → Int) (F : Option Av → St → Prop) (pc : Nat) (k p a g : Int) (s : St) : Prop := Xz SL xs (m_Model_plain SL xs) F (pc, [some (.inr (some (26, 0))), some (.inl k), some (.inl p), some (.inl a), some (.inl g)], [], s, 0, 0)
theorem pl_sw {t : Nat} (hE : EvM E σ) (hO : EvOK E) (hN : NuM ν σ) (hk : k < ect E) (hp : p ≤ (esb E).length) (h : lkI plL (ekd E k : Nat) = some t) (K : plX SL xs F t k p (efa E k : Nat) (if p < (esb E).length ∧ (esb E).getD p 0 ∈ ewd E k then 1 else 0) (nx, σ, rX kn tx)) : T_Model_plain SL xs [.inr (some (26, 0)), .inl k, .inl p] (nx, σ, rX kn tx) F := by
  have hn : σ 26 0 16 = (esb E).length := hE.2.1.1
  have hS64 := hO.1
  obtain ⟨-, -, -, hw, hw64⟩ := hE.2.2 k hk
  have hk64 : k < 64 := by have := hO.2.1; omega
  obtain ⟨k1, k2, k3, -, -⟩ := hE.2.2 k hk
  have hix : (0 : Int) ≤ (k : Int) ∧ (k : Int) < 64 := by omega
  have K2 : ∀ g : Int, g = (if p < (esb E).length ∧ (esb E).getD p 0 ∈ ewd E k then 1 else 0) → Xz SL xs (m_Model_plain SL xs) F (29, [some (.inr (some (26, 0))), some (.inl k), some (.inl p), some (.inl (σ 31 0 (k : Int).toNat)), none], [.inl g], (nx, σ, rX kn tx), 0, 0) := by
    intro g hg
    rw [← hg, ← k2] at K
    refine run 6 ?_
    refine And.intro hix ?_
    refine swt_in (t := t) (show lkI _ (σ 30 0 (k : Int).toNat) = some t by rw [Int.toNat_natCast, k1]; exact h) ?_
    exact K
  refine run 20 ?_
  refine And.intro hix ?_
  refine And.intro (fun h => ?_) (fun h => ?_)
  · have h : σ 26 0 16 ≤ (p : Int) := h
    rw [hn] at h
    have K := K2 0 (by rw [if_neg (by omega)])
    exact leaf (by first | exact run 1 K | exact run 2 K | exact run 3 K)
  · have h : ¬ σ 26 0 16 ≤ (p : Int) := h
    rw [hn] at h
    refine call_eq (fun F hF => tw_Model_isIn hE hO hk (show p < (esb E).length by omega) hF) ?_
    refine And.intro (fun h2 => ?_) (fun h2 => ?_)
    · have h2 : (if (esb E).getD p 0 ∈ ewd E k then (1 : Int) else 0) = 0 := h2
      have K := K2 0 (by rw [if_neg (fun z => ite0.mp h2 z.2)])
      exact leaf (by first | exact run 1 K | exact run 2 K | exact run 3 K)
    · have h2 : ¬ (if (esb E).getD p 0 ∈ ewd E k then (1 : Int) else 0) = 0 := h2
      have K := K2 1 (by rw [if_pos ⟨by omega, Classical.not_not.mp (fun z => h2 (ite0.mpr z))⟩])
      exact leaf (by first | exact run 1 K | exact run 2 K | exact run 3 K)
theorem pl_0 (hE : EvM E σ) (hO : EvOK E) (hN : NuM ν σ) (hk : k < ect E) (hp : p ≤ (esb E).length) (hd : ekd E k = 0) (hF : F (some (.inl (enc (plA E ν k p)))) (nx, σ, rX kn tx)) {a g : Int} : plX SL xs F 144 k p a g (nx, σ, rX kn tx) := by
  have hn : σ 26 0 16 = (esb E).length := hE.2.1.1
  have hS64 := hO.1
  obtain ⟨-, -, -, hw, hw64⟩ := hE.2.2 k hk
  have hk64 : k < 64 := by have := hO.2.1; omega
  have hix : (0 : Int) ≤ (k : Int) ∧ (k : Int) < 64 := by omega
  have hwl : σ 34 0 k = (ewd E k).length := hw.1
  refine run 30 ?_
  refine And.intro hix ?_
  refine call_any (Y := fun v s' => v = some (.inl (enc (plA E ν k p))) ∧ s' = (nx, σ, rX kn tx)) ?_ ?_
  · show vT 7 (T_Model_behind SL xs) [.inr (some (26, 0)), .inr (some (33, 0)), .inl (wr (64 * (k : Int))), .inl (σ 34 0 (k : Int).toNat), .inl (p : Int)] (nx, σ, rX kn tx) _
    rw [w640 hk64, Int.toNat_natCast, hwl]
    refine tw_Model_behind33 (S := esb E) ⟨rfl, hw.2⟩ hw64 (by omega) hE.2.1 hS64 hp (fun h => ⟨?_, rfl⟩) (fun h => ⟨?_, rfl⟩)
    · have e : plA E ν k p = some (p + (ewd E k).length) := by
        simp only [plA, hd]
        exact if_pos h
      rw [e]
      rfl
    · have e : plA E ν k p = none := by
        simp only [plA, hd]
        exact if_neg h
      rw [e]
      rfl
  · intro v s' hv
    obtain ⟨rfl, rfl⟩ := hv
    exact hF
theorem pl_22 (hE : EvM E σ) (hO : EvOK E) (hN : NuM ν σ) (hk : k < ect E) (hp : p ≤ (esb E).length) (hd : ekd E k = 22) (hF : F (some (.inl (enc (plA E ν k p)))) (nx, σ, rX kn tx)) {g : Int} : plX SL xs F 318 k p (efa E k : Nat) g (nx, σ, rX kn tx) := by
  have hn : σ 26 0 16 = (esb E).length := hE.2.1.1
  have hS64 := hO.1
  obtain ⟨-, -, -, hw, hw64⟩ := hE.2.2 k hk
  have hk64 : k < 64 := by have := hO.2.1; omega
  have hae : efa E k < 8 := (hO.2.2 k hk).2.2.2.2.2 (Or.inr hd)
  obtain ⟨hv, hv64⟩ := hN (efa E k) hae
  have hix : (0 : Int) ≤ ((efa E k : Nat) : Int) ∧ ((efa E k : Nat) : Int) < 8 := by omega
  have hvl : σ 29 0 (efa E k) = (ν (efa E k)).length := hv.1
  refine run 30 ?_
  refine And.intro hix ?_
  refine call_any (Y := fun v s' => v = some (.inl (enc (plA E ν k p))) ∧ s' = (nx, σ, rX kn tx)) ?_ ?_
  · show vT 7 (T_Model_behind SL xs) [.inr (some (26, 0)), .inr (some (28, 0)), .inl (wr (64 * ((efa E k : Nat) : Int))), .inl (σ 29 0 ((efa E k : Nat) : Int).toNat), .inl (p : Int)] (nx, σ, rX kn tx) _
    rw [w640 (k := efa E k) (by omega), Int.toNat_natCast, hvl]
    refine tw_Model_behind28 (S := esb E) ⟨rfl, hv.2⟩ hv64 (by omega) hE.2.1 hS64 hp (fun h => ⟨?_, rfl⟩) (fun h => ⟨?_, rfl⟩)
    · have e : plA E ν k p = some (p + (ν (efa E k)).length) := by
        simp only [plA, hd]
        exact if_pos h
      rw [e]
      rfl
    · have e : plA E ν k p = none := by
        simp only [plA, hd]
        exact if_neg h
      rw [e]
      rfl
  · intro v s' hv
    obtain ⟨rfl, rfl⟩ := hv
    exact hF
theorem pl_1 (hE : EvM E σ) (hO : EvOK E) (hN : NuM ν σ) (hk : k < ect E) (hp : p ≤ (esb E).length) (hd : ekd E k = 1) (hF : F (some (.inl (enc (plA E ν k p)))) (nx, σ, rX kn tx)) {a : Int} : plX SL xs F 164 k p a (if p < (esb E).length ∧ (esb E).getD p 0 ∈ ewd E k then 1 else 0) (nx, σ, rX kn tx) := by
  have hn : σ 26 0 16 = (esb E).length := hE.2.1.1
  have hS64 := hO.1
  obtain ⟨-, -, -, hw, hw64⟩ := hE.2.2 k hk
  have hk64 : k < 64 := by have := hO.2.1; omega
  have hq : plA E ν k p = if p < (esb E).length ∧ (esb E).getD p 0 ∈ ewd E k then some (p + 1) else none := by simp only [plA, hd]
  rw [hq] at hF
  have hwr : wr ((p : Int) + 1) = ((p + 1 : Nat) : Int) := by rw [wr_eq ⟨by omega, by omega⟩]; omega
  refine run 30 ?_
  refine And.intro (fun h => ?_) (fun h => ?_)
  · have h : (if p < (esb E).length ∧ (esb E).getD p 0 ∈ ewd E k then (1 : Int) else 0) = 0 := h
    rw [if_neg (ite0.mp h)] at hF
    exact hF
  · have h : ¬ (if p < (esb E).length ∧ (esb E).getD p 0 ∈ ewd E k then (1 : Int) else 0) = 0 := h
    rw [if_pos (Classical.not_not.mp (fun z => h (ite0.mpr z)))] at hF
    have K : F (some (.inl ((p + 1 : Nat) : Int))) (nx, σ, rX kn tx) := hF
    rw [← hwr] at K
    exact K
theorem pl_2 (hE : EvM E σ) (hO : EvOK E) (hN : NuM ν σ) (hk : k < ect E) (hp : p ≤ (esb E).length) (hd : ekd E k = 2) (hF : F (some (.inl (enc (plA E ν k p)))) (nx, σ, rX kn tx)) {a : Int} : plX SL xs F 177 k p a (if p < (esb E).length ∧ (esb E).getD p 0 ∈ ewd E k then 1 else 0) (nx, σ, rX kn tx) := by
  have hn : σ 26 0 16 = (esb E).length := hE.2.1.1
  have hS64 := hO.1
  obtain ⟨-, -, -, hw, hw64⟩ := hE.2.2 k hk
  have hk64 : k < 64 := by have := hO.2.1; omega
  have hq : plA E ν k p = if p < (esb E).length ∧ ¬ (esb E).getD p 0 ∈ ewd E k then some (p + 1) else none := by simp only [plA, hd]
  rw [hq] at hF
  have hwr : wr ((p : Int) + 1) = ((p + 1 : Nat) : Int) := by rw [wr_eq ⟨by omega, by omega⟩]; omega
  refine run 30 ?_
  refine And.intro (fun h => ?_) (fun h => ?_)
  · have h : σ 26 0 16 ≤ (p : Int) := h
    rw [hn] at h
    rw [if_neg (by omega)] at hF
    exact hF
  have h : ¬ σ 26 0 16 ≤ (p : Int) := h
  rw [hn] at h
  refine And.intro (fun h2 => ?_) (fun h2 => ?_)
  · have h2 : ¬ (if p < (esb E).length ∧ (esb E).getD p 0 ∈ ewd E k then (1 : Int) else 0) = 0 := h2
    rw [if_neg (fun z => z.2 (Classical.not_not.mp (fun z => h2 (ite0.mpr z))).2)] at hF
    exact hF
  · have h2 : (if p < (esb E).length ∧ (esb E).getD p 0 ∈ ewd E k then (1 : Int) else 0) = 0 := Classical.not_not.mp h2
    rw [if_pos ⟨by omega, fun z => ite0.mp h2 ⟨by omega, z⟩⟩] at hF
    have K : F (some (.inl ((p + 1 : Nat) : Int))) (nx, σ, rX kn tx) := hF
    rw [← hwr] at K
    exact K
theorem pl_3 (hE : EvM E σ) (hO : EvOK E) (hN : NuM ν σ) (hk : k < ect E) (hp : p ≤ (esb E).length) (hd : ekd E k = 3) (hF : F (some (.inl (enc (plA E ν k p)))) (nx, σ, rX kn tx)) {a g : Int} : plX SL xs F 198 k p a g (nx, σ, rX kn tx) := by
  have hq : plA E ν k p = if p < (esb E).length ∧ (esb E).getD p 0 ∈ ewd E k then some (spn (ewd E k) (esb E) p) else none := by simp only [plA, hd]
  rw [hq] at hF
  refine run 30 ?_
  exact call_eq (fun F hF => tw_Model_span hE hO hk hp hF) hF
theorem pl_4 (hE : EvM E σ) (hO : EvOK E) (hN : NuM ν σ) (hk : k < ect E) (hp : p ≤ (esb E).length) (hd : ekd E k = 4) (hF : F (some (.inl (enc (plA E ν k p)))) (nx, σ, rX kn tx)) {a g : Int} : plX SL xs F 205 k p a g (nx, σ, rX kn tx) := by
  have hq : plA E ν k p = if brk (ewd E k) (esb E) p < (esb E).length then some (brk (ewd E k) (esb E) p) else none := by simp only [plA, hd]
  rw [hq] at hF
  refine run 30 ?_
  exact call_eq (fun F hF => tw_Model_stop hE hO hk hp hF) hF
theorem pl_5 (hE : EvM E σ) (hO : EvOK E) (hN : NuM ν σ) (hk : k < ect E) (hp : p ≤ (esb E).length) (hd : ekd E k = 5) (hF : F (some (.inl (enc (plA E ν k p)))) (nx, σ, rX kn tx)) {g : Int} : plX SL xs F 212 k p (efa E k : Nat) g (nx, σ, rX kn tx) := by
  have hn : σ 26 0 16 = (esb E).length := hE.2.1.1
  have hS64 := hO.1
  obtain ⟨-, -, -, hw, hw64⟩ := hE.2.2 k hk
  have hk64 : k < 64 := by have := hO.2.1; omega
  have ha := (hO.2.2 k hk).2.1
  have hq : plA E ν k p = if p + efa E k ≤ (esb E).length then some (p + efa E k) else none := by simp only [plA, hd]
  rw [hq] at hF
  refine run 30 ?_
  refine And.intro (fun h => ?_) (fun h => ?_)
  · have h : wr (σ 26 0 16 - (p : Int)) < ((efa E k : Nat) : Int) := h
    rw [hn, wr_eq ⟨by omega, by omega⟩] at h
    rw [if_neg (by omega)] at hF
    exact hF
  · have h : ¬ (wr (σ 26 0 16 - (p : Int)) < ((efa E k : Nat) : Int)) := h
    rw [hn, wr_eq ⟨by omega, by omega⟩] at h
    rw [if_pos (by omega)] at hF
    have K : F (some (.inl ((p + efa E k : Nat) : Int))) (nx, σ, rX kn tx) := hF
    rw [show ((p + efa E k : Nat) : Int) = wr ((p : Int) + ((efa E k : Nat) : Int)) by rw [wr_eq ⟨by omega, by omega⟩]; omega] at K
    exact K
theorem pl_6 (hE : EvM E σ) (hO : EvOK E) (hN : NuM ν σ) (hk : k < ect E) (hp : p ≤ (esb E).length) (hd : ekd E k = 6) (hF : F (some (.inl (enc (plA E ν k p)))) (nx, σ, rX kn tx)) {g : Int} : plX SL xs F 230 k p (efa E k : Nat) g (nx, σ, rX kn tx) := by
  have hn : σ 26 0 16 = (esb E).length := hE.2.1.1
  have hS64 := hO.1
  obtain ⟨-, -, -, hw, hw64⟩ := hE.2.2 k hk
  have hk64 : k < 64 := by have := hO.2.1; omega
  have ha := (hO.2.2 k hk).2.1
  have hq : plA E ν k p = if p = efa E k then some (p) else none := by simp only [plA, hd]
  rw [hq] at hF
  refine run 30 ?_
  refine And.intro (fun h => ?_) (fun h => ?_)
  · have h : ¬ (p : Int) = ((efa E k : Nat) : Int) := h
    skip
    rw [if_neg (by omega)] at hF
    exact hF
  · have h : ¬ (¬ (p : Int) = ((efa E k : Nat) : Int)) := h
    skip
    rw [if_pos (by omega)] at hF
    have K : F (some (.inl ((p : Nat) : Int))) (nx, σ, rX kn tx) := hF
    exact K
theorem pl_7 (hE : EvM E σ) (hO : EvOK E) (hN : NuM ν σ) (hk : k < ect E) (hp : p ≤ (esb E).length) (hd : ekd E k = 7) (hF : F (some (.inl (enc (plA E ν k p)))) (nx, σ, rX kn tx)) {g : Int} : plX SL xs F 241 k p (efa E k : Nat) g (nx, σ, rX kn tx) := by
  have hn : σ 26 0 16 = (esb E).length := hE.2.1.1
  have hS64 := hO.1
  obtain ⟨-, -, -, hw, hw64⟩ := hE.2.2 k hk
  have hk64 : k < 64 := by have := hO.2.1; omega
  have ha := (hO.2.2 k hk).2.1
  have hq : plA E ν k p = if p + efa E k = (esb E).length then some (p) else none := by simp only [plA, hd]
  rw [hq] at hF
  refine run 30 ?_
  refine And.intro (fun h => ?_) (fun h => ?_)
  · have h : ¬ wr (σ 26 0 16 - (p : Int)) = ((efa E k : Nat) : Int) := h
    rw [hn, wr_eq ⟨by omega, by omega⟩] at h
    rw [if_neg (by omega)] at hF
    exact hF
  · have h : ¬ (¬ wr (σ 26 0 16 - (p : Int)) = ((efa E k : Nat) : Int)) := h
    rw [hn, wr_eq ⟨by omega, by omega⟩] at h
    rw [if_pos (by omega)] at hF
    have K : F (some (.inl ((p : Nat) : Int))) (nx, σ, rX kn tx) := hF
    exact K
theorem pl_9 (hE : EvM E σ) (hO : EvOK E) (hN : NuM ν σ) (hk : k < ect E) (hp : p ≤ (esb E).length) (hd : ekd E k = 9) (hF : F (some (.inl (enc (plA E ν k p)))) (nx, σ, rX kn tx)) {g : Int} : plX SL xs F 276 k p (efa E k : Nat) g (nx, σ, rX kn tx) := by
  have hn : σ 26 0 16 = (esb E).length := hE.2.1.1
  have hS64 := hO.1
  obtain ⟨-, -, -, hw, hw64⟩ := hE.2.2 k hk
  have hk64 : k < 64 := by have := hO.2.1; omega
  have ha := (hO.2.2 k hk).2.1
  have hq : plA E ν k p = if p + efa E k ≤ (esb E).length then some ((esb E).length - efa E k) else none := by simp only [plA, hd]
  rw [hq] at hF
  refine run 30 ?_
  refine And.intro (fun h => ?_) (fun h => ?_)
  · have h : wr (σ 26 0 16 - (p : Int)) < ((efa E k : Nat) : Int) := h
    rw [hn, wr_eq ⟨by omega, by omega⟩] at h
    rw [if_neg (by omega)] at hF
    exact hF
  · have h : ¬ (wr (σ 26 0 16 - (p : Int)) < ((efa E k : Nat) : Int)) := h
    rw [hn, wr_eq ⟨by omega, by omega⟩] at h
    rw [if_pos (by omega)] at hF
    have K : F (some (.inl (((esb E).length - efa E k : Nat) : Int))) (nx, σ, rX kn tx) := hF
    rw [show (((esb E).length - efa E k : Nat) : Int) = wr (σ 26 0 16 - ((efa E k : Nat) : Int)) by rw [hn, wr_eq ⟨by omega, by omega⟩]; omega] at K
    exact K
theorem pl_8 (hE : EvM E σ) (hO : EvOK E) (hN : NuM ν σ) (hk : k < ect E) (hp : p ≤ (esb E).length) (hd : ekd E k = 8) (hF : F (some (.inl (enc (plA E ν k p)))) (nx, σ, rX kn tx)) {g : Int} : plX SL xs F 257 k p (efa E k : Nat) g (nx, σ, rX kn tx) := by
  have hn : σ 26 0 16 = (esb E).length := hE.2.1.1
  have hS64 := hO.1
  obtain ⟨-, -, -, hw, hw64⟩ := hE.2.2 k hk
  have hk64 : k < 64 := by have := hO.2.1; omega
  have hq : plA E ν k p = if p ≤ efa E k ∧ efa E k ≤ (esb E).length then some (efa E k) else none := by simp only [plA, hd]
  rw [hq] at hF
  refine run 30 ?_
  refine And.intro (fun h => ?_) (fun h => ?_)
  · have h : ((efa E k : Nat) : Int) < (p : Int) := h
    rw [if_neg (by omega)] at hF
    exact hF
  have h : ¬ ((efa E k : Nat) : Int) < (p : Int) := h
  refine And.intro (fun h2 => ?_) (fun h2 => ?_)
  · have h2 : σ 26 0 16 < ((efa E k : Nat) : Int) := h2
    rw [hn] at h2
    rw [if_neg (by omega)] at hF
    exact hF
  · have h2 : ¬ σ 26 0 16 < ((efa E k : Nat) : Int) := h2
    rw [hn] at h2
    rw [if_pos (by omega)] at hF
    exact hF
theorem pl_10 (hE : EvM E σ) (hO : EvOK E) (hN : NuM ν σ) (hk : k < ect E) (hp : p ≤ (esb E).length) (hd : ekd E k = 10) (hF : F (some (.inl (enc (plA E ν k p)))) (nx, σ, rX kn tx)) {a g : Int} : plX SL xs F 297 k p a g (nx, σ, rX kn tx) := by
  have hn : σ 26 0 16 = (esb E).length := hE.2.1.1
  have hS64 := hO.1
  obtain ⟨-, -, -, hw, hw64⟩ := hE.2.2 k hk
  have hk64 : k < 64 := by have := hO.2.1; omega
  have hq : plA E ν k p = some (esb E).length := by simp only [plA, hd]
  rw [hq] at hF
  have K : F (some (.inl ((esb E).length : Int))) (nx, σ, rX kn tx) := hF
  rw [← hn] at K
  exact run 10 K
/-- what 'plain' answers -/
theorem tw_Model_plain (hE : EvM E σ) (hO : EvOK E) (hN : NuM ν σ) (hk : k < ect E) (hp : p ≤ (esb E).length) (hkd : ekd E k ≤ 10 ∨ ekd E k = 22) (hF : F (some (.inl (enc (plA E ν k p)))) (nx, σ, rX kn tx)) : T_Model_plain SL xs [.inr (some (26, 0)), .inl k, .inl p] (nx, σ, rX kn tx) F := by
  have sw := fun t h K => pl_sw (SL := SL) (xs := xs) (nx := nx) (F := F) (kn := kn) (tx := tx) (t := t) hE hO hN hk hp h K
  generalize hd : ekd E k = kd at hkd sw
  have hcase : kd = 0 ∨ kd = 1 ∨ kd = 2 ∨ kd = 3 ∨ kd = 4 ∨ kd = 5 ∨ kd = 6 ∨ kd = 7 ∨ kd = 8 ∨ kd = 9 ∨ kd = 10 ∨ kd = 22 := by omega
  rcases hcase with rfl | rfl | rfl | rfl | rfl | rfl | rfl | rfl | rfl | rfl | rfl | rfl
  · exact sw _ rfl (pl_0 hE hO hN hk hp hd hF)
  · exact sw _ rfl (pl_1 hE hO hN hk hp hd hF)
  · exact sw _ rfl (pl_2 hE hO hN hk hp hd hF)
  · exact sw _ rfl (pl_3 hE hO hN hk hp hd hF)
  · exact sw _ rfl (pl_4 hE hO hN hk hp hd hF)
  · exact sw _ rfl (pl_5 hE hO hN hk hp hd hF)
  · exact sw _ rfl (pl_6 hE hO hN hk hp hd hF)
  · exact sw _ rfl (pl_7 hE hO hN hk hp hd hF)
  · exact sw _ rfl (pl_8 hE hO hN hk hp hd hF)
  · exact sw _ rfl (pl_9 hE hO hN hk hp hd hF)
  · exact sw _ rfl (pl_10 hE hO hN hk hp hd hF)
  · exact sw _ rfl (pl_22 hE hO hN hk hp hd hF)
theorem tw_Model_plain11 (hE : EvM E σ) (hO : EvOK E) (hN : NuM ν σ) (hk : k < ect E) (hp : p ≤ (esb E).length) (hkd : ekd E k = 11 ∨ ekd E k = 14) (hF : F (some (.inl p)) (nx, σ, rX kn tx)) : T_Model_plain SL xs [.inr (some (26, 0)), .inl k, .inl p] (nx, σ, rX kn tx) F := by
  refine pl_sw (t := 302) hE hO hN hk hp ?_ (run 10 hF)
  rcases hkd with h | h <;> rw [h] <;> rfl
theorem tw_Model_plain12 (hE : EvM E σ) (hO : EvOK E) (hN : NuM ν σ) (hk : k < ect E) (hp : p ≤ (esb E).length) (hkd : ekd E k = 12) (hF : F (some (.inl (enc (balN (esb E) p)))) (nx, σ, rX kn tx)) : T_Model_plain SL xs [.inr (some (26, 0)), .inl k, .inl p] (nx, σ, rX kn tx) F := by
  refine pl_sw (t := 304) hE hO hN hk hp (by rw [hkd]; rfl) (run 10 ?_)
  refine call_eq (v0 := some (.inl (enc (balN (esb E) p)))) (fun F hF => tw_Model_balanced hE.2.1 hO.1 hp ?_) hF
  rw [balM_F _ _ _ (Nat.le_refl _)]
  exact hF
theorem tw_Model_plain21 (hE : EvM E σ) (hO : EvOK E) (hN : NuM ν σ) (hk : k < ect E) (hp : p ≤ (esb E).length) (hkd : ekd E k = 21) (hF : ∀ σ', setM σ (efa E k) (dig p) σ' → F (some (.inl p)) (nx, σ', rX kn tx)) : T_Model_plain SL xs [.inr (some (26, 0)), .inl k, .inl p] (nx, σ, rX kn tx) F := by
  have hS64 := hO.1
  refine pl_sw (t := 311) hE hO hN hk hp (by rw [hkd]; rfl) (run 10 ?_)
  refine call_any (Y := fun v s' => v = some (.inl (p : Int)) ∧ ∃ σ', s' = (nx, σ', rX kn tx) ∧ setM σ (efa E k) (dig p) σ') (tw_Model_told (v := efa E k) (c := p) ((hO.2.2 k hk).2.2.2.2.2 (Or.inl hkd)) (by omega) (fun σ' h => ⟨rfl, σ', rfl, h⟩)) ?_
  intro v s' hv
  obtain ⟨rfl, σ', rfl, h⟩ := hv
  exact hF σ' h
theorem tw_Model_plain13 (hE : EvM E σ) (hO : EvOK E) (hN : NuM ν σ) (hk : k < ect E) (hp : p ≤ (esb E).length) (hkd : ekd E k = 13) (hF : F (some (.inl (-1))) (nx, σ, rX kn tx)) : T_Model_plain SL xs [.inr (some (26, 0)), .inl k, .inl p] (nx, σ, rX kn tx) F := by
  exact pl_sw (t := 338) hE hO hN hk hp (by rw [hkd]; rfl) (run 10 hF)
end
end
section
/-! The model's rows: what has succeeded, what is under way -/
abbrev Qw : Type := List (Nat × Kp)
abbrev qm (Q : Qw) : List Kp := Q.map Prod.snd
def rwE (E : Ev) (σ : Sg) (r k p : Nat) : Prop := σ 36 0 r = k ∧ σ 37 0 r = p ∧ k < ect E ∧ p ≤ (esb E).length
/-- what a node without others within leaves on the pile -/
def lfC (E : Ev) (k p p' : Nat) (G : List Gl) (B : List Ch) (Q : List Kp) (C : List Ch) : Prop :=
  (ekd E k = 11 ∧ C = if p' < (esb E).length then (1, p', G, Q) :: B else B) ∨ (ekd E k = 12 ∧ bfx (esb E) p p' ∧ C = (2, p', G, Q) :: B) ∨ (ekd E k = 14 ∧ C = (3, p, G, Q) :: B) ∨
  (ekd E k = 16 ∧ C = (0, p, (0, efa E k, 0) :: (0, k, 0) :: G, Q) :: B) ∨ ((ekd E k ≤ 10 ∨ ekd E k = 21 ∨ ekd E k = 22) ∧ C = B)
def sk (E : Ev) (k : Nat) : Nat := if ekd E k = 16 then k else efb E k
/-- a node with one within: which, its goals, its pile -/
def oneC (E : Ev) (s2 : Int) (k p : Nat) (kc : Nat) (G : List Gl) (B : List Ch) (Q : List Kp) (Gc : List Gl) (Bc : List Ch) : Prop :=
  (ekd E k = 18 ∧ s2 = 0 ∧ kc = efa E k ∧ Gc = G ∧ Bc = (0, p, (0, efb E k, 0) :: G, Q) :: B) ∨ (ekd E k = 18 ∧ s2 = 1 ∧ kc = efb E k ∧ Gc = G ∧ Bc = B) ∨ (ekd E k = 19 ∧ kc = efa E k ∧ Gc = (1, efb E k, p) :: G ∧ Bc = B) ∨
  (ekd E k = 20 ∧ kc = efa E k ∧ Gc = (2, efb E k, p) :: G ∧ Bc = B) ∨ (ekd E k = 23 ∧ kc = efa E k ∧ Gc = G ∧ Bc = B)
def kpt (E : Ev) (r k p p' : Nat) : Qw := if ekd E k = 19 then [(r, (efb E k, p, p'))] else []
/-- a row has succeeded -/
def Dn (E : Ev) (σ : Sg) : Nat → Nat → Nat → Nat → Nat → Nat → List Gl → List Ch → Qw → List Ch → Qw → Prop
  | 0, _, _, _, _, _, _, _, _, _, _ => False
  | m + 1, h, r, k, p, p', G, B, Q, C, Q' => rwE E σ r k p ∧ σ 38 0 r = p' ∧ p ≤ p' ∧ p' ≤ (esb E).length ∧ r < h ∧
    ((σ 40 0 r = -1 ∧ σ 41 0 r = -1 ∧ Q' = Q ∧ lfC E k p p' G B (qm Q) C) ∨
     (∃ a b p1 C1 Q1, (ekd E k = 16 ∨ ekd E k = 17) ∧ σ 40 0 r = (a : Nat) ∧ σ 41 0 r = (b : Nat) ∧ r < a ∧ a < b ∧ σ 39 0 a = r ∧ σ 39 0 b = r ∧ Dn E σ m b a (efa E k) p p1 ((0, sk E k, 0) :: G) B Q C1 Q1 ∧ Dn E σ m h b (sk E k) p1 p' G C1 Q1 C Q') ∨
     (∃ a kc Gc Bc Q1, σ 40 0 r = (a : Nat) ∧ σ 41 0 r = -1 ∧ r < a ∧ σ 39 0 a = r ∧ oneC E (σ 42 0 r) k p kc G B (qm Q) Gc Bc ∧ Dn E σ m h a kc p p' Gc Bc Q C Q1 ∧ Q' = Q1 ++ kpt E r k p p'))
/-- a row is under way -/
def Pt (E : Ev) (σ : Sg) (root : Nat × Nat) : Nat → Nat → Nat → Nat → List Gl → List Ch → Qw → Prop
  | 0, _, _, _, _, _, _ => False
  | m + 1, r, k, p, G, B, Q => rwE E σ r k p ∧ ((r = root.1 ∧ p = root.2 ∧ G = [] ∧ B = [] ∧ Q = []) ∨
    ∃ u ku pu Gu Bu Qu, σ 39 0 r = (u : Nat) ∧ root.1 ≤ u ∧ u < r ∧ Pt E σ root m u ku pu Gu Bu Qu ∧
      ((σ 40 0 u = r ∧ σ 41 0 u = -1 ∧ p = pu ∧ Q = Qu ∧ oneC E (σ 42 0 u) ku pu k Gu Bu (qm Qu) G B) ∨
       ((ekd E ku = 16 ∨ ekd E ku = 17) ∧ σ 40 0 u = r ∧ σ 41 0 u = -1 ∧ k = efa E ku ∧ p = pu ∧ G = (0, sk E ku, 0) :: Gu ∧ B = Bu ∧ Q = Qu) ∨
       (∃ a m', (ekd E ku = 16 ∨ ekd E ku = 17) ∧ σ 40 0 u = (a : Nat) ∧ σ 41 0 u = r ∧ k = sk E ku ∧ u < a ∧ a < r ∧ σ 39 0 a = u ∧ G = Gu ∧ Dn E σ m' r a (efa E ku) pu p ((0, sk E ku, 0) :: Gu) Bu Qu B Q)))
section
variable {E : Ev} {σ σ' : Sg} {m h r k p p' : Nat} {root : Nat × Nat} {G : List Gl} {B C : List Ch} {Q Q' : Qw}
theorem Dn.frame : ∀ {m h r k p p' G B Q C Q'}, (∀ a i, 36 ≤ a → a ≤ 42 → r ≤ i → i < h → σ' a 0 i = σ a 0 i) → Dn E σ m h r k p p' G B Q C Q' → Dn E σ' m h r k p p' G B Q C Q'
  | 0, h, r, k, p, p', G, B, Q, C, Q', _, hd => hd
  | m + 1, h, r, k, p, p', G, B, Q, C, Q', hf, ⟨⟨w1, w2, w3⟩, d1, d2, d3, d4, hd⟩ => by
    have e := fun a h1 h2 => hf a r h1 h2 (Nat.le_refl _) d4
    refine ⟨⟨by rw [e 36 (by omega) (by omega)]; exact w1, by rw [e 37 (by omega) (by omega)]; exact w2, w3⟩, by rw [e 38 (by omega) (by omega)]; exact d1, d2, d3, d4, ?_⟩
    rw [e 40 (by omega) (by omega), e 41 (by omega) (by omega), e 42 (by omega) (by omega)]
    rcases hd with hd | ⟨a, b, p1, C1, Q1, q0, q1, q2, q3, q4, q5, q6, q7, q8⟩ | ⟨a, kc, Gc, Bc, Q1, q1, q2, q3, q4, q5, q6, q7⟩
    · exact Or.inl hd
    · have hb : b < h := by
        cases m with
        | zero => cases q8
        | succ m => exact q8.2.2.2.2.1
      refine Or.inr (Or.inl ⟨a, b, p1, C1, Q1, q0, q1, q2, q3, q4, ?_, ?_, q7.frame (fun a' i h1 h2 h3 h4 => hf a' i h1 h2 (by omega) (by omega)), q8.frame (fun a' i h1 h2 h3 h4 => hf a' i h1 h2 (by omega) (by omega))⟩)
      · rw [hf 39 a (by omega) (by omega) (by omega) (by omega)]; exact q5
      · rw [hf 39 b (by omega) (by omega) (by omega) (by omega)]; exact q6
    · have ha : a < h := by
        cases m with
        | zero => cases q6
        | succ m => exact q6.2.2.2.2.1
      refine Or.inr (Or.inr ⟨a, kc, Gc, Bc, Q1, q1, q2, q3, ?_, q5, q6.frame (fun a' i h1 h2 h3 h4 => hf a' i h1 h2 (by omega) (by omega)), q7⟩)
      rw [hf 39 a (by omega) (by omega) (by omega) (by omega)]; exact q4
theorem Dn.lt (h1 : Dn E σ m h r k p p' G B Q C Q') : r < h := by
  cases m with
  | zero => cases h1
  | succ m => exact h1.2.2.2.2.1
theorem Dn.rw (h1 : Dn E σ m h r k p p' G B Q C Q') : rwE E σ r k p ∧ σ 38 0 r = p' ∧ p ≤ p' ∧ p' ≤ (esb E).length := by
  cases m with
  | zero => cases h1
  | succ m => exact ⟨h1.1, h1.2.1, h1.2.2.1, h1.2.2.2.1⟩
theorem Dn.mono : ∀ {m m' h h' r k p p' G B Q C Q'}, m ≤ m' → h ≤ h' → Dn E σ m h r k p p' G B Q C Q' → Dn E σ m' h' r k p p' G B Q C Q'
  | 0, m', h, h', r, k, p, p', G, B, Q, C, Q', _, _, hd => by cases hd
  | m + 1, 0, h, h', r, k, p, p', G, B, Q, C, Q', hm, _, hd => by omega
  | m + 1, m' + 1, h, h', r, k, p, p', G, B, Q, C, Q', hm, hh, ⟨w, d1, d2, d3, d4, hd⟩ => by
    refine ⟨w, d1, d2, d3, by omega, ?_⟩
    rcases hd with hd | ⟨a, b, p1, C1, Q1, q0, q1, q2, q3, q4, q5, q6, q7, q8⟩ | ⟨a, kc, Gc, Bc, Q1, q1, q2, q3, q4, q5, q6, q7⟩
    · exact Or.inl hd
    · exact Or.inr (Or.inl ⟨a, b, p1, C1, Q1, q0, q1, q2, q3, q4, q5, q6, q7.mono (by omega) (Nat.le_refl _), q8.mono (by omega) hh⟩)
    · exact Or.inr (Or.inr ⟨a, kc, Gc, Bc, Q1, q1, q2, q3, q4, q5, q6.mono (by omega) hh, q7⟩)
theorem Dn.q : ∀ {m h r k p p' G B Q C Q'}, Dn E σ m h r k p p' G B Q C Q' → ∃ L, Q' = Q ++ L ∧ ∀ x ∈ L, r ≤ x.1 ∧ x.1 < h
  | 0, h, r, k, p, p', G, B, Q, C, Q', hd => by cases hd
  | m + 1, h, r, k, p, p', G, B, Q, C, Q', ⟨w, d1, d2, d3, d4, hd⟩ => by
    rcases hd with hd | ⟨a, b, p1, C1, Q1, q0, q1, q2, q3, q4, q5, q6, q7, q8⟩ | ⟨a, kc, Gc, Bc, Q1, q1, q2, q3, q4, q5, q6, q7⟩
    · exact ⟨[], by rw [hd.2.2.1]; simp, fun x hx => by cases hx⟩
    · obtain ⟨L1, rfl, h1⟩ := q7.q
      obtain ⟨L2, rfl, h2⟩ := q8.q
      have hb := q8.lt
      refine ⟨L1 ++ L2, by rw [List.append_assoc], fun x hx => ?_⟩
      rcases List.mem_append.mp hx with hx | hx
      · have := h1 x hx
        omega
      · have := h2 x hx
        omega
    · obtain ⟨L1, rfl, h1⟩ := q6.q
      refine ⟨L1 ++ kpt E r k p p', by rw [q7, List.append_assoc], fun x hx => ?_⟩
      rcases List.mem_append.mp hx with hx | hx
      · have := h1 x hx
        omega
      · unfold kpt at hx
        split at hx
        · rw [List.mem_singleton] at hx
          subst hx
          exact ⟨Nat.le_refl _, d4⟩
        · cases hx
theorem Pt.frame : ∀ {m r k p G B Q}, (∀ a i, 36 ≤ a → a ≤ 42 → i < r → σ' a 0 i = σ a 0 i) → σ' 36 0 r = σ 36 0 r → σ' 37 0 r = σ 37 0 r → σ' 39 0 r = σ 39 0 r → Pt E σ root m r k p G B Q → Pt E σ' root m r k p G B Q
  | 0, r, k, p, G, B, Q, _, _, _, _, hd => hd
  | m + 1, r, k, p, G, B, Q, hf, f1, f2, f3, ⟨⟨w1, w2, w3⟩, hd⟩ => by
    refine ⟨⟨by rw [f1]; exact w1, by rw [f2]; exact w2, w3⟩, ?_⟩
    rcases hd with hd | ⟨u, ku, pu, Gu, Bu, Qu, u1, u2, u3, u4, hd⟩
    · exact Or.inl hd
    · have e := fun a h1 h2 => hf a u h1 h2 u3
      refine Or.inr ⟨u, ku, pu, Gu, Bu, Qu, by rw [f3]; exact u1, u2, u3, u4.frame (fun a i h1 h2 h3 => hf a i h1 h2 (by omega)) (e 36 (by omega) (by omega)) (e 37 (by omega) (by omega)) (e 39 (by omega) (by omega)), ?_⟩
      rw [e 40 (by omega) (by omega), e 41 (by omega) (by omega), e 42 (by omega) (by omega)]
      rcases hd with hd | hd | ⟨a, m', q1, q2, q3, q4, q5, q6, q7, q8, q9⟩
      · exact Or.inl hd
      · exact Or.inr (Or.inl hd)
      · exact Or.inr (Or.inr ⟨a, m', q1, q2, q3, q4, q5, q6, by rw [hf 39 a (by omega) (by omega) (by omega)]; exact q7, q8, q9.frame (fun a' i h1 h2 h3 h4 => hf a' i h1 h2 (by omega))⟩)
theorem Pt.rw (h1 : Pt E σ root m r k p G B Q) : rwE E σ r k p := by
  cases m with
  | zero => cases h1
  | succ m => exact h1.1
theorem oneC.kc {s2 : Int} {ku pu : Nat} {Gu : List Gl} {Bu : List Ch} {Qk : List Kp} (h : oneC E s2 ku pu k Gu Bu Qk G B) : kcn G ≤ kcn Gu + 1 := by
  rcases h with ⟨-, -, -, rfl, -⟩ | ⟨-, -, -, rfl, -⟩ | ⟨-, -, rfl, -⟩ | ⟨-, -, rfl, -⟩ | ⟨-, -, rfl, -⟩
  · omega
  · omega
  · simp [kcn]; omega
  · simp [kcn]
  · omega
theorem Pt.kc : ∀ {m r k p G B Q}, Pt E σ root m r k p G B Q → kcn G ≤ r
  | 0, r, k, p, G, B, Q, hd => by cases hd
  | m + 1, r, k, p, G, B, Q, ⟨w, hd⟩ => by
    rcases hd with ⟨-, -, rfl, -⟩ | ⟨u, ku, pu, Gu, Bu, Qu, u1, u2, u3, u4, hd⟩
    · simp [kcn]
    · have ih := u4.kc
      rcases hd with hd | hd | ⟨a, m', q1, q2, q3, q4, q5, q6, q7, q8, q9⟩
      · have := hd.2.2.2.2.kc
        omega
      · rw [hd.2.2.2.2.2.1]
        simp [kcn]
        omega
      · rw [q8]
        omega
theorem Pt.q : ∀ {m r k p G B Q}, Pt E σ root m r k p G B Q → ∀ x ∈ Q, x.1 < r
  | 0, r, k, p, G, B, Q, hd => by cases hd
  | m + 1, r, k, p, G, B, Q, ⟨w, hd⟩ => by
    intro x hx
    rcases hd with ⟨-, -, -, -, rfl⟩ | ⟨u, ku, pu, Gu, Bu, Qu, u1, u2, u3, u4, hd⟩
    · cases hx
    · have ih := u4.q
      rcases hd with hd | hd | ⟨a, m', q1, q2, q3, q4, q5, q6, q7, q8, q9⟩
      · rw [hd.2.2.2.1] at hx
        have := ih x hx
        omega
      · rw [hd.2.2.2.2.2.2.2] at hx
        have := ih x hx
        omega
      · obtain ⟨L, rfl, hL⟩ := q9.q
        rcases List.mem_append.mp hx with hx | hx
        · have := ih x hx
          omega
        · exact (hL x hx).2
end
/-- what stays during a try -/
def frt (σ0 σ : Sg) : Prop := ∀ a b j, ¬ (a = 28 ∨ a = 29 ∨ (36 ≤ a ∧ a ≤ 44)) → ¬ (a = 26 ∧ (j = 14 ∨ (25 ≤ j ∧ j ≤ 29))) → σ a b j = σ0 a b j
def byt (l : List Int) : Prop := ∀ x ∈ l, b8 x = x
def MB (E : Ev) (σ0 σ : Sg) (ν : Nu) (n : Nat) : Prop := frt σ0 σ ∧ EvOK E ∧ EvM E σ0 ∧ NuM ν σ ∧ σ 26 0 14 = n ∧ byt (esb E)
/-- only rows and what is at hand have changed -/
def frr (σ σ' : Sg) : Prop := ∀ a b j, ¬ (36 ≤ a ∧ a ≤ 44) → ¬ (a = 26 ∧ (j = 14 ∨ (25 ≤ j ∧ j ≤ 29))) → σ' a b j = σ a b j
section
variable {E : Ev} {σ0 σ σ' : Sg} {ν : Nu} {n n' : Nat}
theorem MB.ev (h : MB E σ0 σ ν n) : EvM E σ := by
  obtain ⟨f, -, ⟨e1, e2, e3⟩, -⟩ := h
  refine ⟨by rw [f 26 0 5 (by omega) (by omega)]; exact e1, ⟨by rw [f 26 0 16 (by omega) (by omega)]; exact e2.1, fun i hi => by rw [f 35 0 i (by omega) (by omega)]; exact e2.2 i hi⟩, fun k hk => ?_⟩
  obtain ⟨k1, k2, k3, k4, k5⟩ := e3 k hk
  exact ⟨by rw [f 30 0 k (by omega) (by omega)]; exact k1, by rw [f 31 0 k (by omega) (by omega)]; exact k2, by rw [f 32 0 k (by omega) (by omega)]; exact k3, ⟨by rw [f 34 0 k (by omega) (by omega)]; exact k4.1, fun i hi => by show σ 33 0 (64 * k + i) = _; rw [f 33 0 _ (by omega) (by omega)]; exact k4.2 i hi⟩, k5⟩
theorem MB.mv (h : MB E σ0 σ ν n) (hf : frr σ σ') (hn : σ' 26 0 14 = n') : MB E σ0 σ' ν n' := by
  obtain ⟨f, eo, e, nu, -, hb⟩ := h
  refine ⟨fun a b j h1 h2 => by rw [hf a b j (by omega) h2]; exact f a b j h1 h2, eo, e, fun v hv => ?_, hn, hb⟩
  obtain ⟨h5, h6⟩ := nu v hv
  exact ⟨⟨by rw [hf 29 0 v (by omega) (by omega)]; exact h5.1, fun i hi => by show σ' 28 0 (64 * v + i) = _; rw [hf 28 0 _ (by omega) (by omega)]; exact h5.2 i hi⟩, h6⟩
theorem MB.set {v : Nat} {l : List Int} (h : MB E σ0 σ ν n) (hv : v < 8) (hl : l.length ≤ 64) (hs : setM σ v l σ') : MB E σ0 σ' (upN ν v l) n := by
  obtain ⟨f, eo, e, nu, hn, hb⟩ := h
  refine ⟨fun a b j h1 h2 => by rw [hs.2 a b j (by omega) (by omega)]; exact f a b j h1 h2, eo, e, fun w hw => ?_, by rw [hs.2 26 0 14 (by omega) (by omega)]; exact hn, hb⟩
  by_cases hwv : w = v
  · subst hwv
    simp only [upN, if_true]
    exact ⟨hs.1, hl⟩
  · simp only [upN, if_neg hwv]
    obtain ⟨h5, h6⟩ := nu w hw
    exact ⟨⟨by rw [hs.2 29 0 w (by omega) (by omega)]; exact h5.1, fun i hi => by show σ' 28 0 (64 * w + i) = _; rw [hs.2 28 0 _ (by omega) (by omega)]; exact h5.2 i hi⟩, h6⟩
end
end
section
/-! The model: a row begins, succeeds; a variable is set -/
def bgF (σ : Sg) (n k c : Nat) (u : Int) (σ' : Sg) : Prop := σ' 36 0 n = k ∧ σ' 37 0 n = c ∧ σ' 38 0 n = c ∧ σ' 39 0 n = u ∧ σ' 40 0 n = -1 ∧ σ' 41 0 n = -1 ∧ σ' 42 0 n = 0 ∧ σ' 26 0 26 = n ∧ σ' 26 0 14 = ((n + 1 : Nat) : Int) ∧ σ' 26 0 27 = 0 ∧
  ∀ a b j, ¬ (36 ≤ a ∧ a ≤ 42 ∧ j = n) → ¬ (a = 26 ∧ (j = 14 ∨ j = 26 ∨ j = 27)) → σ' a b j = σ a b j
def scF (σ : Sg) (r : Nat) (x : Int) (σ' : Sg) : Prop := σ' 38 0 r = x ∧ σ' 26 0 27 = (if x = -1 then 3 else 2) ∧ ∀ a b j, ¬ (a = 38 ∧ b = 0 ∧ j = r) → ¬ (a = 26 ∧ b = 0 ∧ j = 27) → σ' a b j = σ a b j
def bgW (σ : Sg) (k c u z : Int) : Sg := upS (upS (upS (upS (upS (upS (upS (upS (upS (upS σ 26 0 26 (σ 26 0 14)) 26 0 14 z) 36 0 (σ 26 0 14).toNat k) 37 0 (σ 26 0 14).toNat c) 38 0 (σ 26 0 14).toNat c) 39 0 (σ 26 0 14).toNat u) 40 0 (σ 26 0 14).toNat (-1)) 41 0 (σ 26 0 14).toNat (-1)) 42 0 (σ 26 0 14).toNat 0) 26 0 27 0
theorem bgW_F {σ : Sg} {n k c : Nat} {u : Int} (hn : σ 26 0 14 = n) : bgF σ n k c u (bgW σ k c u ((n + 1 : Nat) : Int)) := by
  unfold bgW
  rw [hn, Int.toNat_natCast]
  refine ⟨?_, ?_, ?_, ?_, ?_, ?_, ?_, ?_, ?_, upS_same, fun a b j h1 h2 => ?_⟩
  · rw [upS_ne (by omega), upS_ne (by omega), upS_ne (by omega), upS_ne (by omega), upS_ne (by omega), upS_ne (by omega), upS_ne (by omega), upS_same]
  · rw [upS_ne (by omega), upS_ne (by omega), upS_ne (by omega), upS_ne (by omega), upS_ne (by omega), upS_ne (by omega), upS_same]
  · rw [upS_ne (by omega), upS_ne (by omega), upS_ne (by omega), upS_ne (by omega), upS_ne (by omega), upS_same]
  · rw [upS_ne (by omega), upS_ne (by omega), upS_ne (by omega), upS_ne (by omega), upS_same]
  · rw [upS_ne (by omega), upS_ne (by omega), upS_ne (by omega), upS_same]
  · rw [upS_ne (by omega), upS_ne (by omega), upS_same]
  · rw [upS_ne (by omega), upS_same]
  · rw [upS_ne (by omega), upS_ne (by omega), upS_ne (by omega), upS_ne (by omega), upS_ne (by omega), upS_ne (by omega), upS_ne (by omega), upS_ne (by omega), upS_ne (by omega), upS_same]
  · rw [upS_ne (by omega), upS_ne (by omega), upS_ne (by omega), upS_ne (by omega), upS_ne (by omega), upS_ne (by omega), upS_ne (by omega), upS_ne (by omega), upS_same]
  · rw [upS_ne (by omega), upS_ne (by omega), upS_ne (by omega), upS_ne (by omega), upS_ne (by omega), upS_ne (by omega), upS_ne (by omega), upS_ne (by omega), upS_ne (by omega), upS_ne (by omega)]
section
variable {SL : Nat} {xs : Nat → Int} {nx : Nat} {σ σ0 : Sg} {kn : Nat → Option Nat} {tx : Nat → Bool} {F : Option Av → St → Prop} {E : Ev} {ν : Nu} {k p n : Nat}
theorem tw_Model_begin {c : Nat} {u : Int} (hn : σ 26 0 14 = n) (hn3 : n ≤ 3000) (h0 : n = 3000 → F none (nx, upS σ 26 0 29 1, rX kn tx)) (h1 : n < 3000 → ∀ σ', bgF σ n k c u σ' → F none (nx, σ', rX kn tx)) : T_Model_begin SL xs [.inr (some (26, 0)), .inl k, .inl c, .inl u] (nx, σ, rX kn tx) F := by
  refine run 60 ?_
  refine And.intro (fun h => ?_) (fun h => ?_)
  · have h : ¬ σ 26 0 14 = 3000 := h
    rw [hn] at h
    have hlt : n < 3000 := by omega
    have K := h1 hlt _ (bgW_F (k := k) (c := c) (u := u) hn)
    have hw : wr (σ 26 0 14 + 1) = ((n + 1 : Nat) : Int) := by rw [hn, wr_eq ⟨by omega, by omega⟩]; omega
    rw [← hw] at K
    have hix : 0 ≤ σ 26 0 14 ∧ σ 26 0 14 < 3000 := by rw [hn]; omega
    refine And.intro hix ?_
    refine And.intro hix ?_
    refine And.intro hix ?_
    refine And.intro hix ?_
    refine And.intro hix ?_
    refine And.intro hix ?_
    refine And.intro hix ?_
    refine And.intro (Or.inl rfl) ?_
    exact K
  · have h : σ 26 0 14 = 3000 := Classical.not_not.mp h
    rw [hn] at h
    exact And.intro (Or.inr rfl) (h0 (by omega))
theorem tw_Model_succeeds {r : Nat} {x : Int} (hr : σ 26 0 26 = r) (hr3 : r < 3000) (hF : ∀ σ', scF σ r x σ' → F none (nx, σ', rX kn tx)) : T_Model_succeeds SL xs [.inr (some (26, 0)), .inl x] (nx, σ, rX kn tx) F := by
  have hix : 0 ≤ σ 26 0 26 ∧ σ 26 0 26 < 3000 := by rw [hr]; omega
  have ht : (σ 26 0 26).toNat = r := by rw [hr, Int.toNat_natCast]
  have K : ∀ w : Int, w = (if x = -1 then 3 else 2) → F none (nx, upS (upS σ 38 0 (σ 26 0 26).toNat x) 26 0 27 w, rX kn tx) := by
    intro w hw
    refine hF _ ⟨?_, ?_, fun a b j h1 h2 => ?_⟩
    · rw [ht, upS_ne (by omega), upS_same]
    · rw [upS_same, hw]
    · rw [ht, upS_ne h2, upS_ne h1]
  refine run 30 ?_
  refine And.intro hix ?_
  refine And.intro (fun h => ?_) (fun h => ?_)
  · have h : ¬ x = -1 := h
    exact K 2 (by rw [if_neg h])
  · have h : x = -1 := Classical.not_not.mp h
    exact K 3 (by rw [if_pos h])
/-- a part of a variable is set -/
def parM (σ : Sg) (v : Nat) (l : List Int) (i : Nat) (σ' : Sg) : Prop := σ' 29 0 v = l.length ∧ (∀ j, j < i → σ' 28 0 (64 * v + j) = l.getD j 0) ∧ ∀ a b j, ¬ (a = 29 ∧ b = 0 ∧ j = v) → ¬ (a = 28 ∧ b = 0 ∧ 64 * v ≤ j ∧ j < 64 * v + 64) → σ' a b j = σ a b j
theorem lp_Model_becomes {v r p' : Nat} (hE : EvM E σ) (hO : EvOK E) (hb : byt (esb E)) (hv : v < 8) (hr : r < 3000) (h37 : σ 37 0 r = p) (hpp : p ≤ p') (hp' : p' ≤ (esb E).length) (hF : ∀ σ', setM σ v (((esb E).drop p).take (p' - p)) σ' → F none (nx, σ', rX kn tx)) : ∀ (m i : Nat) (σ1 : Sg), i + m = p' - p → parM σ v (((esb E).drop p).take (p' - p)) i σ1 → Xz SL xs (m_Model_becomes SL xs) F (21, [some (.inr (some (26, 0))), some (.inl v), some (.inl r), some (.inl i)], [], (nx, σ1, rX kn tx), 0, 0) := by
  have hS64 := hO.1
  have hlen : (((esb E).drop p).take (p' - p)).length = p' - p := by simp; omega
  have hiv : (0 : Int) ≤ (v : Int) ∧ (v : Int) < 8 := by omega
  have hir : (0 : Int) ≤ (r : Int) ∧ (r : Int) < 3000 := by omega
  intro m
  induction m with
  | zero =>
    intro i σ1 hi hP
    obtain ⟨q1, q2, q3⟩ := hP
    rw [hlen] at q1
    refine run 30 ?_
    refine And.intro hiv ?_
    refine And.intro (fun h => hF σ1 ⟨⟨by rw [hlen]; exact q1, fun j hj => q2 j (by omega)⟩, q3⟩) (fun h => ?_)
    have h : ¬ σ1 29 0 (v : Int).toNat ≤ (i : Int) := h
    rw [Int.toNat_natCast, q1] at h
    omega
  | succ m ih =>
    intro i σ1 hi hP
    have hP' := hP
    obtain ⟨q1, q2, q3⟩ := hP
    rw [hlen] at q1
    have hw6 := w64 (k := v) (i := i) (by omega) (by omega)
    have e37 : σ1 37 0 (r : Int).toNat = p := by rw [Int.toNat_natCast, q3 37 0 r (by omega) (by omega)]; exact h37
    have hw2 : wr (σ1 37 0 (r : Int).toNat + (i : Int)) = ((p + i : Nat) : Int) := by rw [e37, wr_eq ⟨by omega, by omega⟩]; omega
    have hwi : wr ((i : Int) + 1) = ((i + 1 : Nat) : Int) := by rw [wr_eq ⟨by omega, by omega⟩]; omega
    have hsg : σ1 35 0 (wr (σ1 37 0 (r : Int).toNat + (i : Int))).toNat = (esb E).getD (p + i) 0 := by
      rw [hw2, Int.toNat_natCast, q3 35 0 _ (by omega) (by omega)]
      exact hE.2.1.2 (p + i) (by omega)
    have hgd : (((esb E).drop p).take (p' - p)).getD i 0 = (esb E).getD (p + i) 0 := by
      rw [List.getD_eq_getElem?_getD, List.getD_eq_getElem?_getD, List.getElem?_take, if_pos (by omega), List.getElem?_drop]
    have hb8 : b8 ((esb E).getD (p + i) 0) = (esb E).getD (p + i) 0 := by
      refine hb _ ?_
      rw [List.getD_eq_getElem?_getD, List.getElem?_eq_getElem (by omega)]
      exact List.getElem_mem _
    have K := ih (i + 1) (upS σ1 28 0 (64 * v + i) ((esb E).getD (p + i) 0)) (by omega) ⟨by rw [upS_ne (by omega), hlen]; exact q1, fun j hj => by
        by_cases hji : j = i
        · subst hji
          rw [upS_same, hgd]
        · rw [upS_ne (by omega)]
          exact q2 j (by omega), fun a b j h1 h2 => by rw [upS_ne (by omega)]; exact q3 a b j h1 h2⟩
    have eix : (wr (wr (64 * (v : Int)) + (i : Int))).toNat = 64 * v + i := by rw [hw6, Int.toNat_natCast]
    rw [← eix, ← hb8, ← hsg, ← hwi] at K
    refine run 30 ?_
    refine And.intro hiv ?_
    refine And.intro (fun h => ?_) (fun h => ?_)
    · have h : σ1 29 0 (v : Int).toNat ≤ (i : Int) := h
      rw [Int.toNat_natCast, q1] at h
      omega
    refine And.intro hir ?_
    refine And.intro (by show 0 ≤ wr (σ1 37 0 (r : Int).toNat + (i : Int)) ∧ wr (σ1 37 0 (r : Int).toNat + (i : Int)) < 64; rw [hw2]; omega) ?_
    refine And.intro (by show 0 ≤ wr (wr (64 * (v : Int)) + (i : Int)) ∧ wr (wr (64 * (v : Int)) + (i : Int)) < 512; rw [hw6]; omega) ?_
    exact leaf (by first | exact run 1 K | exact run 2 K | exact run 3 K)
theorem tw_Model_becomes {v r p' : Nat} (hE : EvM E σ) (hO : EvOK E) (hb : byt (esb E)) (hv : v < 8) (hr : r < 3000) (h37 : σ 37 0 r = p) (h38 : σ 38 0 r = p') (hpp : p ≤ p') (hp' : p' ≤ (esb E).length) (hF : ∀ σ', setM σ v (((esb E).drop p).take (p' - p)) σ' → F none (nx, σ', rX kn tx)) : T_Model_becomes SL xs [.inr (some (26, 0)), .inl v, .inl r] (nx, σ, rX kn tx) F := by
  have hS64 := hO.1
  have hlen : (((esb E).drop p).take (p' - p)).length = p' - p := by simp; omega
  have hiv : (0 : Int) ≤ (v : Int) ∧ (v : Int) < 8 := by omega
  have hir : (0 : Int) ≤ (r : Int) ∧ (r : Int) < 3000 := by omega
  have hw : wr (σ 38 0 (r : Int).toNat - σ 37 0 (r : Int).toNat) = ((p' - p : Nat) : Int) := by rw [Int.toNat_natCast, h38, h37, wr_eq ⟨by omega, by omega⟩]; omega
  have K := lp_Model_becomes (SL := SL) (xs := xs) hE hO hb hv hr h37 hpp hp' hF (p' - p) 0 (upS σ 29 0 (v : Int).toNat ((p' - p : Nat) : Int)) (Nat.zero_add _) ⟨by rw [Int.toNat_natCast, upS_same, hlen], fun j hj => by omega, fun a b j h1 h2 => by rw [Int.toNat_natCast, upS_ne h1]⟩
  rw [← hw] at K
  refine run 20 ?_
  refine And.intro hir ?_
  refine And.intro hir ?_
  refine And.intro hiv ?_
  exact leaf (by first | exact run 1 K | exact run 2 K | exact run 3 K)
end
end
section
/-! The model's loop against the states of matching -/
def Srt (σ : Sg) (Q : Qw) : Prop := Q.Pairwise (fun x y => σ 43 0 x.1 < σ 43 0 y.1) ∧ ∀ x ∈ Q, 1 ≤ σ 43 0 x.1 ∧ σ 43 0 x.1 ≤ σ 26 0 25
def Cm (E : Ev) (σ0 σ : Sg) (root : Nat × Nat) (ν : Nu) (n r m k p : Nat) (G : List Gl) (B : List Ch) (Q : Qw) : Prop := MB E σ0 σ ν n ∧ σ 26 0 26 = r ∧ σ 26 0 28 = 0 ∧ σ 26 0 29 = 0 ∧ r < n ∧ n ≤ 3000 ∧ Pt E σ root m r k p G B Q ∧ 0 ≤ σ 26 0 25
def Sim (E : Ev) (σ0 : Sg) (root : Nat × Nat) (M o : Nat) (y : As) (σ : Sg) : Prop := ∃ ν n r f m k p G B Q, Cm E σ0 σ root ν n r m k p G B Q ∧
  ((σ 26 0 27 = 0 ∧ r + 1 = n ∧ σ 38 0 r = p ∧ σ 40 0 r = -1 ∧ σ 41 0 r = -1 ∧ σ 42 0 r = 0 ∧ Srt σ Q ∧ σ 26 0 25 ≤ 3001 * n ∧ runA E f (BS k p G B (qm Q) ν n) = some (o, y) ∧ 20000000 * f ≤ M) ∨
   (σ 26 0 27 = 2 ∧ ∃ m' p' C Q', Dn E σ m' n r k p p' G B Q C Q' ∧ Srt σ Q' ∧ σ 26 0 25 + kcn G ≤ 3001 * n + 3000 ∧ runA E f (GS p' G C (qm Q') ν n) = some (o, y) ∧ 20000000 * f + r ≤ M) ∨
   (σ 26 0 27 = 1 ∧ ∃ m' h p' C Q', Dn E σ m' h r k p p' G B Q C Q' ∧ h ≤ n ∧ Srt σ Q' ∧ σ 26 0 25 ≤ 3001 * n ∧ runA E f (KS C ν n) = some (o, y) ∧ 20000000 * f + 4000 * h + 3000 ≤ M + r) ∨
   (σ 26 0 27 = 3 ∧ Srt σ Q ∧ σ 26 0 25 ≤ 3001 * n ∧ runA E f (KS B ν n) = some (o, y) ∧ 20000000 * f + 4000 * r + 3999 ≤ M))
def Aft (E : Ev) (σ0 : Sg) (root : Nat × Nat) (M o : Nat) (y : As) (σ : Sg) : Prop := Sim E σ0 root M o y σ ∨ (o = 2 ∧ σ 26 0 28 = 1 ∧ MB E σ0 σ (yν y) (yn y)) ∨ (o = 3 ∧ σ 26 0 28 = 0 ∧ σ 26 0 29 = 1 ∧ MB E σ0 σ (yν y) (yn y))
section
variable {SL : Nat} {xs : Nat → Int} {nx : Nat} {σ σ0 σ' σ1 : Sg} {kn : Nat → Option Nat} {tx : Nat → Bool} {F : Option Av → St → Prop} {E : Ev} {ν : Nu} {k p n r m f o M h p' : Nat} {root : Nat × Nat} {G : List Gl} {B C : List Ch} {Q Q' : Qw} {y : As}
theorem Srt.frame (h : Srt σ Q) (h1 : ∀ x ∈ Q, σ' 43 0 x.1 = σ 43 0 x.1) (h2 : σ 26 0 25 ≤ σ' 26 0 25) : Srt σ' Q := by
  refine ⟨?_, fun x hx => by rw [h1 x hx]; have := h.2 x hx; omega⟩
  exact List.Pairwise.imp_of_mem (fun {a b} ha hb hab => by rw [h1 a ha, h1 b hb]; exact hab) h.1
theorem Srt.pre {L : Qw} (h : Srt σ (Q ++ L)) : Srt σ Q := ⟨(List.pairwise_append.mp h.1).1, fun x hx => h.2 x (List.mem_append.mpr (Or.inl hx))⟩
theorem scF.frr {x : Int} (h : scF σ r x σ') : frr σ σ' := fun a b j h1 h2 => h.2.2 a b j (by omega) (by omega)
theorem Cm.sc {x : Int} (hC : Cm E σ0 σ root ν n r m k p G B Q) (hs : scF σ r x σ') : Cm E σ0 σ' root ν n r m k p G B Q := by
  obtain ⟨c1, c2, c3, c4, c5, c6, c7, c8⟩ := hC
  have e := hs.2.2
  refine ⟨c1.mv hs.frr (by rw [e 26 0 14 (by omega) (by omega)]; exact c1.2.2.2.2.1), by rw [e 26 0 26 (by omega) (by omega)]; exact c2, by rw [e 26 0 28 (by omega) (by omega)]; exact c3, by rw [e 26 0 29 (by omega) (by omega)]; exact c4, c5, c6, c7.frame (fun a i h1 h2 h3 => e a 0 i (by omega) (by omega)) (e 36 0 r (by omega) (by omega)) (e 37 0 r (by omega) (by omega)) (e 39 0 r (by omega) (by omega)), by rw [e 26 0 25 (by omega) (by omega)]; exact c8⟩
theorem Srt.sc {x : Int} (h : Srt σ Q) (hs : scF σ r x σ') : Srt σ' Q := h.frame (fun x _ => hs.2.2 43 0 x.1 (by omega) (by omega)) (by rw [hs.2.2 26 0 25 (by omega) (by omega)]; exact Int.le_refl _)
/-- a row without others within succeeds -/
theorem sim2 (hC : Cm E σ0 σ root ν n r m k p G B Q) (h40 : σ 40 0 r = -1) (h41 : σ 41 0 r = -1) (hs : scF σ r (p' : Int) σ') (hl : lfC E k p p' G B (qm Q) C) (hp : p ≤ p') (hp' : p' ≤ (esb E).length) (hq : Srt σ Q) (hc : σ 26 0 25 ≤ 3001 * n) (hrun : runA E f (GS p' G C (qm Q) ν n) = some (o, y)) (hM : 20000000 * f + r ≤ M) : Sim E σ0 root M o y σ' := by
  have e := hs.2.2
  have hC' := hC.sc hs
  have hk := hC'.2.2.2.2.2.2.1.kc
  refine ⟨ν, n, r, f, m, k, p, G, B, Q, hC', Or.inr (Or.inl ⟨by rw [hs.2.1, if_neg (by omega)], 1, p', C, Q, ⟨hC'.2.2.2.2.2.2.1.rw, hs.1, hp, hp', hC.2.2.2.2.1, Or.inl ⟨by rw [e 40 0 r (by omega) (by omega)]; exact h40, by rw [e 41 0 r (by omega) (by omega)]; exact h41, rfl, hl⟩⟩, hq.sc hs, ?_, hrun, hM⟩)⟩
  rw [e 26 0 25 (by omega) (by omega)]
  have := hC.2.2.2.2.1
  have := hC.2.2.2.2.2.1
  omega
/-- a row fails -/
theorem sim3 (hC : Cm E σ0 σ root ν n r m k p G B Q) (hs : scF σ r (-1) σ') (hq : Srt σ Q) (hc : σ 26 0 25 ≤ 3001 * n) (hrun : runA E f (KS B ν n) = some (o, y)) (hM : 20000000 * f + 4000 * r + 3999 ≤ M) : Sim E σ0 root M o y σ' := by
  refine ⟨ν, n, r, f, m, k, p, G, B, Q, hC.sc hs, Or.inr (Or.inr (Or.inr ⟨by rw [hs.2.1, if_pos rfl], hq.sc hs, by rw [hs.2.2 26 0 25 (by omega) (by omega)]; exact hc, hrun, hM⟩))⟩
/-- a row begins within another -/
theorem simB {u ku pu kc pc mu : Nat} {Gu Gc : List Gl} {Bu Bc : List Ch} {Qu Qc : Qw} (hB : MB E σ0 σ ν n) (hn : n < 3000) (hP : Pt E σ root mu u ku pu Gu Bu Qu) (hu : u < n) (hru : root.1 ≤ u) (h28 : σ 26 0 28 = 0) (h29 : σ 26 0 29 = 0) (h25 : 0 ≤ σ 26 0 25) (hb : bgF σ n kc pc (u : Int) σ1) (hrow : ∀ a b j, ¬ (40 ≤ a ∧ a ≤ 42 ∧ b = 0 ∧ j = u) → σ' a b j = σ1 a b j) (hkc : kc < ect E) (hpc : pc ≤ (esb E).length)
    (hl : (σ' 40 0 u = n ∧ σ' 41 0 u = -1 ∧ pc = pu ∧ Qc = Qu ∧ oneC E (σ' 42 0 u) ku pu kc Gu Bu (qm Qu) Gc Bc) ∨
       ((ekd E ku = 16 ∨ ekd E ku = 17) ∧ σ' 40 0 u = n ∧ σ' 41 0 u = -1 ∧ kc = efa E ku ∧ pc = pu ∧ Gc = (0, sk E ku, 0) :: Gu ∧ Bc = Bu ∧ Qc = Qu) ∨
       (∃ a m', (ekd E ku = 16 ∨ ekd E ku = 17) ∧ σ' 40 0 u = (a : Nat) ∧ σ' 41 0 u = n ∧ kc = sk E ku ∧ u < a ∧ a < n ∧ σ 39 0 a = u ∧ Gc = Gu ∧ Dn E σ m' n a (efa E ku) pu pc ((0, sk E ku, 0) :: Gu) Bu Qu Bc Qc))
    (hq : Srt σ Qc) (hc : σ 26 0 25 ≤ 3001 * n + 3000) (hrun : runA E f (BS kc pc Gc Bc (qm Qc) ν (n + 1)) = some (o, y)) (hM : 20000000 * f ≤ M) (hqn : ∀ x ∈ Qc, x.1 < n) : Sim E σ0 root M o y σ' := by
  obtain ⟨b1, b2, b3, b4, b5, b6, b7, b8', b9, b10, b11⟩ := hb
  have fr0 : frr σ σ' := fun a b j h1 h2 => by rw [hrow a b j (by omega), b11 a b j (by omega) (by omega)]
  have fld : ∀ a i, 36 ≤ a → a ≤ 42 → i < n → ¬ i = u → σ' a 0 i = σ a 0 i := fun a i h1 h2 h3 h4 => by rw [hrow a 0 i (by omega), b11 a 0 i (by omega) (by omega)]
  have fldu : ∀ a, 36 ≤ a → a ≤ 39 → σ' a 0 u = σ a 0 u := fun a h1 h2 => by rw [hrow a 0 u (by omega), b11 a 0 u (by omega) (by omega)]
  have e25 : σ' 26 0 25 = σ 26 0 25 := by rw [hrow 26 0 25 (by omega), b11 26 0 25 (by omega) (by omega)]
  have e43 : ∀ j, σ' 43 0 j = σ 43 0 j := fun j => by rw [hrow 43 0 j (by omega), b11 43 0 j (by omega) (by omega)]
  have hPu : Pt E σ' root mu u ku pu Gu Bu Qu := hP.frame (fun a i h1 h2 h3 => fld a i h1 h2 (by omega) (by omega)) (fldu 36 (by omega) (by omega)) (fldu 37 (by omega) (by omega)) (fldu 39 (by omega) (by omega))
  have hPn : Pt E σ' root (mu + 1) n kc pc Gc Bc Qc := by
    refine ⟨⟨by rw [hrow 36 0 n (by omega)]; exact b1, by rw [hrow 37 0 n (by omega)]; exact b2, hkc, hpc⟩, Or.inr ⟨u, ku, pu, Gu, Bu, Qu, by rw [hrow 39 0 n (by omega)]; exact b4, hru, hu, hPu, ?_⟩⟩
    rcases hl with hl | hl | ⟨a, m', q1, q2, q3, q4, q5, q6, q7, q8, q9⟩
    · exact Or.inl hl
    · exact Or.inr (Or.inl hl)
    · exact Or.inr (Or.inr ⟨a, m', q1, q2, q3, q4, q5, q6, by rw [fld 39 a (by omega) (by omega) q6 (by omega)]; exact q7, q8, q9.frame (fun a' i h1 h2 h3 h4 => fld a' i h1 h2 h4 (by omega))⟩)
  refine ⟨ν, n + 1, n, f, mu + 1, kc, pc, Gc, Bc, Qc, ⟨hB.mv fr0 (by rw [hrow 26 0 14 (by omega)]; exact b9), by rw [hrow 26 0 26 (by omega)]; exact b8', by rw [hrow 26 0 28 (by omega), b11 26 0 28 (by omega) (by omega)]; exact h28, by rw [hrow 26 0 29 (by omega), b11 26 0 29 (by omega) (by omega)]; exact h29, by omega, by omega, hPn, by rw [e25]; exact h25⟩, Or.inl ⟨by rw [hrow 26 0 27 (by omega)]; exact b10, rfl, by rw [hrow 38 0 n (by omega)]; exact b3, by rw [hrow 40 0 n (by omega)]; exact b5, by rw [hrow 41 0 n (by omega)]; exact b6, by rw [hrow 42 0 n (by omega)]; exact b7, hq.frame (fun x hx => e43 x.1) (by rw [e25]; exact Int.le_refl _), by rw [e25]; omega, hrun, hM⟩⟩
theorem runG0 {z : Nat} {g : List Gl} {c : List Ch} {q : List Kp} (hrun : runA E f (GS p ((0, k, z) :: g) c q ν n) = some (o, y)) : (n = 3000 ∧ o = 3 ∧ y = KS c ν n) ∨ (¬ n = 3000 ∧ ∃ f', f = f' + 1 ∧ runA E f' (BS k p g c q ν (n + 1)) = some (o, y)) := by
  obtain ⟨f, rfl, hrun⟩ := runG hrun
  have hrun : (match (if n = 3000 then Sum.inr (3, KS c ν n) else Sum.inl (BS k p g c q ν (n + 1)) : As ⊕ (Nat × As)) with | .inl z => runA E f z | .inr z => some z) = some (o, y) := hrun
  by_cases hn : n = 3000
  · rw [if_pos hn] at hrun
    cases hrun
    exact Or.inl ⟨hn, rfl, rfl⟩
  · rw [if_neg hn] at hrun
    exact Or.inr ⟨hn, f, rfl, hrun⟩
theorem call_begin {c : Nat} {u : Int} (hn : σ 26 0 14 = n) (hn3 : n ≤ 3000) : vT 7 (T_Model_begin SL xs) [.inr (some (26, 0)), .inl k, .inl c, .inl u] (nx, σ, rX kn tx) (fun v s' => v = none ∧ ∃ σ', s' = (nx, σ', rX kn tx) ∧ ((n = 3000 ∧ σ' = upS σ 26 0 29 1) ∨ (n < 3000 ∧ bgF σ n k c u σ'))) :=
  tw_Model_begin hn hn3 (fun h => ⟨rfl, _, rfl, Or.inl ⟨h, rfl⟩⟩) (fun h σ' hb => ⟨rfl, σ', rfl, Or.inr ⟨h, hb⟩⟩)
theorem call_succeeds {x : Int} (hr : σ 26 0 26 = r) (hr3 : r < 3000) : vT 7 (T_Model_succeeds SL xs) [.inr (some (26, 0)), .inl x] (nx, σ, rX kn tx) (fun v s' => v = none ∧ ∃ σ', s' = (nx, σ', rX kn tx) ∧ scF σ r x σ') :=
  tw_Model_succeeds hr hr3 (fun σ' hb => ⟨rfl, σ', rfl, hb⟩)
/-- all is over -/
theorem aftO {c : List Ch} {q : List Kp} {z pp kk a : Nat} {g : List Gl} {x : Int} (hB : MB E σ0 σ ν n) (h28 : σ 26 0 28 = 0) (hn : n = 3000) (hrun : runA E f (GS pp ((0, kk, z) :: g) c q ν n) = some (o, y)) (ha : 36 ≤ a ∧ a ≤ 43) {u : Nat} : Aft E σ0 root M o y (upS (upS σ 26 0 29 1) a 0 u x) := by
  rcases runG0 hrun with ⟨-, rfl, rfl⟩ | ⟨h, -⟩
  · refine Or.inr (Or.inr ⟨rfl, by rw [upS_ne (by omega), upS_ne (by omega)]; exact h28, by rw [upS_ne (by omega), upS_same], hB.mv (fun a' b' j' h1 h2 => by rw [upS_ne (by omega), upS_ne (by omega)]) (by rw [upS_ne (by omega), upS_ne (by omega)]; exact hB.2.2.2.2.1)⟩)
  · exact absurd hn h
end
end
section
/-! The model: the row at hand begins -/
section
variable {SL : Nat} {xs : Nat → Int} {nx : Nat} {σ σ0 σ' σ1 : Sg} {kn : Nat → Option Nat} {tx : Nat → Bool} {F : Option Av → St → Prop} {E : Ev} {ν : Nu} {k p n r m f o M h p' : Nat} {root : Nat × Nat} {G : List Gl} {B C : List Ch} {Q Q' : Qw} {y : As}
theorem Pt.ge : Pt E σ root m r k p G B Q → root.1 ≤ r := by
  intro h
  cases m with
  | zero => cases h
  | succ m =>
    rcases h.2 with h | ⟨u, ku, pu, Gu, Bu, Qu, u1, u2, u3, u4⟩
    · omega
    · omega
def bnL : List (Int × Nat) := [(15, 80), (16, 88), (17, 96), (18, 96), (19, 96), (20, 96), (21, 167), (22, 167), (23, 121)]
abbrev bnX (SL : Nat) (xs : Nat → Int) (F : Option Av → St → Prop) (pc : Nat) (k p r : Int) (s : St) : Prop := Xz SL xs (m_Model_begins SL xs) F (pc, [some (.inr (some (26, 0))), some (.inl k), some (.inl p), some (.inl r)], [], s, 0, 0)
theorem bn_sw {t : Nat} (hC : Cm E σ0 σ root ν n r m k p G B Q) (ht : (lkI bnL (ekd E k : Nat)).getD 167 = t) (K : bnX SL xs F t k p r (nx, σ, rX kn tx)) : T_Model_begins SL xs [.inr (some (26, 0))] (nx, σ, rX kn tx) F := by
  obtain ⟨hB, hr, -, -, hrn, hn3, hP, -⟩ := hC
  obtain ⟨w1, w2, w3, w4⟩ := hP.rw
  have hk64 : k < 64 := by have := hB.2.1.2.1; omega
  obtain ⟨k1, -⟩ := hB.ev.2.2 k w3
  have hix : 0 ≤ σ 26 0 26 ∧ σ 26 0 26 < 3000 := by rw [hr]; omega
  have e1 : σ 36 0 (σ 26 0 26).toNat = k := by rw [hr, Int.toNat_natCast]; exact w1
  have e2 : σ 37 0 (σ 26 0 26).toNat = p := by rw [hr, Int.toNat_natCast]; exact w2
  have e3 : σ 30 0 (σ 36 0 (σ 26 0 26).toNat).toNat = (ekd E k : Nat) := by rw [e1, Int.toNat_natCast]; exact k1
  rw [← e1, ← e2, ← hr] at K
  refine run 20 ?_
  refine And.intro hix ?_
  refine And.intro hix ?_
  refine And.intro (by show 0 ≤ σ 36 0 (σ 26 0 26).toNat ∧ σ 36 0 (σ 26 0 26).toNat < 64; rw [e1]; omega) ?_
  cases hl : lkI bnL (ekd E k : Nat) with
  | some t' =>
    rw [hl] at ht
    have ht : t' = t := ht
    subst ht
    refine swt_in (t := t') (show lkI _ (σ 30 0 (σ 36 0 (σ 26 0 26).toNat).toNat) = some t' by rw [e3]; exact hl) ?_
    exact leaf K
  | none =>
    rw [hl] at ht
    have ht : 167 = t := ht
    subst ht
    refine swt_out (show lkI _ (σ 30 0 (σ 36 0 (σ 26 0 26).toNat).toNat) = none by rw [e3]; exact hl) ?_
    exact leaf K
theorem bn_167 {Y : Option Av → St → Prop} (hr3 : r < 3000) (hT : T_Model_plain SL xs [.inr (some (26, 0)), .inl k, .inl p] (nx, σ, rX kn tx) Y) (hY : ∀ v s', Y v s' → ∃ x σ1, v = some (.inl x) ∧ s' = (nx, σ1, rX kn tx) ∧ σ1 26 0 26 = r ∧ ∀ σ', scF σ1 r x σ' → F none (nx, σ', rX kn tx)) : bnX SL xs F 167 k p r (nx, σ, rX kn tx) := by
  refine run 10 ?_
  refine call_any (Y := Y) hT ?_
  intro v s' hv
  obtain ⟨x, σ1, rfl, rfl, hr, hF⟩ := hY v s' hv
  refine call_any (call_succeeds hr hr3) ?_
  intro v s' hv
  obtain ⟨rfl, σ', rfl, hs⟩ := hv
  exact hF σ' hs
/-- a row within begins, at the end of 'begins' -/
theorem bn_96 {Gc : List Gl} {Bc : List Ch} (hC : Cm E σ0 σ root ν n r m k p G B Q) (h41 : σ 41 0 r = -1) (h42 : σ 42 0 r = 0) (hq : Srt σ Q) (hc : σ 26 0 25 ≤ 3001 * n) (hae : efa E k < ect E)
    (hl : oneC E 0 k p (efa E k) G B (qm Q) Gc Bc ∨ (ekd E k = 17 ∧ Gc = (0, sk E k, 0) :: G ∧ Bc = B))
    (hrun : runA E f (GS p ((0, efa E k, 0) :: Gc) Bc (qm Q) ν n) = some (o, y)) (hM : 20000000 * f ≤ M) (hF : ∀ M' σ', M' < M → Aft E σ0 root M' o y σ' → F none (nx, σ', rX kn tx)) {pc : Nat} (hpc : pc = 96 ∨ pc = 134) : bnX SL xs F pc k p r (nx, σ, rX kn tx) := by
  obtain ⟨hB, hr, h28, h29, hrn, hn3, hP, h25⟩ := hC
  obtain ⟨w1, w2, w3, w4⟩ := hP.rw
  have hk64 : k < 64 := by have := hB.2.1.2.1; omega
  obtain ⟨k1, k2, -⟩ := hB.ev.2.2 k w3
  have hix : (0 : Int) ≤ (k : Int) ∧ (k : Int) < 64 := by omega
  have hir : (0 : Int) ≤ (r : Int) ∧ (r : Int) < 3000 := by omega
  have hcall : vT 7 (T_Model_begin SL xs) [.inr (some (26, 0)), .inl (σ 31 0 (k : Int).toNat), .inl p, .inl r] (nx, σ, rX kn tx) (fun v s' => v = none ∧ ∃ σ', s' = (nx, σ', rX kn tx) ∧ ((n = 3000 ∧ σ' = upS σ 26 0 29 1) ∨ (n < 3000 ∧ bgF σ n (efa E k) p r σ'))) := by
    rw [Int.toNat_natCast, k2]
    exact call_begin hB.2.2.2.2.1 hn3
  have fin : ∀ σ1, ((n = 3000 ∧ σ1 = upS σ 26 0 29 1) ∨ (n < 3000 ∧ bgF σ n (efa E k) p r σ1)) → F none (nx, upS σ1 40 0 (r : Int).toNat (σ1 26 0 26), rX kn tx) := by
    intro σ1 h1
    rw [Int.toNat_natCast]
    have hf : ∃ f', f = f' + 1 := by
      obtain ⟨f', rfl, -⟩ := runG hrun
      exact ⟨f', rfl⟩
    rcases h1 with ⟨hn, rfl⟩ | ⟨hn, hb⟩
    · refine hF 0 _ (by omega) (aftO hB h28 hn hrun (by omega))
    · rcases runG0 hrun with ⟨hn', -⟩ | ⟨-, f', rfl, hrun'⟩
      · omega
      have hqn := hP.q
      have ne := hb.2.2.2.2.2.2.2.2.2.2
      refine hF (20000000 * f') _ (by omega) (Or.inl (simB (σ' := upS σ1 40 0 r (σ1 26 0 26)) hB hn hP hrn hP.ge h28 h29 h25 hb (fun a b j hj => by rw [upS_ne (by omega)]) hae w4 ?_ hq (by omega) hrun' (Nat.le_refl _) (fun x hx => by have := hqn x hx; omega)))
      have e40 : upS σ1 40 0 r (σ1 26 0 26) 40 0 r = n := by rw [upS_same]; exact hb.2.2.2.2.2.2.2.1
      have e41 : upS σ1 40 0 r (σ1 26 0 26) 41 0 r = -1 := by rw [upS_ne (by omega), ne 41 0 r (by omega) (by omega)]; exact h41
      have e42 : upS σ1 40 0 r (σ1 26 0 26) 42 0 r = 0 := by rw [upS_ne (by omega), ne 42 0 r (by omega) (by omega)]; exact h42
      rcases hl with hl | ⟨h1, h2, h3⟩
      · exact Or.inl ⟨e40, e41, rfl, rfl, by rw [e42]; exact hl⟩
      · exact Or.inr (Or.inl ⟨Or.inr h1, e40, e41, rfl, rfl, h2, h3, rfl⟩)
  rcases hpc with rfl | rfl
  · refine run 20 ?_
    refine And.intro hix ?_
    refine call_any hcall ?_
    intro v s' hv
    obtain ⟨rfl, σ1, rfl, h1⟩ := hv
    refine And.intro hir ?_
    exact fin σ1 h1
  · refine run 20 ?_
    refine And.intro hix ?_
    refine call_any hcall ?_
    intro v s' hv
    obtain ⟨rfl, σ1, rfl, h1⟩ := hv
    refine And.intro hir ?_
    exact fin σ1 h1
theorem tw_Model_begins (hC : Cm E σ0 σ root ν n r m k p G B Q) (h40 : σ 40 0 r = -1) (h41 : σ 41 0 r = -1) (h42 : σ 42 0 r = 0) (hq : Srt σ Q) (hc : σ 26 0 25 ≤ 3001 * n) (hrun : runA E f (BS k p G B (qm Q) ν n) = some (o, y)) (hM : 20000000 * f ≤ M) (hF : ∀ M' σ', M' < M → Aft E σ0 root M' o y σ' → F none (nx, σ', rX kn tx)) : T_Model_begins SL xs [.inr (some (26, 0))] (nx, σ, rX kn tx) F := by
  have hC' := hC
  obtain ⟨hB, hr, h28, h29, hrn, hn3, hP, h25⟩ := hC
  obtain ⟨w1, w2, w3, w4⟩ := hP.rw
  have hE := hB.ev
  have hO := hB.2.1
  have hN := hB.2.2.2.1
  have hr3 : r < 3000 := by omega
  have ok := hO.2.2 k w3
  have sw := fun t ht K => bn_sw (SL := SL) (xs := xs) (nx := nx) (F := F) (kn := kn) (tx := tx) (t := t) hC' ht K
  have hi : σ 26 0 26 = (r : Int) := hr
  obtain ⟨f, rfl, -⟩ := runB hrun
  have hf3 : ∀ σ', scF σ r (-1) σ' → runA E f (KS B ν n) = some (o, y) → F none (nx, σ', rX kn tx) := fun σ' hs hr => hF (20000000 * f + 4000 * r + 3999) σ' (by omega) (Or.inl (sim3 hC' hs hq hc hr (Nat.le_refl _)))
  have hf2 : ∀ σ' (p' : Nat) (C : List Ch), scF σ r (p' : Int) σ' → lfC E k p p' G B (qm Q) C → p ≤ p' → p' ≤ (esb E).length → runA E f (GS p' G C (qm Q) ν n) = some (o, y) → F none (nx, σ', rX kn tx) := fun σ' p' C hs hl h1 h2 hr => hF (20000000 * f + r) σ' (by omega) (Or.inl (sim2 hC' h40 h41 hs hl h1 h2 hq hc hr (Nat.le_refl _)))
  generalize hd : ekd E k = kd at sw ok
  by_cases hpl : kd ≤ 10 ∨ kd = 22
  · have hrun := aft_B hd hpl hrun
    refine sw 167 ?_ (bn_167 (Y := fun v s' => v = some (.inl (enc (plA E ν k p))) ∧ s' = (nx, σ, rX kn tx)) hr3 (tw_Model_plain hE hO hN w3 w4 (by rw [hd]; exact hpl) ⟨rfl, rfl⟩) ?_)
    · have hcase : kd = 0 ∨ kd = 1 ∨ kd = 2 ∨ kd = 3 ∨ kd = 4 ∨ kd = 5 ∨ kd = 6 ∨ kd = 7 ∨ kd = 8 ∨ kd = 9 ∨ kd = 10 ∨ kd = 22 := by omega
      rcases hcase with rfl | rfl | rfl | rfl | rfl | rfl | rfl | rfl | rfl | rfl | rfl | rfl <;> rfl
    · intro v s' hv
      obtain ⟨rfl, rfl⟩ := hv
      refine ⟨_, σ, rfl, rfl, hi, fun σ' hs => ?_⟩
      cases hpa : plA E ν k p with
      | none =>
        rw [hpa] at hrun hs
        exact hf3 σ' hs hrun
      | some p' =>
        have hb := plA_bd w4 hpa
        rw [hpa] at hrun hs
        exact hf2 σ' p' B hs (Or.inr (Or.inr (Or.inr (Or.inr ⟨by omega, rfl⟩)))) hb.1 hb.2 hrun
  have hcase : kd = 11 ∨ kd = 12 ∨ kd = 13 ∨ kd = 14 ∨ kd = 15 ∨ kd = 16 ∨ kd = 17 ∨ kd = 18 ∨ kd = 19 ∨ kd = 20 ∨ kd = 21 ∨ kd = 23 := by omega
  rw [runA_B] at hrun
  rcases hcase with rfl | rfl | rfl | rfl | rfl | rfl | rfl | rfl | rfl | rfl | rfl | rfl
  · simp only [stepB, hd] at hrun
    refine sw 167 rfl (bn_167 (Y := fun v s' => v = some (.inl (p : Int)) ∧ s' = (nx, σ, rX kn tx)) hr3 (tw_Model_plain11 hE hO hN w3 w4 (Or.inl hd) ⟨rfl, rfl⟩) ?_)
    intro v s' hv
    obtain ⟨rfl, rfl⟩ := hv
    exact ⟨_, σ, rfl, rfl, hi, fun σ' hs => hf2 σ' p _ hs (Or.inl ⟨hd, rfl⟩) (Nat.le_refl _) w4 hrun⟩
  · simp only [stepB, hd] at hrun
    refine sw 167 rfl (bn_167 (Y := fun v s' => v = some (.inl (enc (balN (esb E) p))) ∧ s' = (nx, σ, rX kn tx)) hr3 (tw_Model_plain12 hE hO hN w3 w4 hd ⟨rfl, rfl⟩) ?_)
    intro v s' hv
    obtain ⟨rfl, rfl⟩ := hv
    refine ⟨_, σ, rfl, rfl, hi, fun σ' hs => ?_⟩
    cases hpa : balN (esb E) p with
    | none =>
      rw [hpa] at hrun hs
      exact hf3 σ' hs hrun
    | some p' =>
      have hb := balN_bd w4 hpa
      rw [hpa] at hrun hs
      exact hf2 σ' p' _ hs (Or.inr (Or.inl ⟨hd, bfx.refl.next hpa w4, rfl⟩)) (by omega) hb.2 hrun
  · simp only [stepB, plA, hd] at hrun
    refine sw 167 rfl (bn_167 (Y := fun v s' => v = some (.inl (-1)) ∧ s' = (nx, σ, rX kn tx)) hr3 (tw_Model_plain13 hE hO hN w3 w4 hd ⟨rfl, rfl⟩) ?_)
    intro v s' hv
    obtain ⟨rfl, rfl⟩ := hv
    exact ⟨_, σ, rfl, rfl, hi, fun σ' hs => hf3 σ' hs hrun⟩
  · simp only [stepB, hd] at hrun
    refine sw 167 rfl (bn_167 (Y := fun v s' => v = some (.inl (p : Int)) ∧ s' = (nx, σ, rX kn tx)) hr3 (tw_Model_plain11 hE hO hN w3 w4 (Or.inr hd) ⟨rfl, rfl⟩) ?_)
    intro v s' hv
    obtain ⟨rfl, rfl⟩ := hv
    exact ⟨_, σ, rfl, rfl, hi, fun σ' hs => hf2 σ' p _ hs (Or.inr (Or.inr (Or.inl ⟨hd, rfl⟩))) (Nat.le_refl _) w4 hrun⟩
  · simp only [stepB, hd] at hrun
    cases hrun
    refine sw 80 rfl (run 10 ?_)
    exact And.intro (Or.inr rfl) (hF 0 (upS σ 26 0 28 1) (by omega) (Or.inr (Or.inl ⟨rfl, upS_same, hB.mv (fun a b j h1 h2 => by rw [upS_ne (by omega)]) (by rw [upS_ne (by omega)]; exact hB.2.2.2.2.1)⟩)))
  · simp only [stepB, hd] at hrun
    refine sw 88 rfl (run 10 ?_)
    refine call_any (call_succeeds hr hr3) ?_
    intro v s' hv
    obtain ⟨rfl, σ', rfl, hs⟩ := hv
    exact hf2 σ' p _ hs (Or.inr (Or.inr (Or.inr (Or.inl ⟨hd, rfl⟩)))) (Nat.le_refl _) w4 hrun
  · simp only [stepB, hd] at hrun
    refine sw 96 rfl (bn_96 (M := 20000000 * f + 1) hC' h41 h42 hq hc (ok.2.2.1 (by omega)) (Or.inr ⟨hd, by simp [sk, hd], rfl⟩) hrun (by omega) (fun M' σ' h1 h2 => hF M' σ' (by omega) h2) (Or.inl rfl))
  · simp only [stepB, hd] at hrun
    refine sw 96 rfl (bn_96 (M := 20000000 * f + 1) hC' h41 h42 hq hc (ok.2.2.1 (by omega)) (Or.inl (Or.inl ⟨hd, rfl, rfl, rfl, rfl⟩)) hrun (by omega) (fun M' σ' h1 h2 => hF M' σ' (by omega) h2) (Or.inl rfl))
  · simp only [stepB, hd] at hrun
    refine sw 96 rfl (bn_96 (M := 20000000 * f + 1) hC' h41 h42 hq hc (ok.2.2.1 (by omega)) (Or.inl (Or.inr (Or.inr (Or.inl ⟨hd, rfl, rfl, rfl⟩)))) hrun (by omega) (fun M' σ' h1 h2 => hF M' σ' (by omega) h2) (Or.inl rfl))
  · simp only [stepB, hd] at hrun
    refine sw 96 rfl (bn_96 (M := 20000000 * f + 1) hC' h41 h42 hq hc (ok.2.2.1 (by omega)) (Or.inl (Or.inr (Or.inr (Or.inr (Or.inl ⟨hd, rfl, rfl, rfl⟩))))) hrun (by omega) (fun M' σ' h1 h2 => hF M' σ' (by omega) h2) (Or.inl rfl))
  · simp only [stepB, hd] at hrun
    have hae : efa E k < 8 := ok.2.2.2.2.2 (Or.inl rfl)
    have hd64 : (dig p).length ≤ 64 := by unfold dig; split <;> simp
    refine sw 167 rfl (bn_167 (Y := fun v s' => v = some (.inl (p : Int)) ∧ ∃ σ1, s' = (nx, σ1, rX kn tx) ∧ setM σ (efa E k) (dig p) σ1) hr3 (tw_Model_plain21 hE hO hN w3 w4 hd (fun σ1 h => ⟨rfl, σ1, rfl, h⟩)) ?_)
    intro v s' hv
    obtain ⟨rfl, σ1, rfl, hset⟩ := hv
    have e := hset.2
    have hC1 : Cm E σ0 σ1 root (upN ν (efa E k) (dig p)) n r m k p G B Q := ⟨hB.set hae hd64 hset, by rw [e 26 0 26 (by omega) (by omega)]; exact hr, by rw [e 26 0 28 (by omega) (by omega)]; exact h28, by rw [e 26 0 29 (by omega) (by omega)]; exact h29, hrn, hn3, hP.frame (fun a i h1 h2 h3 => e a 0 i (by omega) (by omega)) (e 36 0 r (by omega) (by omega)) (e 37 0 r (by omega) (by omega)) (e 39 0 r (by omega) (by omega)), by rw [e 26 0 25 (by omega) (by omega)]; exact h25⟩
    refine ⟨_, σ1, rfl, rfl, hC1.2.1, fun σ' hs => hF (20000000 * f + r) σ' (by omega) (Or.inl (sim2 hC1 (by rw [e 40 0 r (by omega) (by omega)]; exact h40) (by rw [e 41 0 r (by omega) (by omega)]; exact h41) hs (Or.inr (Or.inr (Or.inr (Or.inr ⟨Or.inr (Or.inl hd), rfl⟩)))) (Nat.le_refl _) w4 (hq.frame (fun x _ => e 43 0 x.1 (by omega) (by omega)) (by rw [e 26 0 25 (by omega) (by omega)]; exact Int.le_refl _)) (by rw [e 26 0 25 (by omega) (by omega)]; exact hc) hrun (Nat.le_refl _)))⟩
  · simp only [stepB, hd] at hrun
    have hk64 : k < 64 := by have := hO.2.1; omega
    obtain ⟨k1, k2, -⟩ := hE.2.2 k w3
    have e31 : σ 31 0 (k : Int).toNat = (efa E k : Nat) := by rw [Int.toNat_natCast]; exact k2
    refine sw 121 rfl (run 7 ?_)
    refine And.intro ⟨show (0 : Int) ≤ (k : Int) by omega, show (k : Int) < 64 by omega⟩ ?_
    refine call_eq (fun F hF => tw_Model_isNode (x := σ 31 0 (k : Int).toNat) hF) ?_
    refine And.intro (fun h => ?_) (fun h => ?_)
    · have h : (if 0 ≤ σ 31 0 (k : Int).toNat ∧ σ 31 0 (k : Int).toNat < σ 26 0 5 then (1 : Int) else 0) = 0 := h
      have h := ite0.mp h
      rw [e31, hE.1] at h
      rw [if_neg (by omega)] at hrun
      have K : bnX SL xs F 159 k p r (nx, σ, rX kn tx) := by
        refine run 10 ?_
        refine call_any (call_succeeds hr hr3) ?_
        intro v s' hv
        obtain ⟨rfl, σ', rfl, hs⟩ := hv
        exact hf3 σ' hs hrun
      exact leaf K
    · have h : ¬ (if 0 ≤ σ 31 0 (k : Int).toNat ∧ σ 31 0 (k : Int).toNat < σ 26 0 5 then (1 : Int) else 0) = 0 := h
      have h := Classical.not_not.mp (fun z => h (ite0.mpr z))
      rw [e31, hE.1] at h
      rw [if_pos (by omega)] at hrun
      have K := bn_96 (SL := SL) (xs := xs) (nx := nx) (kn := kn) (tx := tx) (F := F) (pc := 134) (M := 20000000 * f + 1) hC' h41 h42 hq hc (by omega) (Or.inl (Or.inr (Or.inr (Or.inr (Or.inr ⟨hd, rfl, rfl, rfl⟩))))) hrun (by omega) (fun M' σ' h1 h2 => hF M' σ' (by omega) h2) (Or.inr rfl)
      exact leaf K
end
end
section
/-! The model: the row at hand is gone back into -/
section
variable {SL : Nat} {xs : Nat → Int} {nx : Nat} {σ σ0 σ' σ1 : Sg} {kn : Nat → Option Nat} {tx : Nat → Bool} {F : Option Av → St → Prop} {E : Ev} {ν : Nu} {k p n r m f o M h p' : Nat} {root : Nat × Nat} {G : List Gl} {B C : List Ch} {Q Q' : Qw} {y : As}
def gbL : List (Int × Nat) := [(11, 88), (12, 126), (13, 242), (14, 155), (15, 242), (16, 163), (17, 216), (18, 229), (19, 229), (20, 229), (21, 242), (22, 242), (23, 229)]
abbrev gbX (SL : Nat) (xs : Nat → Int) (F : Option Av → St → Prop) (pc : Nat) (k r : Int) (s : St) : Prop := Xz SL xs (m_Model_goesBack SL xs) F (pc, [some (.inr (some (26, 0))), some (.inl k), some (.inl r)], [], s, 0, 0)
theorem gb_sw {t : Nat} (hC : Cm E σ0 σ root ν n r m k p G B Q) (ht : (lkI gbL (ekd E k : Nat)).getD 242 = t) (K : gbX SL xs F t k r (nx, σ, rX kn tx)) : T_Model_goesBack SL xs [.inr (some (26, 0))] (nx, σ, rX kn tx) F := by
  obtain ⟨hB, hr, -, -, hrn, hn3, hP, -⟩ := hC
  obtain ⟨w1, w2, w3, w4⟩ := hP.rw
  have hk64 : k < 64 := by have := hB.2.1.2.1; omega
  obtain ⟨k1, -⟩ := hB.ev.2.2 k w3
  have hix : 0 ≤ σ 26 0 26 ∧ σ 26 0 26 < 3000 := by rw [hr]; omega
  have e1 : σ 36 0 (σ 26 0 26).toNat = k := by rw [hr, Int.toNat_natCast]; exact w1
  have e3 : σ 30 0 (σ 36 0 (σ 26 0 26).toNat).toNat = (ekd E k : Nat) := by rw [e1, Int.toNat_natCast]; exact k1
  rw [← e1, ← hr] at K
  refine run 14 ?_
  refine And.intro hix ?_
  refine And.intro (by show 0 ≤ σ 36 0 (σ 26 0 26).toNat ∧ σ 36 0 (σ 26 0 26).toNat < 64; rw [e1]; omega) ?_
  cases hl : lkI gbL (ekd E k : Nat) with
  | some t' =>
    rw [hl] at ht
    have ht : t' = t := ht
    subst ht
    refine swt_in (t := t') (show lkI _ (σ 30 0 (σ 36 0 (σ 26 0 26).toNat).toNat) = some t' by rw [e3]; exact hl) ?_
    exact leaf K
  | none =>
    rw [hl] at ht
    have ht : 242 = t := ht
    subst ht
    refine swt_out (show lkI _ (σ 30 0 (σ 36 0 (σ 26 0 26).toNat).toNat) = none by rw [e3]; exact hl) ?_
    exact leaf K
/-- on to a row within -/
theorem simD {b mb kb pb : Nat} {Gb : List Gl} {Bb Cb : List Ch} {Qb Qb' : Qw} {m' : Nat} (hC : Cm E σ0 σ root ν n r m k p G B Q) (h27 : σ 26 0 27 = 1) (hb : r < b) (hP : Pt E σ root mb b kb pb Gb Bb Qb) (hD : Dn E σ m' h b kb pb p' Gb Bb Qb Cb Qb') (hh : h ≤ n) (hq : Srt σ Qb') (hc : σ 26 0 25 ≤ 3001 * n) (hrun : runA E f (KS Cb ν n) = some (o, y)) (hM : 20000000 * f + 4000 * h + 3000 ≤ M + r) : Sim E σ0 root (M + r - b) o y (upS σ 26 0 26 (b : Int)) := by
  obtain ⟨c1, c2, c3, c4, c5, c6, c7, c8⟩ := hC
  have hbh := hD.lt
  refine ⟨ν, n, b, f, mb, kb, pb, Gb, Bb, Qb, ⟨c1.mv (fun a b j h1 h2 => by rw [upS_ne (by omega)]) (by rw [upS_ne (by omega)]; exact c1.2.2.2.2.1), upS_same, by rw [upS_ne (by omega)]; exact c3, by rw [upS_ne (by omega)]; exact c4, by omega, c6, hP.frame (fun a i h1 h2 h3 => upS_ne (by omega)) (upS_ne (by omega)) (upS_ne (by omega)) (upS_ne (by omega)), by rw [upS_ne (by omega)]; exact c8⟩, Or.inr (Or.inr (Or.inl ⟨by rw [upS_ne (by omega)]; exact h27, m', h, p', Cb, Qb', hD.frame (fun a i h1 h2 h3 h4 => upS_ne (by omega)), hh, hq.frame (fun x _ => upS_ne (by omega)) (by rw [upS_ne (by omega)]; exact Int.le_refl _), by rw [upS_ne (by omega)]; exact hc, hrun, by omega⟩))⟩
theorem tw_Model_goesBack {m' : Nat} (hC : Cm E σ0 σ root ν n r m k p G B Q) (h27 : σ 26 0 27 = 1) (hD : Dn E σ m' h r k p p' G B Q C Q') (hh : h ≤ n) (hq : Srt σ Q') (hc : σ 26 0 25 ≤ 3001 * n) (hrun : runA E f (KS C ν n) = some (o, y)) (hM : 20000000 * f + 4000 * h + 3000 ≤ M + r) (hF : ∀ M' σ', M' < M → Aft E σ0 root M' o y σ' → F none (nx, σ', rX kn tx)) : T_Model_goesBack SL xs [.inr (some (26, 0))] (nx, σ, rX kn tx) F := by
  have hC' := hC
  obtain ⟨hB, hr, h28, h29, hrn, hn3, hP, h25⟩ := hC
  have hE := hB.ev
  have hO := hB.2.1
  have hr3 : r < 3000 := by omega
  have sw := fun t ht K => gb_sw (SL := SL) (xs := xs) (nx := nx) (F := F) (kn := kn) (tx := tx) (t := t) hC' ht K
  have hir : (0 : Int) ≤ (r : Int) ∧ (r : Int) < 3000 := by omega
  have hix : 0 ≤ σ 26 0 26 ∧ σ 26 0 26 < 3000 := by rw [hr]; omega
  have hri : (σ 26 0 26).toNat = r := by rw [hr, Int.toNat_natCast]
  cases m' with
  | zero => cases hD
  | succ m' =>
  obtain ⟨⟨w1, w2, w3, w4⟩, d1, d2, d3, d4, hD⟩ := hD
  have ok := hO.2.2 k w3
  have hk64 : k < 64 := by have := hO.2.1; omega
  have hS64 := hO.1
  have hn16 : σ 26 0 16 = (esb E).length := hE.2.1.1
  rcases hD with ⟨h40, h41, hQe, hl⟩ | ⟨a, b, p1, C1, Q1, q0, q1, q2, q3, q4, q5, q6, q7, q8⟩ | ⟨a, kc, Gc, Bc, Q1, q1, q2, q3, q4, q5, q6, q7⟩
  · rw [hQe] at hq
    have hf3 : ∀ σ', scF σ r (-1) σ' → runA E f (KS B ν n) = some (o, y) → F none (nx, σ', rX kn tx) := fun σ' hs hr => hF (20000000 * f + 4000 * r + 3999) σ' (by omega) (Or.inl (sim3 hC' hs hq hc hr (Nat.le_refl _)))
    rcases hl with ⟨hd, rfl⟩ | ⟨hd, hbf, rfl⟩ | ⟨hd, rfl⟩ | ⟨hd, rfl⟩ | ⟨hd, rfl⟩
    · refine sw 88 (by rw [hd]; rfl) (run 30 ?_)
      refine And.intro hix ?_
      refine And.intro (fun h => ?_) (fun h => ?_)
      · have h : σ 26 0 16 ≤ σ 38 0 (σ 26 0 26).toNat := h
        rw [hn16, hri, d1] at h
        rw [if_neg (by omega)] at hrun
        refine call_any (call_succeeds hr hr3) ?_
        intro v s' hv
        obtain ⟨rfl, σ', rfl, hs⟩ := hv
        exact hf3 σ' hs hrun
      · have h : ¬ σ 26 0 16 ≤ σ 38 0 (σ 26 0 26).toNat := h
        rw [hn16, hri, d1] at h
        rw [if_pos (by omega)] at hrun
        obtain ⟨f, rfl, hrun⟩ := runK hrun
        have hrun : runA E f (GS (p' + 1) G (if p' + 1 < (esb E).length then (1, p' + 1, G, qm Q) :: B else B) (qm Q) ν n) = some (o, y) := hrun
        refine And.intro hix ?_
        refine call_any (call_succeeds hr hr3) ?_
        intro v s' hv
        obtain ⟨rfl, σ', rfl, hs⟩ := hv
        have hw : wr (σ 38 0 (σ 26 0 26).toNat + 1) = ((p' + 1 : Nat) : Int) := by rw [hri, d1, wr_eq ⟨by omega, by omega⟩]; omega
        have hs : scF σ r (wr (σ 38 0 (σ 26 0 26).toNat + 1)) σ' := hs
        rw [hw] at hs
        exact hF (20000000 * f + r) σ' (by omega) (Or.inl (sim2 hC' h40 h41 hs (Or.inl ⟨hd, rfl⟩) (by omega) (by omega) hq hc hrun (Nat.le_refl _)))
    · obtain ⟨f, rfl, hrun⟩ := runK hrun
      have hrun : (match (match balN (esb E) p' with | some p2 => Sum.inl (GS p2 G ((2, p2, G, qm Q) :: B) (qm Q) ν n) | none => Sum.inl (KS B ν n) : As ⊕ (Nat × As)) with | .inl z => runA E f z | .inr z => some z) = some (o, y) := hrun
      refine sw 126 (by rw [hd]; rfl) (run 30 ?_)
      refine And.intro hix ?_
      refine And.intro hix ?_
      refine call_any (Y := fun v s' => v = some (.inl (enc (balN (esb E) p'))) ∧ s' = (nx, σ, rX kn tx)) ?_ ?_
      · show vT 7 (T_Model_balanced SL xs) [.inr (some (26, 0)), .inl (σ 37 0 (σ 26 0 26).toNat), .inl (σ 38 0 (σ 26 0 26).toNat)] (nx, σ, rX kn tx) _
        rw [hri, d1, w2]
        refine tw_Model_balanced hE.2.1 hS64 w4 ?_
        rw [hbf.val]
        exact ⟨rfl, rfl⟩
      · intro v s' hv
        obtain ⟨rfl, rfl⟩ := hv
        refine call_any (call_succeeds hr hr3) ?_
        intro v s' hv
        obtain ⟨rfl, σ', rfl, hs⟩ := hv
        cases hpa : balN (esb E) p' with
        | none =>
          rw [hpa] at hrun hs
          exact hF (20000000 * f + 4000 * r + 3999) σ' (by omega) (Or.inl (sim3 hC' hs hq hc hrun (Nat.le_refl _)))
        | some p2 =>
          have hb := balN_bd d3 hpa
          rw [hpa] at hrun hs
          exact hF (20000000 * f + r) σ' (by omega) (Or.inl (sim2 hC' h40 h41 hs (Or.inr (Or.inl ⟨hd, hbf.next hpa d3, rfl⟩)) (by omega) hb.2 hq hc hrun (Nat.le_refl _)))
    · obtain ⟨f, rfl, hrun⟩ := runK hrun
      cases hrun
      refine sw 155 (by rw [hd]; rfl) (run 10 ?_)
      exact And.intro (Or.inr rfl) (hF 0 (upS σ 26 0 28 1) (by omega) (Or.inr (Or.inl ⟨rfl, upS_same, hB.mv (fun a b j h1 h2 => by rw [upS_ne (by omega)]) (by rw [upS_ne (by omega)]; exact hB.2.2.2.2.1)⟩)))
    · obtain ⟨f, rfl, hrun⟩ := runK hrun
      have hrun : runA E f (GS p ((0, efa E k, 0) :: (0, k, 0) :: G) B (qm Q) ν n) = some (o, y) := hrun
      obtain ⟨k1, k2, -⟩ := hE.2.2 k w3
      have hik : (0 : Int) ≤ (k : Int) ∧ (k : Int) < 64 := by omega
      refine sw 163 (by rw [hd]; rfl) (run 30 ?_)
      refine And.intro hir ?_
      refine And.intro (fun h => absurd (show σ 40 0 (r : Int).toNat = -1 by rw [Int.toNat_natCast]; exact h40) h) (fun h => ?_)
      refine And.intro hik ?_
      refine And.intro hir ?_
      refine call_any (Y := fun v s' => v = none ∧ ∃ σ', s' = (nx, σ', rX kn tx) ∧ ((n = 3000 ∧ σ' = upS σ 26 0 29 1) ∨ (n < 3000 ∧ bgF σ n (efa E k) p r σ'))) ?_ ?_
      · show vT 7 (T_Model_begin SL xs) [.inr (some (26, 0)), .inl (σ 31 0 (k : Int).toNat), .inl (σ 37 0 (r : Int).toNat), .inl (r : Int)] (nx, σ, rX kn tx) _
        rw [Int.toNat_natCast, Int.toNat_natCast, k2, w2]
        exact call_begin hB.2.2.2.2.1 hn3
      · intro v s' hv
        obtain ⟨rfl, σ1, rfl, h1⟩ := hv
        refine And.intro hir ?_
        show F none (nx, upS σ1 40 0 (r : Int).toNat (σ1 26 0 26), rX kn tx)
        rw [Int.toNat_natCast]
        rcases h1 with ⟨hn, rfl⟩ | ⟨hn, hb⟩
        · exact hF 0 _ (by omega) (aftO hB h28 hn hrun (by omega))
        · rcases runG0 hrun with ⟨hn', -⟩ | ⟨-, f', rfl, hrun'⟩
          · omega
          have hqn := hP.q
          have ne := hb.2.2.2.2.2.2.2.2.2.2
          refine hF (20000000 * f') _ (by omega) (Or.inl (simB (σ' := upS σ1 40 0 r (σ1 26 0 26)) hB hn hP hrn hP.ge h28 h29 h25 hb (fun a b j hj => by rw [upS_ne (by omega)]) (ok.2.2.1 (by omega)) w4 (Or.inr (Or.inl ⟨Or.inl hd, ?_, ?_, rfl, rfl, by simp [sk, hd], rfl, rfl⟩)) hq (by omega) hrun' (Nat.le_refl _) (fun x hx => by have := hqn x hx; omega)))
          · rw [upS_same]; exact hb.2.2.2.2.2.2.2.1
          · rw [upS_ne (by omega), ne 41 0 r (by omega) (by omega)]; exact h41
    · have ht : (lkI gbL (ekd E k : Nat)).getD 242 = 242 := by
        generalize ekd E k = kd at hd
        have hcase : kd = 0 ∨ kd = 1 ∨ kd = 2 ∨ kd = 3 ∨ kd = 4 ∨ kd = 5 ∨ kd = 6 ∨ kd = 7 ∨ kd = 8 ∨ kd = 9 ∨ kd = 10 ∨ kd = 21 ∨ kd = 22 := by omega
        rcases hcase with rfl | rfl | rfl | rfl | rfl | rfl | rfl | rfl | rfl | rfl | rfl | rfl | rfl <;> rfl
      refine sw 242 ht (run 10 ?_)
      refine call_any (call_succeeds hr hr3) ?_
      intro v s' hv
      obtain ⟨rfl, σ', rfl, hs⟩ := hv
      exact hf3 σ' hs hrun
  · have hPb : Pt E σ root (m + 1) b (sk E k) p1 G C1 Q1 := ⟨q8.rw.1, Or.inr ⟨r, k, p, G, B, Q, q6, hP.ge, by omega, hP, Or.inr (Or.inr ⟨a, m', q0, q1, q2, rfl, q3, q4, q5, rfl, q7⟩)⟩⟩
    have hbn := q8.lt
    have K := hF (M + r - b) _ (by omega) (Or.inl (simD hC' h27 (by omega) hPb q8 hh hq hc hrun hM))
    rw [← q2, show r = (r : Int).toNat by rw [Int.toNat_natCast]] at K
    rcases q0 with hd | hd
    · refine sw 163 (by rw [hd]; rfl) (run 30 ?_)
      refine And.intro hir ?_
      refine And.intro (fun h => ?_) (fun h => ?_)
      · refine And.intro hir ?_
        exact K
      · have h : σ 40 0 (r : Int).toNat = -1 := Classical.not_not.mp h
        rw [Int.toNat_natCast, q1] at h
        omega
    · refine sw 216 (by rw [hd]; rfl) (run 30 ?_)
      refine And.intro hir ?_
      exact K
  · have hPa : Pt E σ root (m + 1) a kc p Gc Bc Q := ⟨q6.rw.1, Or.inr ⟨r, k, p, G, B, Q, q4, hP.ge, by omega, hP, Or.inl ⟨q1, q2, rfl, rfl, q5⟩⟩⟩
    have han := q6.lt
    rw [q7] at hq
    have K := hF (M + r - a) _ (by omega) (Or.inl (simD hC' h27 (by omega) hPa q6 hh hq.pre hc hrun hM))
    rw [← q1, show r = (r : Int).toNat by rw [Int.toNat_natCast]] at K
    have hd : ekd E k = 18 ∨ ekd E k = 19 ∨ ekd E k = 20 ∨ ekd E k = 23 := by
      rcases q5 with ⟨h, -⟩ | ⟨h, -⟩ | ⟨h, -⟩ | ⟨h, -⟩ | ⟨h, -⟩
      · exact Or.inl h
      · exact Or.inl h
      · exact Or.inr (Or.inl h)
      · exact Or.inr (Or.inr (Or.inl h))
      · exact Or.inr (Or.inr (Or.inr h))
    have ht : (lkI gbL (ekd E k : Nat)).getD 242 = 229 := by
      rcases hd with h | h | h | h <;> rw [h] <;> rfl
    refine sw 229 ht (run 30 ?_)
    refine And.intro hir ?_
    exact K
end
end
section
/-! The model: a row within the one at hand has succeeded, has failed -/
/-- how a row hangs on the one from which it was begun -/
def Lk (E : Ev) (σ : Sg) (u ku pu : Nat) (Gu : List Gl) (Bu : List Ch) (Qu : Qw) (r k p : Nat) (G : List Gl) (B : List Ch) (Q : Qw) : Prop :=
  (σ 40 0 u = r ∧ σ 41 0 u = -1 ∧ p = pu ∧ Q = Qu ∧ oneC E (σ 42 0 u) ku pu k Gu Bu (qm Qu) G B) ∨
  ((ekd E ku = 16 ∨ ekd E ku = 17) ∧ σ 40 0 u = r ∧ σ 41 0 u = -1 ∧ k = efa E ku ∧ p = pu ∧ G = (0, sk E ku, 0) :: Gu ∧ B = Bu ∧ Q = Qu) ∨
  (∃ a m', (ekd E ku = 16 ∨ ekd E ku = 17) ∧ σ 40 0 u = (a : Nat) ∧ σ 41 0 u = r ∧ k = sk E ku ∧ u < a ∧ a < r ∧ σ 39 0 a = u ∧ G = Gu ∧ Dn E σ m' r a (efa E ku) pu p ((0, sk E ku, 0) :: Gu) Bu Qu B Q)
section
variable {SL : Nat} {xs : Nat → Int} {nx : Nat} {σ σ0 σ' σ1 : Sg} {kn : Nat → Option Nat} {tx : Nat → Bool} {F : Option Av → St → Prop} {E : Ev} {ν : Nu} {k p n r m f o M h p' u ku pu mu : Nat} {root : Nat × Nat} {G Gu : List Gl} {B Bu C : List Ch} {Q Q' Qu : Qw} {y : As}
theorem oneC.kd {s2 : Int} (h : oneC E s2 ku pu k Gu Bu (qm Qu) G B) : ekd E ku = 18 ∨ ekd E ku = 19 ∨ ekd E ku = 20 ∨ ekd E ku = 23 := by
  rcases h with ⟨h, -⟩ | ⟨h, -⟩ | ⟨h, -⟩ | ⟨h, -⟩ | ⟨h, -⟩
  · exact Or.inl h
  · exact Or.inl h
  · exact Or.inr (Or.inl h)
  · exact Or.inr (Or.inr (Or.inl h))
  · exact Or.inr (Or.inr (Or.inr h))
theorem dnU {m' : Nat} (hC : Cm E σ0 σ root ν n u mu ku pu Gu Bu Qu) (hl : Lk E σ u ku pu Gu Bu Qu r k p G B Q) (hnb : ¬ ((ekd E ku = 16 ∨ ekd E ku = 17) ∧ σ 40 0 u = r)) (hur : u < r) (h39 : σ 39 0 r = u) (hD : Dn E σ m' n r k p p' G B Q C Q') (hs : scF σ u (p' : Int) σ1) : ∃ m2, Dn E σ1 m2 n u ku pu p' Gu Bu Qu C (Q' ++ kpt E u ku pu p') := by
  have e := hs.2.2
  have hrd := hD.rw
  have hrn := hD.lt
  have w := (hC.sc hs).2.2.2.2.2.2.1.rw
  have fr := fun {m h r' k p p' G B Q C Q'} (hu : u < r') (hD : Dn E σ m h r' k p p' G B Q C Q') => hD.frame (σ' := σ1) (fun a i h1 h2 h3 h4 => e a 0 i (by omega) (by omega))
  rcases hl with ⟨l1, l2, rfl, rfl, l3⟩ | ⟨l0, l1, -⟩ | ⟨a, m2, l0, l1, l2, rfl, l3, l4, l5, rfl, l6⟩
  · refine ⟨m' + 1, w, hs.1, hrd.2.2.1, hrd.2.2.2, by omega, Or.inr (Or.inr ⟨r, k, G, B, Q', ?_, ?_, hur, ?_, ?_, fr hur hD, rfl⟩)⟩
    · rw [e 40 0 u (by omega) (by omega)]; exact l1
    · rw [e 41 0 u (by omega) (by omega)]; exact l2
    · rw [e 39 0 r (by omega) (by omega)]; exact h39
    · rw [e 42 0 u (by omega) (by omega)]; exact l3
  · exact absurd ⟨l0, l1⟩ hnb
  · have hra := l6.rw
    have hk : kpt E u ku pu p' = [] := by
      unfold kpt
      rw [if_neg (by omega)]
    rw [hk, List.append_nil]
    refine ⟨m' + m2 + 1, w, hs.1, by omega, hrd.2.2.2, by omega, Or.inr (Or.inl ⟨a, r, p, B, Q, l0, ?_, ?_, l3, l4, ?_, ?_, (fr l3 l6).mono (by omega) (Nat.le_refl _), (fr hur hD).mono (by omega) (Nat.le_refl _)⟩)⟩
    · rw [e 40 0 u (by omega) (by omega)]; exact l1
    · rw [e 41 0 u (by omega) (by omega)]; exact l2
    · rw [e 39 0 a (by omega) (by omega)]; exact l5
    · rw [e 39 0 r (by omega) (by omega)]; exact h39
theorem tw_Model_hasSucceeded {m' : Nat} (hC : Cm E σ0 σ root ν n u mu ku pu Gu Bu Qu) (hl : Lk E σ u ku pu Gu Bu Qu r k p G B Q) (hur : u < r) (h39 : σ 39 0 r = u) (hD : Dn E σ m' n r k p p' G B Q C Q') (hq : Srt σ Q') (hc : σ 26 0 25 + kcn G ≤ 3001 * n + 3000) (hrun : runA E f (GS p' G C (qm Q') ν n) = some (o, y)) (hM : 20000000 * f + r ≤ M) (hF : ∀ M' σ', M' < M → Aft E σ0 root M' o y σ' → F none (nx, σ', rX kn tx)) : T_Model_hasSucceeded SL xs [.inr (some (26, 0)), .inl r] (nx, σ, rX kn tx) F := by
  have hC' := hC
  obtain ⟨hB, hr, h28, h29, hun, hn3, hP, h25⟩ := hC
  obtain ⟨w1, w2, w3, w4⟩ := hP.rw
  have hE := hB.ev
  have hO := hB.2.1
  have hrn := hD.lt
  obtain ⟨-, d38, dpp, dpl⟩ := hD.rw
  have ok := hO.2.2 ku w3
  have hk64 : ku < 64 := by have := hO.2.1; omega
  obtain ⟨k1, k2, k3, -⟩ := hE.2.2 ku w3
  have hix : 0 ≤ σ 26 0 26 ∧ σ 26 0 26 < 3000 := by rw [hr]; omega
  have hri : (σ 26 0 26).toNat = u := by rw [hr, Int.toNat_natCast]
  have e1 : σ 36 0 (σ 26 0 26).toNat = ku := by rw [hri]; exact w1
  have e3 : σ 30 0 (σ 36 0 (σ 26 0 26).toNat).toNat = (ekd E ku : Nat) := by rw [e1, Int.toNat_natCast]; exact k1
  have hik : 0 ≤ σ 36 0 (σ 26 0 26).toNat ∧ σ 36 0 (σ 26 0 26).toNat < 64 := by rw [e1]; omega
  have hirr : (0 : Int) ≤ (r : Int) ∧ (r : Int) < 3000 := by omega
  have hiu : (0 : Int) ≤ (u : Int) ∧ (u : Int) < 3000 := by omega
  have hiku : (0 : Int) ≤ (ku : Int) ∧ (ku : Int) < 64 := by omega
  -- straight on: succeeds
  have K83 : ¬ ((ekd E ku = 16 ∨ ekd E ku = 17) ∧ σ 40 0 u = r) → Xz SL xs (m_Model_hasSucceeded SL xs) F (83, [some (.inr (some (26, 0))), some (.inl r), some (.inl (u : Int)), some (.inl (ku : Int)), some (.inl ((ekd E ku : Nat) : Int))], [], (nx, σ, rX kn tx), 0, 0) := by
    intro hnb
    refine run 12 ?_
    refine And.intro hirr ?_
    refine call_any (Y := fun v s' => v = none ∧ ∃ σ', s' = (nx, σ', rX kn tx) ∧ scF σ u (p' : Int) σ') ?_ ?_
    · show vT 7 (T_Model_succeeds SL xs) [.inr (some (26, 0)), .inl (σ 38 0 (r : Int).toNat)] (nx, σ, rX kn tx) _
      rw [Int.toNat_natCast, d38]
      exact call_succeeds hr (by omega)
    intro v s' hv
    obtain ⟨rfl, σ1, rfl, hs⟩ := hv
    have e := hs.2.2
    obtain ⟨m2, hD1⟩ := dnU hC' hl hnb hur h39 hD hs
    have hC1 := hC'.sc hs
    have hq1 := hq.sc hs
    have e25 : σ1 26 0 25 = σ 26 0 25 := e 26 0 25 (by omega) (by omega)
    have hm2 : σ1 26 0 27 = 2 := by rw [hs.2.1, if_neg (by omega)]
    have hsimp : ¬ ekd E ku = 19 → G = Gu → Aft E σ0 root (20000000 * f + u) o y σ1 := by
      intro h19 hG
      have hk : kpt E u ku pu p' = [] := by
        unfold kpt
        rw [if_neg h19]
      rw [hk, List.append_nil] at hD1
      rw [hG] at hrun hc
      exact Or.inl ⟨ν, n, u, f, mu, ku, pu, Gu, Bu, Qu, hC1, Or.inr (Or.inl ⟨hm2, m2, p', C, Q', hD1, hq1, by rw [e25]; exact hc, hrun, Nat.le_refl _⟩)⟩
    have hlt : 20000000 * f + u < M := by omega
    -- which kinds
    have hkind : (¬ ekd E ku = 19 ∧ ¬ ekd E ku = 20 ∧ G = Gu) ∨ (ekd E ku = 19 ∧ G = (1, efb E ku, pu) :: Gu ∧ Q = Qu ∧ p = pu) ∨ (ekd E ku = 20 ∧ G = (2, efb E ku, pu) :: Gu ∧ Q = Qu ∧ p = pu) := by
      rcases hl with ⟨l1, l2, lp, lq, l3⟩ | ⟨l0, l1, -⟩ | ⟨a, m2, l0, l1, l2, l7, l3, l4, l5, l8, l6⟩
      · rcases l3 with ⟨h, -, -, h1, -⟩ | ⟨h, -, -, h1, -⟩ | ⟨h, -, h1, -⟩ | ⟨h, -, h1, -⟩ | ⟨h, -, h1, -⟩
        · exact Or.inl ⟨by omega, by omega, h1⟩
        · exact Or.inl ⟨by omega, by omega, h1⟩
        · exact Or.inr (Or.inl ⟨h, h1, lq, lp⟩)
        · exact Or.inr (Or.inr ⟨h, h1, lq, lp⟩)
        · exact Or.inl ⟨by omega, by omega, h1⟩
      · exact absurd ⟨l0, l1⟩ hnb
      · exact Or.inl ⟨by omega, by omega, l8⟩
    rcases hkind with ⟨h19, h20, hG⟩ | ⟨h19, hG, hQ, hpe⟩ | ⟨h20, hG, hQ, hpe⟩
    · refine And.intro (fun h => ?_) (fun h => absurd (show ((ekd E ku : Nat) : Int) = 19 from Classical.not_not.mp h) (by omega))
      have K : Xz SL xs (m_Model_hasSucceeded SL xs) F (120, [some (.inr (some (26, 0))), some (.inl r), some (.inl (u : Int)), some (.inl (ku : Int)), some (.inl ((ekd E ku : Nat) : Int))], [], (nx, σ1, rX kn tx), 0, 0) := by
        refine run 12 ?_
        refine And.intro (fun h => ?_) (fun h => absurd (show ((ekd E ku : Nat) : Int) = 20 from Classical.not_not.mp h) (by omega))
        exact hF _ σ1 hlt (hsimp h19 hG)
      exact leaf K
    · refine And.intro (fun h => absurd (show ((ekd E ku : Nat) : Int) = 19 by omega) h) (fun h => ?_)
      subst hG
      obtain ⟨f, rfl, hrun⟩ := runG hrun
      have hrun : runA E f (GS p' Gu C (qm Q' ++ [(efb E ku, pu, p')]) ν n) = some (o, y) := hrun
      have hk : kpt E u ku pu p' = [(u, (efb E ku, pu, p'))] := by
        unfold kpt
        rw [if_pos h19]
      rw [hk] at hD1
      simp only [kcn, if_true] at hc
      have hw : wr (σ1 26 0 25 + 1) = σ 26 0 25 + 1 := by rw [e25, wr_eq ⟨by omega, by omega⟩]
      have hfin : Aft E σ0 root (20000000 * (f + 1) + u) o y (upS (upS σ1 26 0 25 (wr (σ1 26 0 25 + 1))) 43 0 u (wr (σ1 26 0 25 + 1))) := by
        rw [hw]
        have nu : ∀ x ∈ Q', ¬ x.1 = u := by
          intro x hx
          obtain ⟨L, rfl, hL⟩ := hD.q
          rcases List.mem_append.mp hx with hx | hx
          · rw [hQ] at hx
            have := hP.q x hx
            omega
          · have := hL x hx
            omega
        have ex : ∀ a b j, ¬ (a = 26 ∧ j = 25) → ¬ (a = 43 ∧ j = u) → upS (upS σ1 26 0 25 (σ 26 0 25 + 1)) 43 0 u (σ 26 0 25 + 1) a b j = σ1 a b j := fun a b j h1 h2 => by rw [upS_ne (by omega), upS_ne (by omega)]
        obtain ⟨c1, c2, c3, c4, c5, c6, c7, c8⟩ := hC1
        have x25 : upS (upS σ1 26 0 25 (σ 26 0 25 + 1)) 43 0 u (σ 26 0 25 + 1) 26 0 25 = σ 26 0 25 + 1 := by rw [upS_ne (by omega), upS_same]
        have x43 : upS (upS σ1 26 0 25 (σ 26 0 25 + 1)) 43 0 u (σ 26 0 25 + 1) 43 0 u = σ 26 0 25 + 1 := upS_same
        refine Or.inl ⟨ν, n, u, f, mu, ku, pu, Gu, Bu, Qu, ⟨c1.mv (fun a b j h1 h2 => ex a b j (by omega) (by omega)) (by rw [ex 26 0 14 (by omega) (by omega)]; exact c1.2.2.2.2.1), by rw [ex 26 0 26 (by omega) (by omega)]; exact c2, by rw [ex 26 0 28 (by omega) (by omega)]; exact c3, by rw [ex 26 0 29 (by omega) (by omega)]; exact c4, c5, c6, c7.frame (fun a i h1 h2 h3 => ex a 0 i (by omega) (by omega)) (ex 36 0 u (by omega) (by omega)) (ex 37 0 u (by omega) (by omega)) (ex 39 0 u (by omega) (by omega)), by rw [x25]; omega⟩, Or.inr (Or.inl ⟨by rw [ex 26 0 27 (by omega) (by omega)]; exact hm2, m2, p', C, Q' ++ [(u, (efb E ku, pu, p'))], hD1.frame (fun a i h1 h2 h3 h4 => ex a 0 i (by omega) (by omega)), ⟨?_, ?_⟩, by rw [x25]; omega, by rw [show qm (Q' ++ [(u, (efb E ku, pu, p'))]) = qm Q' ++ [(efb E ku, pu, p')] from List.map_append]; exact hrun, by omega⟩)⟩
        · rw [List.pairwise_append]
          refine ⟨(hq1.frame (σ' := upS (upS σ1 26 0 25 (σ 26 0 25 + 1)) 43 0 u (σ 26 0 25 + 1)) (fun x hx => ex 43 0 x.1 (by omega) (by have := nu x hx; omega)) (by rw [x25, e25]; omega)).1, List.pairwise_singleton _ _, fun x hx z hz => ?_⟩
          rw [List.mem_singleton] at hz
          subst hz
          show upS (upS σ1 26 0 25 (σ 26 0 25 + 1)) 43 0 u (σ 26 0 25 + 1) 43 0 x.1 < upS (upS σ1 26 0 25 (σ 26 0 25 + 1)) 43 0 u (σ 26 0 25 + 1) 43 0 u
          rw [x43, ex 43 0 x.1 (by omega) (by have := nu x hx; omega)]
          have := (hq1.2 x hx).2
          omega
        · intro x hx
          rcases List.mem_append.mp hx with hx | hx
          · rw [x25, ex 43 0 x.1 (by omega) (by have := nu x hx; omega)]
            have := hq1.2 x hx
            omega
          · rw [List.mem_singleton] at hx
            subst hx
            rw [x25]
            show 1 ≤ upS (upS σ1 26 0 25 (σ 26 0 25 + 1)) 43 0 u (σ 26 0 25 + 1) 43 0 u ∧ upS (upS σ1 26 0 25 (σ 26 0 25 + 1)) 43 0 u (σ 26 0 25 + 1) 43 0 u ≤ _
            rw [x43]
            omega
      have K : Xz SL xs (m_Model_hasSucceeded SL xs) F (100, [some (.inr (some (26, 0))), some (.inl r), some (.inl (u : Int)), some (.inl (ku : Int)), some (.inl ((ekd E ku : Nat) : Int))], [], (nx, σ1, rX kn tx), 0, 0) := by
        refine run 20 ?_
        refine And.intro hiu ?_
        refine And.intro (fun h => ?_) (fun h => absurd (show ((ekd E ku : Nat) : Int) = 20 from Classical.not_not.mp h) (by omega))
        exact hF _ _ hlt hfin
      exact leaf K
    · refine And.intro (fun h => ?_) (fun h => absurd (show ((ekd E ku : Nat) : Int) = 19 from Classical.not_not.mp h) (by omega))
      subst hG
      obtain ⟨f, rfl, hrun⟩ := runG hrun
      have hrun : runA E f (GS p' Gu C (qm Q') (upN ν (efb E ku) (((esb E).drop pu).take (p' - pu))) n) = some (o, y) := hrun
      have hk : kpt E u ku pu p' = [] := by
        unfold kpt
        rw [if_neg (by omega)]
      rw [hk, List.append_nil] at hD1
      have hbe : efb E ku < 8 := ok.2.2.2.2.1 (Or.inr h20)
      simp only [kcn] at hc
      rw [if_neg (by omega)] at hc
      have hS64 := hO.1
      obtain ⟨c1, c2, c3, c4, c5, c6, c7, c8⟩ := hC1
      have k3' : σ1 32 0 ku = (efb E ku : Nat) := by rw [e 32 0 ku (by omega) (by omega)]; exact k3
      have K : Xz SL xs (m_Model_hasSucceeded SL xs) F (120, [some (.inr (some (26, 0))), some (.inl r), some (.inl (u : Int)), some (.inl (ku : Int)), some (.inl ((ekd E ku : Nat) : Int))], [], (nx, σ1, rX kn tx), 0, 0) := by
        refine run 20 ?_
        refine And.intro (fun h => absurd (show ((ekd E ku : Nat) : Int) = 20 by omega) h) (fun h => ?_)
        refine And.intro hiku ?_
        refine call_any (Y := fun v s' => v = none ∧ ∃ σ', s' = (nx, σ', rX kn tx) ∧ setM σ1 (efb E ku) (((esb E).drop pu).take (p' - pu)) σ') ?_ ?_
        · show vT 7 (T_Model_becomes SL xs) [.inr (some (26, 0)), .inl (σ1 32 0 (ku : Int).toNat), .inl (u : Int)] (nx, σ1, rX kn tx) _
          rw [Int.toNat_natCast, k3']
          exact tw_Model_becomes c1.ev hO c1.2.2.2.2.2 hbe (by omega) (c7.rw.2.1) hs.1 (by omega) dpl (fun σ' h => ⟨rfl, σ', rfl, h⟩)
        · intro v s' hv
          obtain ⟨rfl, σ2, rfl, hset⟩ := hv
          have ex := hset.2
          refine hF (20000000 * f + u) σ2 (by omega) (Or.inl ⟨upN ν (efb E ku) (((esb E).drop pu).take (p' - pu)), n, u, f, mu, ku, pu, Gu, Bu, Qu, ⟨c1.set hbe (by simp; omega) hset, by rw [ex 26 0 26 (by omega) (by omega)]; exact c2, by rw [ex 26 0 28 (by omega) (by omega)]; exact c3, by rw [ex 26 0 29 (by omega) (by omega)]; exact c4, c5, c6, c7.frame (fun a i h1 h2 h3 => ex a 0 i (by omega) (by omega)) (ex 36 0 u (by omega) (by omega)) (ex 37 0 u (by omega) (by omega)) (ex 39 0 u (by omega) (by omega)), by rw [ex 26 0 25 (by omega) (by omega)]; exact c8⟩, Or.inr (Or.inl ⟨by rw [ex 26 0 27 (by omega) (by omega)]; exact hm2, m2, p', C, Q', hD1.frame (fun a i h1 h2 h3 h4 => ex a 0 i (by omega) (by omega)), hq1.frame (fun x _ => ex 43 0 x.1 (by omega) (by omega)) (by rw [ex 26 0 25 (by omega) (by omega)]; exact Int.le_refl _), by rw [ex 26 0 25 (by omega) (by omega), e25]; omega, hrun, Nat.le_refl _⟩)⟩)
      exact leaf K
  -- the next one begins
  have K44 : (ekd E ku = 16 ∨ ekd E ku = 17) → σ 40 0 u = r → Xz SL xs (m_Model_hasSucceeded SL xs) F (44, [some (.inr (some (26, 0))), some (.inl r), some (.inl (u : Int)), some (.inl (ku : Int)), some (.inl ((ekd E ku : Nat) : Int))], [], (nx, σ, rX kn tx), 0, 0) := by
    intro hkd h40
    have hb1 : σ 41 0 u = -1 ∧ k = efa E ku ∧ p = pu ∧ G = (0, sk E ku, 0) :: Gu ∧ B = Bu ∧ Q = Qu := by
      rcases hl with ⟨l1, l2, lp, lq, l3⟩ | ⟨l0, l1, l2⟩ | ⟨a, m2, l0, l1, l2, l7, l3, l4, l5, l8, l6⟩
      · have := l3.kd
        omega
      · exact l2
      · rw [h40] at l1
        omega
    obtain ⟨h41, rfl, rfl, rfl, rfl, rfl⟩ := hb1
    have hske : sk E ku < ect E := by
      unfold sk
      split
      · exact w3
      · exact ok.2.2.2.1 (by omega)
    have K62 : Xz SL xs (m_Model_hasSucceeded SL xs) F (62, [some (.inr (some (26, 0))), some (.inl r), some (.inl (u : Int)), some (.inl (ku : Int)), some (.inl ((ekd E ku : Nat) : Int))], [.inl (sk E ku : Nat), .inr (some (26, 0))], (nx, σ, rX kn tx), 0, 0) := by
      refine run 20 ?_
      refine And.intro hirr ?_
      refine call_any (Y := fun v s' => v = none ∧ ∃ σ', s' = (nx, σ', rX kn tx) ∧ ((n = 3000 ∧ σ' = upS σ 26 0 29 1) ∨ (n < 3000 ∧ bgF σ n (sk E ku) p' u σ'))) ?_ ?_
      · show vT 7 (T_Model_begin SL xs) [.inr (some (26, 0)), .inl (sk E ku : Nat), .inl (σ 38 0 (r : Int).toNat), .inl (u : Int)] (nx, σ, rX kn tx) _
        rw [Int.toNat_natCast, d38]
        exact call_begin hB.2.2.2.2.1 hn3
      · intro v s' hv
        obtain ⟨rfl, σ1, rfl, h1⟩ := hv
        refine And.intro hiu ?_
        show F none (nx, upS σ1 41 0 (u : Int).toNat (σ1 26 0 26), rX kn tx)
        rw [Int.toNat_natCast]
        have hf : ∃ f', f = f' + 1 := by
          obtain ⟨f', rfl, -⟩ := runG hrun
          exact ⟨f', rfl⟩
        rcases h1 with ⟨hn, rfl⟩ | ⟨hn, hb⟩
        · exact hF 0 _ (by omega) (aftO hB h28 hn hrun (by omega))
        · rcases runG0 hrun with ⟨hn', -⟩ | ⟨-, f', rfl, hrun'⟩
          · omega
          have ne := hb.2.2.2.2.2.2.2.2.2.2
          refine hF (20000000 * f') _ (by omega) (Or.inl (simB (σ' := upS σ1 41 0 u (σ1 26 0 26)) hB hn hP hun hP.ge h28 h29 h25 hb (fun a b j hj => by rw [upS_ne (by omega)]) hske dpl (Or.inr (Or.inr ⟨r, m', hkd, ?_, ?_, rfl, hur, hrn, h39, rfl, hD⟩)) hq (by omega) hrun' (Nat.le_refl _) (fun x hx => ?_)))
          · rw [upS_ne (by omega), ne 40 0 u (by omega) (by omega)]; exact h40
          · rw [upS_same]; exact hb.2.2.2.2.2.2.2.1
          · obtain ⟨L, rfl, hL⟩ := hD.q
            rcases List.mem_append.mp hx with hx | hx
            · have := hP.q x hx
              omega
            · exact (hL x hx).2
    refine run 8 ?_
    refine And.intro (fun h => ?_) (fun h => ?_)
    · have h : ¬ ((ekd E ku : Nat) : Int) = 16 := h
      refine And.intro hiku ?_
      have e32 : σ 32 0 (ku : Int).toNat = (sk E ku : Nat) := by
        rw [Int.toNat_natCast, k3]
        unfold sk
        rw [if_neg (by omega)]
      rw [← e32] at K62
      exact leaf K62
    · have h : ((ekd E ku : Nat) : Int) = 16 := Classical.not_not.mp h
      rw [show sk E ku = ku by unfold sk; rw [if_pos (by omega)]] at K62
      exact leaf (by first | exact run 1 K62 | exact run 2 K62)
  rw [← e3, ← e1, ← hr] at K83 K44
  have hiu' : 0 ≤ σ 26 0 26 ∧ σ 26 0 26 < 3000 := hix
  have K34 : (ekd E ku = 16 ∨ ekd E ku = 17) → Xz SL xs (m_Model_hasSucceeded SL xs) F (34, [some (.inr (some (26, 0))), some (.inl r), some (.inl (σ 26 0 26)), some (.inl (σ 36 0 (σ 26 0 26).toNat)), some (.inl (σ 30 0 (σ 36 0 (σ 26 0 26).toNat).toNat))], [], (nx, σ, rX kn tx), 0, 0) := by
    intro hkd
    refine run 6 ?_
    refine And.intro hix ?_
    refine And.intro (fun h => ?_) (fun h => ?_)
    · have h : ¬ (r : Int) = σ 40 0 (σ 26 0 26).toNat := h
      rw [hri] at h
      exact leaf (K83 (fun z => h z.2.symm))
    · have h : (r : Int) = σ 40 0 (σ 26 0 26).toNat := Classical.not_not.mp h
      rw [hri] at h
      exact leaf (K44 hkd h.symm)
  refine run 21 ?_
  refine And.intro hix ?_
  refine And.intro hik ?_
  refine And.intro (fun h => ?_) (fun h => ?_)
  · have h : σ 30 0 (σ 36 0 (σ 26 0 26).toNat).toNat = 16 := h
    rw [e3] at h
    exact leaf (K34 (Or.inl (by omega)))
  · have h : ¬ σ 30 0 (σ 36 0 (σ 26 0 26).toNat).toNat = 16 := h
    rw [e3] at h
    refine And.intro (fun h2 => ?_) (fun h2 => ?_)
    · have h2 : ¬ σ 30 0 (σ 36 0 (σ 26 0 26).toNat).toNat = 17 := h2
      rw [e3] at h2
      exact leaf (K83 (fun z => by omega))
    · have h2 : σ 30 0 (σ 36 0 (σ 26 0 26).toNat).toNat = 17 := Classical.not_not.mp h2
      rw [e3] at h2
      exact leaf (K34 (Or.inr (by omega)))
theorem tw_Model_hasFailed (hC : Cm E σ0 σ root ν n u mu ku pu Gu Bu Qu) (hl : Lk E σ u ku pu Gu Bu Qu r k p G B Q) (hur : u < r) (hrn : r < n) (hq : Srt σ Q) (hc : σ 26 0 25 ≤ 3001 * n) (hrun : runA E f (KS B ν n) = some (o, y)) (hM : 20000000 * f + 4000 * r + 3999 ≤ M) (hF : ∀ M' σ', M' < M → Aft E σ0 root M' o y σ' → F none (nx, σ', rX kn tx)) : T_Model_hasFailed SL xs [.inr (some (26, 0)), .inl r] (nx, σ, rX kn tx) F := by
  have hC' := hC
  obtain ⟨hB, hr, h28, h29, hun, hn3, hP, h25⟩ := hC
  obtain ⟨w1, w2, w3, w4⟩ := hP.rw
  have hE := hB.ev
  have hO := hB.2.1
  have ok := hO.2.2 ku w3
  have hk64 : ku < 64 := by have := hO.2.1; omega
  obtain ⟨k1, k2, k3, -⟩ := hE.2.2 ku w3
  have hix : 0 ≤ σ 26 0 26 ∧ σ 26 0 26 < 3000 := by rw [hr]; omega
  have hri : (σ 26 0 26).toNat = u := by rw [hr, Int.toNat_natCast]
  have e1 : σ 36 0 (σ 26 0 26).toNat = ku := by rw [hri]; exact w1
  have e3 : σ 30 0 (σ 36 0 (σ 26 0 26).toNat).toNat = (ekd E ku : Nat) := by rw [e1, Int.toNat_natCast]; exact k1
  have hik : 0 ≤ σ 36 0 (σ 26 0 26).toNat ∧ σ 36 0 (σ 26 0 26).toNat < 64 := by rw [e1]; omega
  have hiu : (0 : Int) ≤ (u : Int) ∧ (u : Int) < 3000 := by omega
  have hiku : (0 : Int) ≤ (ku : Int) ∧ (ku : Int) < 64 := by omega
  have K122 : B = Bu → Srt σ Qu → Xz SL xs (m_Model_hasFailed SL xs) F (122, [some (.inr (some (26, 0))), some (.inl r), some (.inl (u : Int)), some (.inl (ku : Int)), some (.inl ((ekd E ku : Nat) : Int))], [], (nx, σ, rX kn tx), 0, 0) := by
    intro hBe hqu
    rw [hBe] at hrun
    refine run 10 ?_
    refine call_any (call_succeeds hr (by omega)) ?_
    intro v s' hv
    obtain ⟨rfl, σ', rfl, hs⟩ := hv
    exact hF (20000000 * f + 4000 * u + 3999) σ' (by omega) (Or.inl (sim3 hC' hs hqu hc hrun (Nat.le_refl _)))
  have K85 : ekd E ku = 18 → σ 42 0 u = 0 → Xz SL xs (m_Model_hasFailed SL xs) F (85, [some (.inr (some (26, 0))), some (.inl r), some (.inl (u : Int)), some (.inl (ku : Int)), some (.inl ((ekd E ku : Nat) : Int))], [], (nx, σ, rX kn tx), 0, 0) := by
    intro hkd h42
    have hb : B = (0, pu, (0, efb E ku, 0) :: Gu, qm Qu) :: Bu ∧ Q = Qu ∧ σ 41 0 u = -1 := by
      rcases hl with ⟨l1, l2, lp, lq, l3⟩ | ⟨l0, l1, l2⟩ | ⟨a, m2, l0, l1, l2, l7, l3, l4, l5, l8, l6⟩
      · rcases l3 with ⟨h, -, -, -, h1⟩ | ⟨h, h1, -⟩ | ⟨h, -⟩ | ⟨h, -⟩ | ⟨h, -⟩
        · exact ⟨h1, lq, l2⟩
        · omega
        · omega
        · omega
        · omega
      · omega
      · omega
    obtain ⟨rfl, rfl, h41⟩ := hb
    obtain ⟨f, rfl, hrun⟩ := runK hrun
    have hrun : runA E f (GS pu ((0, efb E ku, 0) :: Gu) Bu (qm Q) ν n) = some (o, y) := hrun
    have hB2 : MB E σ0 (upS σ 42 0 u 1) ν n := hB.mv (fun a b j h1 h2 => by rw [upS_ne (by omega)]) (by rw [upS_ne (by omega)]; exact hB.2.2.2.2.1)
    have hP2 : Pt E (upS σ 42 0 u 1) root mu u ku pu Gu Bu Q := hP.frame (fun a i h1 h2 h3 => upS_ne (by omega)) (upS_ne (by omega)) (upS_ne (by omega)) (upS_ne (by omega))
    refine run 30 ?_
    refine And.intro hiu ?_
    refine And.intro (Or.inr rfl) ?_
    refine And.intro hiku ?_
    refine And.intro hiu ?_
    refine call_any (Y := fun v s' => v = none ∧ ∃ σ', s' = (nx, σ', rX kn tx) ∧ ((n = 3000 ∧ σ' = upS (upS σ 42 0 u 1) 26 0 29 1) ∨ (n < 3000 ∧ bgF (upS σ 42 0 u 1) n (efb E ku) pu u σ'))) ?_ ?_
    · show vT 7 (T_Model_begin SL xs) [.inr (some (26, 0)), .inl (upS σ 42 0 (u : Int).toNat 1 32 0 (ku : Int).toNat), .inl (upS σ 42 0 (u : Int).toNat 1 37 0 (u : Int).toNat), .inl (u : Int)] (nx, upS σ 42 0 (u : Int).toNat 1, rX kn tx) _
      rw [Int.toNat_natCast, Int.toNat_natCast, upS_ne (by omega), upS_ne (by omega), k3, w2]
      exact call_begin hB2.2.2.2.2.1 hn3
    · intro v s' hv
      obtain ⟨rfl, σ1, rfl, h1⟩ := hv
      refine And.intro hiu ?_
      show F none (nx, upS σ1 40 0 (u : Int).toNat (σ1 26 0 26), rX kn tx)
      rw [Int.toNat_natCast]
      rcases h1 with ⟨hn, rfl⟩ | ⟨hn, hb⟩
      · exact hF 0 _ (by omega) (aftO hB2 (by rw [upS_ne (by omega)]; exact h28) hn hrun (by omega))
      · rcases runG0 hrun with ⟨hn', -⟩ | ⟨-, f', rfl, hrun'⟩
        · omega
        have hqn := hP.q
        have ne := hb.2.2.2.2.2.2.2.2.2.2
        refine hF (20000000 * f') _ (by omega) (Or.inl (simB (σ' := upS σ1 40 0 u (σ1 26 0 26)) hB2 hn hP2 hun hP.ge (by rw [upS_ne (by omega)]; exact h28) (by rw [upS_ne (by omega)]; exact h29) (by rw [upS_ne (by omega)]; exact h25) hb (fun a b j hj => by rw [upS_ne (by omega)]) (ok.2.2.2.1 (Or.inr hkd)) w4 (Or.inl ⟨?_, ?_, rfl, rfl, Or.inr (Or.inl ⟨hkd, ?_, rfl, rfl, rfl⟩)⟩) (hq.frame (fun x _ => upS_ne (by omega)) (by rw [upS_ne (by omega)]; exact Int.le_refl _)) (by rw [upS_ne (by omega)]; omega) hrun' (Nat.le_refl _) (fun x hx => by have := hqn x hx; omega)))
        · rw [upS_same]; exact hb.2.2.2.2.2.2.2.1
        · rw [upS_ne (by omega), ne 41 0 u (by omega) (by omega), upS_ne (by omega)]; exact h41
        · rw [upS_ne (by omega), ne 42 0 u (by omega) (by omega), upS_same]
  have K69 : (B = Bu ∧ Srt σ Qu) ∨ (ekd E ku = 18 ∧ σ 42 0 u = 0) → (ekd E ku = 18 → σ 42 0 u = 0 ∨ σ 42 0 u = 1 ∧ B = Bu ∧ Srt σ Qu) → Xz SL xs (m_Model_hasFailed SL xs) F (69, [some (.inr (some (26, 0))), some (.inl r), some (.inl (u : Int)), some (.inl (ku : Int)), some (.inl ((ekd E ku : Nat) : Int))], [], (nx, σ, rX kn tx), 0, 0) := by
    intro hor h18
    refine run 8 ?_
    refine And.intro (fun h => ?_) (fun h => ?_)
    · have h : ¬ ((ekd E ku : Nat) : Int) = 18 := h
      rcases hor with h1 | h1
      · exact leaf (K122 h1.1 h1.2)
      · omega
    · have h : ((ekd E ku : Nat) : Int) = 18 := Classical.not_not.mp h
      refine And.intro hiu ?_
      refine And.intro (fun h2 => ?_) (fun h2 => ?_)
      · have h2 : ¬ σ 42 0 (u : Int).toNat = 0 := h2
        rw [Int.toNat_natCast] at h2
        rcases h18 (by omega) with h3 | h3
        · exact absurd h3 h2
        · exact leaf (K122 h3.2.1 h3.2.2)
      · have h2 : σ 42 0 (u : Int).toNat = 0 := Classical.not_not.mp h2
        rw [Int.toNat_natCast] at h2
        exact leaf (K85 (by omega) h2)
  have K69' : ¬ ((ekd E ku = 16 ∨ ekd E ku = 17) ∧ σ 41 0 u = r) → Xz SL xs (m_Model_hasFailed SL xs) F (69, [some (.inr (some (26, 0))), some (.inl r), some (.inl (u : Int)), some (.inl (ku : Int)), some (.inl ((ekd E ku : Nat) : Int))], [], (nx, σ, rX kn tx), 0, 0) := by
    intro hnb
    rcases hl with ⟨l1, l2, lp, lq, l3⟩ | ⟨l0, l1, l2, -, -, -, l3, l4⟩ | ⟨a, m2, l0, l1, l2, l7, l3, l4, l5, l8, l6⟩
    · rw [lq] at hq
      rcases l3 with ⟨h, h1, -⟩ | ⟨h, h1, -, -, h2⟩ | ⟨h, -, -, h2⟩ | ⟨h, -, -, h2⟩ | ⟨h, -, -, h2⟩
      · exact K69 (Or.inr ⟨h, h1⟩) (fun _ => Or.inl h1)
      · exact K69 (Or.inl ⟨h2, hq⟩) (fun _ => Or.inr ⟨h1, h2, hq⟩)
      · exact K69 (Or.inl ⟨h2, hq⟩) (fun z => by omega)
      · exact K69 (Or.inl ⟨h2, hq⟩) (fun z => by omega)
      · exact K69 (Or.inl ⟨h2, hq⟩) (fun z => by omega)
    · rw [l4] at hq
      exact K69 (Or.inl ⟨l3, hq⟩) (fun z => by omega)
    · exact absurd ⟨l0, l2⟩ hnb
  have K44 : (ekd E ku = 16 ∨ ekd E ku = 17) → σ 41 0 u = r → Xz SL xs (m_Model_hasFailed SL xs) F (44, [some (.inr (some (26, 0))), some (.inl r), some (.inl (u : Int)), some (.inl (ku : Int)), some (.inl ((ekd E ku : Nat) : Int))], [], (nx, σ, rX kn tx), 0, 0) := by
    intro hkd h41
    have hb : ∃ a m', σ 40 0 u = (a : Nat) ∧ u < a ∧ a < r ∧ σ 39 0 a = u ∧ Dn E σ m' r a (efa E ku) pu p ((0, sk E ku, 0) :: Gu) Bu Qu B Q := by
      rcases hl with ⟨l1, l2, lp, lq, l3⟩ | ⟨l0, l1, l2, -⟩ | ⟨a, m2, l0, l1, l2, l7, l3, l4, l5, l8, l6⟩
      · rw [h41] at l2
        omega
      · rw [h41] at l2
        omega
      · exact ⟨a, m2, l1, l3, l4, l5, l6⟩
    obtain ⟨a, m', h40, hua, har, h39, hD⟩ := hb
    have ex : ∀ a' b' j', ¬ (a' = 41 ∧ j' = u) → ¬ (a' = 26 ∧ (j' = 26 ∨ j' = 27)) → upS (upS (upS σ 41 0 u (-1)) 26 0 26 (a : Int)) 26 0 27 1 a' b' j' = σ a' b' j' := fun a' b' j' h1 h2 => by rw [upS_ne (by omega), upS_ne (by omega), upS_ne (by omega)]
    have hPu : Pt E (upS (upS (upS σ 41 0 u (-1)) 26 0 26 (a : Int)) 26 0 27 1) root mu u ku pu Gu Bu Qu := hP.frame (fun a i h1 h2 h3 => ex a 0 i (by omega) (by omega)) (ex 36 0 u (by omega) (by omega)) (ex 37 0 u (by omega) (by omega)) (ex 39 0 u (by omega) (by omega))
    have hD2 : Dn E (upS (upS (upS σ 41 0 u (-1)) 26 0 26 (a : Int)) 26 0 27 1) m' r a (efa E ku) pu p ((0, sk E ku, 0) :: Gu) Bu Qu B Q := hD.frame (fun a i h1 h2 h3 h4 => ex a 0 i (by omega) (by omega))
    have hfin : Aft E σ0 root (20000000 * f + 4000 * r + 3000) o y (upS (upS (upS σ 41 0 u (-1)) 26 0 26 (a : Int)) 26 0 27 1) := by
      refine Or.inl ⟨ν, n, a, f, mu + 1, efa E ku, pu, (0, sk E ku, 0) :: Gu, Bu, Qu, ⟨hB.mv (fun a b j h1 h2 => ex a b j (by omega) (by omega)) (by rw [ex 26 0 14 (by omega) (by omega)]; exact hB.2.2.2.2.1), by rw [upS_ne (by omega), upS_same], by rw [ex 26 0 28 (by omega) (by omega)]; exact h28, by rw [ex 26 0 29 (by omega) (by omega)]; exact h29, by omega, hn3, ⟨hD2.rw.1, Or.inr ⟨u, ku, pu, Gu, Bu, Qu, by rw [ex 39 0 a (by omega) (by omega)]; exact h39, hP.ge, hua, hPu, Or.inr (Or.inl ⟨hkd, by rw [ex 40 0 u (by omega) (by omega)]; exact h40, by rw [upS_ne (by omega), upS_ne (by omega), upS_same], rfl, rfl, rfl, rfl, rfl⟩)⟩⟩, by rw [ex 26 0 25 (by omega) (by omega)]; exact h25⟩, Or.inr (Or.inr (Or.inl ⟨upS_same, m', r, p, B, Q, hD2, by omega, hq.frame (fun x _ => ex 43 0 x.1 (by omega) (by omega)) (by rw [ex 26 0 25 (by omega) (by omega)]; exact Int.le_refl _), by rw [ex 26 0 25 (by omega) (by omega)]; exact hc, hrun, by omega⟩))⟩
    have K := hF _ _ (by omega) hfin
    have e40 : upS σ 41 0 (u : Int).toNat (-1) 40 0 (u : Int).toNat = (a : Int) := by rw [Int.toNat_natCast, upS_ne (by omega)]; exact h40
    rw [← e40, show upS σ 41 0 u (-1) = upS σ 41 0 (u : Int).toNat (-1) by rw [Int.toNat_natCast]] at K
    refine run 20 ?_
    refine And.intro hiu ?_
    refine And.intro hiu ?_
    exact K
  rw [← e3, ← e1, ← hr] at K69' K44
  have K34 : (ekd E ku = 16 ∨ ekd E ku = 17) → Xz SL xs (m_Model_hasFailed SL xs) F (34, [some (.inr (some (26, 0))), some (.inl r), some (.inl (σ 26 0 26)), some (.inl (σ 36 0 (σ 26 0 26).toNat)), some (.inl (σ 30 0 (σ 36 0 (σ 26 0 26).toNat).toNat))], [], (nx, σ, rX kn tx), 0, 0) := by
    intro hkd
    refine run 6 ?_
    refine And.intro hix ?_
    refine And.intro (fun h => ?_) (fun h => ?_)
    · have h : ¬ (r : Int) = σ 41 0 (σ 26 0 26).toNat := h
      rw [hri] at h
      exact leaf (K69' (fun z => h z.2.symm))
    · have h : (r : Int) = σ 41 0 (σ 26 0 26).toNat := Classical.not_not.mp h
      rw [hri] at h
      exact leaf (K44 hkd h.symm)
  refine run 21 ?_
  refine And.intro hix ?_
  refine And.intro hik ?_
  refine And.intro (fun h => ?_) (fun h => ?_)
  · have h : σ 30 0 (σ 36 0 (σ 26 0 26).toNat).toNat = 16 := h
    rw [e3] at h
    exact leaf (K34 (Or.inl (by omega)))
  · have h : ¬ σ 30 0 (σ 36 0 (σ 26 0 26).toNat).toNat = 16 := h
    rw [e3] at h
    refine And.intro (fun h2 => ?_) (fun h2 => ?_)
    · have h2 : ¬ σ 30 0 (σ 36 0 (σ 26 0 26).toNat).toNat = 17 := h2
      rw [e3] at h2
      exact leaf (K69' (fun z => by omega))
    · have h2 : σ 30 0 (σ 36 0 (σ 26 0 26).toNat).toNat = 17 := Classical.not_not.mp h2
      rw [e3] at h2
      exact leaf (K34 (Or.inr (by omega)))
end
end
section
/-! The model: a try -/
def TrE (E : Ev) (σ0 : Sg) (root : Nat × Nat) (o : Nat) (y : As) (res : Int) (σ' : Sg) : Prop :=
  (o = 1 ∧ res = root.1 ∧ ∃ ν n m k p' C Q', y = GS p' [] C (qm Q') ν n ∧ MB E σ0 σ' ν n ∧ n ≤ 3000 ∧ Dn E σ' m n root.1 k root.2 p' [] [] [] C Q' ∧ Srt σ' Q' ∧ σ' 26 0 28 = 0 ∧ σ' 26 0 29 = 0 ∧ 0 ≤ σ' 26 0 25 ∧ σ' 26 0 25 ≤ 3001 * n + 3000) ∨
  (o = 0 ∧ res = -1 ∧ σ' 26 0 28 = 0 ∧ σ' 26 0 29 = 0 ∧ MB E σ0 σ' (yν y) (yn y) ∧ yn y ≤ 3000 ∧ 0 ≤ σ' 26 0 25 ∧ σ' 26 0 25 ≤ 3001 * yn y) ∨
  (o = 2 ∧ res = -1 ∧ σ' 26 0 28 = 1 ∧ MB E σ0 σ' (yν y) (yn y)) ∨ (o = 3 ∧ res = -1 ∧ σ' 26 0 28 = 0 ∧ σ' 26 0 29 = 1 ∧ MB E σ0 σ' (yν y) (yn y))
section
variable {SL : Nat} {xs : Nat → Int} {nx : Nat} {σ σ0 σ' σ1 : Sg} {kn : Nat → Option Nat} {tx : Nat → Bool} {F : Option Av → St → Prop} {E : Ev} {ν : Nu} {k p n r m f o M h p' u ku pu mu : Nat} {root : Nat × Nat} {G Gu : List Gl} {B Bu C : List Ch} {Q Q' Qu : Qw} {y : As}
theorem Cm.upR {m1 : Nat} (hC : Cm E σ0 σ root ν n r m1 k p G B Q) (hr : ¬ r = root.1) : ∃ u mu ku pu Gu Bu Qu, u < r ∧ σ 39 0 r = (u : Nat) ∧ Cm E σ0 (upS σ 26 0 26 (u : Int)) root ν n u mu ku pu Gu Bu Qu ∧ Lk E (upS σ 26 0 26 (u : Int)) u ku pu Gu Bu Qu r k p G B Q := by
  obtain ⟨c1, c2, c3, c4, c5, c6, c7, c8⟩ := hC
  cases m1 with
  | zero => cases c7
  | succ m1 =>
  obtain ⟨w, hd | ⟨u, ku, pu, Gu, Bu, Qu, u1, u2, u3, u4, hd⟩⟩ := c7
  · exact absurd hd.1 hr
  · have ex : ∀ a b j, ¬ (a = 26 ∧ j = 26) → upS σ 26 0 26 (u : Int) a b j = σ a b j := fun a b j h1 => upS_ne (by omega)
    refine ⟨u, m1, ku, pu, Gu, Bu, Qu, u3, u1, ⟨c1.mv (fun a b j h1 h2 => ex a b j (by omega)) (by rw [ex 26 0 14 (by omega)]; exact c1.2.2.2.2.1), upS_same, by rw [ex 26 0 28 (by omega)]; exact c3, by rw [ex 26 0 29 (by omega)]; exact c4, by omega, c6, u4.frame (fun a i h1 h2 h3 => ex a 0 i (by omega)) (ex 36 0 u (by omega)) (ex 37 0 u (by omega)) (ex 39 0 u (by omega)), by rw [ex 26 0 25 (by omega)]; exact c8⟩, ?_⟩
    unfold Lk
    rw [ex 40 0 u (by omega), ex 41 0 u (by omega), ex 42 0 u (by omega)]
    rcases hd with hd | hd | ⟨a, m', q1, q2, q3, q4, q5, q6, q7, q8, q9⟩
    · exact Or.inl hd
    · exact Or.inr (Or.inl hd)
    · exact Or.inr (Or.inr ⟨a, m', q1, q2, q3, q4, q5, q6, by rw [ex 39 0 a (by omega)]; exact q7, q8, q9.frame (fun a' i h1 h2 h3 h4 => ex a' 0 i (by omega))⟩)
theorem lp_tries {k0 c0 : Int} (hF : ∀ res σ', TrE E σ0 root o y res σ' → F (some (.inl res)) (nx, σ', rX kn tx)) : ∀ (M : Nat) (σ : Sg) (l4 : Option Av), Aft E σ0 root M o y σ → Xz SL xs (m_Model_tries SL xs) F (12, [some (.inr (some (26, 0))), some (.inl k0), some (.inl c0), some (.inl (root.1 : Int)), l4], [], (nx, σ, rX kn tx), 0, 0) := by
  intro M
  induction M using Nat.strongRecOn with
  | _ M ih =>
    intro σ l4 hA
    rcases hA with hS | ⟨ho, h28, hB⟩ | ⟨ho, h28, h29, hB⟩
    · obtain ⟨ν, n, r, f, m, k, p, G, B, Q, hC, hS⟩ := hS
      have hC' := hC
      obtain ⟨hB, hr, h28, h29, hrn, hn3, hP, h25⟩ := hC
      have hri : (σ 26 0 26).toNat = r := by rw [hr, Int.toNat_natCast]
      have hix : 0 ≤ σ 26 0 26 ∧ σ 26 0 26 < 3000 := by rw [hr]; omega
      rcases hS with ⟨h27, s1, s2, s3, s4, s5, s6, s7, s8, s9⟩ | ⟨h27, m', p', C, Q', s1, s2, s3, s4, s5⟩ | ⟨h27, m', h, p', C, Q', s1, s2, s3, s4, s5, s6⟩ | ⟨h27, s1, s2, s3, s4⟩
      · refine run 20 ?_
        refine And.intro (fun h => absurd (show σ 26 0 28 = 0 from h28) h) (fun h => ?_)
        refine And.intro (fun h => absurd (show σ 26 0 29 = 0 from h29) h) (fun h => ?_)
        refine And.intro (fun h => absurd (show σ 26 0 27 = 0 from h27) h) (fun h => ?_)
        refine call_any (Y := fun v s' => v = none ∧ ∃ M' σ', s' = (nx, σ', rX kn tx) ∧ M' < M ∧ Aft E σ0 root M' o y σ') (tw_Model_begins hC' s3 s4 s5 s6 s7 s8 s9 (fun M' σ' h1 h2 => ⟨rfl, M', σ', rfl, h1, h2⟩)) ?_
        intro v s' hv
        obtain ⟨rfl, M', σ', rfl, h1, h2⟩ := hv
        have K := ih M' h1 σ' l4 h2
        exact leaf (by first | exact run 1 K | exact run 2 K)
      · refine run 24 ?_
        refine And.intro (fun h => absurd (show σ 26 0 28 = 0 from h28) h) (fun h => ?_)
        refine And.intro (fun h => absurd (show σ 26 0 29 = 0 from h29) h) (fun h => ?_)
        refine And.intro (fun h => ?_) (fun h => absurd (show ¬ σ 26 0 27 = 0 by rw [h27]; omega) h)
        refine And.intro (fun h => ?_) (fun h => absurd (show ¬ σ 26 0 27 = 1 by rw [h27]; omega) h)
        refine And.intro (fun h => ?_) (fun h => ?_)
        · have h : ¬ σ 26 0 26 = (root.1 : Int) := h
          rw [hr] at h
          obtain ⟨u, mu, ku, pu, Gu, Bu, Qu, hur, h39, hCu, hL⟩ := hC'.upR (by omega)
          have K : Xz SL xs (m_Model_tries SL xs) F (77, [some (.inr (some (26, 0))), some (.inl k0), some (.inl c0), some (.inl (root.1 : Int)), l4], [], (nx, σ, rX kn tx), 0, 0) := by
            refine run 20 ?_
            refine And.intro hix ?_
            refine And.intro (fun h => absurd (show σ 26 0 27 = 2 from h27) h) (fun h => ?_)
            refine call_any (Y := fun v s' => v = none ∧ ∃ M' σ', s' = (nx, σ', rX kn tx) ∧ M' < M ∧ Aft E σ0 root M' o y σ') ?_ ?_
            · show vT 7 (T_Model_hasSucceeded SL xs) [.inr (some (26, 0)), .inl (σ 26 0 26)] (nx, upS σ 26 0 26 (σ 39 0 (σ 26 0 26).toNat), rX kn tx) _
              rw [hri, h39, hr]
              exact tw_Model_hasSucceeded hCu hL hur (by rw [upS_ne (by omega)]; exact h39) (s1.frame (fun a i h1 h2 h3 h4 => upS_ne (by omega))) (s2.frame (fun x _ => upS_ne (by omega)) (by rw [upS_ne (by omega)]; exact Int.le_refl _)) (by rw [upS_ne (by omega)]; exact s3) s4 s5 (fun M' σ' h1 h2 => ⟨rfl, M', σ', rfl, h1, h2⟩)
            · intro v s' hv
              obtain ⟨rfl, M', σ', rfl, h1, h2⟩ := hv
              have K := ih M' h1 σ' (some (.inl (σ 26 0 26))) h2
              exact leaf (by first | exact run 1 K | exact run 2 K | exact run 3 K)
          exact leaf K
        · have h : σ 26 0 26 = (root.1 : Int) := Classical.not_not.mp h
          rw [hr] at h
          have hrr : r = root.1 := by omega
          have hG : p = root.2 ∧ G = [] ∧ B = [] ∧ Q = [] := by
            cases m with
            | zero => cases hP
            | succ m =>
            obtain ⟨w, hd | ⟨u, ku, pu, Gu, Bu, Qu, u1, u2, u3, u4, hd⟩⟩ := hP
            · exact hd.2
            · omega
          obtain ⟨rfl, rfl, rfl, rfl⟩ := hG
          obtain ⟨f, rfl, hrun⟩ := runG s4
          cases hrun
          rw [hrr] at s1
          have K := hF root.1 σ (Or.inl ⟨rfl, rfl, ν, n, m', k, p', C, Q', rfl, hB, hn3, s1, s2, h28, h29, h25, by simp only [kcn] at s3; omega⟩)
          refine And.intro (fun h => absurd (show σ 26 0 27 = 2 from h27) h) (fun h => ?_)
          have K2 : Xz SL xs (m_Model_tries SL xs) F (71, [some (.inr (some (26, 0))), some (.inl k0), some (.inl c0), some (.inl (root.1 : Int)), l4], [], (nx, σ, rX kn tx), 0, 0) := run 5 K
          exact leaf K2
      · refine run 20 ?_
        refine And.intro (fun h => absurd (show σ 26 0 28 = 0 from h28) h) (fun h => ?_)
        refine And.intro (fun h => absurd (show σ 26 0 29 = 0 from h29) h) (fun h => ?_)
        refine And.intro (fun h => ?_) (fun h => absurd (show ¬ σ 26 0 27 = 0 by rw [h27]; omega) h)
        refine And.intro (fun h => absurd (show σ 26 0 27 = 1 from h27) h) (fun h => ?_)
        refine call_any (Y := fun v s' => v = none ∧ ∃ M' σ', s' = (nx, σ', rX kn tx) ∧ M' < M ∧ Aft E σ0 root M' o y σ') (tw_Model_goesBack hC' h27 s1 s2 s3 s4 s5 s6 (fun M' σ' h1 h2 => ⟨rfl, M', σ', rfl, h1, h2⟩)) ?_
        intro v s' hv
        obtain ⟨rfl, M', σ', rfl, h1, h2⟩ := hv
        have K := ih M' h1 σ' l4 h2
        exact leaf (by first | exact run 1 K | exact run 2 K)
      · refine run 24 ?_
        refine And.intro (fun h => absurd (show σ 26 0 28 = 0 from h28) h) (fun h => ?_)
        refine And.intro (fun h => absurd (show σ 26 0 29 = 0 from h29) h) (fun h => ?_)
        refine And.intro (fun h => ?_) (fun h => absurd (show ¬ σ 26 0 27 = 0 by rw [h27]; omega) h)
        refine And.intro (fun h => ?_) (fun h => absurd (show ¬ σ 26 0 27 = 1 by rw [h27]; omega) h)
        refine And.intro (fun h => ?_) (fun h => ?_)
        · have h : ¬ σ 26 0 26 = (root.1 : Int) := h
          rw [hr] at h
          obtain ⟨u, mu, ku, pu, Gu, Bu, Qu, hur, h39, hCu, hL⟩ := hC'.upR (by omega)
          have K : Xz SL xs (m_Model_tries SL xs) F (77, [some (.inr (some (26, 0))), some (.inl k0), some (.inl c0), some (.inl (root.1 : Int)), l4], [], (nx, σ, rX kn tx), 0, 0) := by
            refine run 20 ?_
            refine And.intro hix ?_
            refine And.intro (fun h => ?_) (fun h => absurd (show ¬ σ 26 0 27 = 2 by rw [h27]; omega) h)
            refine call_any (Y := fun v s' => v = none ∧ ∃ M' σ', s' = (nx, σ', rX kn tx) ∧ M' < M ∧ Aft E σ0 root M' o y σ') ?_ ?_
            · show vT 7 (T_Model_hasFailed SL xs) [.inr (some (26, 0)), .inl (σ 26 0 26)] (nx, upS σ 26 0 26 (σ 39 0 (σ 26 0 26).toNat), rX kn tx) _
              rw [hri, h39, hr]
              exact tw_Model_hasFailed hCu hL hur hrn (s1.frame (fun x _ => upS_ne (by omega)) (by rw [upS_ne (by omega)]; exact Int.le_refl _)) (by rw [upS_ne (by omega)]; exact s2) s3 s4 (fun M' σ' h1 h2 => ⟨rfl, M', σ', rfl, h1, h2⟩)
            · intro v s' hv
              obtain ⟨rfl, M', σ', rfl, h1, h2⟩ := hv
              have K := ih M' h1 σ' (some (.inl (σ 26 0 26))) h2
              exact leaf (by first | exact run 1 K | exact run 2 K | exact run 3 K)
          exact leaf K
        · have h : σ 26 0 26 = (root.1 : Int) := Classical.not_not.mp h
          rw [hr] at h
          have hrr : r = root.1 := by omega
          have hG : p = root.2 ∧ G = [] ∧ B = [] ∧ Q = [] := by
            cases m with
            | zero => cases hP
            | succ m =>
            obtain ⟨w, hd | ⟨u, ku, pu, Gu, Bu, Qu, u1, u2, u3, u4, hd⟩⟩ := hP
            · exact hd.2
            · omega
          obtain ⟨rfl, rfl, rfl, rfl⟩ := hG
          obtain ⟨f, rfl, hrun⟩ := runK s3
          cases hrun
          have K := hF (-1) σ (Or.inr (Or.inl ⟨rfl, rfl, h28, h29, hB, hn3, h25, s2⟩))
          refine And.intro (fun h => ?_) (fun h => absurd (show ¬ σ 26 0 27 = 2 by rw [h27]; omega) h)
          have K2 : Xz SL xs (m_Model_tries SL xs) F (75, [some (.inr (some (26, 0))), some (.inl k0), some (.inl c0), some (.inl (root.1 : Int)), l4], [], (nx, σ, rX kn tx), 0, 0) := run 5 K
          exact leaf K2
    · have K := hF (-1) σ (Or.inr (Or.inr (Or.inl ⟨ho, rfl, h28, hB⟩)))
      refine run 10 ?_
      refine And.intro (fun h => K) (fun h => absurd (show ¬ σ 26 0 28 = 0 by rw [h28]; omega) h)
    · have K := hF (-1) σ (Or.inr (Or.inr (Or.inr ⟨ho, rfl, h28, h29, hB⟩)))
      refine run 10 ?_
      refine And.intro (fun h => K) (fun h => ?_)
      refine And.intro (fun h => K) (fun h => absurd (show ¬ σ 26 0 29 = 0 by rw [h29]; omega) h)
theorem tw_Model_tries {c : Nat} (hB : MB E σ0 σ ν n) (hn3 : n ≤ 3000) (h28 : σ 26 0 28 = 0) (h29 : σ 26 0 29 = 0) (h25 : 0 ≤ σ 26 0 25 ∧ σ 26 0 25 ≤ 3001 * n) (hk : k < ect E) (hc : c ≤ (esb E).length) (hrun : runA E f (GS c [(0, k, 0)] [] [] ν n) = some (o, y)) (hF : ∀ res σ', TrE E σ0 (n, c) o y res σ' → F (some (.inl res)) (nx, σ', rX kn tx)) : T_Model_tries SL xs [.inr (some (26, 0)), .inl k, .inl c] (nx, σ, rX kn tx) F := by
  refine run 8 ?_
  refine call_any (call_begin hB.2.2.2.2.1 hn3) ?_
  intro v s' hv
  obtain ⟨rfl, σ1, rfl, h1⟩ := hv
  rcases h1 with ⟨hn, rfl⟩ | ⟨hn, hb⟩
  · rcases runG0 hrun with ⟨-, rfl, rfl⟩ | ⟨hn', -⟩
    · have K := hF (-1) (upS σ 26 0 29 1) (Or.inr (Or.inr (Or.inr ⟨rfl, rfl, by rw [upS_ne (by omega)]; exact h28, upS_same, hB.mv (fun a b j h1 h2 => by rw [upS_ne (by omega)]) (by rw [upS_ne (by omega)]; exact hB.2.2.2.2.1)⟩)))
      have K2 : Xz SL xs (m_Model_tries SL xs) F (12, [some (.inr (some (26, 0))), some (.inl (k : Int)), some (.inl (c : Int)), some (.inl (upS σ 26 0 29 1 26 0 26)), none], [], (nx, upS σ 26 0 29 1, rX kn tx), 0, 0) := by
        refine run 10 ?_
        refine And.intro (fun h => K) (fun h => ?_)
        refine And.intro (fun h => K) (fun h => absurd (show ¬ upS σ 26 0 29 1 26 0 29 = 0 by rw [upS_same]; omega) h)
      exact leaf (by first | exact run 1 K2 | exact run 2 K2 | exact run 3 K2)
    · omega
  · rcases runG0 hrun with ⟨hn', -⟩ | ⟨-, f', rfl, hrun'⟩
    · omega
    obtain ⟨b1, b2, b3, b4, b5, b6, b7, b8', b9, b10, b11⟩ := hb
    have e25 : σ1 26 0 25 = σ 26 0 25 := b11 26 0 25 (by omega) (by omega)
    have K := lp_tries (SL := SL) (xs := xs) (nx := nx) (kn := kn) (tx := tx) (k0 := k) (c0 := c) (root := (n, c)) hF (20000000 * f') σ1 none (Or.inl ⟨ν, n + 1, n, f', 1, k, c, [], [], [], ⟨hB.mv (fun a b j h1 h2 => b11 a b j (by omega) (by omega)) b9, b8', by rw [b11 26 0 28 (by omega) (by omega)]; exact h28, by rw [b11 26 0 29 (by omega) (by omega)]; exact h29, by omega, by omega, ⟨⟨b1, b2, hk, hc⟩, Or.inl ⟨rfl, rfl, rfl, rfl, rfl⟩⟩, by rw [e25]; exact h25.1⟩, Or.inl ⟨b10, rfl, b3, b5, b6, b7, ⟨List.Pairwise.nil, fun x hx => by cases hx⟩, by rw [e25]; omega, hrun', Nat.le_refl _⟩⟩)
    have e26 : σ1 26 0 26 = ((n, c).1 : Int) := b8'
    rw [← e26] at K
    exact leaf (by first | exact run 1 K | exact run 2 K | exact run 3 K)
end
end
section
/-! The model: what is kept in the end -/
theorem nd_len : ∀ (n : Nat) (L : List Nat), L.Nodup → (∀ x ∈ L, x < n) → L.length ≤ n
  | 0, L, _, h => by
    cases L with
    | nil => simp
    | cons x r => exact absurd (h x List.mem_cons_self) (by omega)
  | n + 1, L, hd, h => by
    have h1 : ∀ L : List Nat, L.Nodup → L.length ≤ (L.filter (fun x => decide (x ≠ n))).length + 1 := by
      intro L
      induction L with
      | nil => simp
      | cons x r ih =>
        intro hd
        rw [List.nodup_cons] at hd
        by_cases hx : x = n
        · have e : r.filter (fun x => decide (x ≠ n)) = r := by
            rw [List.filter_eq_self]
            intro z hz
            simp only [decide_eq_true_eq]
            intro e
            exact hd.1 (by rw [hx, ← e]; exact hz)
          rw [List.filter_cons_of_neg (by simp [hx]), e]
          simp
        · rw [List.filter_cons_of_pos (by simp [hx])]
          have := ih hd.2
          simp only [List.length_cons]
          omega
    have h2 := nd_len n (L.filter (fun x => decide (x ≠ n))) (List.Nodup.sublist List.filter_sublist hd) (fun x hx => by
      rw [List.mem_filter] at hx
      have := h x hx.1
      have h3 := hx.2
      simp only [decide_eq_true_eq] at h3
      omega)
    have := h1 L hd
    omega
def PB (E : Ev) (σ : Sg) (n : Nat) (Q : Qw) (y : Nat) : Prop := ∃ m h k p p' G B Q1 C Q2, Dn E σ m h y k p p' G B Q1 C Q2 ∧ h ≤ n ∧ ∀ x ∈ Q2, x ∈ Q
section
variable {SL : Nat} {xs : Nat → Int} {nx : Nat} {σ σ0 σ' σ1 : Sg} {kn : Nat → Option Nat} {tx : Nat → Bool} {F : Option Av → St → Prop} {E : Ev} {ν : Nu} {k p n r m f o M h p' u ku pu mu root y : Nat} {G Gu : List Gl} {B Bu C : List Ch} {Q Q' Qu : Qw} {L : List Nat}
theorem PB.kids (hp : PB E σ n Q y) : (σ 40 0 y = -1 ∧ σ 41 0 y = -1) ∨ (∃ a : Nat, σ 40 0 y = a ∧ σ 41 0 y = -1 ∧ y < a ∧ a < n ∧ σ 39 0 a = y ∧ PB E σ n Q a) ∨ (∃ a b : Nat, σ 40 0 y = a ∧ σ 41 0 y = b ∧ y < a ∧ a < b ∧ b < n ∧ σ 39 0 a = y ∧ σ 39 0 b = y ∧ PB E σ n Q a ∧ PB E σ n Q b) := by
  obtain ⟨m, h, k, p, p', G, B, Q1, C, Q2, hD, hh, hq⟩ := hp
  cases m with
  | zero => cases hD
  | succ m =>
  obtain ⟨w, d1, d2, d3, d4, hD⟩ := hD
  rcases hD with ⟨h40, h41, -⟩ | ⟨a, b, p1, C1, Q3, q0, q1, q2, q3, q4, q5, q6, q7, q8⟩ | ⟨a, kc, Gc, Bc, Q3, q1, q2, q3, q4, q5, q6, q7⟩
  · exact Or.inl ⟨h40, h41⟩
  · have hb := q8.lt
    refine Or.inr (Or.inr ⟨a, b, q1, q2, q3, q4, by omega, q5, q6, ⟨m, b, _, _, _, _, _, _, _, _, q7, by omega, fun x hx => ?_⟩, ⟨m, h, _, _, _, _, _, _, _, _, q8, hh, hq⟩⟩)
    obtain ⟨L, rfl, -⟩ := q8.q
    exact hq x (List.mem_append.mpr (Or.inl hx))
  · have ha := q6.lt
    refine Or.inr (Or.inl ⟨a, q1, q2, q3, by omega, q4, ⟨m, h, _, _, _, _, _, _, _, _, q6, hh, fun x hx => hq x ?_⟩⟩)
    rw [q7]
    exact List.mem_append.mpr (Or.inl hx)
theorem PB.row (hp : PB E σ n Q y) : ∃ k p p', rwE E σ y k p ∧ σ 38 0 y = (p' : Nat) ∧ p ≤ p' ∧ p' ≤ (esb E).length ∧ y < n ∧ (ekd E k = 19 → (y, (efb E k, p, p')) ∈ Q) := by
  obtain ⟨m, h, k, p, p', G, B, Q1, C, Q2, hD, hh, hq⟩ := hp
  cases m with
  | zero => cases hD
  | succ m =>
  obtain ⟨w, d1, d2, d3, d4, hD⟩ := hD
  refine ⟨k, p, p', w, d1, d2, d3, by omega, fun h19 => ?_⟩
  rcases hD with ⟨h40, h41, -, hl⟩ | ⟨a, b, p1, C1, Q3, q0, -⟩ | ⟨a, kc, Gc, Bc, Q3, q1, q2, q3, q4, q5, q6, q7⟩
  · rcases hl with ⟨h, -⟩ | ⟨h, -⟩ | ⟨h, -⟩ | ⟨h, -⟩ | ⟨h, -⟩ <;> omega
  · omega
  · refine hq _ ?_
    rw [q7]
    unfold kpt
    rw [if_pos h19]
    exact List.mem_append.mpr (Or.inr (List.mem_singleton.mpr rfl))
/-- rows that have a part are found -/
theorem Dn.reach (P : Nat → Prop) (hP : ∀ x, P x → ∀ a : Nat, (σ 40 0 x = a ∨ σ 41 0 x = a) → P a) : ∀ {m h r k p p' G B Q C Q'}, Dn E σ m h r k p p' G B Q C Q' → P r → ∀ x ∈ Q', x ∈ Q ∨ P x.1
  | 0, h, r, k, p, p', G, B, Q, C, Q', hd => by cases hd
  | m + 1, h, r, k, p, p', G, B, Q, C, Q', ⟨w, d1, d2, d3, d4, hd⟩ => by
    intro hr x hx
    rcases hd with hd | ⟨a, b, p1, C1, Q1, q0, q1, q2, q3, q4, q5, q6, q7, q8⟩ | ⟨a, kc, Gc, Bc, Q1, q1, q2, q3, q4, q5, q6, q7⟩
    · rw [hd.2.2.1] at hx
      exact Or.inl hx
    · rcases Dn.reach P hP q8 (hP r hr b (Or.inr q2)) x hx with h1 | h1
      · exact Dn.reach P hP q7 (hP r hr a (Or.inl q1)) x h1
      · exact Or.inr h1
    · rw [q7] at hx
      rcases List.mem_append.mp hx with hx | hx
      · exact Dn.reach P hP q6 (hP r hr a (Or.inl q1)) x hx
      · unfold kpt at hx
        split at hx
        · rw [List.mem_singleton] at hx
          subst hx
          exact Or.inr hr
        · cases hx
/-- the search so far -/
def BI (E : Ev) (σ : Sg) (n : Nat) (Q : Qw) (root : Nat) (L : List Nat) (i : Nat) : Prop := L.Nodup ∧ (∀ x ∈ L, PB E σ n Q x ∧ x < n ∧ root ≤ x) ∧ root ∈ L ∧ i ≤ L.length ∧ (∀ x ∈ L, ¬ x = root → ∃ j, j < i ∧ σ 39 0 x = (L.getD j 0 : Nat)) ∧ (∀ j, j < i → ∀ a : Nat, (σ 40 0 (L.getD j 0) = a ∨ σ 41 0 (L.getD j 0) = a) → a ∈ L)
theorem getD_mem {i : Nat} (hi : i < L.length) : L.getD i 0 ∈ L := by
  rw [List.getD_eq_getElem?_getD, List.getElem?_eq_getElem hi]
  exact List.getElem_mem _
theorem nd_inj (hd : L.Nodup) {i j : Nat} (hi : i < L.length) (hj : j < L.length) (h : L.getD i 0 = L.getD j 0) : i = j := by
  rw [List.getD_eq_getElem?_getD, List.getD_eq_getElem?_getD, List.getElem?_eq_getElem hi, List.getElem?_eq_getElem hj] at h
  simp only [Option.getD_some] at h
  have hp := List.pairwise_iff_getElem.mp hd
  rcases Nat.lt_trichotomy i j with h1 | h1 | h1
  · exact absurd h (hp i j hi hj h1)
  · exact h1
  · exact absurd h.symm (hp j i hj hi h1)
theorem getD_app {N : List Nat} {j : Nat} (hj : j < L.length) : (L ++ N).getD j 0 = L.getD j 0 := by
  rw [List.getD_eq_getElem?_getD, List.getD_eq_getElem?_getD, List.getElem?_append_left hj]
/-- the search goes on -/
theorem BI.step {i : Nat} {N : List Nat} (h : BI E σ n Q root L i) (hi : i < L.length) (hN : ∀ x ∈ N, PB E σ n Q x ∧ x < n ∧ L.getD i 0 < x ∧ σ 39 0 x = (L.getD i 0 : Nat)) (hd : N.Nodup) (hk : ∀ a : Nat, (σ 40 0 (L.getD i 0) = a ∨ σ 41 0 (L.getD i 0) = a) → a ∈ N) : BI E σ n Q root (L ++ N) (i + 1) := by
  obtain ⟨h1, h2, h3, h4, h5, h6⟩ := h
  have hri := (h2 _ (getD_mem hi)).2.2
  have hnew : ∀ x ∈ N, ¬ x ∈ L := by
    intro x hx hxL
    obtain ⟨q1, q2, q3, q4⟩ := hN x hx
    obtain ⟨j, hj, hju⟩ := h5 x hxL (by omega)
    rw [q4] at hju
    have := nd_inj h1 hi (by omega : j < L.length) (by omega)
    omega
  refine ⟨?_, fun x hx => ?_, List.mem_append.mpr (Or.inl h3), by simp; omega, fun x hx hxr => ?_, fun j hj a ha => ?_⟩
  · rw [List.nodup_append]
    exact ⟨h1, hd, fun a ha b hb e => hnew b hb (by rw [← e]; exact ha)⟩
  · rcases List.mem_append.mp hx with hx | hx
    · exact h2 x hx
    · obtain ⟨q1, q2, q3, q4⟩ := hN x hx
      exact ⟨q1, q2, by omega⟩
  · rcases List.mem_append.mp hx with hx | hx
    · obtain ⟨j, hj, hju⟩ := h5 x hx hxr
      exact ⟨j, by omega, by rw [getD_app (by omega)]; exact hju⟩
    · exact ⟨i, by omega, by rw [getD_app hi]; exact (hN x hx).2.2.2⟩
  · by_cases hji : j = i
    · subst hji
      rw [getD_app hi] at ha
      exact List.mem_append.mpr (Or.inr (hk a ha))
    · rw [getD_app (by omega)] at ha
      exact List.mem_append.mpr (Or.inl (h6 j (by omega) a ha))
/-- parts hold a list -/
def pR (σ : Sg) (L : List Nat) (σ1 : Sg) : Prop := (∀ j, j < L.length → σ1 44 0 j = (L.getD j 0 : Nat)) ∧ ∀ a b j, ¬ a = 44 → σ1 a b j = σ a b j
theorem pR.add {a : Nat} (h : pR σ L σ1) : pR σ (L ++ [a]) (upS σ1 44 0 L.length (a : Int)) := by
  refine ⟨fun j hj => ?_, fun a' b' j' h1 => by rw [upS_ne (by omega)]; exact h.2 a' b' j' h1⟩
  by_cases hji : j = L.length
  · subst hji
    rw [upS_same, List.getD_eq_getElem?_getD, List.getElem?_append_right (Nat.le_refl _), Nat.sub_self]
    rfl
  · have hj2 : j < L.length := by simp at hj; omega
    rw [upS_ne (by omega), getD_app hj2]
    exact h.1 j hj2
theorem lp_keep1 {l5 : Option Av} (hn3 : n ≤ 3000) (hK : ∀ L σ1 l4, BI E σ n Q root L L.length → pR σ L σ1 → Xz SL xs (m_Model_keep SL xs) F (84, [some (.inr (some (26, 0))), some (.inl root), some (.inl L.length), some (.inl L.length), l4, l5], [], (nx, σ1, rX kn tx), 0, 0)) : ∀ (d i : Nat) (L : List Nat) (σ1 : Sg) (l4 : Option Av), i + d = n → BI E σ n Q root L i → pR σ L σ1 → Xz SL xs (m_Model_keep SL xs) F (11, [some (.inr (some (26, 0))), some (.inl root), some (.inl L.length), some (.inl i), l4, l5], [], (nx, σ1, rX kn tx), 0, 0) := by
  intro d
  induction d with
  | zero =>
    intro i L σ1 l4 hi hI hp
    have hlen := nd_len n L hI.1 (fun x hx => (hI.2.1 x hx).2.1)
    have hil := hI.2.2.2.1
    have he : i = L.length := by omega
    subst he
    refine run 4 ?_
    refine And.intro (fun h => leaf (hK L σ1 l4 hI hp)) (fun h => absurd (show (L.length : Int) ≤ (L.length : Int) from Int.le_refl _) h)
  | succ d ih =>
    intro i L σ1 l4 hi hI hp
    have hlen := nd_len n L hI.1 (fun x hx => (hI.2.1 x hx).2.1)
    have hil := hI.2.2.2.1
    by_cases he : i = L.length
    · subst he
      refine run 4 ?_
      refine And.intro (fun h => leaf (hK L σ1 l4 hI hp)) (fun h => absurd (show (L.length : Int) ≤ (L.length : Int) from Int.le_refl _) h)
    have hlt : i < L.length := by omega
    have hy := getD_mem hlt
    have e44 : σ1 44 0 (i : Int).toNat = (L.getD i 0 : Nat) := by rw [Int.toNat_natCast]; exact hp.1 i hlt
    have hstep := fun N => hI.step (N := N) hlt
    obtain ⟨hpb, hyn, hyr⟩ := hI.2.1 _ hy
    generalize L.getD i 0 = z at *
    have hwi : wr ((i : Int) + 1) = ((i + 1 : Nat) : Int) := by rw [wr_eq ⟨by omega, by omega⟩]; omega
    have hiz : (0 : Int) ≤ (z : Int) ∧ (z : Int) < 3000 := by omega
    have K78 : ∀ (N : List Nat) (σ2 : Sg), BI E σ n Q root (L ++ N) (i + 1) → pR σ (L ++ N) σ2 → Xz SL xs (m_Model_keep SL xs) F (78, [some (.inr (some (26, 0))), some (.inl root), some (.inl ((L ++ N).length : Int)), some (.inl i), some (.inl z), l5], [], (nx, σ2, rX kn tx), 0, 0) := by
      intro N σ2 h1 h2
      have K := ih (i + 1) (L ++ N) σ2 (some (.inl z)) (by omega) h1 h2
      rw [← hwi] at K
      exact run 2 K
    have K24 : Xz SL xs (m_Model_keep SL xs) F (24, [some (.inr (some (26, 0))), some (.inl root), some (.inl L.length), some (.inl i), some (.inl z), l5], [], (nx, σ1, rX kn tx), 0, 0) := by
      have f40 : σ1 40 0 (z : Int).toNat = σ 40 0 z := by rw [Int.toNat_natCast]; exact hp.2 40 0 z (by omega)
      have f41 : σ1 41 0 (z : Int).toNat = σ 41 0 z := by rw [Int.toNat_natCast]; exact hp.2 41 0 z (by omega)
      rcases hpb.kids with ⟨k1, k2⟩ | ⟨a, k1, k2, k3, k4, k5, k6⟩ | ⟨a, b, k1, k2, k3, k4, k5, k6, k7, k8, k9⟩
      · have K := K78 [] σ1 (hstep [] (fun x hx => by cases hx) List.nodup_nil (fun a ha => by omega)) (by rw [List.append_nil]; exact hp)
        rw [List.append_nil] at K
        refine run 12 ?_
        refine And.intro hiz ?_
        refine And.intro (fun h => ?_) (fun h => absurd (show σ1 40 0 (z : Int).toNat = -1 by rw [f40]; exact k1) h)
        refine And.intro hiz ?_
        refine And.intro (fun h => ?_) (fun h => absurd (show σ1 41 0 (z : Int).toNat = -1 by rw [f41]; exact k2) h)
        exact leaf K
      · have hB1 := hstep [a] (fun x hx => by rw [List.mem_singleton] at hx; subst hx; exact ⟨k6, k4, k3, k5⟩) (by simp) (fun a' ha' => by rw [List.mem_singleton]; omega)
        have hl1 := nd_len n (L ++ [a]) hB1.1 (fun x hx => (hB1.2.1 x hx).2.1)
        simp only [List.length_append, List.length_singleton] at hl1
        have hw : wr ((L.length : Int) + 1) = ((L ++ [a]).length : Int) := by rw [wr_eq ⟨by omega, by omega⟩]; simp
        have K := K78 [a] (upS σ1 44 0 L.length (a : Int)) hB1 hp.add
        rw [← hw, ← k1, ← f40, show L.length = (L.length : Int).toNat by rw [Int.toNat_natCast]] at K
        rw [Int.toNat_natCast] at K
        refine run 24 ?_
        refine And.intro hiz ?_
        refine And.intro (fun h => absurd (show σ1 40 0 (z : Int).toNat = -1 from h) (by rw [f40, k1]; omega)) (fun h => ?_)
        refine And.intro hiz ?_
        refine And.intro ⟨show (0 : Int) ≤ (L.length : Int) by omega, show (L.length : Int) < 3000 by omega⟩ ?_
        refine And.intro hiz ?_
        refine And.intro (fun h => ?_) (fun h => absurd (show upS σ1 44 0 (L.length : Int).toNat (σ1 40 0 (z : Int).toNat) 41 0 (z : Int).toNat = -1 by rw [upS_ne (by omega), f41]; exact k2) h)
        exact leaf K
      · have hB1 := hstep [a, b] (fun x hx => by
          rcases List.mem_cons.mp hx with rfl | hx
          · exact ⟨k8, by omega, k3, k6⟩
          · rw [List.mem_singleton] at hx
            subst hx
            exact ⟨k9, k5, by omega, k7⟩) (by simp; omega) (fun a' ha' => by
          rcases ha' with h | h
          · exact List.mem_cons.mpr (Or.inl (by omega))
          · exact List.mem_cons.mpr (Or.inr (List.mem_singleton.mpr (by omega))))
        have hl1 := nd_len n (L ++ [a, b]) hB1.1 (fun x hx => (hB1.2.1 x hx).2.1)
        simp only [List.length_append, List.length_cons, List.length_nil] at hl1
        have hw1 : wr ((L.length : Int) + 1) = ((L.length + 1 : Nat) : Int) := by rw [wr_eq ⟨by omega, by omega⟩]; omega
        have hw : wr (wr ((L.length : Int) + 1) + 1) = ((L ++ [a, b]).length : Int) := by rw [hw1, wr_eq ⟨by omega, by omega⟩]; simp; omega
        have hp2 : pR σ (L ++ [a, b]) (upS (upS σ1 44 0 L.length (a : Int)) 44 0 (L.length + 1) (b : Int)) := by
          have h := (hp.add (a := a)).add (a := b)
          rw [List.append_assoc, show (L ++ [a]).length = L.length + 1 by simp] at h
          exact h
        have K := K78 [a, b] _ hB1 hp2
        have es : upS (upS σ1 44 0 L.length (a : Int)) 44 0 (L.length + 1) (b : Int) = upS (upS σ1 44 0 (L.length : Int).toNat (σ1 40 0 (z : Int).toNat)) 44 0 (wr ((L.length : Int) + 1)).toNat (upS σ1 44 0 (L.length : Int).toNat (σ1 40 0 (z : Int).toNat) 41 0 (z : Int).toNat) := by
          rw [hw1, f40, k1, upS_ne (f := σ1) (by omega), f41, k2, Int.toNat_natCast, Int.toNat_natCast]
        rw [es, ← hw] at K
        have e41 : upS σ1 44 0 (L.length : Int).toNat (σ1 40 0 (z : Int).toNat) 41 0 (z : Int).toNat = b := by rw [upS_ne (by omega), f41]; exact k2
        refine run 40 ?_
        refine And.intro hiz ?_
        refine And.intro (fun h => absurd (show σ1 40 0 (z : Int).toNat = -1 from h) (by rw [f40, k1]; omega)) (fun h => ?_)
        refine And.intro hiz ?_
        refine And.intro ⟨show (0 : Int) ≤ (L.length : Int) by omega, show (L.length : Int) < 3000 by omega⟩ ?_
        refine And.intro hiz ?_
        refine And.intro (fun h => absurd (show upS σ1 44 0 (L.length : Int).toNat (σ1 40 0 (z : Int).toNat) 41 0 (z : Int).toNat = -1 from h) (by rw [e41]; omega)) (fun h => ?_)
        refine And.intro hiz ?_
        refine And.intro (by show 0 ≤ wr ((L.length : Int) + 1) ∧ wr ((L.length : Int) + 1) < 3000; rw [hw1]; omega) ?_
        exact leaf (by first | exact run 1 K | exact K)
    rw [← e44] at K24
    refine run 8 ?_
    refine And.intro (fun h => absurd (show (L.length : Int) ≤ (i : Int) from h) (by omega)) (fun h => ?_)
    refine And.intro ⟨show (0 : Int) ≤ (i : Int) by omega, show (i : Int) < 3000 by omega⟩ ?_
    exact leaf (by first | exact run 1 K24 | exact run 2 K24)
theorem Dn.k19 : ∀ {m h r k p p' G B Q C Q'}, Dn E σ m h r k p p' G B Q C Q' → ∀ x ∈ Q', x ∈ Q ∨ ∃ k : Nat, σ 36 0 x.1 = k ∧ ekd E k = 19
  | 0, h, r, k, p, p', G, B, Q, C, Q', hd => by cases hd
  | m + 1, h, r, k, p, p', G, B, Q, C, Q', ⟨w, d1, d2, d3, d4, hd⟩ => by
    intro x hx
    rcases hd with hd | ⟨a, b, p1, C1, Q1, q0, q1, q2, q3, q4, q5, q6, q7, q8⟩ | ⟨a, kc, Gc, Bc, Q1, q1, q2, q3, q4, q5, q6, q7⟩
    · rw [hd.2.2.1] at hx
      exact Or.inl hx
    · rcases Dn.k19 q8 x hx with h1 | h1
      · exact Dn.k19 q7 x h1
      · exact Or.inr h1
    · rw [q7] at hx
      rcases List.mem_append.mp hx with hx | hx
      · exact Dn.k19 q6 x hx
      · unfold kpt at hx
        split at hx
        · rename_i h19
          rw [List.mem_singleton] at hx
          subst hx
          exact Or.inr ⟨k, w.1, h19⟩
        · cases hx
def fl (σ : Sg) (Q : Qw) (t : Nat) : Qw := Q.filter (fun x => decide (σ 43 0 x.1 < (t : Int)))
theorem fl_none {t : Nat} (h : ∀ x ∈ Q, ¬ σ 43 0 x.1 = t) : fl σ Q (t + 1) = fl σ Q t := by
  unfold fl
  refine List.filter_congr (fun x hx => ?_)
  have := h x hx
  by_cases h1 : σ 43 0 x.1 < (t : Int)
  · rw [decide_eq_true h1, decide_eq_true (by omega)]
  · rw [decide_eq_false h1, decide_eq_false (by omega)]
theorem fl_some {t : Nat} {e : Nat × Kp} (hs : Q.Pairwise (fun x y => σ 43 0 x.1 < σ 43 0 y.1)) (he : e ∈ Q) (ht : σ 43 0 e.1 = t) : fl σ Q (t + 1) = fl σ Q t ++ [e] := by
  obtain ⟨A, D, rfl⟩ := List.append_of_mem he
  rw [List.pairwise_append] at hs
  obtain ⟨-, h2, h3⟩ := hs
  rw [List.pairwise_cons] at h2
  have hA : ∀ x ∈ A, σ 43 0 x.1 < t := fun x hx => by rw [← ht]; exact h3 x hx e List.mem_cons_self
  have hD : ∀ x ∈ D, t < σ 43 0 x.1 := fun x hx => by rw [← ht]; exact h2.1 x hx
  unfold fl
  rw [List.filter_append, List.filter_append, List.filter_eq_self.mpr (fun x hx => decide_eq_true (by have := hA x hx; omega)), List.filter_eq_self.mpr (fun x hx => decide_eq_true (hA x hx)), List.filter_cons_of_pos (p := fun x : Nat × Kp => decide (σ 43 0 x.1 < ((t + 1 : Nat) : Int))) (decide_eq_true (by omega)), List.filter_cons_of_neg (p := fun x : Nat × Kp => decide (σ 43 0 x.1 < (t : Int))) (by simp; omega), List.filter_eq_nil_iff.mpr (fun x hx => by have := hD x hx; simp; omega), List.filter_eq_nil_iff.mpr (fun x hx => by have := hD x hx; simp; omega), List.append_nil]
theorem upN_upN {v : Nat} {l l' : List Int} : upN (upN ν v l) v l' = upN ν v l' := by
  funext w
  simp only [upN]
  split <;> rfl
/-- only variables and the parts have changed -/
def pq (σ : Sg) (L : List Nat) (σ2 : Sg) : Prop := (∀ j, j < L.length → σ2 44 0 j = (L.getD j 0 : Nat)) ∧ ∀ a b j, ¬ (a = 28 ∨ a = 29 ∨ a = 44) → σ2 a b j = σ a b j
theorem lp_keep3 {t r0 : Nat} {ν0 ν1 : Nu} (hn3 : n ≤ 3000) (hLn : L.length ≤ n) (hL : ∀ x ∈ L, PB E σ n Q x) (hh : ∀ y ∈ L, ∀ k p p' : Nat, σ 36 0 y = k → σ 37 0 y = p → σ 38 0 y = p' → (ekd E k = 19 → σ 43 0 y = t → y = r0 ∧ upN ν0 (efb E k) (((esb E).drop p).take (p' - p)) = ν1 ∧ upN ν1 (efb E k) (((esb E).drop p).take (p' - p)) = ν1) ∧ (¬ (ekd E k = 19 ∧ σ 43 0 y = t) → y = r0 → ν0 = ν1))
    (hK : ∀ σ2 l5, pq σ L σ2 → MB E σ0 σ2 (if r0 ∈ L then ν1 else ν0) n → Xz SL xs (m_Model_keep SL xs) F (164, [some (.inr (some (26, 0))), some (.inl root), some (.inl L.length), some (.inl t), some (.inl L.length), l5], [], (nx, σ2, rX kn tx), 0, 0)) : ∀ (d i : Nat) (σ2 : Sg) (l5 : Option Av), i + d = L.length → pq σ L σ2 → MB E σ0 σ2 (if r0 ∈ L.take i then ν1 else ν0) n → Xz SL xs (m_Model_keep SL xs) F (97, [some (.inr (some (26, 0))), some (.inl root), some (.inl L.length), some (.inl t), some (.inl i), l5], [], (nx, σ2, rX kn tx), 0, 0) := by
  intro d
  induction d with
  | zero =>
    intro i σ2 l5 hi hp hB
    have he : i = L.length := by omega
    subst he
    rw [List.take_length] at hB
    refine run 4 ?_
    refine And.intro (fun h => leaf (hK σ2 l5 hp hB)) (fun h => absurd (show (L.length : Int) ≤ (L.length : Int) from Int.le_refl _) h)
  | succ d ih =>
    intro i σ2 l5 hi hp hB
    have hlt : i < L.length := by omega
    have hy := getD_mem hlt
    have htk : L.take (i + 1) = L.take i ++ [L.getD i 0] := by
      rw [List.take_add_one, List.getD_eq_getElem?_getD, List.getElem?_eq_getElem hlt]
      rfl
    have e44 : σ2 44 0 (i : Int).toNat = (L.getD i 0 : Nat) := by rw [Int.toNat_natCast]; exact hp.1 i hlt
    obtain ⟨k, p, p', ⟨w1, w2, w3, w4⟩, d1, d2, d3, hyn, -⟩ := (hL _ hy).row
    obtain ⟨hh1, hh2⟩ := hh _ hy k p p' w1 w2 d1
    generalize L.getD i 0 = z at *
    have hwi : wr ((i : Int) + 1) = ((i + 1 : Nat) : Int) := by rw [wr_eq ⟨by omega, by omega⟩]; omega
    have hiz : (0 : Int) ≤ (z : Int) ∧ (z : Int) < 3000 := by omega
    have hO := hB.2.1
    have hk64 : k < 64 := by have := hO.2.1; omega
    obtain ⟨k1, -, k3, -⟩ := hB.ev.2.2 k w3
    have e36 : σ2 36 0 (z : Int).toNat = k := by rw [Int.toNat_natCast, hp.2 36 0 z (by omega)]; exact w1
    have e30 : σ2 30 0 (σ2 36 0 (z : Int).toNat).toNat = (ekd E k : Nat) := by rw [e36, Int.toNat_natCast]; exact k1
    have e43 : σ2 43 0 (z : Int).toNat = σ 43 0 z := by rw [Int.toNat_natCast]; exact hp.2 43 0 z (by omega)
    have hik : 0 ≤ σ2 36 0 (z : Int).toNat ∧ σ2 36 0 (z : Int).toNat < 64 := by rw [e36]; omega
    have Kno : ¬ (ekd E k = 19 ∧ σ 43 0 z = t) → Xz SL xs (m_Model_keep SL xs) F (158, [some (.inr (some (26, 0))), some (.inl root), some (.inl L.length), some (.inl t), some (.inl i), some (.inl z)], [], (nx, σ2, rX kn tx), 0, 0) := by
      intro hno
      have K := ih (i + 1) σ2 (some (.inl z)) (by omega) hp (by
        rw [htk]
        by_cases h1 : r0 ∈ L.take i
        · rw [if_pos (List.mem_append.mpr (Or.inl h1))]
          rw [if_pos h1] at hB
          exact hB
        · rw [if_neg h1] at hB
          by_cases h2 : z = r0
          · rw [← hh2 hno h2]
            split <;> exact hB
          · rw [if_neg (fun z' => by
              rcases List.mem_append.mp z' with h3 | h3
              · exact h1 h3
              · rw [List.mem_singleton] at h3
                exact h2 h3.symm)]
            exact hB)
      rw [← hwi] at K
      exact run 2 K
    have K112 : Xz SL xs (m_Model_keep SL xs) F (112, [some (.inr (some (26, 0))), some (.inl root), some (.inl L.length), some (.inl t), some (.inl i), some (.inl z)], [], (nx, σ2, rX kn tx), 0, 0) := by
      refine run 30 ?_
      refine And.intro hiz ?_
      refine And.intro hik ?_
      refine And.intro (fun h => ?_) (fun h => ?_)
      · have h : ¬ σ2 30 0 (σ2 36 0 (z : Int).toNat).toNat = 19 := h
        rw [e30] at h
        exact leaf (Kno (fun q => by omega))
      · have h : σ2 30 0 (σ2 36 0 (z : Int).toNat).toNat = 19 := Classical.not_not.mp h
        rw [e30] at h
        refine And.intro hiz ?_
        refine And.intro (fun h2 => ?_) (fun h2 => ?_)
        · have h2 : ¬ σ2 43 0 (z : Int).toNat = (t : Int) := h2
          rw [e43] at h2
          exact leaf (Kno (fun q => h2 q.2))
        · have h2 : σ2 43 0 (z : Int).toNat = (t : Int) := Classical.not_not.mp h2
          rw [e43] at h2
          obtain ⟨rfl, hu0, hu1⟩ := hh1 (by omega) h2
          have hbe : efb E k < 8 := (hO.2.2 k w3).2.2.2.2.1 (by omega)
          have hS64 := hO.1
          refine And.intro hiz ?_
          refine And.intro hik ?_
          refine call_any (Y := fun v s' => v = none ∧ ∃ σ', s' = (nx, σ', rX kn tx) ∧ setM σ2 (efb E k) (((esb E).drop p).take (p' - p)) σ') ?_ ?_
          · show vT 7 (T_Model_becomes SL xs) [.inr (some (26, 0)), .inl (σ2 32 0 (σ2 36 0 (z : Int).toNat).toNat), .inl (z : Int)] (nx, σ2, rX kn tx) _
            rw [e36, Int.toNat_natCast, k3]
            exact tw_Model_becomes hB.ev hO hB.2.2.2.2.2 hbe (by omega) (by rw [hp.2 37 0 z (by omega)]; exact w2) (by rw [hp.2 38 0 z (by omega)]; exact d1) d2 d3 (fun σ' h => ⟨rfl, σ', rfl, h⟩)
          · intro v s' hv
            obtain ⟨rfl, σ3, rfl, hset⟩ := hv
            have K := ih (i + 1) σ3 (some (.inl z)) (by omega) ⟨fun j hj => by rw [hset.2 44 0 j (by omega) (by omega)]; exact hp.1 j hj, fun a b j h1 => by rw [hset.2 a b j (by omega) (by omega)]; exact hp.2 a b j h1⟩ (by
              rw [htk, if_pos (List.mem_append.mpr (Or.inr (List.mem_singleton.mpr rfl)))]
              have h3 := hB.set hbe (l := ((esb E).drop p).take (p' - p)) (by simp; omega) hset
              split at h3
              · rw [hu1] at h3
                exact h3
              · rw [hu0] at h3
                exact h3)
            rw [← hwi] at K
            exact leaf (by first | exact run 1 K | exact run 2 K)
    rw [← e44] at K112
    refine run 8 ?_
    refine And.intro (fun h => absurd (show (L.length : Int) ≤ (i : Int) from h) (by omega)) (fun h => ?_)
    refine And.intro ⟨show (0 : Int) ≤ (i : Int) by omega, show (i : Int) < 3000 by omega⟩ ?_
    exact leaf (by first | exact run 1 K112 | exact run 2 K112)
theorem lp_keep2 {clk : Nat} (hn3 : n ≤ 3000) (hLn : L.length ≤ n) (hL : ∀ x ∈ L, PB E σ n Q x) (hall : ∀ x ∈ Q, x.1 ∈ L) (h19 : ∀ x ∈ Q, ∃ k : Nat, σ 36 0 x.1 = k ∧ ekd E k = 19) (hs : Srt σ Q) (hclk : σ 26 0 25 = clk) (hc9 : clk < 100000000) (hF : ∀ σ2, pq σ L σ2 → MB E σ0 σ2 (keepA E (qm Q) ν) n → F none (nx, σ2, rX kn tx)) : ∀ (d t : Nat) (σ2 : Sg) (l4 l5 : Option Av), t + d = clk + 1 → 1 ≤ t → pq σ L σ2 → MB E σ0 σ2 (keepA E (qm (fl σ Q t)) ν) n → Xz SL xs (m_Model_keep SL xs) F (86, [some (.inr (some (26, 0))), some (.inl root), some (.inl L.length), some (.inl t), l4, l5], [], (nx, σ2, rX kn tx), 0, 0) := by
  intro d
  induction d with
  | zero =>
    intro t σ2 l4 l5 ht h1 hp hB
    have e25 : σ2 26 0 25 = clk := by rw [hp.2 26 0 25 (by omega)]; exact hclk
    have hfl : fl σ Q t = Q := by
      unfold fl
      exact List.filter_eq_self.mpr (fun x hx => decide_eq_true (by have := (hs.2 x hx).2; omega))
    rw [hfl] at hB
    refine run 8 ?_
    refine And.intro (fun h => hF σ2 hp hB) (fun h => absurd (show σ2 26 0 25 < (t : Int) by rw [e25]; omega) h)
  | succ d ih =>
    intro t σ2 l4 l5 ht h1 hp hB
    have e25 : σ2 26 0 25 = clk := by rw [hp.2 26 0 25 (by omega)]; exact hclk
    have hwt : wr ((t : Int) + 1) = ((t + 1 : Nat) : Int) := by rw [wr_eq ⟨by omega, by omega⟩]; omega
    have go : ∀ (r0 : Nat) (ν1 : Nu), (∀ y ∈ L, ∀ k p p' : Nat, σ 36 0 y = k → σ 37 0 y = p → σ 38 0 y = p' → (ekd E k = 19 → σ 43 0 y = t → y = r0 ∧ upN (keepA E (qm (fl σ Q t)) ν) (efb E k) (((esb E).drop p).take (p' - p)) = ν1 ∧ upN ν1 (efb E k) (((esb E).drop p).take (p' - p)) = ν1) ∧ (¬ (ekd E k = 19 ∧ σ 43 0 y = t) → y = r0 → (keepA E (qm (fl σ Q t)) ν) = ν1)) → (if r0 ∈ L then ν1 else keepA E (qm (fl σ Q t)) ν) = keepA E (qm (fl σ Q (t + 1))) ν → Xz SL xs (m_Model_keep SL xs) F (86, [some (.inr (some (26, 0))), some (.inl root), some (.inl L.length), some (.inl t), l4, l5], [], (nx, σ2, rX kn tx), 0, 0) := by
      intro r0 ν1 hh hfin
      have K := lp_keep3 (SL := SL) (xs := xs) (nx := nx) (F := F) (kn := kn) (tx := tx) (root := root) (σ0 := σ0) hn3 hLn hL hh (fun σ3 l5' hp3 hB3 => by
        rw [hfin] at hB3
        have K := ih (t + 1) σ3 (some (.inl L.length)) l5' (by omega) (by omega) hp3 hB3
        rw [← hwt] at K
        exact run 2 K) L.length 0 σ2 l5 (Nat.zero_add _) hp (by simpa using hB)
      refine run 6 ?_
      refine And.intro (fun h => absurd (show σ2 26 0 25 < (t : Int) from h) (by rw [e25]; omega)) (fun h => ?_)
      exact leaf (by first | exact run 1 K | exact run 2 K)
    by_cases hex : ∃ e ∈ Q, σ 43 0 e.1 = t
    · obtain ⟨e, he, het⟩ := hex
      have hf := fl_some hs.1 he het
      have hk : keepA E (qm (fl σ Q (t + 1))) ν = upN (keepA E (qm (fl σ Q t)) ν) e.2.1 (((esb E).drop e.2.2.1).take (e.2.2.2 - e.2.2.1)) := by
        rw [hf, show qm (fl σ Q t ++ [e]) = qm (fl σ Q t) ++ [e.2] from List.map_append]
        simp only [keepA, List.foldl_append, List.foldl_cons, List.foldl_nil]
      refine go e.1 (upN (keepA E (qm (fl σ Q t)) ν) e.2.1 (((esb E).drop e.2.2.1).take (e.2.2.2 - e.2.2.1))) (fun y hy k p p' q1 q2 q3 => ⟨fun h1 h2 => ?_, fun h1 h2 => ?_⟩) (by rw [if_pos (hall e he)]; exact hk.symm)
      · obtain ⟨k', pp, pp', ⟨w1, w2, -⟩, d1, -, -, -, hm⟩ := (hL y hy).row
        have e1 : k' = k := by omega
        have e2 : pp = p := by omega
        have e3 : pp' = p' := by omega
        subst e1 e2 e3
        have hm := hm h1
        have hf2 := fl_some hs.1 hm h2
        rw [hf] at hf2
        have hee := List.append_cancel_left hf2
        have hee : e = (y, (efb E k', pp, pp')) := by simpa using hee
        rw [hee]
        exact ⟨rfl, rfl, upN_upN⟩
      · exfalso
        obtain ⟨k', w1, w2⟩ := h19 e he
        rw [← h2] at w1 het
        have e1 : k' = k := by omega
        subst e1
        exact h1 ⟨w2, het⟩
    · have hf : fl σ Q (t + 1) = fl σ Q t := fl_none (fun x hx h => hex ⟨x, hx, h⟩)
      refine go 0 (keepA E (qm (fl σ Q t)) ν) (fun y hy k p p' q1 q2 q3 => ⟨fun h1 h2 => ?_, fun h1 h2 => rfl⟩) (by rw [hf]; split <;> rfl)
      exfalso
      obtain ⟨k', pp, pp', ⟨w1, w2, -⟩, d1, -, -, -, hm⟩ := (hL y hy).row
      have e1 : k' = k := by omega
      subst e1
      exact hex ⟨_, hm h1, h2⟩
theorem tw_Model_keep (hB : MB E σ0 σ ν n) (hn3 : n ≤ 3000) (hD : Dn E σ m n root k p p' [] [] [] C Q) (hs : Srt σ Q) (h25 : 0 ≤ σ 26 0 25 ∧ σ 26 0 25 ≤ 3001 * n + 3000) (hF : ∀ σ', (∀ a b j, ¬ (a = 28 ∨ a = 29 ∨ a = 44) → σ' a b j = σ a b j) → MB E σ0 σ' (keepA E (qm Q) ν) n → F none (nx, σ', rX kn tx)) : T_Model_keep SL xs [.inr (some (26, 0)), .inl root] (nx, σ, rX kn tx) F := by
  have hrn := hD.lt
  have hPB : PB E σ n Q root := ⟨m, n, k, p, p', [], [], [], C, Q, hD, Nat.le_refl _, fun x hx => hx⟩
  have hBI : BI E σ n Q root [root] 0 := ⟨by simp, fun x hx => by rw [List.mem_singleton] at hx; subst hx; exact ⟨hPB, hrn, Nat.le_refl _⟩, by simp, by simp, fun x hx hxr => absurd (List.mem_singleton.mp hx) hxr, fun j hj => by omega⟩
  have hpR : pR σ [root] (upS σ 44 0 (0 : Int).toNat (root : Int)) := ⟨fun j hj => by
    have hj : j = 0 := by simp at hj; exact hj
    subst hj
    exact upS_same, fun a b j h => upS_ne (by omega)⟩
  have K := lp_keep1 (SL := SL) (xs := xs) (nx := nx) (F := F) (kn := kn) (tx := tx) (E := E) (σ := σ) (n := n) (Q := Q) (root := root) (l5 := none) hn3 (fun L σ1 l4 hI hp => ?_) n 0 [root] _ none (Nat.zero_add _) hBI hpR
  · refine run 9 ?_
    refine And.intro ⟨show (0 : Int) ≤ 0 by omega, show (0 : Int) < 3000 by omega⟩ ?_
    exact leaf (by first | exact run 1 K | exact run 2 K | exact run 3 K)
  · obtain ⟨b1, b2, b3, b4, b5, b6⟩ := hI
    have hmem : ∀ x ∈ L, ∃ j, j < L.length ∧ L.getD j 0 = x := by
      intro x hx
      obtain ⟨j, hj, rfl⟩ := List.getElem_of_mem hx
      exact ⟨j, hj, by rw [List.getD_eq_getElem?_getD, List.getElem?_eq_getElem hj]; rfl⟩
    have hcl : ∀ x, x ∈ L → ∀ a : Nat, (σ 40 0 x = a ∨ σ 41 0 x = a) → a ∈ L := by
      intro x hx a ha
      obtain ⟨j, hj, rfl⟩ := hmem x hx
      exact b6 j hj a ha
    have hall : ∀ x ∈ Q, x.1 ∈ L := by
      intro x hx
      rcases Dn.reach (fun x => x ∈ L) hcl hD b3 x hx with h | h
      · cases h
      · exact h
    obtain ⟨clk, hclk⟩ : ∃ clk : Nat, σ 26 0 25 = clk := ⟨(σ 26 0 25).toNat, by omega⟩
    have hpq : pq σ L σ1 := ⟨hp.1, fun a b j h => hp.2 a b j (by omega)⟩
    have hB1 : MB E σ0 σ1 ν n := hB.mv (fun a b j h1 h2 => hp.2 a b j (by omega)) (by rw [hp.2 26 0 14 (by omega)]; exact hB.2.2.2.2.1)
    have hfl : fl σ Q 1 = [] := by
      unfold fl
      exact List.filter_eq_nil_iff.mpr (fun x hx => by have := (hs.2 x hx).1; simp; omega)
    have K := lp_keep2 (SL := SL) (xs := xs) (nx := nx) (F := F) (kn := kn) (tx := tx) (E := E) (σ := σ) (σ0 := σ0) (ν := ν) (n := n) (Q := Q) (root := root) (L := L) (clk := clk) hn3 (nd_len n L b1 (fun x hx => (b2 x hx).2.1)) (fun x hx => (b2 x hx).1) hall (fun x hx => by
      rcases hD.k19 x hx with h | h
      · cases h
      · exact h) hs hclk (by omega) (fun σ2 h1 h2 => hF σ2 h1.2 h2) clk 1 σ1 l4 none (by omega) (Nat.le_refl _) hpq (by rw [hfl]; exact hB1)
    exact run 2 K
end
end
section
/-! The model: a match -/
/-- what stays during a match of the model -/
def frmM (σ0 σ : Sg) : Prop := ∀ a b j, ¬ (a = 28 ∨ a = 29 ∨ (35 ≤ a ∧ a ≤ 44)) → ¬ (a = 26 ∧ (j = 0 ∨ (11 ≤ j ∧ j ≤ 14) ∨ j = 16 ∨ (25 ≤ j ∧ j ≤ 29))) → σ a b j = σ0 a b j
def MMf (E : Ev) (σ0 : Sg) (o bf : Nat) (y : As) (σ' : Sg) : Prop := frmM σ0 σ' ∧ σ' 26 0 11 = 1 ∧
  ((o = 1 ∧ ∃ p c q ν n, y = GS p [] c q ν n ∧ (bf : Int) - 1 ≤ p ∧ p ≤ (esb E).length ∧ NuM (keepA E q ν) σ' ∧ σ' 26 0 12 = (bf : Int) - 1 ∧ σ' 26 0 13 = p ∧ σ' 26 0 14 = n) ∨ (¬ o = 1 ∧ NuM (yν y) σ' ∧ σ' 26 0 12 = -1 ∧ σ' 26 0 13 = -1 ∧ σ' 26 0 14 = (yn y : Nat)))
section
variable {SL : Nat} {xs : Nat → Int} {nx : Nat} {σ σ0 σ' σ1 σ9 : Sg} {kn : Nat → Option Nat} {tx : Nat → Bool} {F : Option Av → St → Prop} {E : Ev} {ν : Nu} {k p n r m f o M h p' u ku pu mu v bf : Nat} {root : Nat × Nat} {y : As}
theorem frmM.frt (h : frmM σ9 σ0) (h2 : frt σ0 σ) : frmM σ9 σ := fun a b j h3 h4 => by rw [h2 a b j (by omega) (by omega), h a b j h3 h4]
/-- at the end, by the row of the match -/
theorem mm_166 {last c : Int} {an : Int} {res : Int} (hfr : frmM σ9 σ0) (h11 : σ0 26 0 11 = 1) (h12 : σ0 26 0 12 = -1) (h13 : σ0 26 0 13 = -1) (hT : TrE E σ0 (n, bf) o y res σ) (hF : ∀ σ', MMf E σ9 o (bf + 1) y σ' → F (some (.inl o)) (nx, σ', rX kn tx)) : Xz SL xs (m_Model_match SL xs) F (166, [some (.inr (some (26, 0))), some (.inl v), some (.inl k), some (.inl an), some (.inl last), some (.inl res), some (.inl c)], [], (nx, σ, rX kn tx), 0, 0) := by
  have hno : ∀ (hB : MB E σ0 σ (yν y) (yn y)), ¬ o = 1 → MMf E σ9 o (bf + 1) y σ := fun hB ho => ⟨hfr.frt hB.1, by rw [hB.1 26 0 11 (by omega) (by omega)]; exact h11, Or.inr ⟨ho, hB.2.2.2.1, by rw [hB.1 26 0 12 (by omega) (by omega)]; exact h12, by rw [hB.1 26 0 13 (by omega) (by omega)]; exact h13, hB.2.2.2.2.1⟩⟩
  rcases hT with ⟨rfl, rfl, ν', n', m, k', p', C, Q', rfl, hB, hn3, hD, hs, h28, h29, h25a, h25b⟩ | ⟨rfl, rfl, h28, h29, hB, -⟩ | ⟨rfl, rfl, h28, hB⟩ | ⟨rfl, rfl, h28, h29, hB⟩
  · have hrn : n < n' := hD.lt
    obtain ⟨⟨-, w2, -, -⟩, d1, d2, d3⟩ := hD.rw
    have d2 : bf ≤ p' := d2
    have w2 : σ 37 0 n = bf := w2
    have d1 : σ 38 0 n = p' := d1
    have hin : (0 : Int) ≤ (n : Int) ∧ (n : Int) < 3000 := by omega
    have ex : ∀ a b j, ¬ (a = 26 ∧ (j = 12 ∨ j = 13)) → upS (upS σ 26 0 12 (bf : Int)) 26 0 13 (p' : Int) a b j = σ a b j := fun a b j h => by rw [upS_ne (by omega), upS_ne (by omega)]
    have hB2 : MB E (upS (upS σ 26 0 12 (bf : Int)) 26 0 13 (p' : Int)) (upS (upS σ 26 0 12 (bf : Int)) 26 0 13 (p' : Int)) ν' n' := by
      have hE := hB.ev
      obtain ⟨e1, e2, e3⟩ := hE
      refine ⟨fun _ _ _ _ _ => rfl, hB.2.1, ⟨by rw [ex 26 0 5 (by omega)]; exact e1, ⟨by rw [ex 26 0 16 (by omega)]; exact e2.1, fun i hi => by rw [ex 35 0 i (by omega)]; exact e2.2 i hi⟩, fun k hk => ?_⟩, fun w hw => ?_, by rw [ex 26 0 14 (by omega)]; exact hB.2.2.2.2.1, hB.2.2.2.2.2⟩
      · obtain ⟨k1, k2, k3, k4, k5⟩ := e3 k hk
        exact ⟨by rw [ex 30 0 k (by omega)]; exact k1, by rw [ex 31 0 k (by omega)]; exact k2, by rw [ex 32 0 k (by omega)]; exact k3, ⟨by rw [ex 34 0 k (by omega)]; exact k4.1, fun i hi => by show upS (upS σ 26 0 12 (bf : Int)) 26 0 13 (p' : Int) 33 0 (64 * k + i) = _; rw [ex 33 0 _ (by omega)]; exact k4.2 i hi⟩, k5⟩
      · obtain ⟨h5, h6⟩ := hB.2.2.2.1 w hw
        exact ⟨⟨by rw [ex 29 0 w (by omega)]; exact h5.1, fun i hi => by show upS (upS σ 26 0 12 (bf : Int)) 26 0 13 (p' : Int) 28 0 (64 * w + i) = _; rw [ex 28 0 _ (by omega)]; exact h5.2 i hi⟩, h6⟩
    have hD2 : Dn E (upS (upS σ 26 0 12 (bf : Int)) 26 0 13 (p' : Int)) m n' n k' bf p' [] [] [] C Q' := hD.frame (fun a i h1 h2 h3 h4 => ex a 0 i (by omega))
    have hs2 : Srt (upS (upS σ 26 0 12 (bf : Int)) 26 0 13 (p' : Int)) Q' := hs.frame (fun x _ => ex 43 0 x.1 (by omega)) (by rw [ex 26 0 25 (by omega)]; exact Int.le_refl _)
    have Kk := tw_Model_keep (SL := SL) (xs := xs) (nx := nx) (kn := kn) (tx := tx) (F := fun v s' => v = none ∧ ∃ σ', s' = (nx, σ', rX kn tx) ∧ MMf E σ9 1 (bf + 1) (GS p' [] C (qm Q') ν' n') σ') hB2 hn3 hD2 hs2 (by rw [ex 26 0 25 (by omega)]; exact ⟨h25a, h25b⟩) (fun σ' f1 hB3 => ⟨rfl, σ', rfl, ?_⟩)
    · have es : upS (upS σ 26 0 12 (bf : Int)) 26 0 13 (p' : Int) = upS (upS σ 26 0 12 (σ 37 0 (n : Int).toNat)) 26 0 13 (upS σ 26 0 12 (σ 37 0 (n : Int).toNat) 38 0 (n : Int).toNat) := by
        rw [Int.toNat_natCast, upS_ne (f := σ) (by omega), w2, d1]
      rw [es] at Kk
      refine run 30 ?_
      refine And.intro (fun h => absurd (show (n : Int) = -1 from h) (by omega)) (fun h => ?_)
      refine And.intro hin ?_
      refine And.intro hin ?_
      refine call_any (Y := fun v s' => v = none ∧ ∃ σ', s' = (nx, σ', rX kn tx) ∧ MMf E σ9 1 (bf + 1) (GS p' [] C (qm Q') ν' n') σ') Kk ?_
      intro v s' hv
      obtain ⟨rfl, σ', rfl, hM⟩ := hv
      exact hF σ' hM
    · refine ⟨fun a b j h3 h4 => ?_, ?_, Or.inl ⟨rfl, p', C, qm Q', ν', n', rfl, by omega, d3, hB3.2.2.2.1, ?_, ?_, hB3.2.2.2.2.1⟩⟩
      · rw [f1 a b j (by omega), ex a b j (by omega)]
        exact (hfr.frt hB.1) a b j h3 h4
      · rw [f1 26 0 11 (by omega), ex 26 0 11 (by omega), hB.1 26 0 11 (by omega) (by omega)]; exact h11
      · rw [f1 26 0 12 (by omega), upS_ne (by omega), upS_same]; omega
      · rw [f1 26 0 13 (by omega), upS_same]
  · have K := hF σ (hno hB (by omega))
    refine run 20 ?_
    refine And.intro (fun h => ?_) (fun h => absurd rfl h)
    refine And.intro (fun h => ?_) (fun h => absurd (show σ 26 0 28 = 0 from h28) h)
    refine And.intro (fun h => K) (fun h => absurd (show σ 26 0 29 = 0 from h29) h)
  · have K := hF σ (hno hB (by omega))
    refine run 20 ?_
    refine And.intro (fun h => ?_) (fun h => absurd rfl h)
    refine And.intro (fun h => absurd (show σ 26 0 28 = 0 from h) (by rw [h28]; omega)) (fun h => K)
  · have K := hF σ (hno hB (by omega))
    refine run 20 ?_
    refine And.intro (fun h => ?_) (fun h => absurd rfl h)
    refine And.intro (fun h => ?_) (fun h => absurd (show σ 26 0 28 = 0 from h28) h)
    refine And.intro (fun h => absurd (show σ 26 0 29 = 0 from h) (by rw [h29]; omega)) (fun h => K)
theorem lp_mm {last : Nat} {an : Int} (hlast : last ≤ (esb E).length) (hk : k < ect E) (hfr : frmM σ9 σ0) (h11 : σ0 26 0 11 = 1) (h12 : σ0 26 0 12 = -1) (h13 : σ0 26 0 13 = -1) : ∀ (m b : Nat) (ν : Nu) (n o bf : Nat) (y : As) (σ : Sg), b + m = last + 1 → n ≤ 3000 → Mt E k m b ν n o bf y → MB E σ0 σ ν n → σ 26 0 28 = 0 → σ 26 0 29 = 0 → 0 ≤ σ 26 0 25 ∧ σ 26 0 25 ≤ 3001 * n →
    (∀ σ', MMf E σ9 o bf y σ' → F (some (.inl o)) (nx, σ', rX kn tx)) → Xz SL xs (m_Model_match SL xs) F (124, [some (.inr (some (26, 0))), some (.inl v), some (.inl k), some (.inl an), some (.inl last), some (.inl (-1)), some (.inl b)], [], (nx, σ, rX kn tx), 0, 0) := by
  intro m
  induction m with
  | zero =>
    intro b ν n o bf y σ hb hn hm hB h28 h29 h25 hF
    have hE64 := hB.2.1.1
    obtain ⟨rfl, rfl, rfl⟩ := hm
    have K := hF σ ⟨hfr.frt hB.1, by rw [hB.1 26 0 11 (by omega) (by omega)]; exact h11, Or.inr ⟨by omega, hB.2.2.2.1, by rw [hB.1 26 0 12 (by omega) (by omega)]; exact h12, by rw [hB.1 26 0 13 (by omega) (by omega)]; exact h13, hB.2.2.2.2.1⟩⟩
    refine run 20 ?_
    refine And.intro (fun h => ?_) (fun h => absurd (show (last : Int) < (bf : Int) by omega) h)
    refine And.intro (fun h => ?_) (fun h => absurd rfl h)
    refine And.intro (fun h => ?_) (fun h => absurd (show σ 26 0 28 = 0 from h28) h)
    refine And.intro (fun h => K) (fun h => absurd (show σ 26 0 29 = 0 from h29) h)
  | succ m ih =>
    intro b ν n o bf y σ hb hn hm hB h28 h29 h25 hF
    have hE64 := hB.2.1.1
    obtain ⟨f, o', y', hr, hm⟩ := hm
    have hw : wr ((b : Int) + 1) = ((b + 1 : Nat) : Int) := by rw [wr_eq ⟨by omega, by omega⟩]; omega
    refine run 24 ?_
    refine And.intro (fun h => absurd (show (last : Int) < (b : Int) from h) (by omega)) (fun h => ?_)
    refine And.intro (fun h => absurd rfl h) (fun h => ?_)
    refine And.intro (fun h => absurd (show σ 26 0 28 = 0 from h28) h) (fun h => ?_)
    refine And.intro (fun h => absurd (show σ 26 0 29 = 0 from h29) h) (fun h => ?_)
    refine call_any (Y := fun v s' => ∃ res σ', v = some (.inl res) ∧ s' = (nx, σ', rX kn tx) ∧ TrE E σ0 (n, b) o' y' res σ') (tw_Model_tries hB hn h28 h29 h25 hk (by omega) hr (fun res σ' h => ⟨res, σ', rfl, rfl, h⟩)) ?_
    intro v0 s' hv
    obtain ⟨res, σ', rfl, rfl, hT⟩ := hv
    rcases hm with ⟨rfl, hm⟩ | ⟨ho, rfl, rfl, rfl⟩
    · have hT2 := hT
      rcases hT with ⟨h, -⟩ | ⟨-, rfl, g28, g29, gB, gn, g25a, g25b⟩ | ⟨h, -⟩ | ⟨h, -⟩
      · omega
      · have K := ih (b + 1) (yν y') (yn y') o bf y σ' (by omega) gn hm gB g28 g29 ⟨g25a, g25b⟩ hF
        rw [← hw] at K
        exact leaf (by first | exact run 1 K | exact run 2 K | exact run 3 K)
      · omega
      · omega
    · have K166 := mm_166 (SL := SL) (xs := xs) (nx := nx) (kn := kn) (tx := tx) (F := F) (v := v) (k := k) (an := an) (last := (last : Int)) (c := ((b + 1 : Nat) : Int)) hfr h11 h12 h13 hT hF
      have K : Xz SL xs (m_Model_match SL xs) F (124, [some (.inr (some (26, 0))), some (.inl v), some (.inl k), some (.inl an), some (.inl last), some (.inl res), some (.inl ((b + 1 : Nat) : Int))], [], (nx, σ', rX kn tx), 0, 0) := by
        refine run 12 ?_
        refine And.intro (fun h => leaf K166) (fun h => ?_)
        refine And.intro (fun h => leaf K166) (fun h => ?_)
        have hres : res = -1 := Classical.not_not.mp h
        refine And.intro (fun h => leaf K166) (fun h => ?_)
        have g28 : σ' 26 0 28 = 0 := Classical.not_not.mp h
        refine And.intro (fun h => leaf K166) (fun h => ?_)
        have g29 : σ' 26 0 29 = 0 := Classical.not_not.mp h
        exfalso
        rcases hT with ⟨-, h1, -⟩ | ⟨h1, -⟩ | ⟨-, -, h1, -⟩ | ⟨-, -, -, h1, -⟩
        · rw [hres] at h1
          omega
        · exact ho h1
        · omega
        · omega
      rw [← hw] at K
      exact leaf (by first | exact run 1 K | exact run 2 K | exact run 3 K)
def RMm (E : Ev) (σ : Sg) (ν : Nu) : Prop := EvOK E ∧ σ 26 0 5 = ect E ∧ (∀ k, k < ect E → σ 30 0 k = ekd E k ∧ σ 31 0 k = efa E k ∧ σ 32 0 k = efb E k ∧ tl (fun i => σ 33 0 (64 * k + i)) (σ 34 0 k) (ewd E k) ∧ (ewd E k).length ≤ 64) ∧ NuM ν σ ∧ byt (esb E)
theorem lp_mcopy {l : List Int} {an : Int} {kk : Int} (hl : tl (fun i => σ 28 0 (64 * v + i)) l.length l) (h64 : l.length ≤ 64) (hv : v < 8) (hb : byt l) (hK : ∀ σ1, (∀ j, j < l.length → σ1 35 0 j = l.getD j 0) → (∀ a b j, ¬ a = 35 → σ1 a b j = σ a b j) → Xz SL xs (m_Model_match SL xs) F (69, [some (.inr (some (26, 0))), some (.inl v), some (.inl kk), some (.inl an), some (.inl l.length), none, none], [], (nx, σ1, rX kn tx), 0, 0)) (h16 : σ 26 0 16 = l.length) : ∀ (m i : Nat) (σ1 : Sg), i + m = l.length → (∀ j, j < i → σ1 35 0 j = l.getD j 0) → (∀ a b j, ¬ a = 35 → σ1 a b j = σ a b j) → Xz SL xs (m_Model_match SL xs) F (35, [some (.inr (some (26, 0))), some (.inl v), some (.inl kk), some (.inl an), some (.inl i), none, none], [], (nx, σ1, rX kn tx), 0, 0) := by
  intro m
  induction m with
  | zero =>
    intro i σ1 hi h1 h2
    have hi : i = l.length := by omega
    subst hi
    refine run 4 ?_
    refine And.intro (fun h => leaf (hK σ1 h1 h2)) (fun h => absurd (show σ1 26 0 16 ≤ (l.length : Int) by rw [h2 26 0 16 (by omega), h16]; exact Int.le_refl _) h)
  | succ m ih =>
    intro i σ1 hi h1 h2
    have hw6 := w64 (k := v) (i := i) (by omega) (by omega)
    have hwi : wr ((i : Int) + 1) = ((i + 1 : Nat) : Int) := by rw [wr_eq ⟨by omega, by omega⟩]; omega
    have hsg : σ1 28 0 (wr (wr (64 * (v : Int)) + (i : Int))).toNat = l.getD i 0 := by rw [hw6, Int.toNat_natCast, h2 28 0 _ (by omega)]; exact hl.2 i (by omega)
    have hb8 : b8 (l.getD i 0) = l.getD i 0 := by
      refine hb _ ?_
      rw [List.getD_eq_getElem?_getD, List.getElem?_eq_getElem (by omega)]
      exact List.getElem_mem _
    have K := ih (i + 1) (upS σ1 35 0 i (l.getD i 0)) (by omega) (fun j hj => by
      by_cases hji : j = i
      · subst hji
        exact upS_same
      · rw [upS_ne (by omega)]
        exact h1 j (by omega)) (fun a b j h => by rw [upS_ne (by omega)]; exact h2 a b j h)
    rw [← hb8, ← hsg, ← hwi, show i = (i : Int).toNat by rw [Int.toNat_natCast]] at K
    rw [Int.toNat_natCast] at K
    refine run 24 ?_
    refine And.intro (fun h => ?_) (fun h => ?_)
    · have h : σ1 26 0 16 ≤ (i : Int) := h
      rw [h2 26 0 16 (by omega), h16] at h
      omega
    refine And.intro (by show 0 ≤ wr (wr (64 * (v : Int)) + (i : Int)) ∧ wr (wr (64 * (v : Int)) + (i : Int)) < 512; rw [hw6]; omega) ?_
    refine And.intro ⟨show (0 : Int) ≤ (i : Int) by omega, show (i : Int) < 64 by omega⟩ ?_
    exact leaf (by first | exact run 1 K | exact run 2 K | exact run 3 K)
theorem tw_Model_match {an : Int} (h : RMm E σ ν) (hv : v < 8) (hE : esb E = ν v) (hk : k < ect E) (hm : Mt E k ((if an = 0 then (esb E).length else 0) + 1) 0 ν 0 o bf y) (hF : ∀ σ', MMf E σ o bf y σ' → F (some (.inl o)) (nx, σ', rX kn tx)) : T_Model_match SL xs [.inr (some (26, 0)), .inl v, .inl k, .inl an] (nx, σ, rX kn tx) F := by
  obtain ⟨eo, g5, gk, gN, gb⟩ := h
  obtain ⟨hvt, hv64⟩ := gN v hv
  have hvl : σ 29 0 v = (ν v).length := hvt.1
  have hiv : (0 : Int) ≤ (v : Int) ∧ (v : Int) < 8 := by omega
  have K69 : ∀ σ1, (∀ j, j < (ν v).length → σ1 35 0 j = (ν v).getD j 0) → (∀ a b j, ¬ a = 35 → σ1 a b j = upS (upS σ 26 0 0 0) 26 0 16 ((ν v).length : Int) a b j) → Xz SL xs (m_Model_match SL xs) F (69, [some (.inr (some (26, 0))), some (.inl v), some (.inl (k : Int)), some (.inl an), some (.inl (ν v).length), none, none], [], (nx, σ1, rX kn tx), 0, 0) := by
    intro σ1 h1 h2
    have ex : ∀ a b j, ¬ a = 35 → ¬ (a = 26 ∧ (j = 0 ∨ (11 ≤ j ∧ j ≤ 14) ∨ j = 16 ∨ (25 ≤ j ∧ j ≤ 29))) → upS (upS (upS (upS (upS (upS (upS σ1 26 0 11 1) 26 0 12 (-1)) 26 0 13 (-1)) 26 0 14 0) 26 0 25 0) 26 0 28 0) 26 0 29 0 a b j = σ a b j := by
      intro a b j h3 h4
      rw [upS_ne (by omega), upS_ne (by omega), upS_ne (by omega), upS_ne (by omega), upS_ne (by omega), upS_ne (by omega), upS_ne (by omega), h2 a b j h3, upS_ne (by omega), upS_ne (by omega)]
    have x16 : upS (upS (upS (upS (upS (upS (upS σ1 26 0 11 1) 26 0 12 (-1)) 26 0 13 (-1)) 26 0 14 0) 26 0 25 0) 26 0 28 0) 26 0 29 0 26 0 16 = (ν v).length := by
      rw [upS_ne (by omega), upS_ne (by omega), upS_ne (by omega), upS_ne (by omega), upS_ne (by omega), upS_ne (by omega), upS_ne (by omega), h2 26 0 16 (by omega), upS_same]
    have x35 : ∀ j, upS (upS (upS (upS (upS (upS (upS σ1 26 0 11 1) 26 0 12 (-1)) 26 0 13 (-1)) 26 0 14 0) 26 0 25 0) 26 0 28 0) 26 0 29 0 35 0 j = σ1 35 0 j := fun j => by
      rw [upS_ne (by omega), upS_ne (by omega), upS_ne (by omega), upS_ne (by omega), upS_ne (by omega), upS_ne (by omega), upS_ne (by omega)]
    have x11 : upS (upS (upS (upS (upS (upS (upS σ1 26 0 11 1) 26 0 12 (-1)) 26 0 13 (-1)) 26 0 14 0) 26 0 25 0) 26 0 28 0) 26 0 29 0 26 0 11 = 1 := by
      rw [upS_ne (by omega), upS_ne (by omega), upS_ne (by omega), upS_ne (by omega), upS_ne (by omega), upS_ne (by omega), upS_same]
    have x12 : upS (upS (upS (upS (upS (upS (upS σ1 26 0 11 1) 26 0 12 (-1)) 26 0 13 (-1)) 26 0 14 0) 26 0 25 0) 26 0 28 0) 26 0 29 0 26 0 12 = -1 := by
      rw [upS_ne (by omega), upS_ne (by omega), upS_ne (by omega), upS_ne (by omega), upS_ne (by omega), upS_same]
    have x13 : upS (upS (upS (upS (upS (upS (upS σ1 26 0 11 1) 26 0 12 (-1)) 26 0 13 (-1)) 26 0 14 0) 26 0 25 0) 26 0 28 0) 26 0 29 0 26 0 13 = -1 := by
      rw [upS_ne (by omega), upS_ne (by omega), upS_ne (by omega), upS_ne (by omega), upS_same]
    have x14 : upS (upS (upS (upS (upS (upS (upS σ1 26 0 11 1) 26 0 12 (-1)) 26 0 13 (-1)) 26 0 14 0) 26 0 25 0) 26 0 28 0) 26 0 29 0 26 0 14 = ((0 : Nat) : Int) := by
      rw [upS_ne (by omega), upS_ne (by omega), upS_ne (by omega), upS_same]; rfl
    have x25 : upS (upS (upS (upS (upS (upS (upS σ1 26 0 11 1) 26 0 12 (-1)) 26 0 13 (-1)) 26 0 14 0) 26 0 25 0) 26 0 28 0) 26 0 29 0 26 0 25 = 0 := by
      rw [upS_ne (by omega), upS_ne (by omega), upS_same]
    have x28 : upS (upS (upS (upS (upS (upS (upS σ1 26 0 11 1) 26 0 12 (-1)) 26 0 13 (-1)) 26 0 14 0) 26 0 25 0) 26 0 28 0) 26 0 29 0 26 0 28 = 0 := by
      rw [upS_ne (by omega), upS_same]
    have hMB : MB E (upS (upS (upS (upS (upS (upS (upS σ1 26 0 11 1) 26 0 12 (-1)) 26 0 13 (-1)) 26 0 14 0) 26 0 25 0) 26 0 28 0) 26 0 29 0) (upS (upS (upS (upS (upS (upS (upS σ1 26 0 11 1) 26 0 12 (-1)) 26 0 13 (-1)) 26 0 14 0) 26 0 25 0) 26 0 28 0) 26 0 29 0) ν 0 := by
      refine ⟨fun _ _ _ _ _ => rfl, eo, ⟨by rw [ex 26 0 5 (by omega) (by omega)]; exact g5, ⟨by rw [hE]; exact x16, fun i hi => by rw [x35, hE]; rw [hE] at hi; exact h1 i hi⟩, fun k hk => ?_⟩, fun w hw => ?_, x14, gb⟩
      · obtain ⟨k1, k2, k3, k4, k5⟩ := gk k hk
        exact ⟨by rw [ex 30 0 k (by omega) (by omega)]; exact k1, by rw [ex 31 0 k (by omega) (by omega)]; exact k2, by rw [ex 32 0 k (by omega) (by omega)]; exact k3, ⟨by rw [ex 34 0 k (by omega) (by omega)]; exact k4.1, fun i hi => by
          have := k4.2 i hi
          show upS (upS (upS (upS (upS (upS (upS σ1 26 0 11 1) 26 0 12 (-1)) 26 0 13 (-1)) 26 0 14 0) 26 0 25 0) 26 0 28 0) 26 0 29 0 33 0 (64 * k + i) = _
          rw [ex 33 0 _ (by omega) (by omega)]
          exact this⟩, k5⟩
      · obtain ⟨h5, h6⟩ := gN w hw
        exact ⟨⟨by rw [ex 29 0 w (by omega) (by omega)]; exact h5.1, fun i hi => by
          have := h5.2 i hi
          show upS (upS (upS (upS (upS (upS (upS σ1 26 0 11 1) 26 0 12 (-1)) 26 0 13 (-1)) 26 0 14 0) 26 0 25 0) 26 0 28 0) 26 0 29 0 28 0 (64 * w + i) = _
          rw [ex 28 0 _ (by omega) (by omega)]
          exact this⟩, h6⟩
    have hfr : frmM σ (upS (upS (upS (upS (upS (upS (upS σ1 26 0 11 1) 26 0 12 (-1)) 26 0 13 (-1)) 26 0 14 0) 26 0 25 0) 26 0 28 0) 26 0 29 0) := fun a b j h3 h4 => ex a b j (by omega) h4
    have KL := fun (last : Nat) (hl : last ≤ (esb E).length) (hm : Mt E k (last + 1) 0 ν 0 o bf y) => lp_mm (SL := SL) (xs := xs) (nx := nx) (kn := kn) (tx := tx) (F := F) (v := v) (an := an) (last := last) hl hk hfr x11 x12 x13 (last + 1) 0 ν 0 o bf y _ (by omega) (by omega) hm hMB x28 upS_same ⟨by rw [x25]; exact Int.le_refl _, by rw [x25]; omega⟩ hF
    refine run 24 ?_
    refine And.intro (Or.inr rfl) ?_
    refine And.intro (Or.inl rfl) ?_
    refine And.intro (Or.inl rfl) ?_
    refine And.intro (fun h => ?_) (fun h => ?_)
    · have h : an = 0 := h
      rw [if_pos h] at hm
      have K := KL (esb E).length (Nat.le_refl _) hm
      rw [hE, ← x16] at K
      exact leaf (by first | exact run 1 K | exact run 2 K | exact run 3 K | exact run 4 K | exact run 5 K | exact run 6 K | exact run 7 K)
    · have h : ¬ an = 0 := h
      rw [if_neg h] at hm
      have K := KL 0 (Nat.zero_le _) hm
      exact leaf (by first | exact run 1 K | exact run 2 K | exact run 3 K | exact run 4 K | exact run 5 K | exact run 6 K | exact run 7 K)
  have K35 := lp_mcopy (SL := SL) (xs := xs) (nx := nx) (kn := kn) (tx := tx) (F := F) (an := an) (kk := (k : Int)) (σ := upS (upS σ 26 0 0 0) 26 0 16 ((ν v).length : Int)) (l := ν v) ⟨rfl, fun i hi => by show upS (upS σ 26 0 0 0) 26 0 16 ((ν v).length : Int) 28 0 (64 * v + i) = _; rw [upS_ne (by omega), upS_ne (by omega)]; exact hvt.2 i hi⟩ hv64 hv (by rw [← hE]; exact gb) K69 upS_same (ν v).length 0 _ (Nat.zero_add _) (fun j hj => by omega) (fun a b j h => rfl)
  have e29 : upS σ 26 0 0 0 29 0 (v : Int).toNat = (ν v).length := by rw [Int.toNat_natCast, upS_ne (by omega)]; exact hvl
  rw [← e29] at K35
  refine run 30 ?_
  refine call_eq (fun F hF => tw_Model_isVariable hF) ?_
  refine And.intro (fun h => absurd (show (if 0 ≤ (v : Int) ∧ (v : Int) < 8 then (1 : Int) else 0) = 0 from h) (by rw [if_pos hiv]; omega)) (fun h => ?_)
  refine call_eq (fun F hF => tw_Model_isNode (x := (k : Int)) hF) ?_
  refine And.intro (fun h => ?_) (fun h => absurd (show ¬ (if 0 ≤ (k : Int) ∧ (k : Int) < upS σ 26 0 0 0 26 0 5 then (1 : Int) else 0) = 0 by rw [upS_ne (by omega), g5, if_pos (by omega)]; omega) h)
  refine And.intro hiv ?_
  exact leaf (by first | exact run 1 K35 | exact run 2 K35 | exact run 3 K35 | exact run 4 K35)
theorem tw_Model_match_no {v k : Int} {an : Int} (h : ¬ ((0 ≤ v ∧ v < 8) ∧ 0 ≤ k ∧ k < σ 26 0 5)) (hF : F (some (.inl (-1))) (nx, upS σ 26 0 0 0, rX kn tx)) : T_Model_match SL xs [.inr (some (26, 0)), .inl v, .inl k, .inl an] (nx, σ, rX kn tx) F := by
  refine run 24 ?_
  refine call_eq (fun F hF => tw_Model_isVariable hF) ?_
  refine And.intro (fun h1 => hF) (fun h1 => ?_)
  have h1 : ¬ (if 0 ≤ v ∧ v < 8 then (1 : Int) else 0) = 0 := h1
  have h1 := Classical.not_not.mp (fun z => h1 (ite0.mpr z))
  refine call_eq (fun F hF => tw_Model_isNode (x := k) hF) ?_
  refine And.intro (fun h2 => ?_) (fun h2 => hF)
  have h2 : ¬ (if 0 ≤ k ∧ k < upS σ 26 0 0 0 26 0 5 then (1 : Int) else 0) = 0 := h2
  have h2 := Classical.not_not.mp (fun z => h2 (ite0.mpr z))
  rw [upS_ne (by omega)] at h2
  exact absurd ⟨h1, h2⟩ h
end
end
section
/-! Both faces: the relation, the small methods -/
theorem b8_idem (x : Int) : b8 (b8 x) = b8 x := by
  unfold b8
  rw [Int32.ofInt_toInt, Int8.toInt8_toInt32]
theorem cnd_in {b : Bool} {A : Prop} (h : b = true) (hA : A) : bif b then A else False := by
  rw [h]
  exact hA
theorem tl.fr {f f' : Nat → Int} {n n' : Int} {l : List Int} (h : tl f n l) (h1 : ∀ i, i < l.length → f' i = f i) (h2 : n' = n) : tl f' n' l := ⟨by rw [h2]; exact h.1, fun i hi => by rw [h1 i hi]; exact h.2 i hi⟩
def slR (σ : Sg) (sl : List Int) : Prop := tl (σ 2 0) (σ 1 0 1) sl ∧ tl (σ 27 0) (σ 26 0 2) sl ∧ sl.length ≤ 64 ∧ byt sl
def nuR (σ : Sg) (ν : Nu) : Prop := NuC ν σ ∧ NuM ν σ ∧ ∀ v, v < 8 → byt (ν v)
def NdC (E : Ev) (σ : Sg) (kn : Nat → Option Nat) : Prop := σ 4 0 4 = ect E ∧ ∀ k, k < ect E → kn k = some (ekd E k) ∧ σ 6 0 k = efa E k ∧ σ 7 0 k = efb E k ∧ tl (σ 2 (11 + k)) (σ 1 (11 + k) 1) (ewd E k) ∧ (ewd E k).length ≤ 64
def NdM (E : Ev) (σ : Sg) : Prop := σ 26 0 5 = ect E ∧ ∀ k, k < ect E → σ 30 0 k = ekd E k ∧ σ 31 0 k = efa E k ∧ σ 32 0 k = efb E k ∧ tl (fun i => σ 33 0 (64 * k + i)) (σ 34 0 k) (ewd E k) ∧ (ewd E k).length ≤ 64
def mcR (σ : Sg) : Prop := (σ 0 0 5 = 0 ∧ σ 26 0 11 = 0) ∨ (σ 0 0 5 = 1 ∧ σ 26 0 11 = 1 ∧ σ 9 0 6 = σ 26 0 14 ∧ ((σ 9 0 11 = 1 ∧ ∃ b p : Nat, σ 9 0 10 = b ∧ σ 26 0 12 = b ∧ σ 9 0 7 = p ∧ σ 26 0 13 = p ∧ b ≤ p ∧ p ≤ 64) ∨ (¬ σ 9 0 11 = 1 ∧ σ 26 0 12 = -1 ∧ σ 26 0 13 = -1)))
def RR (nx : Nat) (σ : Sg) (kn : Nat → Option Nat) (tx : Nat → Bool) (hi : Nat) (sl : List Int) (ν : Nu) (E : Ev) : Prop :=
  (nx = 65 + 2 * hi ∧ hi ≤ 64 ∧ ect E ≤ hi ∧ tx = fun j => decide (j < hi)) ∧ slR σ sl ∧ nuR σ ν ∧ (NdC E σ kn ∧ NdM E σ ∧ EvOK E ∧ esb E = []) ∧ mcR σ
section
variable {SL : Nat} {xs : Nat → Int} {nx hi : Nat} {σ σ' : Sg} {kn : Nat → Option Nat} {tx : Nat → Bool} {F : Option Av → St → Prop} {E : Ev} {ν : Nu} {sl : List Int}
theorem slR.fr (h : slR σ sl) (h1 : ∀ j, σ' 2 0 j = σ 2 0 j) (h2 : σ' 1 0 1 = σ 1 0 1) (h3 : ∀ j, σ' 27 0 j = σ 27 0 j) (h4 : σ' 26 0 2 = σ 26 0 2) : slR σ' sl := ⟨h.1.fr (fun i _ => h1 i) h2, h.2.1.fr (fun i _ => h3 i) h4, h.2.2⟩
theorem nuR.fr (h : nuR σ ν) (h1 : ∀ b j, 3 ≤ b → b < 11 → σ' 2 b j = σ 2 b j) (h2 : ∀ b, 3 ≤ b → b < 11 → σ' 1 b 1 = σ 1 b 1) (h3 : ∀ j, σ' 28 0 j = σ 28 0 j) (h4 : ∀ j, σ' 29 0 j = σ 29 0 j) : nuR σ' ν := ⟨fun v hv => ⟨(h.1 v hv).1.fr (fun i _ => h1 (3 + v) i (by omega) (by omega)) (h2 (3 + v) (by omega) (by omega)), (h.1 v hv).2⟩, fun v hv => ⟨(h.2.1 v hv).1.fr (fun i _ => h3 _) (h4 v), (h.2.1 v hv).2⟩, h.2.2⟩
theorem NdC.fr (h : NdC E σ kn) (h0 : σ' 4 0 4 = σ 4 0 4) (h1 : ∀ j, σ' 6 0 j = σ 6 0 j) (h2 : ∀ j, σ' 7 0 j = σ 7 0 j) (h3 : ∀ b j, 11 ≤ b → σ' 2 b j = σ 2 b j) (h4 : ∀ b, 11 ≤ b → σ' 1 b 1 = σ 1 b 1) : NdC E σ' kn := ⟨by rw [h0]; exact h.1, fun k hk => by
  obtain ⟨k1, k2, k3, k4, k5⟩ := h.2 k hk
  exact ⟨k1, by rw [h1]; exact k2, by rw [h2]; exact k3, k4.fr (fun i _ => h3 _ i (by omega)) (h4 _ (by omega)), k5⟩⟩
theorem NdM.fr (h : NdM E σ) (h0 : σ' 26 0 5 = σ 26 0 5) (h1 : ∀ a j, 30 ≤ a → a ≤ 34 → σ' a 0 j = σ a 0 j) : NdM E σ' := ⟨by rw [h0]; exact h.1, fun k hk => by
  obtain ⟨k1, k2, k3, k4, k5⟩ := h.2 k hk
  exact ⟨by rw [h1 30 k (by omega) (by omega)]; exact k1, by rw [h1 31 k (by omega) (by omega)]; exact k2, by rw [h1 32 k (by omega) (by omega)]; exact k3, k4.fr (fun i _ => h1 33 _ (by omega) (by omega)) (h1 34 k (by omega) (by omega)), k5⟩⟩
theorem mcR.fr (h : mcR σ) (h0 : σ' 0 0 5 = σ 0 0 5) (h1 : ∀ j, σ' 9 0 j = σ 9 0 j) (h2 : ∀ j, 11 ≤ j → j ≤ 14 → σ' 26 0 j = σ 26 0 j) : mcR σ' := by
  unfold mcR
  rw [h0, h1, h1, h1, h1, h2 11 (by omega) (by omega), h2 12 (by omega) (by omega), h2 13 (by omega) (by omega), h2 14 (by omega) (by omega)]
  exact h
/-- 'thrown' does not matter -/
theorem RR.thr (h : RR nx σ kn tx hi sl ν E) : RR nx (upS σ 26 0 0 0) kn tx hi sl ν E := ⟨h.1, h.2.1.fr (fun j => upS_ne (by omega)) (upS_ne (by omega)) (fun j => upS_ne (by omega)) (upS_ne (by omega)), h.2.2.1.fr (fun b j _ _ => upS_ne (by omega)) (fun b _ _ => upS_ne (by omega)) (fun j => upS_ne (by omega)) (fun j => upS_ne (by omega)), ⟨h.2.2.2.1.1.fr (upS_ne (by omega)) (fun j => upS_ne (by omega)) (fun j => upS_ne (by omega)) (fun b j _ => upS_ne (by omega)) (fun b _ => upS_ne (by omega)), h.2.2.2.1.2.1.fr (upS_ne (by omega)) (fun a j _ _ => upS_ne (by omega)), h.2.2.2.1.2.2⟩, h.2.2.2.2.fr (upS_ne (by omega)) (fun j => upS_ne (by omega)) (fun j _ _ => upS_ne (by omega))⟩
/-- both answer alike -/
def Bth (SL : Nat) (xs : Nat → Int) (TA TB : Tr) (av : List Av) (nx : Nat) (σ : Sg) (kn : Nat → Option Nat) (tx : Nat → Bool) : Prop :=
  ∃ (Y : Option Av → St → Prop), TA (.inr (some (0, 0)) :: av) (nx, σ, rX kn tx) Y ∧ ∀ v s, Y v s → ∃ x : Int, v = some (.inl x) ∧ ∃ Z : Option Av → St → Prop, TB (.inr (some (26, 0)) :: av) s Z ∧ ∀ v' s', Z v' s' → v' = some (.inl x) ∧ ∃ nx' σ' kn' tx' hi' sl' ν' E', s' = (nx', σ', rX kn' tx') ∧ RR nx' σ' kn' tx' hi' sl' ν' E'
theorem bth_p {TA TB : Tr} {av : List Av} {x : Int} {PA : Sg → Prop} {PC : Sg → Sg → Prop} (hA : TA (.inr (some (0, 0)) :: av) (nx, σ, rX kn tx) (fun v s => v = some (.inl x) ∧ ∃ σ1, s = (nx, σ1, rX kn tx) ∧ PA σ1)) (hB : ∀ σ1, PA σ1 → TB (.inr (some (26, 0)) :: av) (nx, σ1, rX kn tx) (fun v s => v = some (.inl x) ∧ ∃ σ2, s = (nx, σ2, rX kn tx) ∧ PC σ1 σ2)) (hR : ∀ σ1 σ2, PA σ1 → PC σ1 σ2 → ∃ hi' sl' ν' E', RR nx σ2 kn tx hi' sl' ν' E') : Bth SL xs TA TB av nx σ kn tx :=
  ⟨_, hA, fun v s h => by
    obtain ⟨rfl, σ1, rfl, h1⟩ := h
    refine ⟨x, rfl, _, hB σ1 h1, fun v' s' h => ?_⟩
    obtain ⟨rfl, σ2, rfl, h2⟩ := h
    obtain ⟨hi', sl', ν', E', h3⟩ := hR σ1 σ2 h1 h2
    exact ⟨rfl, nx, σ2, kn, tx, hi', sl', ν', E', rfl, h3⟩⟩
/-- nothing changes but 'thrown' -/
theorem bth_no {TA TB : Tr} {av : List Av} {x : Int} (hR : RR nx σ kn tx hi sl ν E) (hA : TA (.inr (some (0, 0)) :: av) (nx, σ, rX kn tx) (fun v s => v = some (.inl x) ∧ s = (nx, σ, rX kn tx))) (hB : TB (.inr (some (26, 0)) :: av) (nx, σ, rX kn tx) (fun v s => v = some (.inl x) ∧ s = (nx, upS σ 26 0 0 0, rX kn tx))) : Bth SL xs TA TB av nx σ kn tx :=
  ⟨_, hA, fun v s h => by
    obtain ⟨rfl, rfl⟩ := h
    refine ⟨x, rfl, _, hB, fun v' s' h => ?_⟩
    obtain ⟨rfl, rfl⟩ := h
    exact ⟨rfl, nx, _, kn, tx, hi, sl, ν, E, rfl, hR.thr⟩⟩
theorem RR.mk {sl' : List Int} {ν' : Nu} (h : RR nx σ kn tx hi sl ν E) (hc : ∀ a b j, ¬ ((a = 1 ∨ a = 2) ∧ b < 11) → ¬ (a = 26 ∧ (j = 0 ∨ j = 2)) → ¬ (27 ≤ a ∧ a ≤ 29) → ¬ a = 35 → σ' a b j = σ a b j) (hs : slR σ' sl') (hn : nuR σ' ν') : RR nx σ' kn tx hi sl' ν' E :=
  ⟨h.1, hs, hn, ⟨h.2.2.2.1.1.fr (hc _ _ _ (by omega) (by omega) (by omega) (by omega)) (fun j => hc _ _ _ (by omega) (by omega) (by omega) (by omega)) (fun j => hc _ _ _ (by omega) (by omega) (by omega) (by omega)) (fun b j _ => hc _ _ _ (by omega) (by omega) (by omega) (by omega)) (fun b _ => hc _ _ _ (by omega) (by omega) (by omega) (by omega)), h.2.2.2.1.2.1.fr (hc _ _ _ (by omega) (by omega) (by omega) (by omega)) (fun a j _ _ => hc _ _ _ (by omega) (by omega) (by omega) (by omega)), h.2.2.2.1.2.2⟩, h.2.2.2.2.fr (hc _ _ _ (by omega) (by omega) (by omega) (by omega)) (fun j => hc _ _ _ (by omega) (by omega) (by omega) (by omega)) (fun j _ _ => hc _ _ _ (by omega) (by omega) (by omega) (by omega))⟩
def setL (σ : Sg) (l : List Int) (σ' : Sg) : Prop := tl (σ' 27 0) (σ' 26 0 2) l ∧ ∀ a b j, ¬ a = 27 → ¬ (a = 26 ∧ (j = 0 ∨ j = 2)) → σ' a b j = σ a b j
theorem tl_snoc {f f' : Nat → Int} {n n' x : Int} {l : List Int} (h : tl f n l) (h1 : ∀ i, i < l.length → f' i = f i) (h2 : f' l.length = x) (h3 : n' = ((l.length + 1 : Nat) : Int)) : tl f' n' (l ++ [x]) := by
  refine ⟨by rw [h3]; simp, fun i hi => ?_⟩
  by_cases hil : i < l.length
  · rw [h1 i hil, h.2 i hil, List.getD_eq_getElem?_getD, List.getD_eq_getElem?_getD, List.getElem?_append_left hil]
  · have hi : i = l.length := by simp at hi; omega
    subst hi
    rw [h2, List.getD_eq_getElem?_getD, List.getElem?_append_right (Nat.le_refl _), Nat.sub_self]
    rfl
theorem byt_snoc {l : List Int} {x : Int} (h : byt l) (hx : b8 x = x) : byt (l ++ [x]) := fun z hz => by
  rcases List.mem_append.mp hz with hz | hz
  · exact h z hz
  · rw [List.mem_singleton] at hz
    rw [hz]
    exact hx
/-! sign -/
theorem bth_sign {x : Int} (hR : RR nx σ kn tx hi sl ν E) : Bth SL xs (T_Mill_sign SL xs) (T_Model_sign SL xs) [.inl x] nx σ kn tx := by
  have hR0 := hR
  obtain ⟨h1, ⟨s1, s2, s3, s4⟩, h3, h4, h5⟩ := hR
  have l1 : σ 1 0 1 = sl.length := s1.1
  have l2 : σ 26 0 2 = sl.length := s2.1
  by_cases hf : sl.length = 64
  · refine bth_no (x := -1) hR0 ?_ ?_
    · refine run 20 ?_
      refine call_eq (fun F hF => tw_Text_isFull (t := 0) hF) ?_
      refine And.intro (fun h => absurd (show (if σ 1 0 1 = 64 then (1 : Int) else 0) = 0 from h) (by rw [l1, if_pos (by omega)]; omega)) (fun h => ⟨rfl, rfl⟩)
    · refine run 20 ?_
      exact And.intro (fun h => absurd (show σ 26 0 2 = 64 by rw [l2]; omega) h) (fun h => ⟨rfl, rfl⟩)
  · have hw : wr (σ 1 0 1 + 1) = ((sl.length + 1 : Nat) : Int) := by rw [l1, wr_eq ⟨by omega, by omega⟩]; omega
    have ht : (σ 1 0 1).toNat = sl.length := by rw [l1, Int.toNat_natCast]
    refine bth_p (x := ((sl.length + 1 : Nat) : Int)) (PA := fun σ1 => setT σ 0 (sl ++ [b8 (b8 x)]) σ1) (PC := fun σ1 σ2 => setL σ1 (sl ++ [b8 (b8 x)]) σ2) ?_ (fun σ1 hs => ?_) (fun σ1 σ2 hs hl => ?_)
    · refine run 20 ?_
      refine call_eq (fun F hF => tw_Text_isFull (t := 0) hF) ?_
      refine And.intro (fun h => ?_) (fun h => absurd (show (if σ 1 0 1 = 64 then (1 : Int) else 0) = 0 by rw [l1, if_neg (by omega)]) h)
      refine call_eq (fun F hF => tw_Text_add (t := 0) (by rw [l1]; omega) hF) ?_
      refine ⟨?_, _, rfl, tl_snoc s1 (fun i hi => ?_) ?_ ?_, fun a b j q1 q2 => ?_⟩
      · show some (Sum.inl (upS (upS σ 2 0 (σ 1 0 1).toNat (b8 (b8 x))) 1 0 1 (wr (σ 1 0 1 + 1)) 1 0 1)) = _
        rw [upS_same, hw]
      · rw [upS_ne (by omega), upS_ne (by omega)]
      · rw [upS_ne (by omega), ht, upS_same]
      · rw [upS_same, hw]
      · rw [upS_ne q1, upS_ne (by omega)]
    · have l2' : σ1 26 0 2 = sl.length := by rw [hs.2 26 0 2 (by omega) (by omega)]; exact l2
      have hw2 : wr (σ1 26 0 2 + 1) = ((sl.length + 1 : Nat) : Int) := by rw [l2', wr_eq ⟨by omega, by omega⟩]; omega
      have ht2 : (σ1 26 0 2).toNat = sl.length := by rw [l2', Int.toNat_natCast]
      refine run 30 ?_
      refine And.intro (fun h => ?_) (fun h => absurd (show ¬ σ1 26 0 2 = 64 by rw [l2']; omega) h)
      refine And.intro (by show 0 ≤ σ1 26 0 2 ∧ σ1 26 0 2 < 64; rw [l2']; omega) ?_
      refine ⟨?_, _, rfl, tl_snoc (s2.fr (f' := σ1 27 0) (n' := σ1 26 0 2) (fun i _ => hs.2 27 0 i (by omega) (by omega)) (by rw [l2', l2])) (fun i hi => ?_) ?_ ?_, fun a b j q1 q2 => ?_⟩
      · show some (Sum.inl (upS (upS (upS σ1 26 0 0 0) 27 0 (σ1 26 0 2).toNat (b8 (b8 x))) 26 0 2 (wr (σ1 26 0 2 + 1)) 26 0 2)) = _
        rw [upS_same, hw2]
      · show upS (upS (upS σ1 26 0 0 0) 27 0 (σ1 26 0 2).toNat (b8 (b8 x))) 26 0 2 (wr (σ1 26 0 2 + 1)) 27 0 i = _
        rw [upS_ne (by omega), upS_ne (by omega), upS_ne (by omega)]
      · show upS (upS (upS σ1 26 0 0 0) 27 0 (σ1 26 0 2).toNat (b8 (b8 x))) 26 0 2 (wr (σ1 26 0 2 + 1)) 27 0 sl.length = _
        rw [upS_ne (by omega), ht2, upS_same]
      · show upS (upS (upS σ1 26 0 0 0) 27 0 (σ1 26 0 2).toNat (b8 (b8 x))) 26 0 2 (wr (σ1 26 0 2 + 1)) 26 0 2 = _
        rw [upS_same, hw2]
      · show upS (upS (upS σ1 26 0 0 0) 27 0 (σ1 26 0 2).toNat (b8 (b8 x))) 26 0 2 (wr (σ1 26 0 2 + 1)) a b j = _
        rw [upS_ne (by omega), upS_ne (by omega), upS_ne (by omega)]
    · have ne1 : ∀ a b j, ¬ ((a = 1 ∨ a = 2) ∧ b = 0) → ¬ a = 27 → ¬ (a = 26 ∧ (j = 0 ∨ j = 2)) → σ2 a b j = σ a b j := fun a b j q1 q2 q3 => by rw [hl.2 a b j q2 q3, hs.2 a b j (by omega) (by omega)]
      refine ⟨hi, _, ν, E, hR0.mk (fun a b j q1 q2 q3 q4 => ne1 a b j (by omega) (by omega) q2) ⟨hs.1.fr (fun i _ => hl.2 2 0 i (by omega) (by omega)) (hl.2 1 0 1 (by omega) (by omega)), hl.1, by simp; omega, byt_snoc s4 (by rw [b8_idem, b8_idem])⟩ (h3.fr (fun b j _ _ => ne1 2 b j (by omega) (by omega) (by omega)) (fun b _ _ => ne1 1 b 1 (by omega) (by omega) (by omega)) (fun j => ne1 28 0 j (by omega) (by omega) (by omega)) (fun j => ne1 29 0 j (by omega) (by omega) (by omega)))⟩
/-! value, length -/
theorem vref {v : Int} (hv : 0 ≤ v ∧ v < 8) : (if v.toNat < 8 then some (1, 3 + v.toNat) else none) = some (1, 3 + v.toNat) := if_pos (by omega)
theorem bth_length {v : Int} (hR : RR nx σ kn tx hi sl ν E) : Bth SL xs (T_Mill_length SL xs) (T_Model_length SL xs) [.inl v] nx σ kn tx := by
  by_cases hv : 0 ≤ v ∧ v < 8
  · obtain ⟨n1, n2, -⟩ := hR.2.2.1
    have e1 : σ 1 (3 + v.toNat) 1 = (ν v.toNat).length := (n1 v.toNat (by omega)).1.1
    have e2 : σ 29 0 v.toNat = (ν v.toNat).length := (n2 v.toNat (by omega)).1.1
    refine bth_no (x := ((ν v.toNat).length : Int)) hR ?_ ?_
    · have K : Xz SL xs (m_Mill_length SL xs) (fun v_1 s => v_1 = some (.inl ((ν v.toNat).length : Int)) ∧ s = (nx, σ, rX kn tx)) (13, [some (.inr (some (0, 0))), some (.inl v)], [.inr (some (1, 3 + v.toNat))], (nx, σ, rX kn tx), 0, 0) := by
        refine run 4 ?_
        refine ⟨?_, rfl⟩
        show some (Sum.inl (σ 1 (3 + v.toNat) 1)) = _
        rw [e1]
      rw [← vref hv] at K
      refine run 10 ?_
      refine call_eq (fun F hF => tw_Mill_isVariable hF) ?_
      refine And.intro (fun h => absurd (show (if 0 ≤ v ∧ v < 8 then (1 : Int) else 0) = 0 from h) (by rw [if_pos hv]; omega)) (fun h => ?_)
      refine And.intro hv ?_
      exact leaf K
    · refine run 20 ?_
      refine call_eq (fun F hF => tw_Model_isVariable hF) ?_
      refine And.intro (fun h => absurd (show (if 0 ≤ v ∧ v < 8 then (1 : Int) else 0) = 0 from h) (by rw [if_pos hv]; omega)) (fun h => ?_)
      refine And.intro hv ?_
      refine ⟨?_, rfl⟩
      show some (Sum.inl (upS σ 26 0 0 0 29 0 v.toNat)) = _
      rw [upS_ne (by omega), e2]
  · refine bth_no (x := -1) hR ?_ ?_
    · refine run 20 ?_
      refine call_eq (fun F hF => tw_Mill_isVariable hF) ?_
      exact And.intro (fun h => ⟨rfl, rfl⟩) (fun h => absurd (show (if 0 ≤ v ∧ v < 8 then (1 : Int) else 0) = 0 by rw [if_neg hv]) h)
    · refine run 20 ?_
      refine call_eq (fun F hF => tw_Model_isVariable hF) ?_
      exact And.intro (fun h => ⟨rfl, rfl⟩) (fun h => absurd (show (if 0 ≤ v ∧ v < 8 then (1 : Int) else 0) = 0 by rw [if_neg hv]) h)
theorem bth_value {v i : Int} (hR : RR nx σ kn tx hi sl ν E) : Bth SL xs (T_Mill_value SL xs) (T_Model_value SL xs) [.inl v, .inl i] nx σ kn tx := by
  by_cases hv : 0 ≤ v ∧ v < 8
  · obtain ⟨n1, n2, -⟩ := hR.2.2.1
    obtain ⟨t1, t64⟩ := n1 v.toNat (by omega)
    obtain ⟨t2, -⟩ := n2 v.toNat (by omega)
    have e1 : σ 1 (3 + v.toNat) 1 = (ν v.toNat).length := t1.1
    have e2 : σ 29 0 v.toNat = (ν v.toNat).length := t2.1
    have hw6 : i < (ν v.toNat).length → 0 ≤ i → wr (wr (64 * v) + i) = ((64 * v.toNat + i.toNat : Nat) : Int) := fun h1 h2 => by
      have := w64 (k := v.toNat) (i := i.toNat) (by omega) (by omega)
      rw [show ((v.toNat : Nat) : Int) = v by omega, show ((i.toNat : Nat) : Int) = i by omega] at this
      exact this
    let x : Int := if 0 ≤ i ∧ i < (ν v.toNat).length then w_and ((ν v.toNat).getD i.toNat 0) 255 else -1
    refine bth_no (x := x) hR ?_ ?_
    · have K : 0 ≤ i → Xz SL xs (m_Mill_value SL xs) (fun v_1 s => v_1 = some (.inl x) ∧ s = (nx, σ, rX kn tx)) (18, [some (.inr (some (0, 0))), some (.inl v), some (.inl i)], [.inr (some (1, 3 + v.toNat)), .inl i], (nx, σ, rX kn tx), 0, 0) := by
        intro hi0
        have K2 : i < (ν v.toNat).length → Xz SL xs (m_Mill_value SL xs) (fun v_1 s => v_1 = some (.inl x) ∧ s = (nx, σ, rX kn tx)) (30, [some (.inr (some (0, 0))), some (.inl v), some (.inl i)], [.inr (some (1, 3 + v.toNat))], (nx, σ, rX kn tx), 0, 0) := by
          intro hil
          refine run 10 ?_
          refine And.intro ⟨hi0, show i < 64 by omega⟩ ?_
          refine ⟨?_, rfl⟩
          show some (Sum.inl (w_and (σ 2 (3 + v.toNat) i.toNat) 255)) = some (Sum.inl x)
          rw [t1.2 i.toNat (by omega)]
          show _ = some (Sum.inl (if 0 ≤ i ∧ i < (ν v.toNat).length then w_and ((ν v.toNat).getD i.toNat 0) 255 else -1))
          rw [if_pos ⟨hi0, hil⟩]
        rw [← vref hv] at K2
        refine run 6 ?_
        refine And.intro (fun h => ?_) (fun h => ?_)
        · have h : σ 1 (3 + v.toNat) 1 ≤ i := h
          rw [e1] at h
          refine ⟨?_, rfl⟩
          show _ = some (Sum.inl (if 0 ≤ i ∧ i < (ν v.toNat).length then w_and ((ν v.toNat).getD i.toNat 0) 255 else -1))
          rw [if_neg (by omega)]
        · have h : ¬ σ 1 (3 + v.toNat) 1 ≤ i := h
          rw [e1] at h
          refine And.intro hv ?_
          exact leaf (K2 (by omega))
      rw [← vref hv] at K
      refine run 12 ?_
      refine call_eq (fun F hF => tw_Mill_isVariable hF) ?_
      refine And.intro (fun h => absurd (show (if 0 ≤ v ∧ v < 8 then (1 : Int) else 0) = 0 from h) (by rw [if_pos hv]; omega)) (fun h => ?_)
      refine And.intro (fun h => ?_) (fun h => ?_)
      · have h : i < 0 := h
        refine ⟨?_, rfl⟩
        show _ = some (Sum.inl (if 0 ≤ i ∧ i < (ν v.toNat).length then w_and ((ν v.toNat).getD i.toNat 0) 255 else -1))
        rw [if_neg (by omega)]
      · have h : ¬ i < 0 := h
        refine And.intro hv ?_
        exact leaf (K (by omega))
    · refine run 30 ?_
      refine call_eq (fun F hF => tw_Model_isVariable hF) ?_
      refine And.intro (fun h => absurd (show (if 0 ≤ v ∧ v < 8 then (1 : Int) else 0) = 0 from h) (by rw [if_pos hv]; omega)) (fun h => ?_)
      refine And.intro (fun h => ?_) (fun h => ?_)
      · have h : i < 0 := h
        refine ⟨?_, rfl⟩
        show _ = some (Sum.inl (if 0 ≤ i ∧ i < (ν v.toNat).length then w_and ((ν v.toNat).getD i.toNat 0) 255 else -1))
        rw [if_neg (by omega)]
      · have h : ¬ i < 0 := h
        refine And.intro hv ?_
        refine And.intro (fun h2 => ?_) (fun h2 => ?_)
        · have h2 : upS σ 26 0 0 0 29 0 v.toNat ≤ i := h2
          rw [upS_ne (by omega), e2] at h2
          refine ⟨?_, rfl⟩
          show _ = some (Sum.inl (if 0 ≤ i ∧ i < (ν v.toNat).length then w_and ((ν v.toNat).getD i.toNat 0) 255 else -1))
          rw [if_neg (by omega)]
        · have h2 : ¬ upS σ 26 0 0 0 29 0 v.toNat ≤ i := h2
          rw [upS_ne (by omega), e2] at h2
          have hw := hw6 (by omega) (by omega)
          refine And.intro (by show 0 ≤ wr (wr (64 * v) + i) ∧ wr (wr (64 * v) + i) < 512; rw [hw]; omega) ?_
          refine ⟨?_, rfl⟩
          show some (Sum.inl (w_and (upS σ 26 0 0 0 28 0 (wr (wr (64 * v) + i)).toNat) 255)) = some (Sum.inl (if 0 ≤ i ∧ i < (ν v.toNat).length then w_and ((ν v.toNat).getD i.toNat 0) 255 else -1))
          rw [hw, Int.toNat_natCast, upS_ne (by omega), if_pos (by omega)]
          have := t2.2 i.toNat (by omega)
          rw [← this]
  · refine bth_no (x := -1) hR ?_ ?_
    · refine run 20 ?_
      refine call_eq (fun F hF => tw_Mill_isVariable hF) ?_
      exact And.intro (fun h => ⟨rfl, rfl⟩) (fun h => absurd (show (if 0 ≤ v ∧ v < 8 then (1 : Int) else 0) = 0 by rw [if_neg hv]) h)
    · refine run 20 ?_
      refine call_eq (fun F hF => tw_Model_isVariable hF) ?_
      exact And.intro (fun h => ⟨rfl, rfl⟩) (fun h => absurd (show (if 0 ≤ v ∧ v < 8 then (1 : Int) else 0) = 0 by rw [if_neg hv]) h)
end
end
section
/-! Both faces: latest, about, clear, let, match -/
section
variable {SL : Nat} {xs : Nat → Int} {nx hi : Nat} {σ σ' : Sg} {kn : Nat → Option Nat} {tx : Nat → Bool} {F : Option Av → St → Prop} {E : Ev} {ν : Nu} {sl : List Int}
theorem tw_Mill_isWell (hF : F (some (.inl (if ¬ σ 0 0 5 = 0 ∧ σ 9 0 11 = 1 then 1 else 0))) (nx, σ, rX kn tx)) : T_Mill_isWell SL xs [.inr (some (0, 0))] (nx, σ, rX kn tx) F := by
  refine run 20 ?_
  refine And.intro (fun h => ?_) (fun h => ?_)
  · have h : σ 0 0 5 = 0 := h
    rw [if_neg (fun z => z.1 h)] at hF
    exact And.intro (Or.inl rfl) hF
  · have h : ¬ σ 0 0 5 = 0 := h
    refine And.intro (fun h2 => ?_) (fun h2 => ?_)
    · have h2 : ¬ σ 9 0 11 = 1 := h2
      rw [if_neg (fun z => h2 z.2)] at hF
      exact And.intro (Or.inl rfl) hF
    · have h2 : σ 9 0 11 = 1 := Classical.not_not.mp h2
      rw [if_pos ⟨h, h2⟩] at hF
      exact And.intro (Or.inr rfl) hF
theorem bth_latest {w : Int} (hR : RR nx σ kn tx hi sl ν E) : Bth SL xs (T_Mill_latest SL xs) (T_Model_latest SL xs) [.inl w] nx σ kn tx := by
  rcases hR.2.2.2.2 with ⟨m1, m2⟩ | ⟨m1, m2, m3, m4⟩
  · refine bth_no (x := -1) hR ?_ ?_
    · refine run 20 ?_
      exact And.intro (fun h => absurd (show σ 0 0 5 = 0 from m1) h) (fun h => ⟨rfl, rfl⟩)
    · refine run 20 ?_
      exact And.intro (fun h => absurd (show σ 26 0 11 = 0 from m2) h) (fun h => ⟨rfl, rfl⟩)
  · have hne : ¬ σ 0 0 5 = 0 := by rw [m1]; omega
    have hne2 : ¬ σ 26 0 11 = 0 := by rw [m2]; omega
    refine bth_no (x := if w = 0 then σ 26 0 12 else if w = 1 then σ 26 0 13 else if w = 2 then σ 26 0 14 else -1) hR ?_ ?_
    · refine run 30 ?_
      refine And.intro (fun h => ?_) (fun h => absurd (show ¬ σ 0 0 5 = 0 from hne) h)
      refine And.intro (fun h => ?_) (fun h => ?_)
      · have h : ¬ w = 0 := h
        rw [if_neg h]
        refine And.intro (fun h1 => ?_) (fun h1 => ?_)
        · have h1 : ¬ w = 1 := h1
          rw [if_neg h1]
          refine And.intro (fun h2 => ?_) (fun h2 => ?_)
          · have h2 : ¬ w = 2 := h2
            rw [if_neg h2]
            exact ⟨rfl, rfl⟩
          · have h2 : w = 2 := Classical.not_not.mp h2
            rw [if_pos h2, ← m3]
            exact ⟨rfl, rfl⟩
        · have h1 : w = 1 := Classical.not_not.mp h1
          rw [if_pos h1]
          refine call_eq (fun F hF => tw_Mill_isWell hF) ?_
          rcases m4 with ⟨q1, b, p, q2, q3, q4, q5, -⟩ | ⟨q1, q2, q3⟩
          · refine And.intro (fun h => absurd (show (if ¬ σ 0 0 5 = 0 ∧ σ 9 0 11 = 1 then (1 : Int) else 0) = 0 from h) (by rw [if_pos ⟨hne, q1⟩]; omega)) (fun h => ?_)
            rw [q5, ← q4]
            exact ⟨rfl, rfl⟩
          · refine And.intro (fun h => ?_) (fun h => absurd (show (if ¬ σ 0 0 5 = 0 ∧ σ 9 0 11 = 1 then (1 : Int) else 0) = 0 by rw [if_neg (fun z => q1 z.2)]) h)
            rw [q3]
            exact ⟨rfl, rfl⟩
      · have h : w = 0 := Classical.not_not.mp h
        rw [if_pos h]
        refine call_eq (fun F hF => tw_Mill_isWell hF) ?_
        rcases m4 with ⟨q1, b, p, q2, q3, q4, q5, -⟩ | ⟨q1, q2, q3⟩
        · refine And.intro (fun h => absurd (show (if ¬ σ 0 0 5 = 0 ∧ σ 9 0 11 = 1 then (1 : Int) else 0) = 0 from h) (by rw [if_pos ⟨hne, q1⟩]; omega)) (fun h => ?_)
          rw [q3, ← q2]
          exact ⟨rfl, rfl⟩
        · refine And.intro (fun h => ?_) (fun h => absurd (show (if ¬ σ 0 0 5 = 0 ∧ σ 9 0 11 = 1 then (1 : Int) else 0) = 0 by rw [if_neg (fun z => q1 z.2)]) h)
          rw [q2]
          exact ⟨rfl, rfl⟩
    · refine run 30 ?_
      refine And.intro (fun h => ?_) (fun h => absurd (show ¬ σ 26 0 11 = 0 from hne2) h)
      refine And.intro (fun h => ?_) (fun h => ?_)
      · have h : ¬ w = 0 := h
        rw [if_neg h]
        refine And.intro (fun h1 => ?_) (fun h1 => ?_)
        · have h1 : ¬ w = 1 := h1
          rw [if_neg h1]
          refine And.intro (fun h2 => ?_) (fun h2 => ?_)
          · have h2 : ¬ w = 2 := h2
            rw [if_neg h2]
            exact ⟨rfl, rfl⟩
          · have h2 : w = 2 := Classical.not_not.mp h2
            rw [if_pos h2]
            exact ⟨rfl, rfl⟩
        · have h1 : w = 1 := Classical.not_not.mp h1
          rw [if_pos h1]
          exact ⟨rfl, rfl⟩
      · have h : w = 0 := Classical.not_not.mp h
        rw [if_pos h]
        exact ⟨rfl, rfl⟩
theorem bth_about {k w : Int} (hR : RR nx σ kn tx hi sl ν E) : Bth SL xs (T_Mill_about SL xs) (T_Model_about SL xs) [.inl k, .inl w] nx σ kn tx := by
  obtain ⟨⟨c1, c2⟩, ⟨d1, d2⟩, hO, -⟩ := hR.2.2.2.1
  obtain ⟨-, h64, hle, htx⟩ := hR.1
  by_cases hk : 0 ≤ k ∧ k < (ect E : Int)
  · obtain ⟨q1, q2, q3, q4, -⟩ := c2 k.toNat (by omega)
    obtain ⟨g1, g2, g3, g4, -⟩ := d2 k.toNat (by omega)
    have q5 : σ 1 (11 + k.toNat) 1 = (ewd E k.toNat).length := q4.1
    have g5 : σ 34 0 k.toNat = (ewd E k.toNat).length := g4.1
    have hik : 0 ≤ k ∧ k < 64 := by omega
    refine bth_no (x := if w = 0 then (ekd E k.toNat : Nat) else if w = 1 then (efa E k.toNat : Nat) else if w = 2 then (efb E k.toNat : Nat) else if w = 3 then ((ewd E k.toNat).length : Int) else -1) hR ?_ ?_
    · refine run 10 ?_
      refine call_eq (fun F hF => tw_Nodes_is hF) ?_
      refine And.intro (fun h => ?_) (fun h => absurd (show ¬ (if 0 ≤ k ∧ k < σ 4 0 4 then (1 : Int) else 0) = 0 by rw [c1, if_pos hk]; omega) h)
      by_cases h0 : w = 0
      · subst h0
        refine swt_in (t := 44) rfl ?_
        rw [if_pos rfl]
        have K : Xz SL xs (m_Mill_about SL xs) (fun v s => v = some (.inl ((ekd E k.toNat : Nat) : Int)) ∧ s = (nx, σ, rX kn tx)) (44, [some (.inr (some (0, 0))), some (.inl k), some (.inl 0)], [], (nx, σ, rX kn tx), 0, 0) := by
          refine run 10 ?_
          refine And.intro hik ?_
          refine call_eq (v0 := some (.inl ((ekd E k.toNat : Nat) : Int))) (s0 := (nx, σ, rX kn tx)) (fun F hF => ?_) ⟨rfl, rfl⟩
          show vT 8 (T_Enum_ordinal SL xs) [.inr ((kn k.toNat).map (fun k => (45, k)))] (nx, σ, rX kn tx) F
          rw [q1]
          exact tw_Enum_ordinal hF
        exact leaf K
      · rw [if_neg h0]
        by_cases h1 : w = 1
        · subst h1
          refine swt_in (t := 57) rfl ?_
          rw [if_pos rfl, ← q2]
          have K : Xz SL xs (m_Mill_about SL xs) (fun v s => v = some (.inl (σ 6 0 k.toNat)) ∧ s = (nx, σ, rX kn tx)) (57, [some (.inr (some (0, 0))), some (.inl k), some (.inl 1)], [], (nx, σ, rX kn tx), 0, 0) := run 10 (And.intro hik ⟨rfl, rfl⟩)
          exact leaf K
        · rw [if_neg h1]
          by_cases h2 : w = 2
          · subst h2
            refine swt_in (t := 67) rfl ?_
            rw [if_pos rfl, ← q3]
            have K : Xz SL xs (m_Mill_about SL xs) (fun v s => v = some (.inl (σ 7 0 k.toNat)) ∧ s = (nx, σ, rX kn tx)) (67, [some (.inr (some (0, 0))), some (.inl k), some (.inl 2)], [], (nx, σ, rX kn tx), 0, 0) := run 10 (And.intro hik ⟨rfl, rfl⟩)
            exact leaf K
          · rw [if_neg h2]
            by_cases h3 : w = 3
            · subst h3
              refine swt_in (t := 77) rfl ?_
              rw [if_pos rfl, ← q5]
              have e : (if tx k.toNat = true then some (1, 11 + k.toNat) else none) = some (1, 11 + k.toNat) := if_pos (by rw [htx]; exact decide_eq_true (by omega))
              have K : Xz SL xs (m_Mill_about SL xs) (fun v s => v = some (.inl (σ 1 (11 + k.toNat) 1)) ∧ s = (nx, σ, rX kn tx)) (86, [some (.inr (some (0, 0))), some (.inl k), some (.inl 3)], [.inr (some (1, 11 + k.toNat))], (nx, σ, rX kn tx), 0, 0) := run 3 ⟨rfl, rfl⟩
              rw [← e] at K
              have K2 : Xz SL xs (m_Mill_about SL xs) (fun v s => v = some (.inl (σ 1 (11 + k.toNat) 1)) ∧ s = (nx, σ, rX kn tx)) (77, [some (.inr (some (0, 0))), some (.inl k), some (.inl 3)], [], (nx, σ, rX kn tx), 0, 0) := run 5 (And.intro hik (leaf K))
              exact leaf K2
            · rw [if_neg h3]
              refine swt_out (by simp [lkI, h0, h1, h2, h3]) ?_
              have K : Xz SL xs (m_Mill_about SL xs) (fun v s => v = some (.inl (-1)) ∧ s = (nx, σ, rX kn tx)) (90, [some (.inr (some (0, 0))), some (.inl k), some (.inl w)], [], (nx, σ, rX kn tx), 0, 0) := run 3 ⟨rfl, rfl⟩
              exact leaf K
    · refine run 30 ?_
      refine call_eq (fun F hF => tw_Model_isNode (σ := upS σ 26 0 0 0) hF) ?_
      refine And.intro (fun h => ?_) (fun h => absurd (show ¬ (if 0 ≤ k ∧ k < upS σ 26 0 0 0 26 0 5 then (1 : Int) else 0) = 0 by rw [upS_ne (by omega), d1, if_pos hk]; omega) h)
      refine And.intro (fun h => ?_) (fun h => ?_)
      · have h : ¬ w = 0 := h
        rw [if_neg h]
        refine And.intro (fun h1 => ?_) (fun h1 => ?_)
        · have h1 : ¬ w = 1 := h1
          rw [if_neg h1]
          refine And.intro (fun h2 => ?_) (fun h2 => ?_)
          · have h2 : ¬ w = 2 := h2
            rw [if_neg h2]
            refine And.intro (fun h3 => ?_) (fun h3 => ?_)
            · have h3 : ¬ w = 3 := h3
              rw [if_neg h3]
              exact ⟨rfl, rfl⟩
            · have h3 : w = 3 := Classical.not_not.mp h3
              rw [if_pos h3, ← g5]
              exact And.intro hik ⟨rfl, rfl⟩
          · have h2 : w = 2 := Classical.not_not.mp h2
            rw [if_pos h2, ← g3]
            exact And.intro hik ⟨rfl, rfl⟩
        · have h1 : w = 1 := Classical.not_not.mp h1
          rw [if_pos h1, ← g2]
          exact And.intro hik ⟨rfl, rfl⟩
      · have h : w = 0 := Classical.not_not.mp h
        rw [if_pos h, ← g1]
        exact And.intro hik ⟨rfl, rfl⟩
  · refine bth_no (x := -1) hR ?_ ?_
    · refine run 10 ?_
      refine call_eq (fun F hF => tw_Nodes_is hF) ?_
      exact And.intro (fun h => absurd (show (if 0 ≤ k ∧ k < σ 4 0 4 then (1 : Int) else 0) = 0 by rw [c1, if_neg hk]) h) (fun h => ⟨rfl, rfl⟩)
    · refine run 12 ?_
      refine call_eq (fun F hF => tw_Model_isNode (σ := upS σ 26 0 0 0) hF) ?_
      exact And.intro (fun h => absurd (show (if 0 ≤ k ∧ k < upS σ 26 0 0 0 26 0 5 then (1 : Int) else 0) = 0 by rw [upS_ne (by omega), d1, if_neg hk]) h) (fun h => ⟨rfl, rfl⟩)
end
end
section
/-! Both faces: bytes stay bytes; a match; clear; let -/
def bnu (ν : Nu) : Prop := ∀ v, v < 8 → byt (ν v)
def JC (E : Ev) (c : List Ch) : Prop := ∀ x ∈ c, x.2.1 ≤ (esb E).length ∧ (x.1 = 1 → x.2.1 < (esb E).length)
def JA (E : Ev) (x : As) : Prop := x.2.2.1 ≤ (esb E).length ∧ JC E x.2.2.2.2.1 ∧ bnu (yν x)
section
variable {E : Ev} {ν : Nu} {c : List Ch} {p p' : Nat} {g : List Gl} {q : List Kp}
theorem bnu.up {v : Nat} {l : List Int} (h : bnu ν) (hl : byt l) : bnu (upN ν v l) := fun w hw => by
  unfold upN
  split
  · exact hl
  · exact h w hw
theorem byt_sub {l : List Int} {a b : Nat} (h : byt l) : byt ((l.drop a).take b) := fun x hx => h x (List.mem_of_mem_drop (List.mem_of_mem_take hx))
theorem byt_dig (hp : p ≤ 64) : byt (dig p) := fun x hx => by
  unfold dig at hx
  split at hx
  · rcases List.mem_cons.mp hx with rfl | hx
    · exact b8s _ (by omega)
    · rw [List.mem_singleton] at hx
      subst hx
      exact b8s _ (by omega)
  · rw [List.mem_singleton] at hx
    subst hx
    exact b8s _ (by omega)
theorem JC.cons {w : Nat} (h : JC E c) (h1 : p ≤ (esb E).length) (h2 : w = 1 → p < (esb E).length) : JC E ((w, p, g, q) :: c) := fun x hx => by
  rcases List.mem_cons.mp hx with rfl | hx
  · exact ⟨h1, h2⟩
  · exact h x hx
theorem astep_J (hb : byt (esb E)) (h64 : (esb E).length ≤ 64) {x : As} (hx : JA E x) : (∀ z, astep E x = .inl z → JA E z) ∧ (∀ o z, astep E x = .inr (o, z) → JA E z) := by
  obtain ⟨m, k, p, g, c, q, ν, n⟩ := x
  obtain ⟨h1, h2, h3⟩ := hx
  have h1 : p ≤ (esb E).length := h1
  have h2 : JC E c := h2
  have h3 : bnu ν := h3
  have z0 : 0 ≤ (esb E).length := Nat.zero_le _
  rcases m with _ | _ | m
  · show (∀ z, stepB E k p g c q ν n = .inl z → JA E z) ∧ (∀ o z, stepB E k p g c q ν n = .inr (o, z) → JA E z)
    unfold stepB
    constructor
    · intro z hz
      split at hz
      · cases hz
        refine ⟨h1, ?_, h3⟩
        show JC E (if p < (esb E).length then (1, p, g, q) :: c else c)
        split
        · exact h2.cons h1 (fun _ => by assumption)
        · exact h2
      · split at hz
        · rename_i p' hb'
          have hbd := balN_bd h1 hb'
          cases hz
          exact ⟨hbd.2, h2.cons hbd.2 (fun e => by omega), h3⟩
        · cases hz
          exact ⟨z0, h2, h3⟩
      · cases hz
        exact ⟨h1, h2.cons h1 (fun e => by omega), h3⟩
      · cases hz
      · cases hz
        exact ⟨h1, h2.cons h1 (fun e => by omega), h3⟩
      · cases hz
        exact ⟨h1, h2, h3⟩
      · cases hz
        exact ⟨h1, h2.cons h1 (fun e => by omega), h3⟩
      · cases hz
        exact ⟨h1, h2, h3⟩
      · cases hz
        exact ⟨h1, h2, h3⟩
      · cases hz
        exact ⟨h1, h2, h3.up (byt_dig (by omega))⟩
      · split at hz
        · cases hz
          exact ⟨h1, h2, h3⟩
        · cases hz
          exact ⟨z0, h2, h3⟩
      · split at hz
        · rename_i p' hb'
          have hbd := plA_bd h1 hb'
          cases hz
          exact ⟨hbd.2, h2, h3⟩
        · cases hz
          exact ⟨z0, h2, h3⟩
    · intro o z hz
      split at hz
      all_goals first
        | (cases hz; exact ⟨z0, h2, h3⟩)
        | (cases hz; done)
        | (split at hz <;> cases hz)
  · show (∀ z, stepK E c ν n = .inl z → JA E z) ∧ (∀ o z, stepK E c ν n = .inr (o, z) → JA E z)
    cases c with
    | nil =>
      refine ⟨fun z hz => (by cases hz), fun o z hz => ?_⟩
      cases hz
      exact ⟨z0, h2, h3⟩
    | cons x r =>
      obtain ⟨w, p1, g1, q1⟩ := x
      have hx := h2 _ List.mem_cons_self
      have hr : JC E r := fun y hy => h2 y (List.mem_cons_of_mem _ hy)
      have hx1 : p1 ≤ (esb E).length := hx.1
      rcases w with _ | _ | _ | w
      · refine ⟨fun z hz => ?_, fun o z hz => by cases hz⟩
        cases hz
        exact ⟨hx1, hr, h3⟩
      · have hlt : p1 < (esb E).length := hx.2 rfl
        refine ⟨fun z hz => ?_, fun o z hz => by cases hz⟩
        cases hz
        refine ⟨hlt, ?_, h3⟩
        show JC E (if p1 + 1 < (esb E).length then (1, p1 + 1, g1, q1) :: r else r)
        split
        · exact hr.cons hlt (fun _ => by assumption)
        · exact hr
      · refine ⟨fun z hz => ?_, fun o z hz => ?_⟩
        · simp only [stepK] at hz
          split at hz
          · rename_i p' hb'
            have hbd := balN_bd hx1 hb'
            cases hz
            exact ⟨hbd.2, hr.cons hbd.2 (fun e => by omega), h3⟩
          · cases hz
            exact ⟨z0, hr, h3⟩
        · simp only [stepK] at hz
          split at hz <;> cases hz
      · refine ⟨fun z hz => (by cases hz), fun o z hz => ?_⟩
        cases hz
        exact ⟨z0, hr, h3⟩
  · show (∀ z, stepG E p g c q ν n = .inl z → JA E z) ∧ (∀ o z, stepG E p g c q ν n = .inr (o, z) → JA E z)
    cases g with
    | nil =>
      refine ⟨fun z hz => (by cases hz), fun o z hz => ?_⟩
      cases hz
      exact ⟨h1, h2, h3⟩
    | cons x r =>
      obtain ⟨w, k1, f1⟩ := x
      rcases w with _ | _ | w
      · refine ⟨fun z hz => ?_, fun o z hz => ?_⟩
        · simp only [stepG] at hz
          split at hz
          · cases hz
          · cases hz
            exact ⟨h1, h2, h3⟩
        · simp only [stepG] at hz
          split at hz
          · cases hz
            exact ⟨z0, h2, h3⟩
          · cases hz
      · refine ⟨fun z hz => ?_, fun o z hz => by cases hz⟩
        cases hz
        exact ⟨h1, h2, h3⟩
      · refine ⟨fun z hz => ?_, fun o z hz => by cases hz⟩
        cases hz
        exact ⟨h1, h2, h3.up (byt_sub hb)⟩
theorem runA_J (hb : byt (esb E)) (h64 : (esb E).length ≤ 64) : ∀ (f : Nat) (x y : As) (o : Nat), JA E x → runA E f x = some (o, y) → JA E y
  | 0, x, y, o, _, h => by cases h
  | f + 1, x, y, o, hx, h => by
    obtain ⟨h1, h2⟩ := astep_J hb h64 hx
    simp only [runA] at h
    split at h
    · rename_i z hz
      exact runA_J hb h64 f z y o (h1 z hz) h
    · rename_i z hz
      cases h
      exact h2 o y hz
theorem Mt_J (hb : byt (esb E)) (h64 : (esb E).length ≤ 64) {k : Nat} : ∀ (m b : Nat) (ν : Nu) (n o bf : Nat) (y : As), b + m ≤ (esb E).length + 1 → bnu ν → Mt E k m b ν n o bf y → bnu (yν y)
  | 0, b, ν, n, o, bf, y, _, h, hm => by
    obtain ⟨-, -, rfl⟩ := hm
    exact h
  | m + 1, b, ν, n, o, bf, y, hbm, h, hm => by
    obtain ⟨f, o', y', hr, hm⟩ := hm
    have hJ := runA_J hb h64 f (GS b [(0, k, 0)] [] [] ν n) y' o' ⟨show b ≤ (esb E).length by omega, (fun x hx => by cases hx), h⟩ hr
    rcases hm with ⟨-, hm⟩ | ⟨-, -, -, rfl⟩
    · exact Mt_J hb h64 m (b + 1) _ _ _ _ _ (by omega) hJ.2.2 hm
    · exact hJ.2.2
theorem keepA_J (hb : byt (esb E)) : ∀ (q : List Kp) (ν : Nu), bnu ν → bnu (keepA E q ν)
  | [], ν, h => h
  | x :: q, ν, h => keepA_J hb q _ (h.up (byt_sub hb))
end
section
variable {SL : Nat} {xs : Nat → Int} {nx hi : Nat} {σ σ' : Sg} {kn : Nat → Option Nat} {tx : Nat → Bool} {F : Option Av → St → Prop} {E : Ev} {ν : Nu} {sl : List Int}
def subE (E : Ev) (S : List Int) : Ev := (E.1, E.2.1, E.2.2.1, E.2.2.2.1, S, E.2.2.2.2.2)
theorem bth_match {v k an : Int} (hR : RR nx σ kn tx hi sl ν E) : Bth SL xs (T_Mill_match SL xs) (T_Model_match SL xs) [.inl v, .inl k, .inl an] nx σ kn tx := by
  have hR0 := hR
  obtain ⟨⟨r1, r2, r3, r4⟩, hsl, hnu, ⟨hC, hM, hO, hE0⟩, hmc⟩ := hR
  by_cases hok : (0 ≤ v ∧ v < 8) ∧ 0 ≤ k ∧ k < (ect E : Int)
  · obtain ⟨hv, hk⟩ := hok
    obtain ⟨n1, n2, n3⟩ := hnu
    have hv8 : v.toNat < 8 := by omega
    have hl64 := (n1 v.toNat hv8).2
    have hvc : ((v.toNat : Nat) : Int) = v := by omega
    have hkc : ((k.toNat : Nat) : Int) = k := by omega
    have hO' : EvOK (subE E (ν v.toNat)) := ⟨hl64, hO.2⟩
    have hb' : byt (esb (subE E (ν v.toNat))) := n3 v.toNat hv8
    obtain ⟨o, bf, y, hm⟩ := Mt.ex (subE E (ν v.toNat)) k.toNat ((if an = 0 then (esb (subE E (ν v.toNat))).length else 0) + 1) 0 ν 0 (by omega)
    have hJ : bnu (yν y) := Mt_J hb' hl64 _ _ _ _ _ _ _ (by split <;> omega) n3 hm
    have ex : ∀ a b j, ¬ a = 0 → upS σ 0 0 5 1 a b j = σ a b j := fun a b j h => upS_ne (by omega)
    have hRM : RM (subE E (ν v.toNat)) kn tx (upS σ 0 0 5 1) ν := by
      refine ⟨hO', by rw [ex 4 0 4 (by omega)]; exact hC.1, fun k' hk' => ?_, fun w hw => ?_⟩
      · obtain ⟨k1, k2, k3, k4, k5⟩ := hC.2 k' hk'
        have hk'' : k' < ect E := hk'
        exact ⟨k1, by rw [ex 6 0 k' (by omega)]; exact k2, by rw [ex 7 0 k' (by omega)]; exact k3, by rw [r4]; exact decide_eq_true (by omega), k4.fr (fun i _ => ex 2 _ i (by omega)) (ex 1 _ 1 (by omega)), k5⟩
      · exact ⟨(n1 w hw).1.fr (fun i _ => ex 2 _ i (by omega)) (ex 1 _ 1 (by omega)), (n1 w hw).2⟩
    refine bth_p (x := (o : Int)) (PA := fun σ1 => Mfin (subE E (ν v.toNat)) kn tx (upS σ 0 0 5 1) o bf y σ1) (PC := fun σ1 σ2 => MMf (subE E (ν v.toNat)) σ1 o bf y σ2) ?_ (fun σ1 h1 => ?_) (fun σ1 σ2 h1 h2 => ?_)
    · refine run 30 ?_
      refine call_eq (fun F hF => tw_Mill_isVariable hF) ?_
      refine And.intro (fun h => absurd (show (if 0 ≤ v ∧ v < 8 then (1 : Int) else 0) = 0 from h) (by rw [if_pos hv]; omega)) (fun h => ?_)
      refine call_eq (fun F hF => tw_Nodes_is hF) ?_
      refine And.intro (fun h => ?_) (fun h => absurd (show ¬ (if 0 ≤ k ∧ k < σ 4 0 4 then (1 : Int) else 0) = 0 by rw [hC.1, if_pos hk]; omega) h)
      refine And.intro (Or.inr rfl) ?_
      refine And.intro hv ?_
      refine call_any (Y := fun v0 s => v0 = some (.inl (o : Int)) ∧ ∃ σ1, s = (nx, σ1, rX kn tx) ∧ Mfin (subE E (ν v.toNat)) kn tx (upS σ 0 0 5 1) o bf y σ1) ?_ ?_
      · show vT 3 (T_Matcher_match SL xs) [.inr (some (9, 0)), .inr (if v.toNat < 8 then some (1, 3 + v.toNat) else none), .inl k, .inl an] (nx, upS σ 0 0 5 1, rX kn tx) _
        rw [vref hv, ← hkc]
        exact tw_Matcher_match hRM hv8 rfl (by show k.toNat < ect E; omega) hm (fun σ1 h => ⟨rfl, σ1, rfl, h⟩)
      · intro v0 s hv0
        obtain ⟨rfl, σ1, rfl, h1⟩ := hv0
        exact ⟨rfl, σ1, rfl, h1⟩
    · have fr1 : ∀ a b j, 26 ≤ a → σ1 a b j = σ a b j := fun a b j h => by rw [h1.1 a b j (by omega) (by omega), ex a b j (by omega)]
      have hM1 : RMm (subE E (ν v.toNat)) σ1 ν := ⟨hO', by rw [fr1 26 0 5 (by omega)]; exact hM.1, fun k' hk' => by
        obtain ⟨k1, k2, k3, k4, k5⟩ := hM.2 k' hk'
        exact ⟨by rw [fr1 30 0 k' (by omega)]; exact k1, by rw [fr1 31 0 k' (by omega)]; exact k2, by rw [fr1 32 0 k' (by omega)]; exact k3, k4.fr (fun i _ => fr1 33 0 _ (by omega)) (fr1 34 0 _ (by omega)), k5⟩, fun w hw => ⟨(n2 w hw).1.fr (fun i _ => fr1 28 0 _ (by omega)) (fr1 29 0 _ (by omega)), (n2 w hw).2⟩, hb'⟩
      have K := tw_Model_match (SL := SL) (xs := xs) (nx := nx) (kn := kn) (tx := tx) (F := fun v0 s => v0 = some (.inl (o : Int)) ∧ ∃ σ2, s = (nx, σ2, rX kn tx) ∧ MMf (subE E (ν v.toNat)) σ1 o bf y σ2) (v := v.toNat) (k := k.toNat) hM1 hv8 rfl (by show k.toNat < ect E; omega) hm (fun σ2 h => ⟨rfl, σ2, rfl, h⟩)
      rw [hvc, hkc] at K
      exact K
    · have fr1 : ∀ a b j, ¬ a = 0 → ¬ (9 ≤ a ∧ a ≤ 25) → ¬ ((a = 1 ∨ a = 2) ∧ 2 ≤ b ∧ b < 11) → σ1 a b j = σ a b j := fun a b j h3 h4 h5 => by rw [h1.1 a b j h4 h5, ex a b j h3]
      have fr2 := h2.1
      have fr3 : ∀ a b j, a < 26 → σ2 a b j = σ1 a b j := fun a b j h => fr2 a b j (by omega) (by omega)
      have hmat : σ1 0 0 5 = 1 := by rw [h1.1 0 0 5 (by omega) (by omega), upS_same]
      have hn : ∀ ν', NuC ν' σ1 → NuM ν' σ2 → bnu ν' → nuR σ2 ν' := fun ν' q1 q2 q3 => ⟨fun w hw => ⟨(q1 w hw).1.fr (fun i _ => fr3 2 _ i (by omega)) (fr3 1 _ 1 (by omega)), (q1 w hw).2⟩, q2, q3⟩
      have hsl2 : slR σ2 sl := hsl.fr (fun j => by rw [fr3 2 0 j (by omega), fr1 2 0 j (by omega) (by omega) (by omega)]) (by rw [fr3 1 0 1 (by omega), fr1 1 0 1 (by omega) (by omega) (by omega)]) (fun j => by rw [fr2 27 0 j (by omega) (by omega), fr1 27 0 j (by omega) (by omega) (by omega)]) (by rw [fr2 26 0 2 (by omega) (by omega), fr1 26 0 2 (by omega) (by omega) (by omega)])
      have hC2 : NdC E σ2 kn := hC.fr (by rw [fr3 4 0 4 (by omega), fr1 4 0 4 (by omega) (by omega) (by omega)]) (fun j => by rw [fr3 6 0 j (by omega), fr1 6 0 j (by omega) (by omega) (by omega)]) (fun j => by rw [fr3 7 0 j (by omega), fr1 7 0 j (by omega) (by omega) (by omega)]) (fun b j hb => by rw [fr3 2 b j (by omega), fr1 2 b j (by omega) (by omega) (by omega)]) (fun b hb => by rw [fr3 1 b 1 (by omega), fr1 1 b 1 (by omega) (by omega) (by omega)])
      have hM2 : NdM E σ2 := hM.fr (by rw [fr2 26 0 5 (by omega) (by omega), fr1 26 0 5 (by omega) (by omega) (by omega)]) (fun a j h3 h4 => by rw [fr2 a 0 j (by omega) (by omega), fr1 a 0 j (by omega) (by omega) (by omega)])
      obtain ⟨-, m11, hA⟩ := h1
      obtain ⟨-, g11, hB⟩ := h2
      rcases hA with ⟨ho, p, c, q, ν1, nn, hy, hp, hRB, m7, mb1, mb2, m10⟩ | ⟨ho, hRB⟩
      · rcases hB with ⟨-, p2, c2, q2, ν2, nn2, hy2, g1, g2, g3, g12, g13, g14⟩ | ⟨ho2, -⟩
        · rw [hy] at hy2
          cases hy2
          have hbf : ∃ b : Nat, bf = b + 1 := ⟨bf - 1, by omega⟩
          obtain ⟨b, rfl⟩ := hbf
          refine ⟨hi, sl, _, E, ⟨r1, r2, r3, r4⟩, hsl2, hn _ hRB.2.2.1 g3 (keepA_J hb' _ _ (by rw [hy] at hJ; exact hJ)), ⟨hC2, hM2, hO, hE0⟩, Or.inr ⟨by rw [fr3 0 0 5 (by omega)]; exact hmat, g11, by rw [fr3 9 0 6 (by omega), g14]; exact hRB.2.2.2, Or.inl ⟨by rw [fr3 9 0 11 (by omega), m11, ho]; rfl, b, p, by rw [fr3 9 0 10 (by omega), m10]; omega, by rw [g12]; omega, by rw [fr3 9 0 7 (by omega)]; exact m7, g13, by omega, ?_⟩⟩⟩
          have : p ≤ (ν v.toNat).length := hp
          omega
        · exact absurd ho ho2
      · rcases hB with ⟨ho2, -⟩ | ⟨-, g3, g12, g13, g14⟩
        · exact absurd ho2 ho
        · exact ⟨hi, sl, _, E, ⟨r1, r2, r3, r4⟩, hsl2, hn _ hRB.2.2.1 g3 hJ, ⟨hC2, hM2, hO, hE0⟩, Or.inr ⟨by rw [fr3 0 0 5 (by omega)]; exact hmat, g11, by rw [fr3 9 0 6 (by omega), g14]; exact hRB.2.2.2, Or.inr ⟨by rw [fr3 9 0 11 (by omega), m11]; omega, g12, g13⟩⟩⟩
  · refine bth_no (x := -1) hR0 ?_ ?_
    · refine run 30 ?_
      refine call_eq (fun F hF => tw_Mill_isVariable hF) ?_
      refine And.intro (fun h => ⟨rfl, rfl⟩) (fun h => ?_)
      have h : ¬ (if 0 ≤ v ∧ v < 8 then (1 : Int) else 0) = 0 := h
      have h := Classical.not_not.mp (fun z => h (ite0.mpr z))
      refine call_eq (fun F hF => tw_Nodes_is hF) ?_
      refine And.intro (fun h2 => ?_) (fun h2 => ⟨rfl, rfl⟩)
      have h2 : ¬ (if 0 ≤ k ∧ k < σ 4 0 4 then (1 : Int) else 0) = 0 := h2
      have h2 := Classical.not_not.mp (fun z => h2 (ite0.mpr z))
      rw [hC.1] at h2
      exact absurd ⟨h, h2⟩ hok
    · exact tw_Model_match_no (by rw [hM.1]; exact hok) ⟨rfl, rfl⟩
end
end
section
/-! Both faces: let, clear -/
section
variable {SL : Nat} {xs : Nat → Int} {nx hi : Nat} {σ σ' : Sg} {kn : Nat → Option Nat} {tx : Nat → Bool} {F : Option Av → St → Prop} {E : Ev} {ν : Nu} {sl : List Int}
/-- a text takes the slip -/
def tkF (σ : Sg) (t : Nat) (l : List Int) (σ1 : Sg) : Prop := tl (σ1 2 t) (σ1 1 t 1) l ∧ σ1 1 0 1 = 0 ∧ ∀ a b j, ¬ (a = 1 ∧ (b = t ∨ b = 0) ∧ j = 1) → ¬ (a = 2 ∧ b = t) → σ1 a b j = σ a b j
theorem take_F {t : Nat} (ht : ¬ t = 0) (hs : tl (σ 2 0) (σ 1 0 1) sl) (h64 : sl.length ≤ 64) (hF : ∀ σ1, tkF σ t sl σ1 → F none (nx, σ1, rX kn tx)) : T_Text_take SL xs [.inr (some (1, t)), .inr (some (1, 0))] (nx, σ, rX kn tx) F := by
  have hl : σ 1 0 1 = sl.length := hs.1
  refine tw_Text_take (by rw [hl]; omega) (hF _ ⟨⟨?_, fun i hi => ?_⟩, upS_same, fun a b j h1 h2 => ?_⟩)
  · rw [upS_ne (by omega)]
    have e : cpS (upS σ 1 t 1 (σ 1 0 1)) 2 0 0 2 t 0 (σ 1 0 1).toNat 1 t 1 = upS σ 1 t 1 (σ 1 0 1) 1 t 1 := if_neg (by omega)
    rw [e, upS_same]
    exact hl
  · rw [upS_ne (by omega)]
    have e : cpS (upS σ 1 t 1 (σ 1 0 1)) 2 0 0 2 t 0 (σ 1 0 1).toNat 2 t i = upS σ 1 t 1 (σ 1 0 1) 2 0 (0 + (i - 0)) := if_pos ⟨rfl, rfl, by omega, by omega⟩
    rw [e, upS_ne (by omega), Nat.zero_add]
    exact hs.2 i hi
  · rw [upS_ne (by omega)]
    have e : cpS (upS σ 1 t 1 (σ 1 0 1)) 2 0 0 2 t 0 (σ 1 0 1).toNat a b j = upS σ 1 t 1 (σ 1 0 1) a b j := if_neg (by omega)
    rw [e, upS_ne (by omega)]
theorem lp_Model_let {v : Nat} (hv : v < 8) (h64 : sl.length ≤ 64) (hb : byt sl) (hs : tl (σ 27 0) (σ 26 0 2) sl) (hK : ∀ σ1, (∀ j, j < sl.length → σ1 28 0 (64 * v + j) = sl.getD j 0) → (∀ a b j, ¬ (a = 28 ∧ b = 0 ∧ 64 * v ≤ j ∧ j < 64 * v + 64) → σ1 a b j = σ a b j) → Xz SL xs (m_Model_let SL xs) F (47, [some (.inr (some (26, 0))), some (.inl v), some (.inl sl.length)], [], (nx, σ1, rX kn tx), 0, 0)) : ∀ (m i : Nat) (σ1 : Sg), i + m = sl.length → (∀ j, j < i → σ1 28 0 (64 * v + j) = sl.getD j 0) → (∀ a b j, ¬ (a = 28 ∧ b = 0 ∧ 64 * v ≤ j ∧ j < 64 * v + 64) → σ1 a b j = σ a b j) → Xz SL xs (m_Model_let SL xs) F (16, [some (.inr (some (26, 0))), some (.inl v), some (.inl i)], [], (nx, σ1, rX kn tx), 0, 0) := by
  have hl : σ 26 0 2 = sl.length := hs.1
  intro m
  induction m with
  | zero =>
    intro i σ1 hi h1 h2
    have hi : i = sl.length := by omega
    subst hi
    refine run 4 ?_
    refine And.intro (fun h => leaf (hK σ1 h1 h2)) (fun h => absurd (show σ1 26 0 2 ≤ (sl.length : Int) by rw [h2 26 0 2 (by omega), hl]; exact Int.le_refl _) h)
  | succ m ih =>
    intro i σ1 hi h1 h2
    have hw6 := w64 (k := v) (i := i) (by omega) (by omega)
    have hwi : wr ((i : Int) + 1) = ((i + 1 : Nat) : Int) := by rw [wr_eq ⟨by omega, by omega⟩]; omega
    have hsg : σ1 27 0 (i : Int).toNat = sl.getD i 0 := by rw [Int.toNat_natCast, h2 27 0 _ (by omega)]; exact hs.2 i (by omega)
    have hb8 : b8 (sl.getD i 0) = sl.getD i 0 := by
      refine hb _ ?_
      rw [List.getD_eq_getElem?_getD, List.getElem?_eq_getElem (by omega)]
      exact List.getElem_mem _
    have K := ih (i + 1) (upS σ1 28 0 (64 * v + i) (sl.getD i 0)) (by omega) (fun j hj => by
      by_cases hji : j = i
      · subst hji
        exact upS_same
      · rw [upS_ne (by omega)]
        exact h1 j (by omega)) (fun a b j h => by rw [upS_ne (by omega)]; exact h2 a b j h)
    have eix : (wr (wr (64 * (v : Int)) + (i : Int))).toNat = 64 * v + i := by rw [hw6, Int.toNat_natCast]
    rw [← eix, ← hb8, ← hsg, ← hwi] at K
    refine run 24 ?_
    refine And.intro (fun h => ?_) (fun h => ?_)
    · have h : σ1 26 0 2 ≤ (i : Int) := h
      rw [h2 26 0 2 (by omega), hl] at h
      omega
    refine And.intro ⟨show (0 : Int) ≤ (i : Int) by omega, show (i : Int) < 64 by omega⟩ ?_
    refine And.intro (by show 0 ≤ wr (wr (64 * (v : Int)) + (i : Int)) ∧ wr (wr (64 * (v : Int)) + (i : Int)) < 512; rw [hw6]; omega) ?_
    exact leaf (by first | exact run 1 K | exact run 2 K | exact run 3 K)
theorem tl_nil {f : Nat → Int} {n : Int} (h : n = 0) : tl f n [] := ⟨by rw [h]; rfl, fun i hi => by simp at hi⟩
theorem byt_nil : byt [] := fun x hx => by cases hx
theorem bth_let {v : Int} (hR : RR nx σ kn tx hi sl ν E) : Bth SL xs (T_Mill_let SL xs) (T_Model_let SL xs) [.inl v] nx σ kn tx := by
  have hR0 := hR
  obtain ⟨h1, ⟨s1, s2, s3, s4⟩, ⟨n1, n2, n3⟩, h4, h5⟩ := hR
  by_cases hv : 0 ≤ v ∧ v < 8
  · have hvc : ((v.toNat : Nat) : Int) = v := by omega
    have hv8 : v.toNat < 8 := by omega
    refine bth_p (x := 1) (PA := fun σ1 => tkF σ (3 + v.toNat) sl σ1) (PC := fun σ1 σ2 => tl (fun i => σ2 28 0 (64 * v.toNat + i)) (σ2 29 0 v.toNat) sl ∧ σ2 26 0 2 = 0 ∧ ∀ a b j, ¬ (a = 29 ∧ b = 0 ∧ j = v.toNat) → ¬ (a = 28 ∧ b = 0 ∧ 64 * v.toNat ≤ j ∧ j < 64 * v.toNat + 64) → ¬ (a = 26 ∧ (j = 0 ∨ j = 2)) → σ2 a b j = σ1 a b j) ?_ (fun σ1 hs => ?_) (fun σ1 σ2 hs hl => ?_)
    · refine run 20 ?_
      refine call_eq (fun F hF => tw_Mill_isVariable hF) ?_
      refine And.intro (fun h => ?_) (fun h => absurd (show ¬ (if 0 ≤ v ∧ v < 8 then (1 : Int) else 0) = 0 by rw [if_pos hv]; omega) h)
      refine And.intro hv ?_
      refine call_any (Y := fun v0 s => v0 = none ∧ ∃ σ1, s = (nx, σ1, rX kn tx) ∧ tkF σ (3 + v.toNat) sl σ1) ?_ ?_
      · show vT 1 (T_Text_take SL xs) [.inr (if v.toNat < 8 then some (1, 3 + v.toNat) else none), .inr (some (1, 0))] (nx, σ, rX kn tx) _
        rw [vref hv]
        exact take_F (t := 3 + v.toNat) (by omega) s1 s3 (fun σ1 h => ⟨rfl, σ1, rfl, h⟩)
      · intro v0 s hv0
        obtain ⟨rfl, σ1, rfl, h⟩ := hv0
        exact And.intro (Or.inr rfl) ⟨rfl, σ1, rfl, h⟩
    · have e2 : tl (upS σ1 26 0 0 0 27 0) (upS σ1 26 0 0 0 26 0 2) sl := s2.fr (fun i _ => by rw [upS_ne (by omega), hs.2.2 27 0 i (by omega) (by omega)]) (by rw [upS_ne (by omega), hs.2.2 26 0 2 (by omega) (by omega)])
      have K := lp_Model_let (SL := SL) (xs := xs) (nx := nx) (kn := kn) (tx := tx) (v := v.toNat) (F := fun v_1 s => v_1 = some (.inl 1) ∧ ∃ σ2, s = (nx, σ2, rX kn tx) ∧ (tl (fun i => σ2 28 0 (64 * v.toNat + i)) (σ2 29 0 v.toNat) sl ∧ σ2 26 0 2 = 0 ∧ ∀ a b j, ¬ (a = 29 ∧ b = 0 ∧ j = v.toNat) → ¬ (a = 28 ∧ b = 0 ∧ 64 * v.toNat ≤ j ∧ j < 64 * v.toNat + 64) → ¬ (a = 26 ∧ (j = 0 ∨ j = 2)) → σ2 a b j = σ1 a b j)) hv8 s3 s4 e2 (fun σ2 q1 q2 => ?_) sl.length 0 _ (Nat.zero_add _) (fun j hj => by omega) (fun a b j _ => rfl)
      · rw [hvc] at K
        refine run 12 ?_
        refine call_eq (fun F hF => tw_Model_isVariable hF) ?_
        refine And.intro (fun h => ?_) (fun h => absurd (show ¬ (if 0 ≤ v ∧ v < 8 then (1 : Int) else 0) = 0 by rw [if_pos hv]; omega) h)
        exact leaf (by first | exact run 1 K | exact run 2 K | exact run 3 K)
      · have l2 : σ2 26 0 2 = sl.length := by rw [q2 26 0 2 (by omega)]; exact e2.1
        refine run 12 ?_
        refine And.intro ⟨show (0 : Int) ≤ (v.toNat : Int) by omega, show (v.toNat : Int) < 8 by omega⟩ ?_
        refine And.intro (Or.inr rfl) ⟨rfl, _, rfl, ⟨?_, fun i hi => ?_⟩, upS_same, fun a b j g1 g2 g3 => ?_⟩
        · show upS (upS σ2 29 0 (v.toNat : Int).toNat (σ2 26 0 2)) 26 0 2 0 29 0 v.toNat = _
          rw [Int.toNat_natCast, upS_ne (by omega), upS_same]
          exact l2
        · show upS (upS σ2 29 0 (v.toNat : Int).toNat (σ2 26 0 2)) 26 0 2 0 28 0 (64 * v.toNat + i) = _
          rw [upS_ne (by omega), upS_ne (by omega)]
          exact q1 i hi
        · show upS (upS σ2 29 0 (v.toNat : Int).toNat (σ2 26 0 2)) 26 0 2 0 a b j = _
          rw [Int.toNat_natCast, upS_ne (by omega), upS_ne (by omega), q2 a b j (by omega), upS_ne (by omega)]
    · obtain ⟨t1, t2, t3⟩ := hs
      obtain ⟨g1, g2, g3⟩ := hl
      refine ⟨hi, [], upN ν v.toNat sl, E, hR0.mk (fun a b j q1 q2 q3 q4 => by rw [g3 a b j (by omega) (by omega) q2, t3 a b j (by omega) (by omega)]) ⟨tl_nil (by rw [g3 1 0 1 (by omega) (by omega) (by omega)]; exact t2), tl_nil g2, by simp, byt_nil⟩ ⟨fun w hw => ?_, fun w hw => ?_, fun w hw => ?_⟩⟩
      · by_cases hwv : w = v.toNat
        · subst hwv
          simp only [upN, if_true]
          exact ⟨t1.fr (fun i _ => g3 2 _ i (by omega) (by omega) (by omega)) (g3 1 _ 1 (by omega) (by omega) (by omega)), s3⟩
        · simp only [upN, if_neg hwv]
          exact ⟨(n1 w hw).1.fr (fun i _ => by rw [g3 2 _ i (by omega) (by omega) (by omega), t3 2 _ i (by omega) (by omega)]) (by rw [g3 1 _ 1 (by omega) (by omega) (by omega), t3 1 _ 1 (by omega) (by omega)]), (n1 w hw).2⟩
      · by_cases hwv : w = v.toNat
        · subst hwv
          simp only [upN, if_true]
          exact ⟨g1, s3⟩
        · simp only [upN, if_neg hwv]
          exact ⟨(n2 w hw).1.fr (fun i hi => by
            have := (n2 w hw).2
            rw [g3 28 0 _ (by omega) (by omega) (by omega), t3 28 0 _ (by omega) (by omega)]) (by rw [g3 29 0 w (by omega) (by omega) (by omega), t3 29 0 w (by omega) (by omega)]), (n2 w hw).2⟩
      · unfold upN
        split
        · exact s4
        · exact n3 w hw
  · refine bth_no (x := 0) hR0 ?_ ?_
    · refine run 20 ?_
      refine call_eq (fun F hF => tw_Mill_isVariable hF) ?_
      exact And.intro (fun h => absurd (show (if 0 ≤ v ∧ v < 8 then (1 : Int) else 0) = 0 by rw [if_neg hv]) h) (fun h => And.intro (Or.inl rfl) ⟨rfl, rfl⟩)
    · refine run 20 ?_
      refine call_eq (fun F hF => tw_Model_isVariable hF) ?_
      exact And.intro (fun h => absurd (show (if 0 ≤ v ∧ v < 8 then (1 : Int) else 0) = 0 by rw [if_neg hv]) h) (fun h => And.intro (Or.inl rfl) ⟨rfl, rfl⟩)
def noE (E : Ev) : Ev := (E.1, E.2.1, E.2.2.1, E.2.2.2.1, E.2.2.2.2.1, 0)
theorem RR.clear (hR : RR nx σ kn tx hi sl ν E) : RR nx (upS (upS (upS σ 4 0 4 0) 26 0 0 0) 26 0 5 0) kn tx hi sl ν (noE E) := by
  have ex : ∀ a b j, ¬ a = 4 → ¬ (a = 26 ∧ (j = 0 ∨ j = 5)) → upS (upS (upS σ 4 0 4 0) 26 0 0 0) 26 0 5 0 a b j = σ a b j := fun a b j h1 h2 => by rw [upS_ne (by omega), upS_ne (by omega), upS_ne (by omega)]
  obtain ⟨⟨r1, r2, r3, r4⟩, hsl, hnu, ⟨hC, hM, hO, hE0⟩, hmc⟩ := hR
  refine ⟨⟨r1, r2, Nat.zero_le _, r4⟩, hsl.fr (fun j => ex _ _ _ (by omega) (by omega)) (ex _ _ _ (by omega) (by omega)) (fun j => ex _ _ _ (by omega) (by omega)) (ex _ _ _ (by omega) (by omega)), hnu.fr (fun b j _ _ => ex _ _ _ (by omega) (by omega)) (fun b _ _ => ex _ _ _ (by omega) (by omega)) (fun j => ex _ _ _ (by omega) (by omega)) (fun j => ex _ _ _ (by omega) (by omega)), ⟨⟨by rw [upS_ne (by omega), upS_ne (by omega), upS_same]; rfl, fun k hk => absurd (show k < 0 from hk) (by omega)⟩, ⟨by rw [upS_same]; rfl, fun k hk => absurd (show k < 0 from hk) (by omega)⟩, ⟨hO.1, Nat.zero_le _, fun k hk => absurd (show k < 0 from hk) (by omega)⟩, hE0⟩, hmc.fr (ex _ _ _ (by omega) (by omega)) (fun j => ex _ _ _ (by omega) (by omega)) (fun j _ _ => ex _ _ _ (by omega) (by omega))⟩
theorem tw_Mill_clear (hF : F none (nx, upS σ 4 0 4 0, rX kn tx)) : T_Mill_clear SL xs [.inr (some (0, 0))] (nx, σ, rX kn tx) F := run 10 hF
theorem tw_Model_clear (hF : F none (nx, upS (upS σ 26 0 0 0) 26 0 5 0, rX kn tx)) : T_Model_clear SL xs [.inr (some (26, 0))] (nx, σ, rX kn tx) F := run 10 hF
end
end
section
/-! What a node needs -/
abbrev ft (w v n : Int) : Prop := w = 0 ∨ (w = 1 ∧ 0 ≤ v) ∨ (w = 2 ∧ 0 ≤ v ∧ v < n) ∨ (w = 3 ∧ 0 ≤ v ∧ v < 8) ∨ (w = 4 ∧ 0 ≤ v ∧ v < 64)
section
variable {SL : Nat} {xs : Nat → Int} {nx hi : Nat} {σ σ' : Sg} {kn : Nat → Option Nat} {tx : Nat → Bool} {F : Option Av → St → Prop} {E : Ev} {ν : Nu} {sl : List Int}
theorem tw_Kind_fits {w v n : Int} {s : St} (hw : 0 ≤ w ∧ w ≤ 4) (hF : F (some (.inl (if ft w v n then 1 else 0))) s) : T_Kind_fits SL xs [.inl w, .inl v, .inl n] s F := by
  have h0 : ft w v n → F (some (.inl 1)) s := fun h => by rw [if_pos h] at hF; exact hF
  have h1 : ¬ ft w v n → F (some (.inl 0)) s := fun h => by rw [if_neg h] at hF; exact hF
  unfold ft at h0 h1
  have hcase : w = 0 ∨ w = 1 ∨ w = 2 ∨ w = 3 ∨ w = 4 := by omega
  rcases hcase with rfl | rfl | rfl | rfl | rfl
  · refine run 20 ?_
    refine swt_in (t := 32) rfl ?_
    exact And.intro (Or.inr rfl) (h0 (by omega))
  · refine run 20 ?_
    refine swt_in (t := 34) rfl ?_
    refine And.intro (fun h => And.intro (Or.inl rfl) (h1 ?_)) (fun h => And.intro (Or.inr rfl) (h0 ?_))
    · have h : v < 0 := h
      omega
    · have h : ¬ v < 0 := h
      omega
  · refine run 20 ?_
    refine swt_in (t := 44) rfl ?_
    refine And.intro (fun h => And.intro (Or.inl rfl) (h1 ?_)) (fun h => ?_)
    · have h : v < 0 := h
      omega
    · have h : ¬ v < 0 := h
      refine And.intro (fun h2 => And.intro (Or.inl rfl) (h1 ?_)) (fun h2 => And.intro (Or.inr rfl) (h0 ?_))
      · have h2 : n ≤ v := h2
        omega
      · have h2 : ¬ n ≤ v := h2
        omega
  · refine run 20 ?_
    refine swt_in (t := 59) rfl ?_
    refine And.intro (fun h => And.intro (Or.inl rfl) (h1 ?_)) (fun h => ?_)
    · have h : v < 0 := h
      omega
    · have h : ¬ v < 0 := h
      refine And.intro (fun h2 => And.intro (Or.inl rfl) (h1 ?_)) (fun h2 => And.intro (Or.inr rfl) (h0 ?_))
      · have h2 : 8 ≤ v := h2
        omega
      · have h2 : ¬ 8 ≤ v := h2
        omega
  · refine run 20 ?_
    refine swt_out rfl ?_
    refine And.intro (fun h => And.intro (Or.inl rfl) (h1 ?_)) (fun h => ?_)
    · have h : v < 0 := h
      omega
    · have h : ¬ v < 0 := h
      refine And.intro (fun h2 => And.intro (Or.inl rfl) (h1 ?_)) (fun h2 => And.intro (Or.inr rfl) (h0 ?_))
      · have h2 : 64 ≤ v := h2
        omega
      · have h2 : ¬ 64 ≤ v := h2
        omega
theorem kF12 : ∀ kd : Nat, kd < 24 → (0 ≤ kF 1 kd ∧ kF 1 kd ≤ 4) ∧ (0 ≤ kF 2 kd ∧ kF 2 kd ≤ 4) := by decide +kernel
theorem tw_Kind_suits {kd : Nat} {a b n : Int} {s : St} (hk : kd < 24) (hF : F (some (.inl (if ft (kF 1 kd) a n ∧ ft (kF 2 kd) b n then 1 else 0))) s) : T_Kind_suits SL xs [.inr (some (45, kd)), .inl a, .inl b, .inl n] s F := by
  obtain ⟨w1, w2⟩ := kF12 kd hk
  refine run 20 ?_
  refine call_eq (fun F hF => tw_Kind_fits w1 hF) ?_
  refine And.intro (fun h => ?_) (fun h => ?_)
  · have h : (if ft (kF 1 kd) a n then (1 : Int) else 0) = 0 := h
    rw [if_neg (fun z => ite0.mp h z.1)] at hF
    exact And.intro (Or.inl rfl) hF
  · have h : ¬ (if ft (kF 1 kd) a n then (1 : Int) else 0) = 0 := h
    have h := Classical.not_not.mp (fun z => h (ite0.mpr z))
    refine call_eq (fun F hF => tw_Kind_fits w2 hF) ?_
    refine And.intro (fun h2 => ?_) (fun h2 => ?_)
    · have h2 : (if ft (kF 2 kd) b n then (1 : Int) else 0) = 0 := h2
      rw [if_neg (fun z => ite0.mp h2 z.2)] at hF
      exact And.intro (Or.inl rfl) hF
    · have h2 : ¬ (if ft (kF 2 kd) b n then (1 : Int) else 0) = 0 := h2
      have h2 := Classical.not_not.mp (fun z => h2 (ite0.mpr z))
      rw [if_pos ⟨h, h2⟩] at hF
      exact And.intro (Or.inr rfl) hF
def canL : List (Int × Nat) := [(5, 112), (6, 112), (7, 112), (8, 112), (9, 112), (10, 192), (11, 192), (12, 192), (13, 192), (14, 192), (15, 192), (16, 122), (17, 128), (18, 128), (19, 150), (20, 150), (21, 171), (22, 171), (23, 176)]
theorem tw_Model_can {kd n : Nat} {a b : Int} (hk : kd < 24) (hn : σ 26 0 5 = n) (hn64 : ¬ n = 64) (hF : F (some (.inl (if ft (kF 1 kd) a n ∧ ft (kF 2 kd) b n then 1 else 0))) (nx, σ, rX kn tx)) : T_Model_can SL xs [.inr (some (26, 0)), .inl kd, .inl a, .inl b] (nx, σ, rX kn tx) F := by
  have h0 : (ft (kF 1 kd) a n ∧ ft (kF 2 kd) b n) → F (some (.inl 1)) (nx, σ, rX kn tx) := fun h => by rw [if_pos h] at hF; exact hF
  have h1 : ¬ (ft (kF 1 kd) a n ∧ ft (kF 2 kd) b n) → F (some (.inl 0)) (nx, σ, rX kn tx) := fun h => by rw [if_neg h] at hF; exact hF
  have sw : ∀ t, (lkI canL (kd : Int)).getD 192 = t → Xz SL xs (m_Model_can SL xs) F (t, [some (.inr (some (26, 0))), some (.inl (kd : Int)), some (.inl a), some (.inl b)], [], (nx, σ, rX kn tx), 0, 0) → T_Model_can SL xs [.inr (some (26, 0)), .inl kd, .inl a, .inl b] (nx, σ, rX kn tx) F := by
    intro t ht K
    refine run 12 ?_
    refine And.intro (fun h => absurd (show (kd : Int) < 0 from h) (by omega)) (fun h => ?_)
    refine And.intro (fun h => absurd (show (23 : Int) < (kd : Int) from h) (by omega)) (fun h => ?_)
    refine And.intro (fun h => ?_) (fun h => absurd (show ¬ σ 26 0 5 = 64 by rw [hn]; omega) h)
    cases hl : lkI canL (kd : Int) with
    | some t' =>
      rw [hl] at ht
      have ht : t' = t := ht
      subst ht
      refine swt_in (t := t') (show lkI _ (kd : Int) = some t' from hl) ?_
      exact leaf K
    | none =>
      rw [hl] at ht
      have ht : 192 = t := ht
      subst ht
      refine swt_out (show lkI _ (kd : Int) = none from hl) ?_
      exact leaf K
  have t192 : kF 1 kd = 0 → kF 2 kd = 0 → Xz SL xs (m_Model_can SL xs) F (192, [some (.inr (some (26, 0))), some (.inl (kd : Int)), some (.inl a), some (.inl b)], [], (nx, σ, rX kn tx), 0, 0) := fun e1 e2 => run 4 (And.intro (Or.inr rfl) (h0 (by rw [e1, e2]; unfold ft; omega)))
  have t112 : kF 1 kd = 1 → kF 2 kd = 0 → Xz SL xs (m_Model_can SL xs) F (112, [some (.inr (some (26, 0))), some (.inl (kd : Int)), some (.inl a), some (.inl b)], [], (nx, σ, rX kn tx), 0, 0) := fun e1 e2 => by
    rw [e1, e2] at h0 h1
    unfold ft at h0 h1
    refine run 8 ?_
    refine And.intro (fun h => And.intro (Or.inl rfl) (h1 ?_)) (fun h => And.intro (Or.inr rfl) (h0 ?_))
    · have h : a < 0 := h
      omega
    · have h : ¬ a < 0 := h
      omega
  have t122 : kF 1 kd = 2 → kF 2 kd = 0 → Xz SL xs (m_Model_can SL xs) F (122, [some (.inr (some (26, 0))), some (.inl (kd : Int)), some (.inl a), some (.inl b)], [], (nx, σ, rX kn tx), 0, 0) := fun e1 e2 => by
    rw [e1, e2] at h0 h1
    unfold ft at h0 h1
    refine run 8 ?_
    refine call_eq (fun F hF => tw_Model_isNode hF) ?_
    by_cases h : 0 ≤ a ∧ a < σ 26 0 5
    · rw [if_pos h]
      rw [hn] at h
      exact And.intro (Or.inr rfl) (h0 (by omega))
    · rw [if_neg h]
      rw [hn] at h
      exact And.intro (Or.inl rfl) (h1 (by omega))
  have t128 : kF 1 kd = 2 → kF 2 kd = 2 → Xz SL xs (m_Model_can SL xs) F (128, [some (.inr (some (26, 0))), some (.inl (kd : Int)), some (.inl a), some (.inl b)], [], (nx, σ, rX kn tx), 0, 0) := fun e1 e2 => by
    rw [e1, e2] at h0 h1
    unfold ft at h0 h1
    refine run 16 ?_
    refine call_eq (fun F hF => tw_Model_isNode hF) ?_
    refine And.intro (fun h => ?_) (fun h => ?_)
    · have h := ite0.mp (show (if 0 ≤ a ∧ a < σ 26 0 5 then (1 : Int) else 0) = 0 from h)
      rw [hn] at h
      exact And.intro (Or.inl rfl) (h1 (by omega))
    · have h : ¬ (if 0 ≤ a ∧ a < σ 26 0 5 then (1 : Int) else 0) = 0 := h
      have h := Classical.not_not.mp (fun z => h (ite0.mpr z))
      rw [hn] at h
      refine call_eq (fun F hF => tw_Model_isNode hF) ?_
      refine And.intro (fun h2 => ?_) (fun h2 => ?_)
      · have h2 := ite0.mp (show (if 0 ≤ b ∧ b < σ 26 0 5 then (1 : Int) else 0) = 0 from h2)
        rw [hn] at h2
        exact And.intro (Or.inl rfl) (h1 (by omega))
      · have h2 : ¬ (if 0 ≤ b ∧ b < σ 26 0 5 then (1 : Int) else 0) = 0 := h2
        have h2 := Classical.not_not.mp (fun z => h2 (ite0.mpr z))
        rw [hn] at h2
        exact And.intro (Or.inr rfl) (h0 (by omega))
  have t150 : kF 1 kd = 2 → kF 2 kd = 3 → Xz SL xs (m_Model_can SL xs) F (150, [some (.inr (some (26, 0))), some (.inl (kd : Int)), some (.inl a), some (.inl b)], [], (nx, σ, rX kn tx), 0, 0) := fun e1 e2 => by
    rw [e1, e2] at h0 h1
    unfold ft at h0 h1
    refine run 16 ?_
    refine call_eq (fun F hF => tw_Model_isNode hF) ?_
    refine And.intro (fun h => ?_) (fun h => ?_)
    · have h := ite0.mp (show (if 0 ≤ a ∧ a < σ 26 0 5 then (1 : Int) else 0) = 0 from h)
      rw [hn] at h
      exact And.intro (Or.inl rfl) (h1 (by omega))
    · have h : ¬ (if 0 ≤ a ∧ a < σ 26 0 5 then (1 : Int) else 0) = 0 := h
      have h := Classical.not_not.mp (fun z => h (ite0.mpr z))
      rw [hn] at h
      refine call_eq (fun F hF => tw_Model_isVariable hF) ?_
      refine And.intro (fun h2 => ?_) (fun h2 => ?_)
      · have h2 := ite0.mp (show (if 0 ≤ b ∧ b < 8 then (1 : Int) else 0) = 0 from h2)
        exact And.intro (Or.inl rfl) (h1 (by omega))
      · have h2 : ¬ (if 0 ≤ b ∧ b < 8 then (1 : Int) else 0) = 0 := h2
        have h2 := Classical.not_not.mp (fun z => h2 (ite0.mpr z))
        exact And.intro (Or.inr rfl) (h0 (by omega))
  have t171 : kF 1 kd = 3 → kF 2 kd = 0 → Xz SL xs (m_Model_can SL xs) F (171, [some (.inr (some (26, 0))), some (.inl (kd : Int)), some (.inl a), some (.inl b)], [], (nx, σ, rX kn tx), 0, 0) := fun e1 e2 => by
    rw [e1, e2] at h0 h1
    unfold ft at h0 h1
    refine run 8 ?_
    refine call_eq (fun F hF => tw_Model_isVariable hF) ?_
    by_cases h : 0 ≤ a ∧ a < 8
    · rw [if_pos h]
      exact And.intro (Or.inr rfl) (h0 (by omega))
    · rw [if_neg h]
      exact And.intro (Or.inl rfl) (h1 (by omega))
  have t176 : kF 1 kd = 4 → kF 2 kd = 0 → Xz SL xs (m_Model_can SL xs) F (176, [some (.inr (some (26, 0))), some (.inl (kd : Int)), some (.inl a), some (.inl b)], [], (nx, σ, rX kn tx), 0, 0) := fun e1 e2 => by
    rw [e1, e2] at h0 h1
    unfold ft at h0 h1
    refine run 12 ?_
    refine And.intro (fun h => And.intro (Or.inl rfl) (h1 ?_)) (fun h => ?_)
    · have h : a < 0 := h
      omega
    · have h : ¬ a < 0 := h
      refine And.intro (fun h2 => And.intro (Or.inl rfl) (h1 ?_)) (fun h2 => And.intro (Or.inr rfl) (h0 ?_))
      · have h2 : 64 ≤ a := h2
        omega
      · have h2 : ¬ 64 ≤ a := h2
        omega
  have hcase : kd = 0 ∨ kd = 1 ∨ kd = 2 ∨ kd = 3 ∨ kd = 4 ∨ kd = 5 ∨ kd = 6 ∨ kd = 7 ∨ kd = 8 ∨ kd = 9 ∨ kd = 10 ∨ kd = 11 ∨ kd = 12 ∨ kd = 13 ∨ kd = 14 ∨ kd = 15 ∨ kd = 16 ∨ kd = 17 ∨ kd = 18 ∨ kd = 19 ∨ kd = 20 ∨ kd = 21 ∨ kd = 22 ∨ kd = 23 := by omega
  rcases hcase with rfl | rfl | rfl | rfl | rfl | rfl | rfl | rfl | rfl | rfl | rfl | rfl | rfl | rfl | rfl | rfl | rfl | rfl | rfl | rfl | rfl | rfl | rfl | rfl
  all_goals first
    | exact sw 192 rfl (t192 rfl rfl)
    | exact sw 112 rfl (t112 rfl rfl)
    | exact sw 122 rfl (t122 rfl rfl)
    | exact sw 128 rfl (t128 rfl rfl)
    | exact sw 150 rfl (t150 rfl rfl)
    | exact sw 171 rfl (t171 rfl rfl)
    | exact sw 176 rfl (t176 rfl rfl)
theorem tw_Model_can_no {kd a b : Int} (h : ¬ (0 ≤ kd ∧ kd < 24) ∨ σ 26 0 5 = 64) (hF : F (some (.inl 0)) (nx, σ, rX kn tx)) : T_Model_can SL xs [.inr (some (26, 0)), .inl kd, .inl a, .inl b] (nx, σ, rX kn tx) F := by
  refine run 12 ?_
  refine And.intro (fun _ => And.intro (Or.inl rfl) hF) (fun h1 => ?_)
  have h1 : ¬ kd < 0 := h1
  refine And.intro (fun _ => And.intro (Or.inl rfl) hF) (fun h2 => ?_)
  have h2 : ¬ (23 : Int) < kd := h2
  refine And.intro (fun h3 => ?_) (fun _ => And.intro (Or.inl rfl) hF)
  have h3 : ¬ σ 26 0 5 = 64 := h3
  omega
end
end
section
/-! The component's node -/
def knU (kn : Nat → Option Nat) (n kd : Nat) : Nat → Option Nat := fun j => if j = n then some kd else kn j
/-- a text is made for a node -/
def mkR (ρ : Rh) (n : Nat) : Rh := upR (upR (zrR (zrR ρ 1 (11 + n)) 2 (11 + n)) 1 (11 + n) 0 (some (2, 11 + n))) 8 0 n (some (1, 11 + n))
section
variable {SL : Nat} {xs : Nat → Int} {nx hi : Nat} {σ σ' : Sg} {kn : Nat → Option Nat} {tx : Nat → Bool} {F : Option Av → St → Prop} {E : Ev} {ν : Nu} {sl : List Int}
theorem rX_kn {n kd : Nat} : upR (rX kn tx) 5 0 n (some (45, kd)) = rX (knU kn n kd) tx := by
  funext a b j
  unfold upR
  by_cases h : a = 5 ∧ b = 0 ∧ j = n
  · obtain ⟨rfl, rfl, rfl⟩ := h
    rw [if_pos ⟨rfl, rfl, rfl⟩]
    show _ = ((knU kn j kd) j).map (fun k => (45, k))
    unfold knU
    rw [if_pos rfl]
    rfl
  · rw [if_neg h]
    by_cases ha : a = 5
    · subst ha
      cases b with
      | zero =>
        show (kn j).map (fun k => (45, k)) = ((knU kn n kd) j).map (fun k => (45, k))
        unfold knU
        rw [if_neg (fun e => h ⟨rfl, rfl, e⟩)]
      | succ b => rfl
    · unfold rX
      split <;> first | rfl | exact absurd rfl ha
theorem rX_mk {n : Nat} : mkR (rX kn tx) n = rX kn (fun j => if j = n then true else tx j) := by
  funext a b j
  unfold mkR
  by_cases h8 : a = 8 ∧ b = 0 ∧ j = n
  · obtain ⟨rfl, rfl, rfl⟩ := h8
    unfold upR
    rw [if_pos ⟨rfl, rfl, rfl⟩]
    show _ = if (if j = j then true else tx j) = true then some (1, 11 + j) else none
    rw [if_pos rfl, if_pos rfl]
  · unfold upR
    rw [if_neg h8]
    by_cases h1 : a = 1 ∧ b = 11 + n ∧ j = 0
    · obtain ⟨rfl, rfl, rfl⟩ := h1
      rw [if_pos ⟨rfl, rfl, rfl⟩]
      rfl
    · rw [if_neg h1]
      unfold zrR
      by_cases h2 : a = 2 ∧ b = 11 + n
      · rw [if_pos h2, h2.1]
        rfl
      · rw [if_neg h2]
        by_cases h3 : a = 1 ∧ b = 11 + n
        · rw [if_pos h3, h3.1]
          cases j with
          | zero => exact absurd ⟨h3.1, h3.2, rfl⟩ h1
          | succ j => rfl
        · rw [if_neg h3]
          by_cases ha : a = 8
          · subst ha
            cases b with
            | zero =>
              show (if tx j = true then some (1, 11 + j) else none) = if (if j = n then true else tx j) = true then some (1, 11 + j) else none
              rw [if_neg (show ¬ j = n from fun e => h8 ⟨rfl, rfl, e⟩)]
            | succ b => rfl
          · unfold rX
            split <;> first | rfl | exact absurd rfl ha
theorem tw_Text_init {n : Nat} {ρ : Rh} {nx : Nat} (hnx : nx = 66 + 2 * n) (hn : n < 64) (hF : F none (nx + 1, zrS σ 2 (11 + n), upR (zrR ρ 2 (11 + n)) 1 (11 + n) 0 (some (2, 11 + n)))) : T_Text_init SL xs [.inr (some (1, 11 + n))] (nx, σ, ρ) F := by
  refine run 10 ?_
  refine call_eq (v0 := none) (s0 := (nx, σ, ρ)) (fun F hF => hF) ?_
  refine ⟨2, 11 + n, ⟨rfl, (by omega), ?_, ?_⟩, ?_⟩
  · simp [idq]; omega
  · show ad 2 (11 + n) = nx
    have : ad 2 (11 + n) = adT (11 + n) + 1 := rfl
    rw [this]
    unfold adT
    rw [if_neg (by omega), if_neg (by omega), if_neg (by omega), if_neg (by omega)]
    omega
  · exact hF
abbrev ndL (kind a b : Int) (kd n : Nat) : List (Option Av) := [some (.inr (some (0, 0))), some (.inl kind), some (.inl a), some (.inl b), some (.inr (some (45, kd))), some (.inl (n : Int))]
/-- what the component's node leaves -/
def ndF (σ : Sg) (n kd : Nat) (a b : Int) (sl : List Int) (σ1 : Sg) : Prop := σ1 4 0 4 = ((n + 1 : Nat) : Int) ∧ σ1 6 0 n = (if kF 1 kd = 0 then 0 else a) ∧ σ1 7 0 n = (if kF 2 kd = 0 then 0 else b) ∧ tl (σ1 2 (11 + n)) (σ1 1 (11 + n) 1) (if kd < 5 then sl else []) ∧ σ1 1 0 1 = (if kd < 5 then 0 else σ 1 0 1) ∧
  ∀ a b j, ¬ (a = 4 ∧ j = 4) → ¬ ((a = 6 ∨ a = 7) ∧ j = n) → ¬ ((a = 1 ∨ a = 2) ∧ b = 11 + n) → ¬ (a = 1 ∧ b = 0 ∧ j = 1) → σ1 a b j = σ a b j
theorem kF0 : ∀ kd : Nat, kF 0 kd = if kd < 5 then 1 else 0 := fun kd => rfl
theorem nd_149 {kind a b : Int} {n kd kc ks : Nat} {σa : Sg} (hk : (kc = 0 ∧ ks = 0) ∨ (kc = 2 ∧ ks = 66)) (hn : n < 64) (htx : tx n = true) (h4 : σa 4 0 4 = n) (h6 : σa 6 0 n = (if kF 1 kd = 0 then 0 else a)) (h7 : σa 7 0 n = (if kF 2 kd = 0 then 0 else b)) (hs : tl (σa 2 0) (σa 1 0 1) sl) (h64 : sl.length ≤ 64) (hl : σa 1 0 1 = σ 1 0 1)
    (hfr : ∀ a b j, ¬ (a = 4 ∧ j = 4) → ¬ ((a = 6 ∨ a = 7) ∧ j = n) → ¬ ((a = 1 ∨ a = 2) ∧ b = 11 + n) → σa a b j = σ a b j) (hF : ∀ σ1, ndF σ n kd a b sl σ1 → F (some (.inl (n : Int))) (nx, σ1, rX kn tx)) : Xz SL xs (m_Mill_node SL xs) F (149, ndL kind a b kd n, [], (nx, σa, rX kn tx), kc, ks) := by
  have hin : (0 : Int) ≤ (n : Int) ∧ (n : Int) < 64 := by omega
  have e : (if tx (n : Int).toNat = true then some (1, 11 + (n : Int).toNat) else none) = some (1, 11 + n) := by rw [Int.toNat_natCast, if_pos htx]
  have hw : wr ((n : Int) + 1) = ((n + 1 : Nat) : Int) := by rw [wr_eq ⟨by omega, by omega⟩]; omega
  have K188 : ∀ σb : Sg, σb 4 0 4 = (n : Int) → (∀ z, ndF σ n kd a b sl (upS σb 4 0 4 z) ∨ ¬ z = ((n + 1 : Nat) : Int)) → Xz SL xs (m_Mill_node SL xs) F (188, ndL kind a b kd n, [], (nx, σb, rX kn tx), kc, ks) := by
    intro σb h4b h
    have K := hF _ ((h ((n + 1 : Nat) : Int)).resolve_right (fun z => z rfl))
    have K2 : F (some (.inl (n : Int))) (nx, upS σb 4 0 4 (wr (σb 4 0 4 + 1)), rX kn tx) := by
      rw [h4b, hw]
      exact K
    exact run 12 K2
  have K181 : kd < 5 → Xz SL xs (m_Mill_node SL xs) F (181, ndL kind a b kd n, [.inr (some (1, 11 + n))], (nx, upS σa 1 (11 + n) 1 0, rX kn tx), kc, ks) := by
    intro hkd
    have hT := fun Fx hx => take_F (SL := SL) (xs := xs) (nx := nx) (kn := kn) (tx := tx) (F := Fx) (σ := upS σa 1 (11 + n) 1 0) (t := 11 + n) (sl := sl) (by omega) (hs.fr (fun i _ => upS_ne (by omega)) (upS_ne (by omega))) h64 hx
    have fin : ∀ σb, tkF (upS σa 1 (11 + n) 1 0) (11 + n) sl σb → Xz SL xs (m_Mill_node SL xs) F (188, ndL kind a b kd n, [], (nx, σb, rX kn tx), kc, ks) := by
      intro σb ⟨t1, t2, t3⟩
      refine K188 σb (by rw [t3 4 0 4 (by omega) (by omega), upS_ne (by omega)]; exact h4) (fun z => ?_)
      by_cases hz : z = ((n + 1 : Nat) : Int)
      · refine Or.inl ⟨by rw [upS_same, hz], by rw [upS_ne (by omega), t3 6 0 n (by omega) (by omega), upS_ne (by omega)]; exact h6, by rw [upS_ne (by omega), t3 7 0 n (by omega) (by omega), upS_ne (by omega)]; exact h7, ?_, ?_, fun a' b' j' g1 g2 g3 g4 => ?_⟩
        · rw [if_pos hkd]
          exact t1.fr (fun i _ => upS_ne (by omega)) (upS_ne (by omega))
        · rw [if_pos hkd, upS_ne (by omega)]
          exact t2
        · rw [upS_ne (by omega), t3 a' b' j' (by omega) (by omega), upS_ne (by omega)]
          exact hfr a' b' j' g1 g2 g3
      · exact Or.inr hz
    rcases hk with ⟨rfl, rfl⟩ | ⟨rfl, rfl⟩
    · refine run 3 ?_
      refine call_any (Y := fun v0 s => v0 = none ∧ ∃ σb, s = (nx, σb, rX kn tx) ∧ tkF (upS σa 1 (11 + n) 1 0) (11 + n) sl σb) (hT _ (fun σb h => ⟨rfl, σb, rfl, h⟩)) ?_
      intro v0 s hv
      obtain ⟨rfl, σb, rfl, h⟩ := hv
      exact leaf (fin σb h)
    · refine run 3 ?_
      refine call_any (Y := fun v0 s => v0 = none ∧ ∃ σb, s = (nx, σb, rX kn tx) ∧ tkF (upS σa 1 (11 + n) 1 0) (11 + n) sl σb) (hT _ (fun σb h => ⟨rfl, σb, rfl, h⟩)) ?_
      intro v0 s hv
      obtain ⟨rfl, σb, rfl, h⟩ := hv
      exact leaf (fin σb h)
  rw [← e] at K181
  have K159 : Xz SL xs (m_Mill_node SL xs) F (159, ndL kind a b kd n, [.inr (some (1, 11 + n))], (nx, σa, rX kn tx), kc, ks) := by
    refine run 11 ?_
    refine And.intro (fun h => ?_) (fun h => ?_)
    · have h : kF 0 kd = 0 := h
      have hkd : ¬ kd < 5 := fun z => by rw [kF0, if_pos z] at h; omega
      refine leaf (K188 (upS σa 1 (11 + n) 1 0) (by rw [upS_ne (by omega)]; exact h4) (fun z => ?_))
      by_cases hz : z = ((n + 1 : Nat) : Int)
      · refine Or.inl ⟨by rw [upS_same, hz], by rw [upS_ne (by omega), upS_ne (by omega)]; exact h6, by rw [upS_ne (by omega), upS_ne (by omega)]; exact h7, ?_, ?_, fun a' b' j' g1 g2 g3 g4 => ?_⟩
        · rw [if_neg hkd]
          exact tl_nil (by rw [upS_ne (by omega), upS_same])
        · rw [if_neg hkd, upS_ne (by omega), upS_ne (by omega)]
          exact hl
        · rw [upS_ne (by omega), upS_ne (by omega)]
          exact hfr a' b' j' g1 g2 g3
      · exact Or.inr hz
    · have h : ¬ kF 0 kd = 0 := h
      have hkd : kd < 5 := Classical.not_not.mp (fun z => h (by rw [kF0, if_neg z]))
      refine And.intro hin ?_
      exact leaf (K181 hkd)
  rw [← e] at K159
  refine run 5 ?_
  refine And.intro hin ?_
  exact leaf K159
theorem nd_119 {kind a b : Int} {n kd : Nat} {σa : Sg} (hn : n < 64) (hnx : nx = 65 + 2 * hi) (hhi : hi ≤ 64) (hnh : n ≤ hi) (htx : tx = fun j => decide (j < hi)) (h4 : σa 4 0 4 = n) (h6 : σa 6 0 n = (if kF 1 kd = 0 then 0 else a)) (h7 : σa 7 0 n = (if kF 2 kd = 0 then 0 else b)) (hs : tl (σa 2 0) (σa 1 0 1) sl) (h64 : sl.length ≤ 64) (hl : σa 1 0 1 = σ 1 0 1)
    (hfr : ∀ a b j, ¬ (a = 4 ∧ j = 4) → ¬ ((a = 6 ∨ a = 7) ∧ j = n) → ¬ ((a = 1 ∨ a = 2) ∧ b = 11 + n) → σa a b j = σ a b j) (hF : ∀ σ1 hi', n < hi' → hi' ≤ 64 → ndF σ n kd a b sl σ1 → F (some (.inl (n : Int))) (65 + 2 * hi', σ1, rX kn (fun j => decide (j < hi')))) : Xz SL xs (m_Mill_node SL xs) F (119, ndL kind a b kd n, [], (nx, σa, rX kn tx), 0, 0) := by
  have hin : (0 : Int) ≤ (n : Int) ∧ (n : Int) < 64 := by omega
  subst htx
  subst hnx
  by_cases hlt : n < hi
  · have K := nd_149 (SL := SL) (xs := xs) (F := F) (kind := kind) (kn := kn) (tx := fun j => decide (j < hi)) (nx := 65 + 2 * hi) (Or.inl ⟨rfl, rfl⟩) hn (decide_eq_true hlt) h4 h6 h7 hs h64 hl hfr (fun σ1 h => hF σ1 hi hlt hhi h)
    refine run 6 ?_
    refine And.intro hin ?_
    refine And.intro (fun h => leaf K) (fun h => ?_)
    have h : (if (fun j => decide (j < hi)) (n : Int).toNat = true then some (1, 11 + (n : Int).toNat) else none) = none := h
    rw [Int.toNat_natCast, if_pos (decide_eq_true hlt)] at h
    cases h
  · have hnh2 : n = hi := by omega
    subst hnh2
    have etx : (fun j => if j = n then true else decide (j < n)) = fun j => decide (j < n + 1) := by
      funext j
      by_cases hj : j = n
      · rw [if_pos hj]
        exact (decide_eq_true (by omega)).symm
      · rw [if_neg hj]
        by_cases hj2 : j < n
        · rw [decide_eq_true hj2, decide_eq_true (by omega)]
        · rw [decide_eq_false hj2, decide_eq_false (by omega)]
    have ez : ∀ a' b' j', ¬ ((a' = 1 ∨ a' = 2) ∧ b' = 11 + n) → zrS (zrS σa 1 (11 + n)) 2 (11 + n) a' b' j' = σa a' b' j' := by
      intro a' b' j' h
      unfold zrS
      rw [if_neg (by omega), if_neg (by omega)]
    have K := nd_149 (SL := SL) (xs := xs) (F := F) (kind := kind) (kn := kn) (tx := fun j => decide (j < n + 1)) (nx := 65 + 2 * (n + 1)) (kd := kd) (a := a) (b := b) (sl := sl) (σ := σ) (σa := zrS (zrS σa 1 (11 + n)) 2 (11 + n)) (Or.inr ⟨rfl, rfl⟩) hn (decide_eq_true (by omega)) (by rw [ez 4 0 4 (by omega)]; exact h4) (by rw [ez 6 0 n (by omega)]; exact h6) (by rw [ez 7 0 n (by omega)]; exact h7) (hs.fr (fun i _ => ez 2 0 i (by omega)) (ez 1 0 1 (by omega))) h64 (by rw [ez 1 0 1 (by omega)]; exact hl) (fun a' b' j' g1 g2 g3 => by rw [ez a' b' j' g3]; exact hfr a' b' j' g1 g2 g3) (fun σ1 h => hF σ1 (n + 1) (by omega) (by omega) h)
    rw [← etx, ← rX_mk] at K
    refine run 14 ?_
    refine And.intro hin ?_
    refine And.intro (fun h => ?_) (fun h => ?_)
    · exfalso
      have h : ¬ (if (fun j => decide (j < n)) (n : Int).toNat = true then some (1, 11 + (n : Int).toNat) else none) = none := h
      rw [Int.toNat_natCast, if_neg (by simp)] at h
      exact h rfl
    · refine ⟨11 + n, ⟨?_, ?_⟩, ?_⟩
      · simp [idq]; omega
      · show ad 1 (11 + n) = 65 + 2 * n
        have : ad 1 (11 + n) = adT (11 + n) := rfl
        rw [this]
        unfold adT
        rw [if_neg (by omega), if_neg (by omega), if_neg (by omega), if_neg (by omega)]
        omega
      · refine call_eq (v0 := none) (s0 := (65 + 2 * n + 1 + 1, zrS (zrS σa 1 (11 + n)) 2 (11 + n), upR (zrR (zrR (rX kn (fun j => decide (j < n))) 1 (11 + n)) 2 (11 + n)) 1 (11 + n) 0 (some (2, 11 + n)))) (fun F hF => tw_Text_init (by omega) hn hF) ?_
        refine And.intro hin ?_
        have K3 : Xz SL xs (m_Mill_node SL xs) F (149, ndL kind a b kd n, [], (65 + 2 * n + 1 + 1, zrS (zrS σa 1 (11 + n)) 2 (11 + n), upR (upR (zrR (zrR (rX kn (fun j => decide (j < n))) 1 (11 + n)) 2 (11 + n)) 1 (11 + n) 0 (some (2, 11 + n))) 8 0 (n : Int).toNat (some (1, 11 + n))), 2, 66) := by
          rw [Int.toNat_natCast]
          exact K
        exact leaf K3
theorem tw_Mill_node {kind a b : Int} {n : Nat} (hk : 0 ≤ kind ∧ kind < 24) (hn : n < 64) (hnx : nx = 65 + 2 * hi) (hhi : hi ≤ 64) (hnh : n ≤ hi) (htx : tx = fun j => decide (j < hi)) (h4 : σ 4 0 4 = n) (hs : tl (σ 2 0) (σ 1 0 1) sl) (h64 : sl.length ≤ 64) (hok : ft (kF 1 kind.toNat) a n ∧ ft (kF 2 kind.toNat) b n)
    (hF : ∀ σ1 hi', n < hi' → hi' ≤ 64 → ndF σ n kind.toNat a b sl σ1 → F (some (.inl (n : Int))) (65 + 2 * hi', σ1, rX (knU kn n kind.toNat) (fun j => decide (j < hi')))) : T_Mill_node SL xs [.inr (some (0, 0)), .inl kind, .inl a, .inl b] (nx, σ, rX kn tx) F := by
  have hin : (0 : Int) ≤ (n : Int) ∧ (n : Int) < 64 := by omega
  have hin4 : 0 ≤ σ 4 0 4 ∧ σ 4 0 4 < 64 := by rw [h4]; omega
  have K119 : Xz SL xs (m_Mill_node SL xs) F (119, ndL kind a b kind.toNat n, [], (nx, upS (upS σ 6 0 n (if kF 1 kind.toNat = 0 then 0 else a)) 7 0 n (if kF 2 kind.toNat = 0 then 0 else b), rX (knU kn n kind.toNat) tx), 0, 0) :=
    nd_119 hn hnx hhi hnh htx (by rw [upS_ne (by omega), upS_ne (by omega)]; exact h4) (by rw [upS_ne (by omega), upS_same]) upS_same (hs.fr (fun i _ => by rw [upS_ne (by omega), upS_ne (by omega)]) (by rw [upS_ne (by omega), upS_ne (by omega)])) h64 (by rw [upS_ne (by omega), upS_ne (by omega)]) (fun a' b' j' g1 g2 g3 => by rw [upS_ne (by omega), upS_ne (by omega)]) hF
  have K96 : Xz SL xs (m_Mill_node SL xs) F (96, ndL kind a b kind.toNat n, [], (nx, upS σ 6 0 n (if kF 1 kind.toNat = 0 then 0 else a), rX (knU kn n kind.toNat) tx), 0, 0) := by
    have K118 : ∀ v : Int, v = (if kF 2 kind.toNat = 0 then 0 else b) → Xz SL xs (m_Mill_node SL xs) F (118, ndL kind a b kind.toNat n, [.inl v, .inl (n : Int), .inr (some (7, 0))], (nx, upS σ 6 0 n (if kF 1 kind.toNat = 0 then 0 else a), rX (knU kn n kind.toNat) tx), 0, 0) := by
      intro v hv
      rw [hv]
      refine run 1 ?_
      refine And.intro hin ?_
      show Xz SL xs (m_Mill_node SL xs) F (119, ndL kind a b kind.toNat n, [], (nx, upS (upS σ 6 0 n (if kF 1 kind.toNat = 0 then 0 else a)) 7 0 (n : Int).toNat (if kF 2 kind.toNat = 0 then 0 else b), rX (knU kn n kind.toNat) tx), 0, 0)
      rw [Int.toNat_natCast]
      exact K119
    refine run 7 ?_
    refine And.intro (fun h => ?_) (fun h => ?_)
    · have h : ¬ kF 2 kind.toNat = 0 := h
      have K := K118 b (by rw [if_neg h])
      exact leaf (by first | exact run 1 K | exact run 2 K | exact run 3 K)
    · have h : kF 2 kind.toNat = 0 := Classical.not_not.mp h
      have K := K118 0 (by rw [if_pos h])
      exact leaf (by first | exact run 1 K | exact run 2 K | exact run 3 K)
  have K73 : Xz SL xs (m_Mill_node SL xs) F (73, ndL kind a b kind.toNat n, [], (nx, σ, rX (knU kn n kind.toNat) tx), 0, 0) := by
    have K95 : ∀ v : Int, v = (if kF 1 kind.toNat = 0 then 0 else a) → Xz SL xs (m_Mill_node SL xs) F (95, ndL kind a b kind.toNat n, [.inl v, .inl (n : Int), .inr (some (6, 0))], (nx, σ, rX (knU kn n kind.toNat) tx), 0, 0) := by
      intro v hv
      rw [hv]
      refine run 1 ?_
      refine And.intro hin ?_
      show Xz SL xs (m_Mill_node SL xs) F (96, ndL kind a b kind.toNat n, [], (nx, upS σ 6 0 (n : Int).toNat (if kF 1 kind.toNat = 0 then 0 else a), rX (knU kn n kind.toNat) tx), 0, 0)
      rw [Int.toNat_natCast]
      exact K96
    refine run 7 ?_
    refine And.intro (fun h => ?_) (fun h => ?_)
    · have h : ¬ kF 1 kind.toNat = 0 := h
      have K := K95 a (by rw [if_neg h])
      exact leaf (by first | exact run 1 K | exact run 2 K | exact run 3 K)
    · have h : kF 1 kind.toNat = 0 := Classical.not_not.mp h
      have K := K95 0 (by rw [if_pos h])
      exact leaf (by first | exact run 1 K | exact run 2 K | exact run 3 K)
  rw [← rX_kn] at K73
  have K73' : Xz SL xs (m_Mill_node SL xs) F (73, [some (.inr (some (0, 0))), some (.inl kind), some (.inl a), some (.inl b), some (.inr (some (45, kind.toNat))), some (.inl (σ 4 0 4))], [], (nx, σ, upR (rX kn tx) 5 0 (σ 4 0 4).toNat (some (45, kind.toNat))), 0, 0) := by
    rw [h4, Int.toNat_natCast]
    exact K73
  refine run 34 ?_
  refine And.intro (fun h => absurd (show kind < 0 from h) (by omega)) (fun h => ?_)
  refine And.intro (fun h => absurd (show (24 : Int) ≤ kind from h) (by omega)) (fun h => ?_)
  refine And.intro (fun h => ?_) (fun h => absurd (show ¬ σ 4 0 4 = 64 by rw [h4]; omega) h)
  refine And.intro hk ?_
  refine call_eq (fun F hF => tw_Kind_suits (kd := kind.toNat) (a := a) (b := b) (n := σ 4 0 4) (by omega) hF) ?_
  refine And.intro (fun h => ?_) (fun h => absurd (show ¬ (if ft (kF 1 kind.toNat) a (σ 4 0 4) ∧ ft (kF 2 kind.toNat) b (σ 4 0 4) then (1 : Int) else 0) = 0 by rw [h4, if_pos hok]; omega) h)
  refine And.intro hin4 ?_
  exact leaf K73'
end
end
section
/-! The model's node -/
def ndM (σ : Sg) (n kd : Nat) (a b : Int) (sl : List Int) (σ2 : Sg) : Prop := σ2 26 0 5 = ((n + 1 : Nat) : Int) ∧ σ2 30 0 n = kd ∧ σ2 31 0 n = (if kF 1 kd = 0 then 0 else a) ∧ σ2 32 0 n = (if kF 2 kd = 0 then 0 else b) ∧ tl (fun i => σ2 33 0 (64 * n + i)) (σ2 34 0 n) (if kd < 5 then sl else []) ∧ σ2 26 0 2 = (if kd < 5 then 0 else σ 26 0 2) ∧
  ∀ a b j, ¬ (a = 26 ∧ (j = 0 ∨ j = 2 ∨ j = 5)) → ¬ (((30 ≤ a ∧ a ≤ 32) ∨ a = 34) ∧ j = n) → ¬ (a = 33 ∧ b = 0 ∧ 64 * n ≤ j ∧ j < 64 * n + 64) → σ2 a b j = σ a b j
theorem kFh : ∀ kd : Nat, kd < 24 → ((kF 1 kd = 0) ↔ ¬ ((4 < kd ∧ kd < 10) ∨ 15 < kd)) ∧ ((kF 2 kd = 0) ↔ ¬ (16 < kd ∧ kd < 21)) := by decide +kernel
section
variable {SL : Nat} {xs : Nat → Int} {nx hi : Nat} {σ σ' : Sg} {kn : Nat → Option Nat} {tx : Nat → Bool} {F : Option Av → St → Prop} {E : Ev} {ν : Nu} {sl : List Int}
abbrev mnL (kd : Nat) (a b hf hs : Int) (l6 : Option Av) : List (Option Av) := [some (.inr (some (26, 0))), some (.inl (kd : Int)), some (.inl a), some (.inl b), some (.inl hf), some (.inl hs), l6]
theorem mn_181 {n kd : Nat} {a b hf hs : Int} {l6 : Option Av} {σb : Sg} (hn : n < 64) (h5 : σb 26 0 5 = n) (hF : ndM σ n kd a b sl (upS σb 26 0 5 ((n + 1 : Nat) : Int)) → F (some (.inl (n : Int))) (nx, upS σb 26 0 5 ((n + 1 : Nat) : Int), rX kn tx)) (hM : ndM σ n kd a b sl (upS σb 26 0 5 ((n + 1 : Nat) : Int))) : Xz SL xs (m_Model_node SL xs) F (181, mnL kd a b hf hs l6, [], (nx, σb, rX kn tx), 0, 0) := by
  have hw : wr (σb 26 0 5 + 1) = ((n + 1 : Nat) : Int) := by rw [h5, wr_eq ⟨by omega, by omega⟩]; omega
  have hw2 : wr (((n + 1 : Nat) : Int) - 1) = (n : Int) := by rw [wr_eq ⟨by omega, by omega⟩]; omega
  have K := hF hM
  rw [← hw2, ← hw] at K
  exact run 12 K
theorem lp_mnode {n kd : Nat} {a b hf hs : Int} (hn : n < 64) (h64 : sl.length ≤ 64) (hb : byt sl) (hsl : tl (σ 27 0) (σ 26 0 2) sl) (h5 : σ 26 0 5 = n) (hK : ∀ σ1, (∀ j, j < sl.length → σ1 33 0 (64 * n + j) = sl.getD j 0) → (∀ a b j, ¬ (a = 33 ∧ b = 0 ∧ 64 * n ≤ j ∧ j < 64 * n + 64) → σ1 a b j = σ a b j) → Xz SL xs (m_Model_node SL xs) F (163, mnL kd a b hf hs (some (.inl sl.length)), [], (nx, σ1, rX kn tx), 0, 0)) : ∀ (m i : Nat) (σ1 : Sg), i + m = sl.length → (∀ j, j < i → σ1 33 0 (64 * n + j) = sl.getD j 0) → (∀ a b j, ¬ (a = 33 ∧ b = 0 ∧ 64 * n ≤ j ∧ j < 64 * n + 64) → σ1 a b j = σ a b j) → Xz SL xs (m_Model_node SL xs) F (126, mnL kd a b hf hs (some (.inl i)), [], (nx, σ1, rX kn tx), 0, 0) := by
  have hl : σ 26 0 2 = sl.length := hsl.1
  intro m
  induction m with
  | zero =>
    intro i σ1 hi h1 h2
    have hi : i = sl.length := by omega
    subst hi
    refine run 4 ?_
    refine And.intro (fun h => leaf (hK σ1 h1 h2)) (fun h => absurd (show σ1 26 0 2 ≤ (sl.length : Int) by rw [h2 26 0 2 (by omega), hl]; exact Int.le_refl _) h)
  | succ m ih =>
    intro i σ1 hi h1 h2
    have e5 : σ1 26 0 5 = n := by rw [h2 26 0 5 (by omega)]; exact h5
    have hw6 : wr (wr (64 * σ1 26 0 5) + (i : Int)) = ((64 * n + i : Nat) : Int) := by rw [e5]; exact w64 (by omega) (by omega)
    have hwi : wr ((i : Int) + 1) = ((i + 1 : Nat) : Int) := by rw [wr_eq ⟨by omega, by omega⟩]; omega
    have hsg : σ1 27 0 (i : Int).toNat = sl.getD i 0 := by rw [Int.toNat_natCast, h2 27 0 _ (by omega)]; exact hsl.2 i (by omega)
    have hb8 : b8 (sl.getD i 0) = sl.getD i 0 := by
      refine hb _ ?_
      rw [List.getD_eq_getElem?_getD, List.getElem?_eq_getElem (by omega)]
      exact List.getElem_mem _
    have K := ih (i + 1) (upS σ1 33 0 (64 * n + i) (sl.getD i 0)) (by omega) (fun j hj => by
      by_cases hji : j = i
      · subst hji
        exact upS_same
      · rw [upS_ne (by omega)]
        exact h1 j (by omega)) (fun a b j h => by rw [upS_ne (by omega)]; exact h2 a b j h)
    have eix : (wr (wr (64 * σ1 26 0 5) + (i : Int))).toNat = 64 * n + i := by rw [hw6, Int.toNat_natCast]
    rw [← eix, ← hb8, ← hsg, ← hwi] at K
    refine run 24 ?_
    refine And.intro (fun h => ?_) (fun h => ?_)
    · have h : σ1 26 0 2 ≤ (i : Int) := h
      rw [h2 26 0 2 (by omega), hl] at h
      omega
    refine And.intro ⟨show (0 : Int) ≤ (i : Int) by omega, show (i : Int) < 64 by omega⟩ ?_
    refine And.intro (by show 0 ≤ wr (wr (64 * σ1 26 0 5) + (i : Int)) ∧ wr (wr (64 * σ1 26 0 5) + (i : Int)) < 4096; rw [hw6]; omega) ?_
    exact leaf (by first | exact run 1 K | exact run 2 K | exact run 3 K)
theorem tw_Model_node {n kd : Nat} {a b : Int} (hk : kd < 24) (hn : n < 64) (h5 : σ 26 0 5 = n) (hsl : tl (σ 27 0) (σ 26 0 2) sl) (h64 : sl.length ≤ 64) (hb : byt sl) (hok : ft (kF 1 kd) a n ∧ ft (kF 2 kd) b n) (hF : ∀ σ2, ndM σ n kd a b sl σ2 → F (some (.inl (n : Int))) (nx, σ2, rX kn tx)) : T_Model_node SL xs [.inr (some (26, 0)), .inl kd, .inl a, .inl b] (nx, σ, rX kn tx) F := by
  obtain ⟨kh1, kh2⟩ := kFh kd hk
  have hin : ∀ σx : Sg, σx 26 0 5 = (n : Int) → 0 ≤ σx 26 0 5 ∧ σx 26 0 5 < 64 := fun σx h => by rw [h]; omega
  have hl2 : σ 26 0 2 = sl.length := hsl.1
  -- the arrays are set
  let σb : Sg := upS (upS (upS (upS (upS σ 26 0 0 0) 30 0 n (kd : Int)) 31 0 n (if kF 1 kd = 0 then 0 else a)) 32 0 n (if kF 2 kd = 0 then 0 else b)) 34 0 n 0
  have ex : ∀ a' b' j', ¬ (a' = 26 ∧ j' = 0) → ¬ (((30 ≤ a' ∧ a' ≤ 32) ∨ a' = 34) ∧ j' = n) → σb a' b' j' = σ a' b' j' := fun a' b' j' g1 g2 => by
    show upS (upS (upS (upS (upS σ 26 0 0 0) 30 0 n (kd : Int)) 31 0 n (if kF 1 kd = 0 then 0 else a)) 32 0 n (if kF 2 kd = 0 then 0 else b)) 34 0 n 0 a' b' j' = _
    rw [upS_ne (by omega), upS_ne (by omega), upS_ne (by omega), upS_ne (by omega), upS_ne (by omega)]
  have x30 : σb 30 0 n = kd := by
    show upS (upS (upS (upS (upS σ 26 0 0 0) 30 0 n (kd : Int)) 31 0 n (if kF 1 kd = 0 then 0 else a)) 32 0 n (if kF 2 kd = 0 then 0 else b)) 34 0 n 0 30 0 n = _
    rw [upS_ne (by omega), upS_ne (by omega), upS_ne (by omega), upS_same]
  have x31 : σb 31 0 n = (if kF 1 kd = 0 then 0 else a) := by
    show upS (upS (upS (upS (upS σ 26 0 0 0) 30 0 n (kd : Int)) 31 0 n (if kF 1 kd = 0 then 0 else a)) 32 0 n (if kF 2 kd = 0 then 0 else b)) 34 0 n 0 31 0 n = _
    rw [upS_ne (by omega), upS_ne (by omega), upS_same]
  have x32 : σb 32 0 n = (if kF 2 kd = 0 then 0 else b) := by
    show upS (upS (upS (upS (upS σ 26 0 0 0) 30 0 n (kd : Int)) 31 0 n (if kF 1 kd = 0 then 0 else a)) 32 0 n (if kF 2 kd = 0 then 0 else b)) 34 0 n 0 32 0 n = _
    rw [upS_ne (by omega), upS_same]
  have x34 : σb 34 0 n = 0 := upS_same
  have b5 : σb 26 0 5 = n := by rw [ex 26 0 5 (by omega) (by omega)]; exact h5
  have b2 : σb 26 0 2 = sl.length := by rw [ex 26 0 2 (by omega) (by omega)]; exact hl2
  have K118 : ∀ (hf hs : Int), Xz SL xs (m_Model_node SL xs) F (118, mnL kd a b hf hs none, [], (nx, σb, rX kn tx), 0, 0) := by
    intro hf hs
    refine run 3 ?_
    refine And.intro (fun h => ?_) (fun h => ?_)
    · have h : (5 : Int) ≤ (kd : Int) := h
      refine leaf (mn_181 (σ := σ) (sl := sl) hn b5 (hF _) ⟨upS_same, by rw [upS_ne (by omega)]; exact x30, by rw [upS_ne (by omega)]; exact x31, by rw [upS_ne (by omega)]; exact x32, ?_, ?_, fun a' b' j' g1 g2 g3 => ?_⟩)
      · rw [if_neg (by omega)]
        exact tl_nil (by rw [upS_ne (by omega)]; exact x34)
      · rw [if_neg (by omega), upS_ne (by omega), ex 26 0 2 (by omega) (by omega)]
      · rw [upS_ne (by omega), ex a' b' j' (by omega) (by omega)]
    · have h : ¬ (5 : Int) ≤ (kd : Int) := h
      have K := lp_mnode (SL := SL) (xs := xs) (nx := nx) (kn := kn) (tx := tx) (F := F) (kd := kd) (a := a) (b := b) (hf := hf) (hs := hs) (σ := σb) (sl := sl) (n := n) hn h64 hb (hsl.fr (fun i _ => ex 27 0 i (by omega) (by omega)) (by rw [b2, hl2])) b5 (fun σ1 q1 q2 => ?_) sl.length 0 σb (Nat.zero_add _) (fun j hj => by omega) (fun a' b' j' _ => rfl)
      · exact leaf (by first | exact run 1 K | exact run 2 K)
      · have c5 : σ1 26 0 5 = n := by rw [q2 26 0 5 (by omega)]; exact b5
        have c2 : σ1 26 0 2 = sl.length := by rw [q2 26 0 2 (by omega)]; exact b2
        have K := mn_181 (SL := SL) (xs := xs) (nx := nx) (kn := kn) (tx := tx) (F := F) (hf := hf) (hs := hs) (l6 := some (.inl (sl.length : Int))) (σ := σ) (sl := sl) (kd := kd) (a := a) (b := b) (σb := upS (upS σ1 34 0 n (σ1 26 0 2)) 26 0 2 0) hn (by rw [upS_ne (by omega), upS_ne (by omega)]; exact c5) (hF _) ⟨upS_same, by rw [upS_ne (by omega), upS_ne (by omega), upS_ne (by omega), q2 30 0 n (by omega)]; exact x30, by rw [upS_ne (by omega), upS_ne (by omega), upS_ne (by omega), q2 31 0 n (by omega)]; exact x31, by rw [upS_ne (by omega), upS_ne (by omega), upS_ne (by omega), q2 32 0 n (by omega)]; exact x32, ?_, ?_, fun a' b' j' g1 g2 g3 => ?_⟩
        · refine run 12 ?_
          refine And.intro (hin σ1 c5) ?_
          have e : upS σ1 34 0 (σ1 26 0 5).toNat (σ1 26 0 2) = upS σ1 34 0 n (σ1 26 0 2) := by rw [c5, Int.toNat_natCast]
          rw [← e] at K
          exact leaf (by first | exact run 1 K | exact run 2 K | exact run 3 K | exact run 4 K)
        · rw [if_pos (by omega)]
          refine ⟨?_, fun i hi => ?_⟩
          · rw [upS_ne (by omega), upS_ne (by omega), upS_same]
            exact c2
          · show upS (upS (upS σ1 34 0 n (σ1 26 0 2)) 26 0 2 0) 26 0 5 _ 33 0 (64 * n + i) = _
            rw [upS_ne (by omega), upS_ne (by omega), upS_ne (by omega)]
            exact q1 i hi
        · rw [if_pos (by omega), upS_ne (by omega), upS_same]
        · rw [upS_ne (by omega), upS_ne (by omega), upS_ne (by omega), q2 a' b' j' g3, ex a' b' j' (by omega) g2]
  have fin : ∀ v1 v2 hf hs : Int, v1 = (if kF 1 kd = 0 then 0 else a) → v2 = (if kF 2 kd = 0 then 0 else b) → Xz SL xs (m_Model_node SL xs) F (118, mnL kd a b hf hs none, [], (nx, upS (upS (upS (upS (upS σ 26 0 0 0) 30 0 (σ 26 0 5).toNat (kd : Int)) 31 0 (σ 26 0 5).toNat v1) 32 0 (σ 26 0 5).toNat v2) 34 0 (σ 26 0 5).toNat 0, rX kn tx), 0, 0) := by
    intro v1 v2 hf hs e1 e2
    rw [e1, e2, h5, Int.toNat_natCast]
    exact K118 hf hs
  have hi5 : 0 ≤ σ 26 0 5 ∧ σ 26 0 5 < 64 := hin σ h5
  have K60 : ∀ hf hs : Int, (hf = 0 ↔ kF 1 kd = 0) → (hs = 0 ↔ kF 2 kd = 0) → Xz SL xs (m_Model_node SL xs) F (60, mnL kd a b hf hs none, [], (nx, upS σ 26 0 0 0, rX kn tx), 0, 0) := by
    intro hf hs e1 e2
    refine run 40 ?_
    refine And.intro hi5 ?_
    refine And.intro (fun h => ?_) (fun h => ?_)
    · have h : hf = 0 := h
      refine And.intro hi5 ?_
      refine And.intro (fun h2 => ?_) (fun h2 => ?_)
      · have h2 : hs = 0 := h2
        refine And.intro hi5 ?_
        refine And.intro hi5 ?_
        exact leaf (fin 0 0 hf hs (by rw [if_pos (e1.mp h)]) (by rw [if_pos (e2.mp h2)]))
      · have h2 : ¬ hs = 0 := h2
        refine And.intro hi5 ?_
        refine And.intro hi5 ?_
        exact leaf (fin 0 b hf hs (by rw [if_pos (e1.mp h)]) (by rw [if_neg (fun z => h2 (e2.mpr z))]))
    · have h : ¬ hf = 0 := h
      refine And.intro hi5 ?_
      refine And.intro (fun h2 => ?_) (fun h2 => ?_)
      · have h2 : hs = 0 := h2
        refine And.intro hi5 ?_
        refine And.intro hi5 ?_
        exact leaf (fin a 0 hf hs (by rw [if_neg (fun z => h (e1.mpr z))]) (by rw [if_pos (e2.mp h2)]))
      · have h2 : ¬ hs = 0 := h2
        refine And.intro hi5 ?_
        refine And.intro hi5 ?_
        exact leaf (fin a b hf hs (by rw [if_neg (fun z => h (e1.mpr z))]) (by rw [if_neg (fun z => h2 (e2.mpr z))]))
  have K41 : ∀ hf : Int, (hf = 0 ↔ kF 1 kd = 0) → Xz SL xs (m_Model_node SL xs) F (41, [some (.inr (some (26, 0))), some (.inl (kd : Int)), some (.inl a), some (.inl b), some (.inl hf), none, none], [], (nx, upS σ 26 0 0 0, rX kn tx), 0, 0) := by
    intro hf e1
    have k0 : ¬ (16 < kd ∧ kd < 21) → Xz SL xs (m_Model_node SL xs) F (60, mnL kd a b hf 0 none, [], (nx, upS σ 26 0 0 0, rX kn tx), 0, 0) := fun z => K60 hf 0 e1 ⟨fun _ => kh2.mpr z, fun _ => rfl⟩
    have k1 : (16 < kd ∧ kd < 21) → Xz SL xs (m_Model_node SL xs) F (60, mnL kd a b hf 1 none, [], (nx, upS σ 26 0 0 0, rX kn tx), 0, 0) := fun z => K60 hf 1 e1 ⟨fun e => by omega, fun e => absurd z (kh2.mp e)⟩
    refine run 6 ?_
    refine And.intro (fun h => ?_) (fun h => ?_)
    · have h : (kd : Int) ≤ 16 := h
      have K := k0 (by omega)
      exact leaf (by first | exact run 1 K | exact run 2 K | exact run 3 K)
    · have h : ¬ (kd : Int) ≤ 16 := h
      refine And.intro (fun h2 => ?_) (fun h2 => ?_)
      · have h2 : (21 : Int) ≤ (kd : Int) := h2
        have K := k0 (by omega)
        exact leaf (by first | exact run 1 K | exact run 2 K | exact run 3 K)
      · have h2 : ¬ (21 : Int) ≤ (kd : Int) := h2
        have K := k1 (by omega)
        exact leaf (by first | exact run 1 K | exact run 2 K | exact run 3 K | exact run 4 K)
  have K17 : Xz SL xs (m_Model_node SL xs) F (17, [some (.inr (some (26, 0))), some (.inl (kd : Int)), some (.inl a), some (.inl b), none, none, none], [], (nx, upS σ 26 0 0 0, rX kn tx), 0, 0) := by
    have k0 := fun (z : ¬ ((4 < kd ∧ kd < 10) ∨ 15 < kd)) => K41 0 ⟨fun _ => kh1.mpr z, fun _ => rfl⟩
    have k1 := fun (z : (4 < kd ∧ kd < 10) ∨ 15 < kd) => K41 1 ⟨fun e => by omega, fun e => absurd z (kh1.mp e)⟩
    have K28 : ¬ (4 < kd ∧ kd < 10) → Xz SL xs (m_Model_node SL xs) F (28, [some (.inr (some (26, 0))), some (.inl (kd : Int)), some (.inl a), some (.inl b), none, none, none], [], (nx, upS σ 26 0 0 0, rX kn tx), 0, 0) := by
      intro hz
      refine run 3 ?_
      refine And.intro (fun h => ?_) (fun h => ?_)
      · have h : (kd : Int) ≤ 15 := h
        have K := k0 (by omega)
        exact leaf (by first | exact run 1 K | exact run 2 K | exact run 3 K)
      · have h : ¬ (kd : Int) ≤ 15 := h
        have K := k1 (by omega)
        exact leaf (by first | exact run 1 K | exact run 2 K | exact run 3 K | exact run 4 K)
    refine run 6 ?_
    refine And.intro (fun h => ?_) (fun h => ?_)
    · have h : (kd : Int) ≤ 4 := h
      exact leaf (K28 (by omega))
    · have h : ¬ (kd : Int) ≤ 4 := h
      refine And.intro (fun h2 => ?_) (fun h2 => ?_)
      · have h2 : (kd : Int) < 10 := h2
        have K := k1 (by omega)
        exact leaf (by first | exact run 1 K | exact run 2 K | exact run 3 K | exact run 4 K)
      · have h2 : ¬ (kd : Int) < 10 := h2
        exact leaf (K28 (by omega))
  refine run 9 ?_
  refine call_eq (fun F hF => tw_Model_can (σ := upS σ 26 0 0 0) (n := n) hk (by rw [upS_ne (by omega)]; exact h5) (by omega) hF) ?_
  refine And.intro (fun h => leaf K17) (fun h => absurd (show ¬ (if ft (kF 1 kd) a n ∧ ft (kF 2 kd) b n then (1 : Int) else 0) = 0 by rw [if_pos hok]; omega) h)
end
end
section
/-! Both faces: node -/
theorem kFs : ∀ kd : Nat, kd < 24 → (16 ≤ kd ∧ kd ≤ 20 → kF 1 kd = 2) ∧ (kd = 17 ∨ kd = 18 → kF 2 kd = 2) ∧ (kd = 19 ∨ kd = 20 → kF 2 kd = 3) ∧ (kd = 21 ∨ kd = 22 → kF 1 kd = 3) := by decide +kernel
def ndE (E : Ev) (kd : Nat) (fa fb : Nat) (w : List Int) : Ev := (fun k => if k = ect E then kd else ekd E k, fun k => if k = ect E then fa else efa E k, fun k => if k = ect E then fb else efb E k, fun k => if k = ect E then w else ewd E k, esb E, ect E + 1)
section
variable {SL : Nat} {xs : Nat → Int} {nx hi : Nat} {σ σ' : Sg} {kn : Nat → Option Nat} {tx : Nat → Bool} {F : Option Av → St → Prop} {E : Ev} {ν : Nu} {sl : List Int}
theorem bth_node {kind a b : Int} (ha : rng a) (hb : rng b) (hR : RR nx σ kn tx hi sl ν E) : Bth SL xs (T_Mill_node SL xs) (T_Model_node SL xs) [.inl kind, .inl a, .inl b] nx σ kn tx := by
  have hR0 := hR
  obtain ⟨⟨r1, r2, r3, r4⟩, ⟨s1, s2, s3, s4⟩, hnu, ⟨hC, hM, hO, hE0⟩, hmc⟩ := hR
  have c4 : σ 4 0 4 = (ect E : Nat) := hC.1
  have d5 : σ 26 0 5 = (ect E : Nat) := hM.1
  by_cases hv : (0 ≤ kind ∧ kind < 24) ∧ ¬ ect E = 64
  · obtain ⟨hk, hn64⟩ := hv
    have hn : ect E < 64 := by omega
    have hkc : ((kind.toNat : Nat) : Int) = kind := by omega
    by_cases hok : ft (kF 1 kind.toNat) a (ect E : Nat) ∧ ft (kF 2 kind.toNat) b (ect E : Nat)
    · refine ⟨fun v s => v = some (.inl ((ect E : Nat) : Int)) ∧ ∃ σ1 hi', s = (65 + 2 * hi', σ1, rX (knU kn (ect E) kind.toNat) (fun j => decide (j < hi'))) ∧ ect E < hi' ∧ hi' ≤ 64 ∧ ndF σ (ect E) kind.toNat a b sl σ1, tw_Mill_node hk hn r1 r2 r3 r4 c4 s1 s3 hok (fun σ1 hi' h1 h2 h3 => ⟨rfl, σ1, hi', rfl, h1, h2, h3⟩), fun v s h => ?_⟩
      obtain ⟨rfl, σ1, hi', rfl, g1, g2, f1, f2, f3, f4, f5, f6⟩ := h
      refine ⟨_, rfl, fun v s => v = some (.inl ((ect E : Nat) : Int)) ∧ ∃ σ2, s = (65 + 2 * hi', σ2, rX (knU kn (ect E) kind.toNat) (fun j => decide (j < hi'))) ∧ ndM σ1 (ect E) kind.toNat a b sl σ2, ?_, fun v' s' h => ?_⟩
      · have K := tw_Model_node (SL := SL) (xs := xs) (nx := 65 + 2 * hi') (kn := knU kn (ect E) kind.toNat) (tx := fun j => decide (j < hi')) (σ := σ1) (sl := sl) (kd := kind.toNat) (a := a) (b := b) (F := fun v s => v = some (.inl ((ect E : Nat) : Int)) ∧ ∃ σ2, s = (65 + 2 * hi', σ2, rX (knU kn (ect E) kind.toNat) (fun j => decide (j < hi'))) ∧ ndM σ1 (ect E) kind.toNat a b sl σ2) (by omega) hn (by rw [f6 26 0 5 (by omega) (by omega) (by omega) (by omega)]; exact d5) (s2.fr (fun i _ => f6 27 0 i (by omega) (by omega) (by omega) (by omega)) (f6 26 0 2 (by omega) (by omega) (by omega) (by omega))) s3 s4 hok (fun σ2 h => ⟨rfl, σ2, rfl, h⟩)
        rw [hkc] at K
        exact K
      · obtain ⟨rfl, σ2, rfl, m1, m2, m3, m4, m5, m6, m7⟩ := h
        have hkd : kind.toNat < 24 := by omega
        obtain ⟨z1, z2, z3, z4⟩ := kFs kind.toNat hkd
        generalize kind.toNat = kd at *
        have pa : 0 ≤ (if kF 1 kd = 0 then 0 else a) ∧ (if kF 1 kd = 0 then 0 else a) < 2147483648 ∧ (16 ≤ kd ∧ kd ≤ 20 → (if kF 1 kd = 0 then 0 else a) < (ect E : Nat)) ∧ (kd = 21 ∨ kd = 22 → (if kF 1 kd = 0 then 0 else a) < 8) := by
          have h := hok.1
          unfold ft at h
          unfold rng at ha
          split
          · refine ⟨by omega, by omega, fun e => ?_, fun e => by omega⟩
            have := z1 e
            omega
          · refine ⟨by omega, by omega, fun e => ?_, fun e => ?_⟩
            · have := z1 e
              omega
            · have := z4 e
              omega
        have pb : 0 ≤ (if kF 2 kd = 0 then 0 else b) ∧ (kd = 17 ∨ kd = 18 → (if kF 2 kd = 0 then 0 else b) < (ect E : Nat)) ∧ (kd = 19 ∨ kd = 20 → (if kF 2 kd = 0 then 0 else b) < 8) := by
          have h := hok.2
          unfold ft at h
          split
          · refine ⟨by omega, fun e => ?_, fun e => by omega⟩
            have := z2 e
            omega
          · refine ⟨by omega, fun e => ?_, fun e => ?_⟩
            · have := z2 e
              omega
            · have := z3 e
              omega
        generalize (if kF 1 kd = 0 then 0 else a) = fa at *
        generalize (if kF 2 kd = 0 then 0 else b) = fb at *
        have ne1 : ∀ a b j, ¬ (a = 4 ∧ j = 4) → ¬ ((a = 6 ∨ a = 7) ∧ j = ect E) → ¬ ((a = 1 ∨ a = 2) ∧ b = 11 + ect E) → ¬ (a = 1 ∧ b = 0 ∧ j = 1) → ¬ (a = 26 ∧ (j = 0 ∨ j = 2 ∨ j = 5)) → ¬ (((30 ≤ a ∧ a ≤ 32) ∨ a = 34) ∧ j = ect E) → ¬ (a = 33 ∧ b = 0 ∧ 64 * ect E ≤ j ∧ j < 64 * ect E + 64) → σ2 a b j = σ a b j := fun a b j q1 q2 q3 q4 q5 q6 q7 => by rw [m7 a b j q5 q6 q7, f6 a b j q1 q2 q3 q4]
        refine ⟨rfl, _, σ2, _, _, hi', (if kd < 5 then [] else sl), ν, ndE E kd fa.toNat fb.toNat (if kd < 5 then sl else []), rfl, ⟨rfl, g2, g1, rfl⟩, ?_, ?_, ⟨⟨?_, fun k hk' => ?_⟩, ⟨m1, fun k hk' => ?_⟩, ⟨hO.1, by show ect E + 1 ≤ 64; omega, fun k hk' => ?_⟩, hE0⟩, ?_⟩
        · by_cases hk5 : kd < 5
          · rw [if_pos hk5] at f5 m6 ⊢
            exact ⟨tl_nil (by rw [m7 1 0 1 (by omega) (by omega) (by omega)]; exact f5), tl_nil m6, by simp, byt_nil⟩
          · rw [if_neg hk5] at f5 m6 ⊢
            exact ⟨s1.fr (fun i _ => ne1 2 0 i (by omega) (by omega) (by omega) (by omega) (by omega) (by omega) (by omega)) (by rw [m7 1 0 1 (by omega) (by omega) (by omega)]; exact f5), s2.fr (fun i _ => ne1 27 0 i (by omega) (by omega) (by omega) (by omega) (by omega) (by omega) (by omega)) (by rw [m6, f6 26 0 2 (by omega) (by omega) (by omega) (by omega)]), s3, s4⟩
        · exact hnu.fr (fun b j q1 q2 => ne1 2 b j (by omega) (by omega) (by omega) (by omega) (by omega) (by omega) (by omega)) (fun b q1 q2 => ne1 1 b 1 (by omega) (by omega) (by omega) (by omega) (by omega) (by omega) (by omega)) (fun j => ne1 28 0 j (by omega) (by omega) (by omega) (by omega) (by omega) (by omega) (by omega)) (fun j => ne1 29 0 j (by omega) (by omega) (by omega) (by omega) (by omega) (by omega) (by omega))
        · rw [m7 4 0 4 (by omega) (by omega) (by omega)]
          exact f1
        · have hk' : k < ect E + 1 := hk'
          by_cases hke : k = ect E
          · subst hke
            refine ⟨?_, ?_, ?_, ?_, ?_⟩
            · show (if ect E = ect E then some kd else kn (ect E)) = some (if ect E = ect E then kd else ekd E (ect E))
              rw [if_pos rfl, if_pos rfl]
            · show σ2 6 0 (ect E) = ((if ect E = ect E then fa.toNat else efa E (ect E) : Nat) : Int)
              rw [if_pos rfl, m7 6 0 _ (by omega) (by omega) (by omega), f2]
              omega
            · show σ2 7 0 (ect E) = ((if ect E = ect E then fb.toNat else efb E (ect E) : Nat) : Int)
              rw [if_pos rfl, m7 7 0 _ (by omega) (by omega) (by omega), f3]
              omega
            · show tl (σ2 2 (11 + ect E)) (σ2 1 (11 + ect E) 1) (if ect E = ect E then (if kd < 5 then sl else []) else ewd E (ect E))
              rw [if_pos rfl]
              exact f4.fr (fun i _ => m7 2 _ i (by omega) (by omega) (by omega)) (m7 1 _ 1 (by omega) (by omega) (by omega))
            · show (if ect E = ect E then (if kd < 5 then sl else []) else ewd E (ect E)).length ≤ 64
              rw [if_pos rfl]
              split
              · exact s3
              · simp
          · obtain ⟨k1, k2, k3, k4, k5⟩ := hC.2 k (by omega)
            refine ⟨?_, ?_, ?_, ?_, ?_⟩
            · show (if k = ect E then some kd else kn k) = some (if k = ect E then kd else ekd E k)
              rw [if_neg hke, if_neg hke]
              exact k1
            · show σ2 6 0 k = ((if k = ect E then fa.toNat else efa E k : Nat) : Int)
              rw [if_neg hke, ne1 6 0 k (by omega) (by omega) (by omega) (by omega) (by omega) (by omega) (by omega)]
              exact k2
            · show σ2 7 0 k = ((if k = ect E then fb.toNat else efb E k : Nat) : Int)
              rw [if_neg hke, ne1 7 0 k (by omega) (by omega) (by omega) (by omega) (by omega) (by omega) (by omega)]
              exact k3
            · show tl (σ2 2 (11 + k)) (σ2 1 (11 + k) 1) (if k = ect E then (if kd < 5 then sl else []) else ewd E k)
              rw [if_neg hke]
              exact k4.fr (fun i _ => ne1 2 _ i (by omega) (by omega) (by omega) (by omega) (by omega) (by omega) (by omega)) (ne1 1 _ 1 (by omega) (by omega) (by omega) (by omega) (by omega) (by omega) (by omega))
            · show (if k = ect E then (if kd < 5 then sl else []) else ewd E k).length ≤ 64
              rw [if_neg hke]
              exact k5
        · have hk' : k < ect E + 1 := hk'
          by_cases hke : k = ect E
          · subst hke
            refine ⟨?_, ?_, ?_, ?_, ?_⟩
            · show σ2 30 0 (ect E) = ((if ect E = ect E then kd else ekd E (ect E) : Nat) : Int)
              rw [if_pos rfl]
              exact m2
            · show σ2 31 0 (ect E) = ((if ect E = ect E then fa.toNat else efa E (ect E) : Nat) : Int)
              rw [if_pos rfl, m3]
              omega
            · show σ2 32 0 (ect E) = ((if ect E = ect E then fb.toNat else efb E (ect E) : Nat) : Int)
              rw [if_pos rfl, m4]
              omega
            · show tl (fun i => σ2 33 0 (64 * ect E + i)) (σ2 34 0 (ect E)) (if ect E = ect E then (if kd < 5 then sl else []) else ewd E (ect E))
              rw [if_pos rfl]
              exact m5
            · show (if ect E = ect E then (if kd < 5 then sl else []) else ewd E (ect E)).length ≤ 64
              rw [if_pos rfl]
              split
              · exact s3
              · simp
          · obtain ⟨k1, k2, k3, k4, k5⟩ := hM.2 k (by omega)
            refine ⟨?_, ?_, ?_, ?_, ?_⟩
            · show σ2 30 0 k = ((if k = ect E then kd else ekd E k : Nat) : Int)
              rw [if_neg hke, ne1 30 0 k (by omega) (by omega) (by omega) (by omega) (by omega) (by omega) (by omega)]
              exact k1
            · show σ2 31 0 k = ((if k = ect E then fa.toNat else efa E k : Nat) : Int)
              rw [if_neg hke, ne1 31 0 k (by omega) (by omega) (by omega) (by omega) (by omega) (by omega) (by omega)]
              exact k2
            · show σ2 32 0 k = ((if k = ect E then fb.toNat else efb E k : Nat) : Int)
              rw [if_neg hke, ne1 32 0 k (by omega) (by omega) (by omega) (by omega) (by omega) (by omega) (by omega)]
              exact k3
            · show tl (fun i => σ2 33 0 (64 * k + i)) (σ2 34 0 k) (if k = ect E then (if kd < 5 then sl else []) else ewd E k)
              rw [if_neg hke]
              exact k4.fr (fun i _ => ne1 33 0 (64 * k + i) (by omega) (by omega) (by omega) (by omega) (by omega) (by omega) (by omega)) (ne1 34 0 k (by omega) (by omega) (by omega) (by omega) (by omega) (by omega) (by omega))
            · show (if k = ect E then (if kd < 5 then sl else []) else ewd E k).length ≤ 64
              rw [if_neg hke]
              exact k5
        · have hk' : k < ect E + 1 := hk'
          show (if k = ect E then kd else ekd E k) < 24 ∧ (if k = ect E then fa.toNat else efa E k) < 2147483648 ∧ (16 ≤ (if k = ect E then kd else ekd E k) ∧ (if k = ect E then kd else ekd E k) ≤ 20 → (if k = ect E then fa.toNat else efa E k) < ect E + 1) ∧ ((if k = ect E then kd else ekd E k) = 17 ∨ (if k = ect E then kd else ekd E k) = 18 → (if k = ect E then fb.toNat else efb E k) < ect E + 1) ∧ ((if k = ect E then kd else ekd E k) = 19 ∨ (if k = ect E then kd else ekd E k) = 20 → (if k = ect E then fb.toNat else efb E k) < 8) ∧ ((if k = ect E then kd else ekd E k) = 21 ∨ (if k = ect E then kd else ekd E k) = 22 → (if k = ect E then fa.toNat else efa E k) < 8)
          by_cases hke : k = ect E
          · simp only [if_pos hke]
            obtain ⟨a1, a2, a3, a4⟩ := pa
            obtain ⟨b1, b2, b3⟩ := pb
            refine ⟨hkd, by omega, fun e => ?_, fun e => ?_, fun e => ?_, fun e => ?_⟩
            · have := a3 e
              omega
            · have := b2 e
              omega
            · have := b3 e
              omega
            · have := a4 e
              omega
          · simp only [if_neg hke]
            obtain ⟨e1, e2, e3, e4, e5, e6⟩ := hO.2.2 k (by omega)
            exact ⟨e1, e2, fun e => by have := e3 e; omega, fun e => by have := e4 e; omega, e5, e6⟩
        · exact hmc.fr (ne1 0 0 5 (by omega) (by omega) (by omega) (by omega) (by omega) (by omega) (by omega)) (fun j => ne1 9 0 j (by omega) (by omega) (by omega) (by omega) (by omega) (by omega) (by omega)) (fun j q1 q2 => ne1 26 0 j (by omega) (by omega) (by omega) (by omega) (by omega) (by omega) (by omega))
    · refine bth_no (x := -1) hR0 ?_ ?_
      · refine run 34 ?_
        refine And.intro (fun h => ⟨rfl, rfl⟩) (fun h => ?_)
        refine And.intro (fun h => ⟨rfl, rfl⟩) (fun h => ?_)
        refine And.intro (fun h => ?_) (fun h => ⟨rfl, rfl⟩)
        refine And.intro hk ?_
        refine call_eq (fun F hF => tw_Kind_suits (kd := kind.toNat) (a := a) (b := b) (n := σ 4 0 4) (by omega) hF) ?_
        exact And.intro (fun h => absurd (show (if ft (kF 1 kind.toNat) a (σ 4 0 4) ∧ ft (kF 2 kind.toNat) b (σ 4 0 4) then (1 : Int) else 0) = 0 by rw [c4, if_neg hok]) h) (fun h => ⟨rfl, rfl⟩)
      · refine run 12 ?_
        refine call_any (Y := fun v s => v = some (.inl 0) ∧ s = (nx, upS σ 26 0 0 0, rX kn tx)) ?_ ?_
        · have K := tw_Model_can (SL := SL) (xs := xs) (nx := nx) (kn := kn) (tx := tx) (σ := upS σ 26 0 0 0) (n := ect E) (kd := kind.toNat) (a := a) (b := b) (F := fun v s => v = some (.inl 0) ∧ s = (nx, upS σ 26 0 0 0, rX kn tx)) (by omega) (by rw [upS_ne (by omega)]; exact d5) hn64 (by rw [if_neg hok]; exact ⟨rfl, rfl⟩)
          rw [hkc] at K
          exact K
        · intro v s h
          obtain ⟨rfl, rfl⟩ := h
          exact And.intro (fun h => absurd (show (0 : Int) = 0 from rfl) h) (fun h => ⟨rfl, rfl⟩)
  · refine bth_no (x := -1) hR0 ?_ ?_
    · refine run 14 ?_
      refine And.intro (fun h => ⟨rfl, rfl⟩) (fun h => ?_)
      have h : ¬ kind < 0 := h
      refine And.intro (fun h => ⟨rfl, rfl⟩) (fun h2 => ?_)
      have h2 : ¬ (24 : Int) ≤ kind := h2
      refine And.intro (fun h3 => ?_) (fun h => ⟨rfl, rfl⟩)
      have h3 : ¬ σ 4 0 4 = 64 := h3
      rw [c4] at h3
      omega
    · refine run 12 ?_
      refine call_eq (fun F hF => tw_Model_can_no (σ := upS σ 26 0 0 0) (by rw [upS_ne (by omega), d5]; omega) hF) ?_
      exact And.intro (fun h => absurd (show (0 : Int) = 0 from rfl) h) (fun h => ⟨rfl, rfl⟩)
end
end
section
/-! Both faces: replace -/
section
variable {SL : Nat} {xs : Nat → Int} {nx hi : Nat} {σ σ' : Sg} {kn : Nat → Option Nat} {tx : Nat → Bool} {F : Option Av → St → Prop} {E : Ev} {ν : Nu} {sl : List Int}
/-- a sign is added to the text that is made -/
theorem add_F {l : List Int} {x : Int} (hl : tl (σ 2 1) (σ 1 1 1) l) (h64 : l.length < 64) (hx : b8 x = x) (hF : ∀ σ1, setT σ 1 (l ++ [x]) σ1 → F none (nx, σ1, rX kn tx)) : T_Text_add SL xs [.inr (some (1, 1)), .inl x] (nx, σ, rX kn tx) F := by
  have hlen : σ 1 1 1 = l.length := hl.1
  have hw : wr (σ 1 1 1 + 1) = ((l.length + 1 : Nat) : Int) := by rw [hlen, wr_eq ⟨by omega, by omega⟩]; omega
  have ht : (σ 1 1 1).toNat = l.length := by rw [hlen, Int.toNat_natCast]
  refine tw_Text_add (by rw [hlen]; omega) (hF _ ⟨tl_snoc hl (fun i hi => ?_) ?_ ?_, fun a b j q1 q2 => ?_⟩)
  · rw [upS_ne (by omega), upS_ne (by omega)]
  · rw [upS_ne (by omega), ht, upS_same, hx, hx]
  · rw [upS_same, hw]
  · rw [upS_ne q1, upS_ne (by omega)]
abbrev rpL (v : Int) (t : Nat) (d k : Int) : List (Option Av) := [some (.inr (some (0, 0))), some (.inl v), some (.inr (some (1, t))), some (.inl d), some (.inl k)]
/-- only the text that is made has changed -/
def frd (σ σ1 : Sg) : Prop := ∀ a b j, ¬ ((a = 1 ∨ a = 2) ∧ b = 1) → σ1 a b j = σ a b j
theorem lp_rep1 {v d : Int} {t : Nat} {l0 : List Int} (hb : byt sl) (hs : tl (σ 2 0) (σ 1 0 1) sl) (h64 : l0.length + sl.length ≤ 64) (hK : ∀ σ1, frd σ σ1 → tl (σ1 2 1) (σ1 1 1 1) (l0 ++ sl) → Xz SL xs (m_Mill_replace SL xs) F (121, rpL v t d sl.length, [], (nx, σ1, rX kn tx), 0, 0)) : ∀ (m i : Nat) (σ1 : Sg), i + m = sl.length → frd σ σ1 → tl (σ1 2 1) (σ1 1 1 1) (l0 ++ sl.take i) → Xz SL xs (m_Mill_replace SL xs) F (86, rpL v t d i, [], (nx, σ1, rX kn tx), 0, 0) := by
  have hl : σ 1 0 1 = sl.length := hs.1
  intro m
  induction m with
  | zero =>
    intro i σ1 hi h1 h2
    have hi : i = sl.length := by omega
    subst hi
    rw [List.take_length] at h2
    refine run 5 ?_
    refine And.intro (fun h => leaf (hK σ1 h1 h2)) (fun h => absurd (show σ1 1 0 1 ≤ (sl.length : Int) by rw [h1 1 0 1 (by omega), hl]; exact Int.le_refl _) h)
  | succ m ih =>
    intro i σ1 hi h1 h2
    have hwi : wr ((i : Int) + 1) = ((i + 1 : Nat) : Int) := by rw [wr_eq ⟨by omega, by omega⟩]; omega
    have hsg : σ1 2 0 (i : Int).toNat = sl.getD i 0 := by rw [Int.toNat_natCast, h1 2 0 _ (by omega)]; exact hs.2 i (by omega)
    have hb8 : b8 (sl.getD i 0) = sl.getD i 0 := by
      refine hb _ ?_
      rw [List.getD_eq_getElem?_getD, List.getElem?_eq_getElem (by omega)]
      exact List.getElem_mem _
    have htk := take_s (l := sl) (i := i) (by omega)
    refine run 24 ?_
    refine And.intro (fun h => ?_) (fun h => ?_)
    · have h : σ1 1 0 1 ≤ (i : Int) := h
      rw [h1 1 0 1 (by omega), hl] at h
      omega
    refine And.intro ⟨show (0 : Int) ≤ (i : Int) by omega, show (i : Int) < 64 by omega⟩ ?_
    refine call_any (Y := fun v0 s => v0 = none ∧ ∃ σ2, s = (nx, σ2, rX kn tx) ∧ setT σ1 1 (l0 ++ sl.take (i + 1)) σ2) ?_ ?_
    · show vT 1 (T_Text_add SL xs) [.inr (some (1, 1)), .inl (σ1 2 0 (i : Int).toNat)] (nx, σ1, rX kn tx) _
      rw [hsg]
      refine add_F h2 (by simp; omega) hb8 (fun σ2 h => ⟨rfl, σ2, rfl, ?_⟩)
      rw [htk, ← List.append_assoc]
      exact h
    · intro v0 s hv
      obtain ⟨rfl, σ2, rfl, h⟩ := hv
      have K := ih (i + 1) σ2 (by omega) (fun a b j g => by rw [h.2 a b j (by omega) (by omega)]; exact h1 a b j g) h.1
      rw [← hwi] at K
      exact leaf (by first | exact run 1 K | exact run 2 K | exact run 3 K)
theorem lp_rep2 {v d : Int} {t p : Nat} {l0 T : List Int} (ht1 : ¬ t = 1) (hb : byt T) (hs : tl (σ 2 t) (σ 1 t 1) T) (hT64 : T.length ≤ 64) (hpT : p ≤ T.length) (h64 : l0.length + (T.length - p) ≤ 64) (hK : ∀ σ1, frd σ σ1 → tl (σ1 2 1) (σ1 1 1 1) (l0 ++ T.drop p) → Xz SL xs (m_Mill_replace SL xs) F (159, rpL v t d T.length, [], (nx, σ1, rX kn tx), 0, 0)) : ∀ (m i : Nat) (σ1 : Sg), i + m = T.length → p ≤ i → frd σ σ1 → tl (σ1 2 1) (σ1 1 1 1) (l0 ++ (T.drop p).take (i - p)) → Xz SL xs (m_Mill_replace SL xs) F (130, rpL v t d i, [], (nx, σ1, rX kn tx), 0, 0) := by
  have hl : σ 1 t 1 = T.length := hs.1
  intro m
  induction m with
  | zero =>
    intro i σ1 hi hpi h1 h2
    have hi : i = T.length := by omega
    subst hi
    rw [List.take_of_length_le (by simp)] at h2
    refine run 4 ?_
    refine And.intro (fun h => leaf (hK σ1 h1 h2)) (fun h => absurd (show σ1 1 t 1 ≤ (T.length : Int) by rw [h1 1 t 1 (by omega), hl]; exact Int.le_refl _) h)
  | succ m ih =>
    intro i σ1 hi hpi h1 h2
    have hwi : wr ((i : Int) + 1) = ((i + 1 : Nat) : Int) := by rw [wr_eq ⟨by omega, by omega⟩]; omega
    have hsg : σ1 2 t (i : Int).toNat = T.getD i 0 := by rw [Int.toNat_natCast, h1 2 t _ (by omega)]; exact hs.2 i (by omega)
    have hb8 : b8 (T.getD i 0) = T.getD i 0 := by
      refine hb _ ?_
      rw [List.getD_eq_getElem?_getD, List.getElem?_eq_getElem (by omega)]
      exact List.getElem_mem _
    have htk : (T.drop p).take (i + 1 - p) = (T.drop p).take (i - p) ++ [T.getD i 0] := by
      rw [show i + 1 - p = (i - p) + 1 by omega, take_s (l := T.drop p) (i := i - p) (by simp; omega), List.getD_eq_getElem?_getD, List.getElem?_drop, List.getD_eq_getElem?_getD, show p + (i - p) = i by omega]
    refine run 24 ?_
    refine And.intro (fun h => ?_) (fun h => ?_)
    · have h : σ1 1 t 1 ≤ (i : Int) := h
      rw [h1 1 t 1 (by omega), hl] at h
      omega
    refine And.intro ⟨show (0 : Int) ≤ (i : Int) by omega, show (i : Int) < 64 by omega⟩ ?_
    refine call_any (Y := fun v0 s => v0 = none ∧ ∃ σ2, s = (nx, σ2, rX kn tx) ∧ setT σ1 1 (l0 ++ (T.drop p).take (i + 1 - p)) σ2) ?_ ?_
    · show vT 1 (T_Text_add SL xs) [.inr (some (1, 1)), .inl (σ1 2 t (i : Int).toNat)] (nx, σ1, rX kn tx) _
      rw [hsg]
      refine add_F h2 (by simp; omega) hb8 (fun σ2 h => ⟨rfl, σ2, rfl, ?_⟩)
      rw [htk, ← List.append_assoc]
      exact h
    · intro v0 s hv
      obtain ⟨rfl, σ2, rfl, h⟩ := hv
      have K := ih (i + 1) σ2 (by omega) (by omega) (fun a b j g => by rw [h.2 a b j (by omega) (by omega)]; exact h1 a b j g) h.1
      rw [← hwi] at K
      exact leaf (by first | exact run 1 K | exact run 2 K | exact run 3 K)
def rpF (σ : Sg) (t : Nat) (l : List Int) (σ1 : Sg) : Prop := tl (σ1 2 t) (σ1 1 t 1) l ∧ σ1 1 0 1 = 0 ∧ ∀ a b j, ¬ (a = 1 ∧ b = 0 ∧ j = 1) → ¬ ((a = 1 ∨ a = 2) ∧ (b = 1 ∨ b = t)) → σ1 a b j = σ a b j
theorem tw_Mill_replace {v : Int} {b p : Nat} {T : List Int} (hv : 0 ≤ v ∧ v < 8) (hm : ¬ σ 0 0 5 = 0) (hw : σ 9 0 11 = 1) (hb : σ 9 0 10 = b) (hp : σ 9 0 7 = p) (hbp : b ≤ p) (hT : tl (σ 2 (3 + v.toNat)) (σ 1 (3 + v.toNat) 1) T) (hT64 : T.length ≤ 64) (hTb : byt T) (hpT : p ≤ T.length) (hs : tl (σ 2 0) (σ 1 0 1) sl) (hsb : byt sl) (h64 : b + sl.length + (T.length - p) ≤ 64) (hs64 : sl.length ≤ 64)
    (hF : ∀ σ1, rpF σ (3 + v.toNat) (T.take b ++ sl ++ T.drop p) σ1 → F (some (.inl 1)) (nx, σ1, rX kn tx)) : T_Mill_replace SL xs [.inr (some (0, 0)), .inl v] (nx, σ, rX kn tx) F := by
  have lT : σ 1 (3 + v.toNat) 1 = T.length := hT.1
  have ls : σ 1 0 1 = sl.length := hs.1
  have htb : (T.take b).length = b := by simp; omega
  have K159 : ∀ σ1 : Sg, frd σ σ1 → tl (σ1 2 1) (σ1 1 1 1) (T.take b ++ sl ++ T.drop p) → ∀ d : Int, Xz SL xs (m_Mill_replace SL xs) F (159, rpL v (3 + v.toNat) d T.length, [], (nx, σ1, rX kn tx), 0, 0) := by
    intro σ1 h1 h2 d
    have hlen : (T.take b ++ sl ++ T.drop p).length ≤ 64 := by simp; omega
    have l1 : upS σ1 1 0 1 0 1 1 1 = (T.take b ++ sl ++ T.drop p).length := by rw [upS_ne (by omega)]; exact h2.1
    refine run 12 ?_
    refine call_any (Y := fun v0 s => v0 = none ∧ ∃ σ2, s = (nx, σ2, rX kn tx) ∧ rpF σ (3 + v.toNat) (T.take b ++ sl ++ T.drop p) σ2) (tw_Text_become (t := 3 + v.toNat) (o := 1) (σ := upS σ1 1 0 1 0) (by rw [l1]; omega) ⟨rfl, _, rfl, ⟨?_, fun i hi => ?_⟩, ?_, fun a' b' j' g1 g2 => ?_⟩) ?_
    · have e : cpS (upS (upS σ1 1 0 1 0) 1 (3 + v.toNat) 1 (upS σ1 1 0 1 0 1 1 1)) 2 1 0 2 (3 + v.toNat) 0 (upS σ1 1 0 1 0 1 1 1).toNat 1 (3 + v.toNat) 1 = upS (upS σ1 1 0 1 0) 1 (3 + v.toNat) 1 (upS σ1 1 0 1 0 1 1 1) 1 (3 + v.toNat) 1 := if_neg (by omega)
      rw [e, upS_same]
      exact l1
    · have e : cpS (upS (upS σ1 1 0 1 0) 1 (3 + v.toNat) 1 (upS σ1 1 0 1 0 1 1 1)) 2 1 0 2 (3 + v.toNat) 0 (upS σ1 1 0 1 0 1 1 1).toNat 2 (3 + v.toNat) i = upS (upS σ1 1 0 1 0) 1 (3 + v.toNat) 1 (upS σ1 1 0 1 0 1 1 1) 2 1 (0 + (i - 0)) := if_pos ⟨rfl, rfl, by omega, by omega⟩
      rw [e, upS_ne (by omega), upS_ne (by omega), Nat.zero_add]
      exact h2.2 i hi
    · have e : cpS (upS (upS σ1 1 0 1 0) 1 (3 + v.toNat) 1 (upS σ1 1 0 1 0 1 1 1)) 2 1 0 2 (3 + v.toNat) 0 (upS σ1 1 0 1 0 1 1 1).toNat 1 0 1 = upS (upS σ1 1 0 1 0) 1 (3 + v.toNat) 1 (upS σ1 1 0 1 0 1 1 1) 1 0 1 := if_neg (by omega)
      rw [e, upS_ne (by omega), upS_same]
    · have e : cpS (upS (upS σ1 1 0 1 0) 1 (3 + v.toNat) 1 (upS σ1 1 0 1 0 1 1 1)) 2 1 0 2 (3 + v.toNat) 0 (upS σ1 1 0 1 0 1 1 1).toNat a' b' j' = upS (upS σ1 1 0 1 0) 1 (3 + v.toNat) 1 (upS σ1 1 0 1 0 1 1 1) a' b' j' := if_neg (by omega)
      rw [e, upS_ne (by omega), upS_ne (by omega)]
      exact h1 a' b' j' (by omega)
    · intro v0 s h
      obtain ⟨rfl, σ2, rfl, h⟩ := h
      exact And.intro (Or.inr rfl) (hF σ2 h)
  have K121 : ∀ d : Int, ∀ σ1 : Sg, frd σ σ1 → tl (σ1 2 1) (σ1 1 1 1) (T.take b ++ sl) → Xz SL xs (m_Mill_replace SL xs) F (121, rpL v (3 + v.toNat) d sl.length, [], (nx, σ1, rX kn tx), 0, 0) := by
    intro d σ1 h1 h2
    have e7 : σ1 9 0 7 = p := by rw [h1 9 0 7 (by omega)]; exact hp
    have K := lp_rep2 (SL := SL) (xs := xs) (nx := nx) (kn := kn) (tx := tx) (F := F) (v := v) (d := d) (t := 3 + v.toNat) (p := p) (σ := σ) (l0 := T.take b ++ sl) (T := T) (by omega) hTb hT hT64 hpT (by simp; omega) (fun σ2 g1 g2 => K159 σ2 g1 g2 d) (T.length - p) p σ1 (by omega) (Nat.le_refl _) h1 (by rw [Nat.sub_self, List.take_zero, List.append_nil]; exact h2)
    rw [← e7] at K
    exact run 4 K
  have K64 : ∀ d : Int, Xz SL xs (m_Mill_replace SL xs) F (64, [some (.inr (some (0, 0))), some (.inl v), some (.inr (some (1, 3 + v.toNat))), some (.inl d), none], [], (nx, σ, rX kn tx), 0, 0) := by
    intro d
    refine run 11 ?_
    refine call_any (Y := fun v0 s => v0 = none ∧ ∃ σ2, s = (nx, σ2, rX kn tx) ∧ frd σ σ2 ∧ tl (σ2 2 1) (σ2 1 1 1) (T.take b)) ?_ ?_
    · show vT 1 (T_Text_part SL xs) [.inr (some (1, 1)), .inr (some (2, 3 + v.toNat)), .inl 0, .inl (σ 9 0 10)] (nx, σ, rX kn tx) _
      rw [hb]
      refine tw_Text_part (t := 1) (b0 := 3 + v.toNat) (f := 0) (u := (b : Int)) ⟨by omega, by omega, by omega⟩ ⟨rfl, _, rfl, fun a' b' j' g => ?_, ?_, fun i hi => ?_⟩
      · have e : cpS (upS σ 1 1 1 ((b : Int) - 0)) 2 (3 + v.toNat) (0 : Int).toNat 2 1 0 ((b : Int) - 0).toNat a' b' j' = upS σ 1 1 1 ((b : Int) - 0) a' b' j' := if_neg (by omega)
        rw [e, upS_ne (by omega)]
      · have e : cpS (upS σ 1 1 1 ((b : Int) - 0)) 2 (3 + v.toNat) (0 : Int).toNat 2 1 0 ((b : Int) - 0).toNat 1 1 1 = upS σ 1 1 1 ((b : Int) - 0) 1 1 1 := if_neg (by omega)
        rw [e, upS_same, htb]
        omega
      · rw [htb] at hi
        have e : cpS (upS σ 1 1 1 ((b : Int) - 0)) 2 (3 + v.toNat) (0 : Int).toNat 2 1 0 ((b : Int) - 0).toNat 2 1 i = upS σ 1 1 1 ((b : Int) - 0) 2 (3 + v.toNat) ((0 : Int).toNat + (i - 0)) := if_pos ⟨rfl, rfl, by omega, by omega⟩
        rw [e, upS_ne (by omega), show (0 : Int).toNat + (i - 0) = i from Nat.zero_add _, hT.2 i (by omega), List.getD_eq_getElem?_getD, List.getD_eq_getElem?_getD, List.getElem?_take, if_pos hi]
    · intro v0 s h
      obtain ⟨rfl, σ2, rfl, h1, h2⟩ := h
      have K := lp_rep1 (SL := SL) (xs := xs) (nx := nx) (kn := kn) (tx := tx) (F := F) (v := v) (d := d) (t := 3 + v.toNat) (σ := σ) (sl := sl) (l0 := T.take b) hsb hs (by rw [htb]; omega) (K121 d) sl.length 0 σ2 (Nat.zero_add _) h1 (by rw [List.take_zero, List.append_nil]; exact h2)
      exact leaf (by first | exact run 1 K | exact run 2 K | exact run 3 K)
  have hwd : wr (σ 1 (3 + v.toNat) 1 - σ 9 0 7) = ((T.length - p : Nat) : Int) := by rw [lT, hp, wr_eq ⟨by omega, by omega⟩]; omega
  have K22 : Xz SL xs (m_Mill_replace SL xs) F (22, [some (.inr (some (0, 0))), some (.inl v), none, none, none], [.inr (some (1, 3 + v.toNat))], (nx, σ, rX kn tx), 0, 0) := by
    refine run 22 ?_
    refine And.intro (fun h => ?_) (fun h => ?_)
    · have h : wr (σ 1 (3 + v.toNat) 1 - σ 9 0 7) < 0 := h
      rw [hwd] at h
      omega
    · refine And.intro (fun h => leaf (K64 _)) (fun h => ?_)
      exfalso
      have h : ¬ wr (wr (σ 9 0 10 + σ 1 0 1) + wr (σ 1 (3 + v.toNat) 1 - σ 9 0 7)) ≤ 64 := h
      rw [hwd, hb, ls, wr_eq (x := (b : Int) + sl.length) ⟨by omega, by omega⟩, wr_eq ⟨by omega, by omega⟩] at h
      omega
  rw [← vref hv] at K22
  refine run 14 ?_
  refine call_eq (fun F hF => tw_Mill_isVariable hF) ?_
  refine And.intro (fun h => absurd (show (if 0 ≤ v ∧ v < 8 then (1 : Int) else 0) = 0 from h) (by rw [if_pos hv]; omega)) (fun h => ?_)
  refine call_eq (fun F hF => tw_Mill_isWell hF) ?_
  refine And.intro (fun h => ?_) (fun h => absurd (show ¬ (if ¬ σ 0 0 5 = 0 ∧ σ 9 0 11 = 1 then (1 : Int) else 0) = 0 by rw [if_pos ⟨hm, hw⟩]; omega) h)
  refine And.intro hv ?_
  exact leaf K22
end
end
section
/-! The model's replace -/
theorem w3 {v p i : Nat} (hv : v < 64) (hp : p < 128) (hi : i < 128) : wr (wr (wr (64 * (v : Int)) + (p : Int)) + (i : Int)) = ((64 * v + p + i : Nat) : Int) := by
  rw [w64 hv hp, wr_eq ⟨by omega, by omega⟩]
  omega
section
variable {SL : Nat} {xs : Nat → Int} {nx hi : Nat} {σ σ' : Sg} {kn : Nat → Option Nat} {tx : Nat → Bool} {F : Option Av → St → Prop} {E : Ev} {ν : Nu} {sl : List Int}
abbrev mrL (v : Nat) (d i : Int) : List (Option Av) := [some (.inr (some (26, 0))), some (.inl (v : Int)), some (.inl d), some (.inl i)]
theorem lp_mrA {v p : Nat} {T : List Int} (hv : v < 8) (hT : tl (fun i => σ 28 0 (64 * v + i)) (σ 29 0 v) T) (hT64 : T.length ≤ 64) (hTb : byt T) (hpT : p ≤ T.length) (h13 : σ 26 0 13 = p) (hK : ∀ σ1, (∀ j, j < T.length - p → σ1 35 0 j = T.getD (p + j) 0) → (∀ a b j, ¬ a = 35 → σ1 a b j = σ a b j) → Xz SL xs (m_Model_replace SL xs) F (115, mrL v ((T.length - p : Nat) : Int) ((T.length - p : Nat) : Int), [], (nx, σ1, rX kn tx), 0, 0)) : ∀ (m i : Nat) (σ1 : Sg), i + m = T.length - p → (∀ j, j < i → σ1 35 0 j = T.getD (p + j) 0) → (∀ a b j, ¬ a = 35 → σ1 a b j = σ a b j) → Xz SL xs (m_Model_replace SL xs) F (82, mrL v ((T.length - p : Nat) : Int) i, [], (nx, σ1, rX kn tx), 0, 0) := by
  intro m
  induction m with
  | zero =>
    intro i σ1 hi h1 h2
    have hi : i = T.length - p := by omega
    subst hi
    refine run 3 ?_
    refine And.intro (fun h => leaf (hK σ1 h1 h2)) (fun h => absurd (show ((T.length - p : Nat) : Int) ≤ ((T.length - p : Nat) : Int) from Int.le_refl _) h)
  | succ m ih =>
    intro i σ1 hi h1 h2
    have e13 : σ1 26 0 13 = p := by rw [h2 26 0 13 (by omega)]; exact h13
    have hw6 : wr (wr (wr (64 * (v : Int)) + σ1 26 0 13) + (i : Int)) = ((64 * v + p + i : Nat) : Int) := by rw [e13]; exact w3 (by omega) (by omega) (by omega)
    have hwi : wr ((i : Int) + 1) = ((i + 1 : Nat) : Int) := by rw [wr_eq ⟨by omega, by omega⟩]; omega
    have hsg : σ1 28 0 (wr (wr (wr (64 * (v : Int)) + σ1 26 0 13) + (i : Int))).toNat = T.getD (p + i) 0 := by
      rw [hw6, Int.toNat_natCast, h2 28 0 _ (by omega), show 64 * v + p + i = 64 * v + (p + i) by omega]
      exact hT.2 (p + i) (by omega)
    have hb8 : b8 (T.getD (p + i) 0) = T.getD (p + i) 0 := by
      refine hTb _ ?_
      rw [List.getD_eq_getElem?_getD, List.getElem?_eq_getElem (by omega)]
      exact List.getElem_mem _
    have K := ih (i + 1) (upS σ1 35 0 i (T.getD (p + i) 0)) (by omega) (fun j hj => by
      by_cases hji : j = i
      · subst hji
        exact upS_same
      · rw [upS_ne (by omega)]
        exact h1 j (by omega)) (fun a b j h => by rw [upS_ne (by omega)]; exact h2 a b j h)
    have K2 : Xz SL xs (m_Model_replace SL xs) F (82, mrL v ((T.length - p : Nat) : Int) (wr ((i : Int) + 1)), [], (nx, upS σ1 35 0 (i : Int).toNat (b8 (σ1 28 0 (wr (wr (wr (64 * (v : Int)) + σ1 26 0 13) + (i : Int))).toNat)), rX kn tx), 0, 0) := by
      rw [hwi, hsg, hb8, Int.toNat_natCast]
      exact K
    refine run 24 ?_
    refine And.intro (fun h => absurd (show ((T.length - p : Nat) : Int) ≤ (i : Int) from h) (by omega)) (fun h => ?_)
    refine And.intro (by show 0 ≤ wr (wr (wr (64 * (v : Int)) + σ1 26 0 13) + (i : Int)) ∧ wr (wr (wr (64 * (v : Int)) + σ1 26 0 13) + (i : Int)) < 512; rw [hw6]; omega) ?_
    refine And.intro ⟨show (0 : Int) ≤ (i : Int) by omega, show (i : Int) < 64 by omega⟩ ?_
    exact leaf (by first | exact run 1 K2 | exact run 2 K2 | exact run 3 K2)
theorem lp_mrB {v f : Nat} {d : Int} (hv : v < 8) (hs : tl (σ 27 0) (σ 26 0 2) sl) (hsb : byt sl) (hf : f + sl.length ≤ 64) (h12 : σ 26 0 12 = f) (hK : ∀ σ1, (∀ j, j < sl.length → σ1 28 0 (64 * v + f + j) = sl.getD j 0) → (∀ a b j, ¬ (a = 28 ∧ b = 0 ∧ 64 * v + f ≤ j ∧ j < 64 * v + f + sl.length) → σ1 a b j = σ a b j) → Xz SL xs (m_Model_replace SL xs) F (153, mrL v d sl.length, [], (nx, σ1, rX kn tx), 0, 0)) : ∀ (m i : Nat) (σ1 : Sg), i + m = sl.length → (∀ j, j < i → σ1 28 0 (64 * v + f + j) = sl.getD j 0) → (∀ a b j, ¬ (a = 28 ∧ b = 0 ∧ 64 * v + f ≤ j ∧ j < 64 * v + f + sl.length) → σ1 a b j = σ a b j) → Xz SL xs (m_Model_replace SL xs) F (117, mrL v d i, [], (nx, σ1, rX kn tx), 0, 0) := by
  have hl : σ 26 0 2 = sl.length := hs.1
  intro m
  induction m with
  | zero =>
    intro i σ1 hi h1 h2
    have hi : i = sl.length := by omega
    subst hi
    refine run 4 ?_
    refine And.intro (fun h => leaf (hK σ1 h1 h2)) (fun h => absurd (show σ1 26 0 2 ≤ (sl.length : Int) by rw [h2 26 0 2 (by omega), hl]; exact Int.le_refl _) h)
  | succ m ih =>
    intro i σ1 hi h1 h2
    have e12 : σ1 26 0 12 = f := by rw [h2 26 0 12 (by omega)]; exact h12
    have hw6 : wr (wr (wr (64 * (v : Int)) + σ1 26 0 12) + (i : Int)) = ((64 * v + f + i : Nat) : Int) := by rw [e12]; exact w3 (by omega) (by omega) (by omega)
    have hwi : wr ((i : Int) + 1) = ((i + 1 : Nat) : Int) := by rw [wr_eq ⟨by omega, by omega⟩]; omega
    have hsg : σ1 27 0 (i : Int).toNat = sl.getD i 0 := by rw [Int.toNat_natCast, h2 27 0 _ (by omega)]; exact hs.2 i (by omega)
    have hb8 : b8 (sl.getD i 0) = sl.getD i 0 := by
      refine hsb _ ?_
      rw [List.getD_eq_getElem?_getD, List.getElem?_eq_getElem (by omega)]
      exact List.getElem_mem _
    have K := ih (i + 1) (upS σ1 28 0 (64 * v + f + i) (sl.getD i 0)) (by omega) (fun j hj => by
      by_cases hji : j = i
      · subst hji
        exact upS_same
      · rw [upS_ne (by omega)]
        exact h1 j (by omega)) (fun a b j h => by rw [upS_ne (by omega)]; exact h2 a b j h)
    have K2 : Xz SL xs (m_Model_replace SL xs) F (117, mrL v d (wr ((i : Int) + 1)), [], (nx, upS σ1 28 0 (wr (wr (wr (64 * (v : Int)) + σ1 26 0 12) + (i : Int))).toNat (b8 (σ1 27 0 (i : Int).toNat)), rX kn tx), 0, 0) := by
      rw [hwi, hsg, hb8, hw6, Int.toNat_natCast]
      exact K
    refine run 24 ?_
    refine And.intro (fun h => ?_) (fun h => ?_)
    · have h : σ1 26 0 2 ≤ (i : Int) := h
      rw [h2 26 0 2 (by omega), hl] at h
      omega
    refine And.intro ⟨show (0 : Int) ≤ (i : Int) by omega, show (i : Int) < 64 by omega⟩ ?_
    refine And.intro (by show 0 ≤ wr (wr (wr (64 * (v : Int)) + σ1 26 0 12) + (i : Int)) ∧ wr (wr (wr (64 * (v : Int)) + σ1 26 0 12) + (i : Int)) < 512; rw [hw6]; omega) ?_
    exact leaf (by first | exact run 1 K2 | exact run 2 K2 | exact run 3 K2)
theorem w4 {v f g i : Nat} (hv : v < 64) (hf : f < 128) (hg : g < 128) (hi : i < 128) : wr (wr (wr (wr (64 * (v : Int)) + (f : Int)) + (g : Int)) + (i : Int)) = ((64 * v + f + g + i : Nat) : Int) := by
  rw [w3 hv hf hg, wr_eq ⟨by omega, by omega⟩]
  omega
theorem lp_mrC {v f g d : Nat} {R : List Int} (hv : v < 8) (hR : R.length = d) (hs : ∀ j, j < d → σ 35 0 j = R.getD j 0) (hRb : byt R) (hf : f + g + d ≤ 64) (h12 : σ 26 0 12 = f) (h2' : σ 26 0 2 = g) (hK : ∀ σ1, (∀ j, j < d → σ1 28 0 (64 * v + f + g + j) = R.getD j 0) → (∀ a b j, ¬ (a = 28 ∧ b = 0 ∧ 64 * v + f + g ≤ j ∧ j < 64 * v + f + g + d) → σ1 a b j = σ a b j) → Xz SL xs (m_Model_replace SL xs) F (193, mrL v d d, [], (nx, σ1, rX kn tx), 0, 0)) : ∀ (m i : Nat) (σ1 : Sg), i + m = d → (∀ j, j < i → σ1 28 0 (64 * v + f + g + j) = R.getD j 0) → (∀ a b j, ¬ (a = 28 ∧ b = 0 ∧ 64 * v + f + g ≤ j ∧ j < 64 * v + f + g + d) → σ1 a b j = σ a b j) → Xz SL xs (m_Model_replace SL xs) F (155, mrL v d i, [], (nx, σ1, rX kn tx), 0, 0) := by
  intro m
  induction m with
  | zero =>
    intro i σ1 hi h1 h2
    have hi : i = d := by omega
    subst hi
    refine run 3 ?_
    refine And.intro (fun h => leaf (hK σ1 h1 h2)) (fun h => absurd (show (i : Int) ≤ (i : Int) from Int.le_refl _) h)
  | succ m ih =>
    intro i σ1 hi h1 h2
    have e12 : σ1 26 0 12 = f := by rw [h2 26 0 12 (by omega)]; exact h12
    have e2 : σ1 26 0 2 = g := by rw [h2 26 0 2 (by omega)]; exact h2'
    have hw6 : wr (wr (wr (wr (64 * (v : Int)) + σ1 26 0 12) + σ1 26 0 2) + (i : Int)) = ((64 * v + f + g + i : Nat) : Int) := by rw [e12, e2]; exact w4 (by omega) (by omega) (by omega) (by omega)
    have hwi : wr ((i : Int) + 1) = ((i + 1 : Nat) : Int) := by rw [wr_eq ⟨by omega, by omega⟩]; omega
    have hsg : σ1 35 0 (i : Int).toNat = R.getD i 0 := by rw [Int.toNat_natCast, h2 35 0 _ (by omega)]; exact hs i (by omega)
    have hb8 : b8 (R.getD i 0) = R.getD i 0 := by
      refine hRb _ ?_
      rw [List.getD_eq_getElem?_getD, List.getElem?_eq_getElem (by omega)]
      exact List.getElem_mem _
    have K := ih (i + 1) (upS σ1 28 0 (64 * v + f + g + i) (R.getD i 0)) (by omega) (fun j hj => by
      by_cases hji : j = i
      · subst hji
        exact upS_same
      · rw [upS_ne (by omega)]
        exact h1 j (by omega)) (fun a b j h => by rw [upS_ne (by omega)]; exact h2 a b j h)
    have K2 : Xz SL xs (m_Model_replace SL xs) F (155, mrL v d (wr ((i : Int) + 1)), [], (nx, upS σ1 28 0 (wr (wr (wr (wr (64 * (v : Int)) + σ1 26 0 12) + σ1 26 0 2) + (i : Int))).toNat (b8 (σ1 35 0 (i : Int).toNat)), rX kn tx), 0, 0) := by
      rw [hwi, hsg, hb8, hw6, Int.toNat_natCast]
      exact K
    refine run 24 ?_
    refine And.intro (fun h => absurd (show (d : Int) ≤ (i : Int) from h) (by omega)) (fun h => ?_)
    refine And.intro ⟨show (0 : Int) ≤ (i : Int) by omega, show (i : Int) < 64 by omega⟩ ?_
    refine And.intro (by show 0 ≤ wr (wr (wr (wr (64 * (v : Int)) + σ1 26 0 12) + σ1 26 0 2) + (i : Int)) ∧ wr (wr (wr (wr (64 * (v : Int)) + σ1 26 0 12) + σ1 26 0 2) + (i : Int)) < 512; rw [hw6]; omega) ?_
    exact leaf (by first | exact run 1 K2 | exact run 2 K2 | exact run 3 K2)
def mrF (σ : Sg) (v : Nat) (l : List Int) (σ1 : Sg) : Prop := tl (fun i => σ1 28 0 (64 * v + i)) (σ1 29 0 v) l ∧ σ1 26 0 2 = 0 ∧ ∀ a b j, ¬ (a = 26 ∧ (j = 0 ∨ j = 2)) → ¬ a = 35 → ¬ (a = 29 ∧ b = 0 ∧ j = v) → ¬ (a = 28 ∧ b = 0 ∧ 64 * v ≤ j ∧ j < 64 * v + 64) → σ1 a b j = σ a b j
theorem tw_Model_replace {v b p : Nat} {T : List Int} (hv : v < 8) (hm : ¬ σ 26 0 11 = 0) (hb : σ 26 0 12 = b) (hp : σ 26 0 13 = p) (hbp : b ≤ p) (hT : tl (fun i => σ 28 0 (64 * v + i)) (σ 29 0 v) T) (hT64 : T.length ≤ 64) (hTb : byt T) (hpT : p ≤ T.length) (hs : tl (σ 27 0) (σ 26 0 2) sl) (hsb : byt sl) (h64 : b + sl.length + (T.length - p) ≤ 64)
    (hF : ∀ σ1, mrF σ v (T.take b ++ sl ++ T.drop p) σ1 → F (some (.inl 1)) (nx, σ1, rX kn tx)) : T_Model_replace SL xs [.inr (some (26, 0)), .inl v] (nx, σ, rX kn tx) F := by
  have lT : σ 29 0 v = T.length := hT.1
  have ls : σ 26 0 2 = sl.length := hs.1
  have hiv : (0 : Int) ≤ (v : Int) ∧ (v : Int) < 8 := by omega
  have h0 : ∀ a b j, ¬ (a = 26 ∧ j = 0) → upS σ 26 0 0 0 a b j = σ a b j := fun a b j h => upS_ne (by omega)
  have K80 : Xz SL xs (m_Model_replace SL xs) F (82, mrL v ((T.length - p : Nat) : Int) ((0 : Nat) : Int), [], (nx, upS σ 26 0 0 0, rX kn tx), 0, 0) := by
    refine lp_mrA (σ := upS σ 26 0 0 0) hv (hT.fr (fun i _ => h0 28 0 _ (by omega)) (h0 29 0 v (by omega))) hT64 hTb hpT (by rw [h0 26 0 13 (by omega)]; exact hp) (fun σ1 a1 a2 => ?_) (T.length - p) 0 _ (Nat.zero_add _) (fun j hj => by omega) (fun a b j _ => rfl)
    have KB := lp_mrB (SL := SL) (xs := xs) (nx := nx) (kn := kn) (tx := tx) (F := F) (σ := σ1) (sl := sl) (v := v) (f := b) (d := ((T.length - p : Nat) : Int)) hv (hs.fr (fun i _ => by rw [a2 27 0 i (by omega), h0 27 0 i (by omega)]) (by rw [a2 26 0 2 (by omega), h0 26 0 2 (by omega)])) hsb (by omega) (by rw [a2 26 0 12 (by omega), h0 26 0 12 (by omega)]; exact hb) (fun σ2 b1 b2 => ?_) sl.length 0 σ1 (Nat.zero_add _) (fun j hj => by omega) (fun a b j _ => rfl)
    · exact run 2 KB
    · have KC := lp_mrC (SL := SL) (xs := xs) (nx := nx) (kn := kn) (tx := tx) (F := F) (σ := σ2) (v := v) (f := b) (g := sl.length) (d := T.length - p) (R := T.drop p) hv (by simp) (fun j hj => by
        rw [b2 35 0 j (by omega), a1 j hj, List.getD_eq_getElem?_getD, List.getD_eq_getElem?_getD, List.getElem?_drop]) (fun x hx => hTb x (List.mem_of_mem_drop hx)) (by omega) (by rw [b2 26 0 12 (by omega), a2 26 0 12 (by omega), h0 26 0 12 (by omega)]; exact hb) (by rw [b2 26 0 2 (by omega), a2 26 0 2 (by omega), h0 26 0 2 (by omega)]; exact ls) (fun σ3 c1 c2 => ?_) (T.length - p) 0 σ2 (Nat.zero_add _) (fun j hj => by omega) (fun a b j _ => rfl)
      · exact run 2 KC
      · have n3 : ∀ a b' j, ¬ (a = 26 ∧ j = 0) → ¬ a = 35 → ¬ (a = 28 ∧ b' = 0 ∧ 64 * v + b ≤ j ∧ j < 64 * v + 64) → σ3 a b' j = σ a b' j := fun a b' j q1 q2 q3 => by rw [c2 a b' j (by omega), b2 a b' j (by omega), a2 a b' j q2, h0 a b' j q1]
        have e12 : σ3 26 0 12 = b := by rw [n3 26 0 12 (by omega) (by omega) (by omega)]; exact hb
        have e2 : σ3 26 0 2 = sl.length := by rw [n3 26 0 2 (by omega) (by omega) (by omega)]; exact ls
        have hlen : (T.take b ++ sl ++ T.drop p).length = b + sl.length + (T.length - p) := by simp; omega
        have hw : wr (wr (σ3 26 0 12 + σ3 26 0 2) + ((T.length - p : Nat) : Int)) = ((b + sl.length + (T.length - p) : Nat) : Int) := by rw [e12, e2, wr_eq (x := (b : Int) + sl.length) ⟨by omega, by omega⟩, wr_eq ⟨by omega, by omega⟩]; omega
        refine run 20 ?_
        refine And.intro hiv ?_
        refine And.intro (Or.inr rfl) (hF _ ⟨⟨?_, fun i hi => ?_⟩, upS_same, fun a b' j q1 q2 q3 q4 => ?_⟩)
        · show upS (upS σ3 29 0 (v : Int).toNat (wr (wr (σ3 26 0 12 + σ3 26 0 2) + ((T.length - p : Nat) : Int)))) 26 0 2 0 29 0 v = _
          rw [Int.toNat_natCast, upS_ne (by omega), upS_same, hw, hlen]
        · show upS (upS σ3 29 0 (v : Int).toNat (wr (wr (σ3 26 0 12 + σ3 26 0 2) + ((T.length - p : Nat) : Int)))) 26 0 2 0 28 0 (64 * v + i) = _
          rw [upS_ne (by omega), upS_ne (by omega)]
          rw [hlen] at hi
          have htb : (T.take b).length = b := by simp; omega
          by_cases i1 : i < b
          · rw [n3 28 0 _ (by omega) (by omega) (by omega)]
            have := hT.2 i (by omega)
            rw [show σ 28 0 (64 * v + i) = T.getD i 0 from this, List.getD_eq_getElem?_getD, List.getD_eq_getElem?_getD, List.append_assoc, List.getElem?_append_left (by omega), List.getElem?_take, if_pos i1]
          · by_cases i2 : i < b + sl.length
            · have := b1 (i - b) (by omega)
              rw [c2 28 0 _ (by omega), show 64 * v + i = 64 * v + b + (i - b) by omega, this, List.getD_eq_getElem?_getD, List.getD_eq_getElem?_getD, List.append_assoc, List.getElem?_append_right (by omega), htb, List.getElem?_append_left (by omega)]
            · have := c1 (i - b - sl.length) (by omega)
              rw [show 64 * v + i = 64 * v + b + sl.length + (i - b - sl.length) by omega, this, List.getD_eq_getElem?_getD, List.getD_eq_getElem?_getD, List.append_assoc, List.getElem?_append_right (by omega), htb, List.getElem?_append_right (by omega)]
        · show upS (upS σ3 29 0 (v : Int).toNat (wr (wr (σ3 26 0 12 + σ3 26 0 2) + ((T.length - p : Nat) : Int)))) 26 0 2 0 a b' j = _
          rw [Int.toNat_natCast, upS_ne (by omega), upS_ne (by omega), n3 a b' j (by omega) q2 (by omega)]
  have e29 : upS σ 26 0 0 0 29 0 (v : Int).toNat = T.length := by rw [Int.toNat_natCast, upS_ne (by omega)]; exact lT
  have e13 : upS σ 26 0 0 0 26 0 13 = p := by rw [upS_ne (by omega)]; exact hp
  have e12 : upS σ 26 0 0 0 26 0 12 = b := by rw [upS_ne (by omega)]; exact hb
  have e2 : upS σ 26 0 0 0 26 0 2 = sl.length := by rw [upS_ne (by omega)]; exact ls
  have hwr : wr (upS σ 26 0 0 0 29 0 (v : Int).toNat - upS σ 26 0 0 0 26 0 13) = ((T.length - p : Nat) : Int) := by rw [e29, e13, wr_eq ⟨by omega, by omega⟩]; omega
  have K68 : Xz SL xs (m_Model_replace SL xs) F (68, [some (.inr (some (26, 0))), some (.inl (v : Int)), none, none], [], (nx, upS σ 26 0 0 0, rX kn tx), 0, 0) := by
    rw [← hwr] at K80
    refine run 12 ?_
    refine And.intro hiv ?_
    exact leaf (by first | exact run 1 K80 | exact run 2 K80 | exact run 3 K80 | exact run 4 K80 | exact run 5 K80 | exact run 6 K80)
  refine run 36 ?_
  refine call_eq (fun F hF => tw_Model_isVariable hF) ?_
  refine And.intro (fun h => absurd (show (if 0 ≤ (v : Int) ∧ (v : Int) < 8 then (1 : Int) else 0) = 0 from h) (by rw [if_pos hiv]; omega)) (fun h => ?_)
  refine And.intro (fun h => absurd (show σ 26 0 11 = 0 from h) hm) (fun h => ?_)
  refine And.intro (fun h => absurd (show upS σ 26 0 0 0 26 0 13 = -1 from h) (by rw [e13]; omega)) (fun h => ?_)
  refine And.intro hiv ?_
  refine And.intro (fun h => ?_) (fun h => ?_)
  · have h : upS σ 26 0 0 0 29 0 (v : Int).toNat < upS σ 26 0 0 0 26 0 13 := h
    rw [e29, e13] at h
    omega
  refine And.intro hiv ?_
  refine And.intro (fun h => leaf K68) (fun h => ?_)
  exfalso
  have h : ¬ wr (wr (upS σ 26 0 0 0 29 0 (v : Int).toNat - wr (upS σ 26 0 0 0 26 0 13 - upS σ 26 0 0 0 26 0 12)) + upS σ 26 0 0 0 26 0 2) ≤ 64 := h
  rw [e29, e13, e12, e2, wr_eq (x := (p : Int) - b) ⟨by omega, by omega⟩, wr_eq (x := (T.length : Int) - ((p : Int) - b)) ⟨by omega, by omega⟩, wr_eq ⟨by omega, by omega⟩] at h
  omega
end
end
section
/-! Both faces: replace -/
section
variable {SL : Nat} {xs : Nat → Int} {nx hi : Nat} {σ σ' : Sg} {kn : Nat → Option Nat} {tx : Nat → Bool} {F : Option Av → St → Prop} {E : Ev} {ν : Nu} {sl : List Int}
theorem byt_app {l l' : List Int} (h : byt l) (h' : byt l') : byt (l ++ l') := fun x hx => (List.mem_append.mp hx).elim (h x) (h' x)
theorem bth_replace {v : Int} (hR : RR nx σ kn tx hi sl ν E) : Bth SL xs (T_Mill_replace SL xs) (T_Model_replace SL xs) [.inl v] nx σ kn tx := by
  have hR0 := hR
  obtain ⟨h1, ⟨s1, s2, s3, s4⟩, ⟨n1, n2, n3⟩, h4, h5⟩ := hR
  by_cases hv : 0 ≤ v ∧ v < 8
  · have hvc : ((v.toNat : Nat) : Int) = v := by omega
    have hv8 : v.toNat < 8 := by omega
    obtain ⟨t1, t64⟩ := n1 v.toNat hv8
    obtain ⟨t2, -⟩ := n2 v.toNat hv8
    have tb := n3 v.toNat hv8
    have lT : σ 1 (3 + v.toNat) 1 = (ν v.toNat).length := t1.1
    have lM : σ 29 0 v.toNat = (ν v.toNat).length := t2.1
    rcases h5 with ⟨m1, m2⟩ | ⟨m1, m2, m3, ⟨w1, b, p, w2, w3', w4', w5, w6, w7⟩ | ⟨w1, w2, w3'⟩⟩
    · refine bth_no (x := 0) hR0 ?_ ?_
      · refine run 14 ?_
        refine call_eq (fun F hF => tw_Mill_isVariable hF) ?_
        refine And.intro (fun h => And.intro (Or.inl rfl) ⟨rfl, rfl⟩) (fun h => ?_)
        refine call_eq (fun F hF => tw_Mill_isWell hF) ?_
        exact And.intro (fun h => absurd (show (if ¬ σ 0 0 5 = 0 ∧ σ 9 0 11 = 1 then (1 : Int) else 0) = 0 by rw [if_neg (fun z => z.1 m1)]) h) (fun h => And.intro (Or.inl rfl) ⟨rfl, rfl⟩)
      · refine run 36 ?_
        refine call_eq (fun F hF => tw_Model_isVariable hF) ?_
        refine And.intro (fun h => And.intro (Or.inl rfl) ⟨rfl, rfl⟩) (fun h => ?_)
        exact And.intro (fun h => And.intro (Or.inl rfl) ⟨rfl, rfl⟩) (fun h => absurd (show σ 26 0 11 = 0 from m2) h)
    · have hm : ¬ σ 0 0 5 = 0 := by rw [m1]; omega
      have hm2 : ¬ σ 26 0 11 = 0 := by rw [m2]; omega
      by_cases hok : p ≤ (ν v.toNat).length ∧ b + sl.length + ((ν v.toNat).length - p) ≤ 64
      · have hL : (((ν v.toNat).take b ++ sl ++ (ν v.toNat).drop p).length ≤ 64) := by simp; omega
        have hLb : byt ((ν v.toNat).take b ++ sl ++ (ν v.toNat).drop p) := byt_app (byt_app (fun x hx => tb x (List.mem_of_mem_take hx)) s4) (fun x hx => tb x (List.mem_of_mem_drop hx))
        refine bth_p (x := 1) (PA := fun σ1 => rpF σ (3 + v.toNat) ((ν v.toNat).take b ++ sl ++ (ν v.toNat).drop p) σ1) (PC := fun σ1 σ2 => mrF σ1 v.toNat ((ν v.toNat).take b ++ sl ++ (ν v.toNat).drop p) σ2) ?_ (fun σ1 hs => ?_) (fun σ1 σ2 hs hl => ?_)
        · exact tw_Mill_replace hv hm w1 w2 w4' w6 t1 t64 tb hok.1 s1 s4 hok.2 s3 (fun σ1 h => ⟨rfl, σ1, rfl, h⟩)
        · have fr : ∀ a b j, 3 ≤ a → σ1 a b j = σ a b j := fun a b j h => hs.2.2 a b j (by omega) (by omega)
          have K := tw_Model_replace (SL := SL) (xs := xs) (nx := nx) (kn := kn) (tx := tx) (σ := σ1) (v := v.toNat) (b := b) (p := p) (T := ν v.toNat) (sl := sl) (F := fun v_1 s => v_1 = some (.inl 1) ∧ ∃ σ2, s = (nx, σ2, rX kn tx) ∧ mrF σ1 v.toNat ((ν v.toNat).take b ++ sl ++ (ν v.toNat).drop p) σ2) hv8 (by rw [fr 26 0 11 (by omega)]; exact hm2) (by rw [fr 26 0 12 (by omega)]; exact w3') (by rw [fr 26 0 13 (by omega)]; exact w5) w6 (t2.fr (fun i _ => fr 28 0 _ (by omega)) (fr 29 0 _ (by omega))) t64 tb hok.1 (s2.fr (fun i _ => fr 27 0 i (by omega)) (fr 26 0 2 (by omega))) s4 hok.2 (fun σ2 h => ⟨rfl, σ2, rfl, h⟩)
          rw [hvc] at K
          exact K
        · obtain ⟨q1, q2, q3⟩ := hs
          obtain ⟨g1, g2, g3⟩ := hl
          refine ⟨hi, [], upN ν v.toNat ((ν v.toNat).take b ++ sl ++ (ν v.toNat).drop p), E, hR0.mk (fun a b' j z1 z2 z3 z4 => by rw [g3 a b' j z2 z4 (by omega) (by omega), q3 a b' j (by omega) (by omega)]) ⟨tl_nil (by rw [g3 1 0 1 (by omega) (by omega) (by omega) (by omega)]; exact q2), tl_nil g2, by simp, byt_nil⟩ ⟨fun w hw => ?_, fun w hw => ?_, fun w hw => ?_⟩⟩
          · by_cases hwv : w = v.toNat
            · subst hwv
              simp only [upN, if_true]
              exact ⟨q1.fr (fun i _ => g3 2 _ i (by omega) (by omega) (by omega) (by omega)) (g3 1 _ 1 (by omega) (by omega) (by omega) (by omega)), hL⟩
            · simp only [upN, if_neg hwv]
              exact ⟨(n1 w hw).1.fr (fun i _ => by rw [g3 2 _ i (by omega) (by omega) (by omega) (by omega), q3 2 _ i (by omega) (by omega)]) (by rw [g3 1 _ 1 (by omega) (by omega) (by omega) (by omega), q3 1 _ 1 (by omega) (by omega)]), (n1 w hw).2⟩
          · by_cases hwv : w = v.toNat
            · subst hwv
              simp only [upN, if_true]
              exact ⟨g1, hL⟩
            · simp only [upN, if_neg hwv]
              exact ⟨(n2 w hw).1.fr (fun i hi => by
                have := (n2 w hw).2
                rw [g3 28 0 _ (by omega) (by omega) (by omega) (by omega), q3 28 0 _ (by omega) (by omega)]) (by rw [g3 29 0 w (by omega) (by omega) (by omega) (by omega), q3 29 0 w (by omega) (by omega)]), (n2 w hw).2⟩
          · unfold upN
            split
            · exact hLb
            · exact n3 w hw
      · refine bth_no (x := 0) hR0 ?_ ?_
        · have lS : σ 1 0 1 = sl.length := s1.1
          have K22 : Xz SL xs (m_Mill_replace SL xs) (fun v_1 s => v_1 = some (.inl 0) ∧ s = (nx, σ, rX kn tx)) (22, [some (.inr (some (0, 0))), some (.inl v), none, none, none], [.inr (some (1, 3 + v.toNat))], (nx, σ, rX kn tx), 0, 0) := by
            refine run 26 ?_
            refine And.intro (fun h => And.intro (Or.inl rfl) ⟨rfl, rfl⟩) (fun h => ?_)
            have h : ¬ wr (σ 1 (3 + v.toNat) 1 - σ 9 0 7) < 0 := h
            rw [lT, w4', wr_eq ⟨by omega, by omega⟩] at h
            refine And.intro (fun h2 => ?_) (fun h2 => And.intro (Or.inl rfl) ⟨rfl, rfl⟩)
            exfalso
            have h2 : wr (wr (σ 9 0 10 + σ 1 0 1) + wr (σ 1 (3 + v.toNat) 1 - σ 9 0 7)) ≤ 64 := h2
            rw [lT, w4', w2, lS, wr_eq (x := ((ν v.toNat).length : Int) - p) ⟨by omega, by omega⟩, wr_eq (x := (b : Int) + sl.length) ⟨by omega, by omega⟩, wr_eq ⟨by omega, by omega⟩] at h2
            omega
          rw [← vref hv] at K22
          refine run 14 ?_
          refine call_eq (fun F hF => tw_Mill_isVariable hF) ?_
          refine And.intro (fun h => And.intro (Or.inl rfl) ⟨rfl, rfl⟩) (fun h => ?_)
          refine call_eq (fun F hF => tw_Mill_isWell hF) ?_
          refine And.intro (fun h => ?_) (fun h => And.intro (Or.inl rfl) ⟨rfl, rfl⟩)
          refine And.intro hv ?_
          exact leaf K22
        · have lS : σ 26 0 2 = sl.length := s2.1
          refine run 40 ?_
          refine call_eq (fun F hF => tw_Model_isVariable hF) ?_
          refine And.intro (fun h => And.intro (Or.inl rfl) ⟨rfl, rfl⟩) (fun h => ?_)
          refine And.intro (fun h => And.intro (Or.inl rfl) ⟨rfl, rfl⟩) (fun h => ?_)
          refine And.intro (fun h => And.intro (Or.inl rfl) ⟨rfl, rfl⟩) (fun h => ?_)
          refine And.intro hv ?_
          refine And.intro (fun h => And.intro (Or.inl rfl) ⟨rfl, rfl⟩) (fun h => ?_)
          have h : ¬ σ 29 0 v.toNat < σ 26 0 13 := h
          rw [lM, w5] at h
          refine And.intro hv ?_
          refine And.intro (fun h2 => ?_) (fun h2 => And.intro (Or.inl rfl) ⟨rfl, rfl⟩)
          exfalso
          have h2 : wr (wr (σ 29 0 v.toNat - wr (σ 26 0 13 - σ 26 0 12)) + σ 26 0 2) ≤ 64 := h2
          rw [lM, w5, w3', lS, wr_eq (x := (p : Int) - b) ⟨by omega, by omega⟩, wr_eq (x := ((ν v.toNat).length : Int) - ((p : Int) - b)) ⟨by omega, by omega⟩, wr_eq ⟨by omega, by omega⟩] at h2
          omega
    · refine bth_no (x := 0) hR0 ?_ ?_
      · refine run 14 ?_
        refine call_eq (fun F hF => tw_Mill_isVariable hF) ?_
        refine And.intro (fun h => And.intro (Or.inl rfl) ⟨rfl, rfl⟩) (fun h => ?_)
        refine call_eq (fun F hF => tw_Mill_isWell hF) ?_
        exact And.intro (fun h => absurd (show (if ¬ σ 0 0 5 = 0 ∧ σ 9 0 11 = 1 then (1 : Int) else 0) = 0 by rw [if_neg (fun z => w1 z.2)]) h) (fun h => And.intro (Or.inl rfl) ⟨rfl, rfl⟩)
      · refine run 36 ?_
        refine call_eq (fun F hF => tw_Model_isVariable hF) ?_
        refine And.intro (fun h => And.intro (Or.inl rfl) ⟨rfl, rfl⟩) (fun h => ?_)
        refine And.intro (fun h => And.intro (Or.inl rfl) ⟨rfl, rfl⟩) (fun h => ?_)
        exact And.intro (fun h => And.intro (Or.inl rfl) ⟨rfl, rfl⟩) (fun h => absurd (show upS σ 26 0 0 0 26 0 13 = -1 by rw [upS_ne (by omega)]; exact w3') h)
  · refine bth_no (x := 0) hR0 ?_ ?_
    · refine run 14 ?_
      refine call_eq (fun F hF => tw_Mill_isVariable hF) ?_
      exact And.intro (fun h => And.intro (Or.inl rfl) ⟨rfl, rfl⟩) (fun h => absurd (show (if 0 ≤ v ∧ v < 8 then (1 : Int) else 0) = 0 by rw [if_neg hv]) h)
    · refine run 14 ?_
      refine call_eq (fun F hF => tw_Model_isVariable hF) ?_
      exact And.intro (fun h => And.intro (Or.inl rfl) ⟨rfl, rfl⟩) (fun h => absurd (show (if 0 ≤ v ∧ v < 8 then (1 : Int) else 0) = 0 by rw [if_neg hv]) h)
end
end
section
/-! The law's loop: printed by wip/gen52.py, but for the head and the end -/
section
variable {SL : Nat} {xs : Nat → Int} {nx hi : Nat} {σ : Sg} {kn : Nat → Option Nat} {tx : Nat → Bool} {E : Ev} {ν : Nu} {sl : List Int} {k kc ks : Nat}
def lwF : Option Av → St → Prop := fun v _ => v = some (.inl 1)
abbrev lwL (k : Nat) : List (Option Av) := [some (.inr (some (47, 0))), some (.inr (some (0, 0))), some (.inr (some (26, 0))), some (.inl ((4 * k : Nat) : Int))]
theorem cb {n kc ks : Nat} (h0 : Nat.ble n 8 = true) (h1 : kc ≤ 600000) (h2 : ks ≤ 7302250) : (Nat.ble n 8 && Nat.ble kc 600000 && Nat.ble ks 7302250) = true := by
  rw [h0, Nat.ble_eq_true_of_le h1, Nat.ble_eq_true_of_le h2]
  rfl
theorem lwb {k d SL : Nat} (hk : 4 * k + 3 < SL) (hL : SL ≤ 2048) (hd : d ≤ 3) : 0 ≤ wr (((4 * k : Nat) : Int) + (d : Int)) ∧ wr (((4 * k : Nat) : Int) + (d : Int)) < (SL : Int) := by
  rw [wr_eq ⟨by omega, by omega⟩]
  omega
/-- behind a case: the loop goes on -/
def Go (SL : Nat) (xs : Nat → Int) (k kc ks : Nat) : Prop := ∀ nx σ kn tx hi sl ν E, RR nx σ kn tx hi sl ν E → Xz SL xs (m_Law_law SL xs) lwF (382, lwL k, [], (nx, σ, rX kn tx), kc, ks)
set_option maxRecDepth 20000 in
theorem lw_sign (hL : SL ≤ 2048) (hk : 4 * k + 3 < SL) (hxs : ∀ j, rng (xs j)) (h1 : kc + 0 ≤ 600000) (h2 : ks + 0 ≤ 7302250) (hR : RR nx σ kn tx hi sl ν E) (hG : Go SL xs k (kc + 0) (ks + 0)) : Xz SL xs (m_Law_law SL xs) lwF (88, lwL k, [], (nx, σ, rX kn tx), kc, ks) := by
  refine run 15 ?_
  refine And.intro (lwb (d := 1) hk hL (by omega)) ?_
  refine cnd_in (cb rfl h1 h2) ?_
  obtain ⟨Y, hY, hY'⟩ := bth_sign (SL := SL) (xs := xs) hR
  refine ⟨Y, hY, fun v s h => ?_⟩
  obtain ⟨x, rfl, Z, hZ, hZ'⟩ := hY' v s h
  refine And.intro (lwb (d := 1) hk hL (by omega)) ?_
  refine cnd_in (cb rfl h1 h2) ?_
  refine ⟨Z, hZ, fun v' s' h' => ?_⟩
  obtain ⟨rfl, nx', σ', kn', tx', hi', sl', ν', E', rfl, hR'⟩ := hZ' v' s' h'
  exact And.intro (fun _ => leaf (hG _ _ _ _ _ _ _ _ hR')) (fun h => absurd rfl h)
set_option maxRecDepth 20000 in
theorem lw_let (hL : SL ≤ 2048) (hk : 4 * k + 3 < SL) (hxs : ∀ j, rng (xs j)) (h1 : kc + 0 ≤ 600000) (h2 : ks + 0 ≤ 7302250) (hR : RR nx σ kn tx hi sl ν E) (hG : Go SL xs k (kc + 0) (ks + 0)) : Xz SL xs (m_Law_law SL xs) lwF (111, lwL k, [], (nx, σ, rX kn tx), kc, ks) := by
  refine run 15 ?_
  refine And.intro (lwb (d := 1) hk hL (by omega)) ?_
  refine cnd_in (cb rfl h1 h2) ?_
  obtain ⟨Y, hY, hY'⟩ := bth_let (SL := SL) (xs := xs) hR
  refine ⟨Y, hY, fun v s h => ?_⟩
  obtain ⟨x, rfl, Z, hZ, hZ'⟩ := hY' v s h
  refine And.intro (lwb (d := 1) hk hL (by omega)) ?_
  refine cnd_in (cb rfl h1 h2) ?_
  refine ⟨Z, hZ, fun v' s' h' => ?_⟩
  obtain ⟨rfl, nx', σ', kn', tx', hi', sl', ν', E', rfl, hR'⟩ := hZ' v' s' h'
  exact And.intro (fun _ => leaf (hG _ _ _ _ _ _ _ _ hR')) (fun h => absurd rfl h)
set_option maxRecDepth 20000 in
theorem lw_value (hL : SL ≤ 2048) (hk : 4 * k + 3 < SL) (hxs : ∀ j, rng (xs j)) (h1 : kc + 0 ≤ 600000) (h2 : ks + 0 ≤ 7302250) (hR : RR nx σ kn tx hi sl ν E) (hG : Go SL xs k (kc + 0) (ks + 0)) : Xz SL xs (m_Law_law SL xs) lwF (134, lwL k, [], (nx, σ, rX kn tx), kc, ks) := by
  refine run 25 ?_
  refine And.intro (lwb (d := 1) hk hL (by omega)) ?_
  refine And.intro (lwb (d := 2) hk hL (by omega)) ?_
  refine cnd_in (cb rfl h1 h2) ?_
  obtain ⟨Y, hY, hY'⟩ := bth_value (SL := SL) (xs := xs) hR
  refine ⟨Y, hY, fun v s h => ?_⟩
  obtain ⟨x, rfl, Z, hZ, hZ'⟩ := hY' v s h
  refine And.intro (lwb (d := 1) hk hL (by omega)) ?_
  refine And.intro (lwb (d := 2) hk hL (by omega)) ?_
  refine cnd_in (cb rfl h1 h2) ?_
  refine ⟨Z, hZ, fun v' s' h' => ?_⟩
  obtain ⟨rfl, nx', σ', kn', tx', hi', sl', ν', E', rfl, hR'⟩ := hZ' v' s' h'
  exact And.intro (fun _ => leaf (hG _ _ _ _ _ _ _ _ hR')) (fun h => absurd rfl h)
set_option maxRecDepth 20000 in
theorem lw_length (hL : SL ≤ 2048) (hk : 4 * k + 3 < SL) (hxs : ∀ j, rng (xs j)) (h1 : kc + 0 ≤ 600000) (h2 : ks + 0 ≤ 7302250) (hR : RR nx σ kn tx hi sl ν E) (hG : Go SL xs k (kc + 0) (ks + 0)) : Xz SL xs (m_Law_law SL xs) lwF (167, lwL k, [], (nx, σ, rX kn tx), kc, ks) := by
  refine run 15 ?_
  refine And.intro (lwb (d := 1) hk hL (by omega)) ?_
  refine cnd_in (cb rfl h1 h2) ?_
  obtain ⟨Y, hY, hY'⟩ := bth_length (SL := SL) (xs := xs) hR
  refine ⟨Y, hY, fun v s h => ?_⟩
  obtain ⟨x, rfl, Z, hZ, hZ'⟩ := hY' v s h
  refine And.intro (lwb (d := 1) hk hL (by omega)) ?_
  refine cnd_in (cb rfl h1 h2) ?_
  refine ⟨Z, hZ, fun v' s' h' => ?_⟩
  obtain ⟨rfl, nx', σ', kn', tx', hi', sl', ν', E', rfl, hR'⟩ := hZ' v' s' h'
  exact And.intro (fun _ => leaf (hG _ _ _ _ _ _ _ _ hR')) (fun h => absurd rfl h)
set_option maxRecDepth 20000 in
theorem lw_node (hL : SL ≤ 2048) (hk : 4 * k + 3 < SL) (hxs : ∀ j, rng (xs j)) (h1 : kc + 2 ≤ 600000) (h2 : ks + 66 ≤ 7302250) (hR : RR nx σ kn tx hi sl ν E) (hG : Go SL xs k (kc + 2) (ks + 66)) : Xz SL xs (m_Law_law SL xs) lwF (190, lwL k, [], (nx, σ, rX kn tx), kc, ks) := by
  refine run 35 ?_
  refine And.intro (lwb (d := 1) hk hL (by omega)) ?_
  refine And.intro (lwb (d := 2) hk hL (by omega)) ?_
  refine And.intro (lwb (d := 3) hk hL (by omega)) ?_
  refine cnd_in (cb rfl h1 h2) ?_
  obtain ⟨Y, hY, hY'⟩ := bth_node (SL := SL) (xs := xs) (hxs _) (hxs _) hR
  refine ⟨Y, hY, fun v s h => ?_⟩
  obtain ⟨x, rfl, Z, hZ, hZ'⟩ := hY' v s h
  refine And.intro (lwb (d := 1) hk hL (by omega)) ?_
  refine And.intro (lwb (d := 2) hk hL (by omega)) ?_
  refine And.intro (lwb (d := 3) hk hL (by omega)) ?_
  refine cnd_in (cb rfl h1 h2) ?_
  refine ⟨Z, hZ, fun v' s' h' => ?_⟩
  obtain ⟨rfl, nx', σ', kn', tx', hi', sl', ν', E', rfl, hR'⟩ := hZ' v' s' h'
  exact And.intro (fun _ => leaf (hG _ _ _ _ _ _ _ _ hR')) (fun h => absurd rfl h)
set_option maxRecDepth 20000 in
theorem lw_about (hL : SL ≤ 2048) (hk : 4 * k + 3 < SL) (hxs : ∀ j, rng (xs j)) (h1 : kc + 0 ≤ 600000) (h2 : ks + 0 ≤ 7302250) (hR : RR nx σ kn tx hi sl ν E) (hG : Go SL xs k (kc + 0) (ks + 0)) : Xz SL xs (m_Law_law SL xs) lwF (244, lwL k, [], (nx, σ, rX kn tx), kc, ks) := by
  refine run 25 ?_
  refine And.intro (lwb (d := 1) hk hL (by omega)) ?_
  refine And.intro (lwb (d := 2) hk hL (by omega)) ?_
  refine cnd_in (cb rfl h1 h2) ?_
  obtain ⟨Y, hY, hY'⟩ := bth_about (SL := SL) (xs := xs) hR
  refine ⟨Y, hY, fun v s h => ?_⟩
  obtain ⟨x, rfl, Z, hZ, hZ'⟩ := hY' v s h
  refine And.intro (lwb (d := 1) hk hL (by omega)) ?_
  refine And.intro (lwb (d := 2) hk hL (by omega)) ?_
  refine cnd_in (cb rfl h1 h2) ?_
  refine ⟨Z, hZ, fun v' s' h' => ?_⟩
  obtain ⟨rfl, nx', σ', kn', tx', hi', sl', ν', E', rfl, hR'⟩ := hZ' v' s' h'
  exact And.intro (fun _ => leaf (hG _ _ _ _ _ _ _ _ hR')) (fun h => absurd rfl h)
set_option maxRecDepth 20000 in
theorem lw_latest (hL : SL ≤ 2048) (hk : 4 * k + 3 < SL) (hxs : ∀ j, rng (xs j)) (h1 : kc + 0 ≤ 600000) (h2 : ks + 0 ≤ 7302250) (hR : RR nx σ kn tx hi sl ν E) (hG : Go SL xs k (kc + 0) (ks + 0)) : Xz SL xs (m_Law_law SL xs) lwF (336, lwL k, [], (nx, σ, rX kn tx), kc, ks) := by
  refine run 15 ?_
  refine And.intro (lwb (d := 1) hk hL (by omega)) ?_
  refine cnd_in (cb rfl h1 h2) ?_
  obtain ⟨Y, hY, hY'⟩ := bth_latest (SL := SL) (xs := xs) hR
  refine ⟨Y, hY, fun v s h => ?_⟩
  obtain ⟨x, rfl, Z, hZ, hZ'⟩ := hY' v s h
  refine And.intro (lwb (d := 1) hk hL (by omega)) ?_
  refine cnd_in (cb rfl h1 h2) ?_
  refine ⟨Z, hZ, fun v' s' h' => ?_⟩
  obtain ⟨rfl, nx', σ', kn', tx', hi', sl', ν', E', rfl, hR'⟩ := hZ' v' s' h'
  exact And.intro (fun _ => leaf (hG _ _ _ _ _ _ _ _ hR')) (fun h => absurd rfl h)
set_option maxRecDepth 20000 in
theorem lw_replace (hL : SL ≤ 2048) (hk : 4 * k + 3 < SL) (hxs : ∀ j, rng (xs j)) (h1 : kc + 0 ≤ 600000) (h2 : ks + 0 ≤ 7302250) (hR : RR nx σ kn tx hi sl ν E) (hG : Go SL xs k (kc + 0) (ks + 0)) : Xz SL xs (m_Law_law SL xs) lwF (359, lwL k, [], (nx, σ, rX kn tx), kc, ks) := by
  refine run 15 ?_
  refine And.intro (lwb (d := 1) hk hL (by omega)) ?_
  refine cnd_in (cb rfl h1 h2) ?_
  obtain ⟨Y, hY, hY'⟩ := bth_replace (SL := SL) (xs := xs) hR
  refine ⟨Y, hY, fun v s h => ?_⟩
  obtain ⟨x, rfl, Z, hZ, hZ'⟩ := hY' v s h
  refine And.intro (lwb (d := 1) hk hL (by omega)) ?_
  refine cnd_in (cb rfl h1 h2) ?_
  refine ⟨Z, hZ, fun v' s' h' => ?_⟩
  obtain ⟨rfl, nx', σ', kn', tx', hi', sl', ν', E', rfl, hR'⟩ := hZ' v' s' h'
  exact And.intro (fun _ => leaf (hG _ _ _ _ _ _ _ _ hR')) (fun h => absurd rfl h)
set_option maxRecDepth 20000 in
theorem lw_match (hL : SL ≤ 2048) (hk : 4 * k + 3 < SL) (h1 : kc + 0 ≤ 600000) (h2 : ks + 0 ≤ 7302250) (hR : RR nx σ kn tx hi sl ν E) (hG : Go SL xs k (kc + 0) (ks + 0)) : Xz SL xs (m_Law_law SL xs) lwF (277, lwL k, [], (nx, σ, rX kn tx), kc, ks) := by
  refine run 41 ?_
  refine And.intro (lwb (d := 1) hk hL (by omega)) ?_
  refine And.intro (lwb (d := 2) hk hL (by omega)) ?_
  refine And.intro (lwb (d := 3) hk hL (by omega)) ?_
  refine And.intro (fun h0 => ?_) (fun h0 => ?_)
  · refine cnd_in (cb rfl h1 h2) ?_
    obtain ⟨Y, hY, hY'⟩ := bth_match (SL := SL) (xs := xs) hR
    refine ⟨Y, hY, fun v s h => ?_⟩
    obtain ⟨x, rfl, Z, hZ, hZ'⟩ := hY' v s h
    refine And.intro (lwb (d := 1) hk hL (by omega)) ?_
    refine And.intro (lwb (d := 2) hk hL (by omega)) ?_
    refine And.intro (lwb (d := 3) hk hL (by omega)) ?_
    refine And.intro (fun h0' => ?_) (fun h0' => ?_)
    · skip
      refine cnd_in (cb rfl h1 h2) ?_
      refine ⟨Z, hZ, fun v' s' h' => ?_⟩
      obtain ⟨rfl, nx', σ', kn', tx', hi', sl', ν', E', rfl, hR'⟩ := hZ' v' s' h'
      exact And.intro (fun _ => leaf (hG _ _ _ _ _ _ _ _ hR')) (fun h => absurd rfl h)
    · exact absurd h0 h0'
  · refine cnd_in (cb rfl h1 h2) ?_
    obtain ⟨Y, hY, hY'⟩ := bth_match (SL := SL) (xs := xs) hR
    refine ⟨Y, hY, fun v s h => ?_⟩
    obtain ⟨x, rfl, Z, hZ, hZ'⟩ := hY' v s h
    refine And.intro (lwb (d := 1) hk hL (by omega)) ?_
    refine And.intro (lwb (d := 2) hk hL (by omega)) ?_
    refine And.intro (lwb (d := 3) hk hL (by omega)) ?_
    refine And.intro (fun h0' => ?_) (fun h0' => ?_)
    · exact absurd h0' h0
    · skip
      refine cnd_in (cb rfl h1 h2) ?_
      refine ⟨Z, hZ, fun v' s' h' => ?_⟩
      obtain ⟨rfl, nx', σ', kn', tx', hi', sl', ν', E', rfl, hR'⟩ := hZ' v' s' h'
      exact And.intro (fun _ => leaf (hG _ _ _ _ _ _ _ _ hR')) (fun h => absurd rfl h)
set_option maxRecDepth 20000 in
theorem lw_clear (h1 : kc + 0 ≤ 600000) (h2 : ks + 0 ≤ 7302250) (hR : RR nx σ kn tx hi sl ν E) (hG : Go SL xs k (kc + 0) (ks + 0)) : Xz SL xs (m_Law_law SL xs) lwF (233, lwL k, [], (nx, σ, rX kn tx), kc, ks) := by
  refine run 5 ?_
  refine cnd_in (cb rfl h1 h2) ?_
  refine call_eq (fun F hF => tw_Mill_clear hF) ?_
  refine cnd_in (cb rfl h1 h2) ?_
  refine call_eq (fun F hF => tw_Model_clear hF) ?_
  exact leaf (run 1 (hG _ _ _ _ _ _ _ _ hR.clear))
set_option maxRecDepth 20000 in
theorem lw_loop (hL : SL ≤ 2048) (hxs : ∀ j, rng (xs j)) : ∀ (n k : Nat), k + n = 513 → ∀ nx σ kn tx hi sl ν E kc ks, RR nx σ kn tx hi sl ν E → kc ≤ 65 + 2 * k → ks ≤ 114980 + 66 * k → Xz SL xs (m_Law_law SL xs) lwF (18, lwL k, [], (nx, σ, rX kn tx), kc, ks) := by
  intro n
  have hw : wr ((SL : Int) - 4) = (SL : Int) - 4 := wr_eq ⟨by omega, by omega⟩
  induction n with
  | zero =>
    intro k hk nx σ kn tx hi sl ν E kc ks hR h1 h2
    refine run 8 ?_
    refine And.intro (fun _ => And.intro (Or.inr rfl) rfl) (fun h => ?_)
    exfalso
    apply h
    show wr ((SL : Int) - 4) < ((4 * k : Nat) : Int)
    rw [hw]
    omega
  | succ n ih =>
    intro k hk nx σ kn tx hi sl ν E kc ks hR h1 h2
    have e : wr (((4 * k : Nat) : Int) + 4) = ((4 * (k + 1) : Nat) : Int) := by
      rw [wr_eq ⟨by omega, by omega⟩]
      omega
    have hGo : ∀ kc' ks', kc' ≤ 65 + 2 * (k + 1) → ks' ≤ 114980 + 66 * (k + 1) → Go SL xs k kc' ks' := by
      intro kc' ks' g1 g2 nx' σ' kn' tx' hi' sl' ν' E' hR'
      have K := ih (k + 1) (by omega) nx' σ' kn' tx' hi' sl' ν' E' kc' ks' hR' g1 g2
      simp only [lwL] at K
      rw [← e] at K
      exact run 2 K
    refine run 12 ?_
    refine And.intro (fun _ => And.intro (Or.inr rfl) rfl) (fun h => ?_)
    have h : ¬ wr ((SL : Int) - 4) < ((4 * k : Nat) : Int) := h
    rw [hw] at h
    have hk3 : 4 * k + 3 < SL := by omega
    refine And.intro ⟨show (0 : Int) ≤ ((4 * k : Nat) : Int) by omega, show ((4 * k : Nat) : Int) < (SL : Int) by omega⟩ ?_
    have G0 := hGo (kc + 0) (ks + 0) (by omega) (by omega)
    have G1 := hGo (kc + 2) (ks + 66) (by omega) (by omega)
    have b1 : kc + 0 ≤ 600000 := by omega
    have b2 : ks + 0 ≤ 7302250 := by omega
    have b3 : kc + 2 ≤ 600000 := by omega
    have b4 : ks + 66 ≤ 7302250 := by omega
    refine And.intro (fun _ => leaf (lw_sign hL hk3 hxs b1 b2 hR G0)) (fun _ => ?_)
    refine And.intro (fun _ => leaf (lw_let hL hk3 hxs b1 b2 hR G0)) (fun _ => ?_)
    refine And.intro (fun _ => leaf (lw_value hL hk3 hxs b1 b2 hR G0)) (fun _ => ?_)
    refine And.intro (fun _ => leaf (lw_length hL hk3 hxs b1 b2 hR G0)) (fun _ => ?_)
    refine And.intro (fun _ => leaf (lw_node hL hk3 hxs b3 b4 hR G1)) (fun _ => ?_)
    refine And.intro (fun _ => leaf (lw_clear b1 b2 hR G0)) (fun _ => ?_)
    refine And.intro (fun _ => leaf (lw_about hL hk3 hxs b1 b2 hR G0)) (fun _ => ?_)
    refine And.intro (fun _ => leaf (lw_match hL hk3 b1 b2 hR G0)) (fun _ => ?_)
    refine And.intro (fun _ => leaf (lw_latest hL hk3 hxs b1 b2 hR G0)) (fun _ => ?_)
    refine And.intro (fun _ => leaf (lw_replace hL hk3 hxs b1 b2 hR G0)) (fun _ => ?_)
    exact leaf (hGo kc ks (by omega) (by omega) _ _ _ _ _ _ _ _ hR)
end
end
section
/-! What the constructors make: the arrays' owners printed by wip/gen53.py -/
def r0 : Rh := rX (fun _ => none) (fun j => decide (j < 0))
def z0 : Sg := fun _ _ _ => 0
theorem zrS_z {a b : Nat} : zrS z0 a b = z0 := by
  funext a' b' j'
  unfold zrS z0
  split <;> rfl
theorem upR_na {f : Rh} {a b j a' b' j' : Nat} {v : Rf} (h : ¬ a' = a) : upR f a b j v a' b' j' = f a' b' j' := if_neg (fun q => h q.1)
theorem zrR_na {f : Rh} {a b a' b' j' : Nat} (h : ¬ a' = a) : zrR f a b a' b' j' = f a' b' j' := if_neg (fun q => h q.1)
/-- the cell (a, 0) has but the places of L -/
def hasN : List Nat → Nat → Bool
  | [], _ => false
  | k :: r, j => bif Nat.beq j k then true else hasN r j
def pt (ρ : Rh) (a : Nat) (L : List Nat) : Rh := fun a' b' j' => if a' = a ∧ b' = 0 ∧ hasN L j' = false then none else ρ a' b' j'
theorem hasN_same {j : Nat} {L : List Nat} : hasN (j :: L) j = true := by
  unfold hasN
  rw [Nat.beq_refl]
  rfl
theorem hasN_ne {j k : Nat} {L : List Nat} (h : ¬ j = k) : hasN (k :: L) j = hasN L j := by
  have e : Nat.beq j k = false := by
    cases hb : Nat.beq j k
    · rfl
    · exact absurd (Nat.eq_of_beq_eq_true hb) h
  rw [hasN, e]
  rfl
theorem pt_nil {ρ : Rh} {a : Nat} : zrR ρ a 0 = pt ρ a [] := by
  funext a' b' j'
  unfold zrR pt
  by_cases h : a' = a ∧ b' = 0
  · rw [if_pos h, if_pos ⟨h.1, h.2, rfl⟩]
  · rw [if_neg h, if_neg (fun q => h ⟨q.1, q.2.1⟩)]
theorem pt_put {ρ : Rh} {a j : Nat} {L : List Nat} {v : Rf} (hj : ρ a 0 j = v) : upR (pt ρ a L) a 0 j v = pt ρ a (j :: L) := by
  funext a' b' j'
  unfold upR pt
  by_cases h : a' = a ∧ b' = 0 ∧ j' = j
  · obtain ⟨rfl, rfl, rfl⟩ := h
    rw [if_pos ⟨rfl, rfl, rfl⟩, if_neg (fun q => by rw [hasN_same] at q; exact absurd q.2.2 (by decide))]
    exact hj.symm
  · rw [if_neg h]
    by_cases h2 : a' = a ∧ b' = 0
    · have hne : ¬ j' = j := fun e => h ⟨h2.1, h2.2, e⟩
      rw [hasN_ne hne]
    · rw [if_neg (fun q => h2 ⟨q.1, q.2.1⟩), if_neg (fun q => h2 ⟨q.1, q.2.1⟩)]
theorem pt_zr {ρ : Rh} {a c b : Nat} {L : List Nat} (hca : ¬ c = a) (hc : ∀ j, ρ c b j = none) : zrR (pt ρ a L) c b = pt ρ a L := by
  funext a' b' j'
  unfold zrR
  by_cases h : a' = c ∧ b' = b
  · rw [if_pos h]
    unfold pt
    rw [if_neg (fun q => hca (h.1.symm.trans q.1)), h.1, h.2, hc]
  · rw [if_neg h]
theorem pt_zr_in {ρ : Rh} {a c : Nat} {L : List Nat} (hca : ¬ c = a) : zrR (pt ρ a L) c 0 = pt (pt ρ c []) a L := by
  rw [← pt_nil]
  funext a' b' j'
  show (if a' = c ∧ b' = 0 then none else if a' = a ∧ b' = 0 ∧ hasN L j' = false then none else ρ a' b' j') = if a' = a ∧ b' = 0 ∧ hasN L j' = false then none else if a' = c ∧ b' = 0 then none else ρ a' b' j'
  by_cases h : a' = c ∧ b' = 0
  · rw [if_pos h, if_neg (fun q => hca (h.1.symm.trans q.1)), if_pos h]
  · rw [if_neg h, if_neg h]
theorem pt_up_in {ρ : Rh} {a c j : Nat} {v : Rf} {L : List Nat} (hca : ¬ c = a) : upR (pt ρ a L) c 0 j v = pt (upR ρ c 0 j v) a L := by
  funext a' b' j'
  show (if a' = c ∧ b' = 0 ∧ j' = j then v else if a' = a ∧ b' = 0 ∧ hasN L j' = false then none else ρ a' b' j') = if a' = a ∧ b' = 0 ∧ hasN L j' = false then none else if a' = c ∧ b' = 0 ∧ j' = j then v else ρ a' b' j'
  by_cases h : a' = c ∧ b' = 0 ∧ j' = j
  · rw [if_pos h, if_neg (fun q => hca (h.1.symm.trans q.1)), if_pos h]
  · rw [if_neg h, if_neg h]
theorem pt_fin {ρ : Rh} {a : Nat} {L : List Nat} (h : ∀ j, hasN L j = false → ρ a 0 j = none) : pt ρ a L = ρ := by
  funext a' b' j'
  unfold pt
  by_cases h2 : a' = a ∧ b' = 0 ∧ hasN L j' = false
  · rw [if_pos h2, h2.1, h2.2.1, h j' h2.2.2]
  · rw [if_neg h2]
theorem pt_na {ρ : Rh} {a a' b' j' : Nat} {L : List Nat} (h : ¬ a' = a) : pt ρ a L a' b' j' = ρ a' b' j' := if_neg (fun q => h q.1)
section
variable {SL : Nat} {xs : Nat → Int} {F : Option Av → St → Prop} {ρ ρ' : Rh} {σ : Sg}
/-- a text is made -/
theorem tw_Text_mk {b nx : Nat} (hb : b < 75) (h1 : ∀ j, ρ 1 b j = r0 1 b j) (h2 : ∀ j, ρ 2 b j = r0 2 b j) (hnx : ad 2 b = nx) (hσ : σ = z0) (hr : ρ' = zrR ρ 1 b) (hF : F none (nx + 1, z0, ρ)) : T_Text_init SL xs [.inr (some (1, b))] (nx, σ, ρ') F := by
  subst hσ hr
  have e : upR (zrR (zrR ρ 1 b) 2 b) 1 b 0 (some (2, b)) = ρ := by
    funext a' b' j'
    by_cases c1 : a' = 1 ∧ b' = b
    · obtain ⟨rfl, rfl⟩ := c1
      rw [h1]
      unfold upR zrR
      cases j' with
      | zero => rw [if_pos ⟨rfl, rfl, rfl⟩]; rfl
      | succ j => rw [if_neg (by omega), if_neg (by omega), if_pos ⟨rfl, rfl⟩]; rfl
    · unfold upR zrR
      rw [if_neg (fun q => c1 ⟨q.1, q.2.1⟩)]
      by_cases c2 : a' = 2 ∧ b' = b
      · obtain ⟨rfl, rfl⟩ := c2
        rw [if_pos ⟨rfl, rfl⟩, h2]
        rfl
      · rw [if_neg c2, if_neg c1]
  have e2 : zrS z0 2 b = z0 := zrS_z
  rw [← e, ← e2] at hF
  refine run 10 ?_
  refine call_eq (v0 := none) (s0 := (nx, z0, zrR ρ 1 b)) (fun F hF => hF) ?_
  refine ⟨2, b, ⟨rfl, (by decide), ?_, hnx⟩, ?_⟩
  · simp [idq]; omega
  · exact hF
theorem tw_Nodes_mk (hρ : ∀ a b j, 4 ≤ a → a ≤ 8 → ρ a b j = r0 a b j) (hσ : σ = z0) (hr : ρ' = zrR ρ 4 0) (hF : F none (11, z0, ρ)) : T_Nodes_init SL xs [.inr (some (4, 0))] (7, σ, ρ') F := by
  subst hσ hr
  have e : upR (zrR (upR (zrR (upR (zrR (upR (zrR (zrR ρ 4 0) 5 0) 4 0 0 (some (5, 0))) 6 0) 4 0 1 (some (6, 0))) 7 0) 4 0 2 (some (7, 0))) 8 0) 4 0 3 (some (8, 0)) = ρ := by
    rw [pt_nil (ρ := ρ) (a := 4), pt_zr (by omega) (fun j => (hρ 5 0 j (by omega) (by omega)).trans rfl), pt_put (v := some (5, 0)) (hρ 4 0 0 (by omega) (by omega)), pt_zr (by omega) (fun j => (hρ 6 0 j (by omega) (by omega)).trans rfl), pt_put (v := some (6, 0)) (hρ 4 0 1 (by omega) (by omega)), pt_zr (by omega) (fun j => (hρ 7 0 j (by omega) (by omega)).trans rfl), pt_put (v := some (7, 0)) (hρ 4 0 2 (by omega) (by omega)), pt_zr (by omega) (fun j => (hρ 8 0 j (by omega) (by omega)).trans rfl), pt_put (v := some (8, 0)) (hρ 4 0 3 (by omega) (by omega))]
    exact pt_fin (fun j hj => (hρ 4 0 j (by omega) (by omega)).trans (by
      by_cases h : j < 4
      · exact (by decide : ∀ j, j < 4 → hasN [3, 2, 1, 0] j = false → r0 4 0 j = none) j h hj
      · obtain ⟨m, rfl⟩ : ∃ m, j = m + 4 := ⟨j - 4, by omega⟩
        rfl))
  have e2 : zrS (zrS (zrS (zrS z0 5 0) 6 0) 7 0) 8 0 = z0 := by simp only [zrS_z]
  rw [← e, ← e2] at hF
  refine run 31 ?_
  refine call_eq (v0 := none) (s0 := (7, z0, zrR ρ 4 0)) (fun F hF => hF) ?_
  refine ⟨5, 0, 3, ⟨rfl, Or.inl ⟨rfl, rfl⟩, (by decide), rfl, rfl⟩, ?_⟩
  refine ⟨6, 0, ⟨rfl, (by decide), rfl, rfl⟩, ?_⟩
  refine ⟨7, 0, ⟨rfl, (by decide), rfl, rfl⟩, ?_⟩
  refine ⟨8, 0, 4, ⟨rfl, Or.inr ⟨rfl, rfl⟩, (by decide), rfl, rfl⟩, ?_⟩
  exact hF
theorem tw_Goals_mk (hρ : ∀ a b j, 10 ≤ a → a ≤ 14 → ρ a b j = r0 a b j) (hσ : σ = z0) (hr : ρ' = zrR ρ 10 0) (hF : F none (35, z0, ρ)) : T_Goals_init SL xs [.inr (some (10, 0))] (31, σ, ρ') F := by
  subst hσ hr
  have e : upR (zrR (upR (zrR (upR (zrR (upR (zrR (zrR ρ 10 0) 11 0) 10 0 0 (some (11, 0))) 12 0) 10 0 1 (some (12, 0))) 13 0) 10 0 2 (some (13, 0))) 14 0) 10 0 3 (some (14, 0)) = ρ := by
    rw [pt_nil (ρ := ρ) (a := 10), pt_zr (by omega) (fun j => (hρ 11 0 j (by omega) (by omega)).trans rfl), pt_put (v := some (11, 0)) (hρ 10 0 0 (by omega) (by omega)), pt_zr (by omega) (fun j => (hρ 12 0 j (by omega) (by omega)).trans rfl), pt_put (v := some (12, 0)) (hρ 10 0 1 (by omega) (by omega)), pt_zr (by omega) (fun j => (hρ 13 0 j (by omega) (by omega)).trans rfl), pt_put (v := some (13, 0)) (hρ 10 0 2 (by omega) (by omega)), pt_zr (by omega) (fun j => (hρ 14 0 j (by omega) (by omega)).trans rfl), pt_put (v := some (14, 0)) (hρ 10 0 3 (by omega) (by omega))]
    exact pt_fin (fun j hj => (hρ 10 0 j (by omega) (by omega)).trans (by
      by_cases h : j < 4
      · exact (by decide : ∀ j, j < 4 → hasN [3, 2, 1, 0] j = false → r0 10 0 j = none) j h hj
      · obtain ⟨m, rfl⟩ : ∃ m, j = m + 4 := ⟨j - 4, by omega⟩
        rfl))
  have e2 : zrS (zrS (zrS (zrS z0 11 0) 12 0) 13 0) 14 0 = z0 := by simp only [zrS_z]
  rw [← e, ← e2] at hF
  refine run 31 ?_
  refine call_eq (v0 := none) (s0 := (31, z0, zrR ρ 10 0)) (fun F hF => hF) ?_
  refine ⟨11, 0, ⟨rfl, (by decide), rfl, rfl⟩, ?_⟩
  refine ⟨12, 0, ⟨rfl, (by decide), rfl, rfl⟩, ?_⟩
  refine ⟨13, 0, ⟨rfl, (by decide), rfl, rfl⟩, ?_⟩
  refine ⟨14, 0, ⟨rfl, (by decide), rfl, rfl⟩, ?_⟩
  exact hF
theorem tw_Choices_mk (hρ : ∀ a b j, 15 ≤ a → a ≤ 21 → ρ a b j = r0 a b j) (hσ : σ = z0) (hr : ρ' = zrR ρ 15 0) (hF : F none (42, z0, ρ)) : T_Choices_init SL xs [.inr (some (15, 0))] (36, σ, ρ') F := by
  subst hσ hr
  have e : upR (zrR (upR (zrR (upR (zrR (upR (zrR (upR (zrR (upR (zrR (zrR ρ 15 0) 16 0) 15 0 0 (some (16, 0))) 17 0) 15 0 1 (some (17, 0))) 18 0) 15 0 2 (some (18, 0))) 19 0) 15 0 3 (some (19, 0))) 20 0) 15 0 4 (some (20, 0))) 21 0) 15 0 5 (some (21, 0)) = ρ := by
    rw [pt_nil (ρ := ρ) (a := 15), pt_zr (by omega) (fun j => (hρ 16 0 j (by omega) (by omega)).trans rfl), pt_put (v := some (16, 0)) (hρ 15 0 0 (by omega) (by omega)), pt_zr (by omega) (fun j => (hρ 17 0 j (by omega) (by omega)).trans rfl), pt_put (v := some (17, 0)) (hρ 15 0 1 (by omega) (by omega)), pt_zr (by omega) (fun j => (hρ 18 0 j (by omega) (by omega)).trans rfl), pt_put (v := some (18, 0)) (hρ 15 0 2 (by omega) (by omega)), pt_zr (by omega) (fun j => (hρ 19 0 j (by omega) (by omega)).trans rfl), pt_put (v := some (19, 0)) (hρ 15 0 3 (by omega) (by omega)), pt_zr (by omega) (fun j => (hρ 20 0 j (by omega) (by omega)).trans rfl), pt_put (v := some (20, 0)) (hρ 15 0 4 (by omega) (by omega)), pt_zr (by omega) (fun j => (hρ 21 0 j (by omega) (by omega)).trans rfl), pt_put (v := some (21, 0)) (hρ 15 0 5 (by omega) (by omega))]
    exact pt_fin (fun j hj => (hρ 15 0 j (by omega) (by omega)).trans (by
      by_cases h : j < 6
      · exact (by decide : ∀ j, j < 6 → hasN [5, 4, 3, 2, 1, 0] j = false → r0 15 0 j = none) j h hj
      · obtain ⟨m, rfl⟩ : ∃ m, j = m + 6 := ⟨j - 6, by omega⟩
        rfl))
  have e2 : zrS (zrS (zrS (zrS (zrS (zrS z0 16 0) 17 0) 18 0) 19 0) 20 0) 21 0 = z0 := by simp only [zrS_z]
  rw [← e, ← e2] at hF
  refine run 41 ?_
  refine call_eq (v0 := none) (s0 := (36, z0, zrR ρ 15 0)) (fun F hF => hF) ?_
  refine ⟨16, 0, ⟨rfl, (by decide), rfl, rfl⟩, ?_⟩
  refine ⟨17, 0, ⟨rfl, (by decide), rfl, rfl⟩, ?_⟩
  refine ⟨18, 0, ⟨rfl, (by decide), rfl, rfl⟩, ?_⟩
  refine ⟨19, 0, ⟨rfl, (by decide), rfl, rfl⟩, ?_⟩
  refine ⟨20, 0, ⟨rfl, (by decide), rfl, rfl⟩, ?_⟩
  refine ⟨21, 0, ⟨rfl, (by decide), rfl, rfl⟩, ?_⟩
  exact hF
theorem tw_Kept_mk (hρ : ∀ a b j, 22 ≤ a → a ≤ 25 → ρ a b j = r0 a b j) (hσ : σ = z0) (hr : ρ' = zrR ρ 22 0) (hF : F none (46, z0, ρ)) : T_Kept_init SL xs [.inr (some (22, 0))] (43, σ, ρ') F := by
  subst hσ hr
  have e : upR (zrR (upR (zrR (upR (zrR (zrR ρ 22 0) 23 0) 22 0 0 (some (23, 0))) 24 0) 22 0 1 (some (24, 0))) 25 0) 22 0 2 (some (25, 0)) = ρ := by
    rw [pt_nil (ρ := ρ) (a := 22), pt_zr (by omega) (fun j => (hρ 23 0 j (by omega) (by omega)).trans rfl), pt_put (v := some (23, 0)) (hρ 22 0 0 (by omega) (by omega)), pt_zr (by omega) (fun j => (hρ 24 0 j (by omega) (by omega)).trans rfl), pt_put (v := some (24, 0)) (hρ 22 0 1 (by omega) (by omega)), pt_zr (by omega) (fun j => (hρ 25 0 j (by omega) (by omega)).trans rfl), pt_put (v := some (25, 0)) (hρ 22 0 2 (by omega) (by omega))]
    exact pt_fin (fun j hj => (hρ 22 0 j (by omega) (by omega)).trans (by
      by_cases h : j < 3
      · exact (by decide : ∀ j, j < 3 → hasN [2, 1, 0] j = false → r0 22 0 j = none) j h hj
      · obtain ⟨m, rfl⟩ : ∃ m, j = m + 3 := ⟨j - 3, by omega⟩
        rfl))
  have e2 : zrS (zrS (zrS z0 23 0) 24 0) 25 0 = z0 := by simp only [zrS_z]
  rw [← e, ← e2] at hF
  refine run 26 ?_
  refine call_eq (v0 := none) (s0 := (43, z0, zrR ρ 22 0)) (fun F hF => hF) ?_
  refine ⟨23, 0, ⟨rfl, (by decide), rfl, rfl⟩, ?_⟩
  refine ⟨24, 0, ⟨rfl, (by decide), rfl, rfl⟩, ?_⟩
  refine ⟨25, 0, ⟨rfl, (by decide), rfl, rfl⟩, ?_⟩
  exact hF
theorem tw_Model_mk (hρ : ∀ a b j, 26 ≤ a → a ≤ 44 → ρ a b j = r0 a b j) (hσ : σ = z0) (hr : ρ' = zrR ρ 26 0) (hF : F none (65, z0, ρ)) : T_Model_init SL xs [.inr (some (26, 0))] (47, σ, ρ') F := by
  subst hσ hr
  have e : upR (zrR (upR (zrR (upR (zrR (upR (zrR (upR (zrR (upR (zrR (upR (zrR (upR (zrR (upR (zrR (upR (zrR (upR (zrR (upR (zrR (upR (zrR (upR (zrR (upR (zrR (upR (zrR (upR (zrR (upR (zrR (zrR ρ 26 0) 27 0) 26 0 1 (some (27, 0))) 28 0) 26 0 3 (some (28, 0))) 29 0) 26 0 4 (some (29, 0))) 30 0) 26 0 6 (some (30, 0))) 31 0) 26 0 7 (some (31, 0))) 32 0) 26 0 8 (some (32, 0))) 33 0) 26 0 9 (some (33, 0))) 34 0) 26 0 10 (some (34, 0))) 35 0) 26 0 15 (some (35, 0))) 36 0) 26 0 17 (some (36, 0))) 37 0) 26 0 18 (some (37, 0))) 38 0) 26 0 19 (some (38, 0))) 39 0) 26 0 20 (some (39, 0))) 40 0) 26 0 21 (some (40, 0))) 41 0) 26 0 22 (some (41, 0))) 42 0) 26 0 23 (some (42, 0))) 43 0) 26 0 24 (some (43, 0))) 44 0) 26 0 30 (some (44, 0)) = ρ := by
    rw [pt_nil (ρ := ρ) (a := 26), pt_zr (by omega) (fun j => (hρ 27 0 j (by omega) (by omega)).trans rfl), pt_put (v := some (27, 0)) (hρ 26 0 1 (by omega) (by omega)), pt_zr (by omega) (fun j => (hρ 28 0 j (by omega) (by omega)).trans rfl), pt_put (v := some (28, 0)) (hρ 26 0 3 (by omega) (by omega)), pt_zr (by omega) (fun j => (hρ 29 0 j (by omega) (by omega)).trans rfl), pt_put (v := some (29, 0)) (hρ 26 0 4 (by omega) (by omega)), pt_zr (by omega) (fun j => (hρ 30 0 j (by omega) (by omega)).trans rfl), pt_put (v := some (30, 0)) (hρ 26 0 6 (by omega) (by omega)), pt_zr (by omega) (fun j => (hρ 31 0 j (by omega) (by omega)).trans rfl), pt_put (v := some (31, 0)) (hρ 26 0 7 (by omega) (by omega)), pt_zr (by omega) (fun j => (hρ 32 0 j (by omega) (by omega)).trans rfl), pt_put (v := some (32, 0)) (hρ 26 0 8 (by omega) (by omega)), pt_zr (by omega) (fun j => (hρ 33 0 j (by omega) (by omega)).trans rfl), pt_put (v := some (33, 0)) (hρ 26 0 9 (by omega) (by omega)), pt_zr (by omega) (fun j => (hρ 34 0 j (by omega) (by omega)).trans rfl), pt_put (v := some (34, 0)) (hρ 26 0 10 (by omega) (by omega)), pt_zr (by omega) (fun j => (hρ 35 0 j (by omega) (by omega)).trans rfl), pt_put (v := some (35, 0)) (hρ 26 0 15 (by omega) (by omega)), pt_zr (by omega) (fun j => (hρ 36 0 j (by omega) (by omega)).trans rfl), pt_put (v := some (36, 0)) (hρ 26 0 17 (by omega) (by omega)), pt_zr (by omega) (fun j => (hρ 37 0 j (by omega) (by omega)).trans rfl), pt_put (v := some (37, 0)) (hρ 26 0 18 (by omega) (by omega)), pt_zr (by omega) (fun j => (hρ 38 0 j (by omega) (by omega)).trans rfl), pt_put (v := some (38, 0)) (hρ 26 0 19 (by omega) (by omega)), pt_zr (by omega) (fun j => (hρ 39 0 j (by omega) (by omega)).trans rfl), pt_put (v := some (39, 0)) (hρ 26 0 20 (by omega) (by omega)), pt_zr (by omega) (fun j => (hρ 40 0 j (by omega) (by omega)).trans rfl), pt_put (v := some (40, 0)) (hρ 26 0 21 (by omega) (by omega)), pt_zr (by omega) (fun j => (hρ 41 0 j (by omega) (by omega)).trans rfl), pt_put (v := some (41, 0)) (hρ 26 0 22 (by omega) (by omega)), pt_zr (by omega) (fun j => (hρ 42 0 j (by omega) (by omega)).trans rfl), pt_put (v := some (42, 0)) (hρ 26 0 23 (by omega) (by omega)), pt_zr (by omega) (fun j => (hρ 43 0 j (by omega) (by omega)).trans rfl), pt_put (v := some (43, 0)) (hρ 26 0 24 (by omega) (by omega)), pt_zr (by omega) (fun j => (hρ 44 0 j (by omega) (by omega)).trans rfl), pt_put (v := some (44, 0)) (hρ 26 0 30 (by omega) (by omega))]
    exact pt_fin (fun j hj => (hρ 26 0 j (by omega) (by omega)).trans (by
      by_cases h : j < 31
      · exact (by decide : ∀ j, j < 31 → hasN [30, 24, 23, 22, 21, 20, 19, 18, 17, 15, 10, 9, 8, 7, 6, 4, 3, 1] j = false → r0 26 0 j = none) j h hj
      · obtain ⟨m, rfl⟩ : ∃ m, j = m + 31 := ⟨j - 31, by omega⟩
        rfl))
  have e2 : zrS (zrS (zrS (zrS (zrS (zrS (zrS (zrS (zrS (zrS (zrS (zrS (zrS (zrS (zrS (zrS (zrS (zrS z0 27 0) 28 0) 29 0) 30 0) 31 0) 32 0) 33 0) 34 0) 35 0) 36 0) 37 0) 38 0) 39 0) 40 0) 41 0) 42 0) 43 0) 44 0 = z0 := by simp only [zrS_z]
  rw [← e, ← e2] at hF
  refine run 101 ?_
  refine call_eq (v0 := none) (s0 := (47, z0, zrR ρ 26 0)) (fun F hF => hF) ?_
  refine ⟨27, 0, ⟨rfl, (by decide), rfl, rfl⟩, ?_⟩
  refine ⟨28, 0, ⟨rfl, (by decide), rfl, rfl⟩, ?_⟩
  refine ⟨29, 0, ⟨rfl, (by decide), rfl, rfl⟩, ?_⟩
  refine ⟨30, 0, ⟨rfl, (by decide), rfl, rfl⟩, ?_⟩
  refine ⟨31, 0, ⟨rfl, (by decide), rfl, rfl⟩, ?_⟩
  refine ⟨32, 0, ⟨rfl, (by decide), rfl, rfl⟩, ?_⟩
  refine ⟨33, 0, ⟨rfl, (by decide), rfl, rfl⟩, ?_⟩
  refine ⟨34, 0, ⟨rfl, (by decide), rfl, rfl⟩, ?_⟩
  refine ⟨35, 0, ⟨rfl, (by decide), rfl, rfl⟩, ?_⟩
  refine ⟨36, 0, ⟨rfl, (by decide), rfl, rfl⟩, ?_⟩
  refine ⟨37, 0, ⟨rfl, (by decide), rfl, rfl⟩, ?_⟩
  refine ⟨38, 0, ⟨rfl, (by decide), rfl, rfl⟩, ?_⟩
  refine ⟨39, 0, ⟨rfl, (by decide), rfl, rfl⟩, ?_⟩
  refine ⟨40, 0, ⟨rfl, (by decide), rfl, rfl⟩, ?_⟩
  refine ⟨41, 0, ⟨rfl, (by decide), rfl, rfl⟩, ?_⟩
  refine ⟨42, 0, ⟨rfl, (by decide), rfl, rfl⟩, ?_⟩
  refine ⟨43, 0, ⟨rfl, (by decide), rfl, rfl⟩, ?_⟩
  refine ⟨44, 0, ⟨rfl, (by decide), rfl, rfl⟩, ?_⟩
  exact hF
end
end
section
/-! The constructors of the matcher and of the mill; the law's start -/
section
variable {SL : Nat} {xs : Nat → Int} {F : Option Av → St → Prop} {ρ ρ' : Rh} {σ : Sg}
theorem tw_Matcher_mk (hρ : ∀ a b j, 1 ≤ a → a ≤ 25 → ρ a b j = r0 a b j) (hσ : σ = z0) (hr : ρ' = zrR ρ 9 0) (hF : F none (46, z0, ρ)) : T_Matcher_init SL xs [.inr (some (9, 0)), .inr (some (4, 0)), .inr (some (3, 0))] (28, σ, ρ') F := by
  subst hσ hr
  have hp : ∀ L a b j, 1 ≤ a → a ≤ 25 → ¬ a = 9 → pt ρ 9 L a b j = r0 a b j := fun L a b j h1 h2 h3 => (pt_na h3).trans (hρ a b j h1 h2)
  have hj : ∀ j, ρ 9 0 j = r0 9 0 j := fun j => hρ 9 0 j (by omega) (by omega)
  have e : upR (upR (upR (pt ρ 9 [4, 3, 2]) 9 0 5 (some (22, 0))) 9 0 0 (some (4, 0))) 9 0 1 (some (3, 0)) = ρ := by
    rw [pt_put (v := some (22, 0)) (hj 5), pt_put (v := some (4, 0)) (hj 0), pt_put (v := some (3, 0)) (hj 1)]
    exact pt_fin (fun j h => (hj j).trans (by
      by_cases h6 : j < 6
      · exact (by decide : ∀ j, j < 6 → hasN [1, 0, 5, 4, 3, 2] j = false → r0 9 0 j = none) j h6 h
      · obtain ⟨m, rfl⟩ : ∃ m, j = m + 6 := ⟨j - 6, by omega⟩
        rfl))
  rw [← e] at hF
  refine run 40 ?_
  refine call_eq (v0 := none) (s0 := (28, z0, zrR ρ 9 0)) (fun F hF => hF) ?_
  refine ⟨2, ⟨rfl, rfl⟩, ?_⟩
  refine call_eq (v0 := none) (s0 := (30, z0, pt ρ 9 [])) (fun F hF => tw_Text_mk (ρ := pt ρ 9 []) (b := 2) (by omega) (fun j => hp _ _ _ _ (by omega) (by omega) (by omega)) (fun j => hp _ _ _ _ (by omega) (by omega) (by omega)) rfl zrS_z (by rw [pt_nil (ρ := ρ) (a := 9)]) hF) ?_
  refine ⟨0, ⟨rfl, rfl⟩, ?_⟩
  refine call_eq (v0 := none) (s0 := (35, z0, pt ρ 9 [2])) (fun F hF => tw_Goals_mk (ρ := pt ρ 9 [2]) (fun a b j h1 h2 => hp _ _ _ _ (by omega) (by omega) (by omega)) zrS_z (by rw [← pt_put (v := some (1, 2)) (hj 2)]) hF) ?_
  refine ⟨0, ⟨rfl, rfl⟩, ?_⟩
  refine call_eq (v0 := none) (s0 := (42, z0, pt ρ 9 [3, 2])) (fun F hF => tw_Choices_mk (ρ := pt ρ 9 [3, 2]) (fun a b j h1 h2 => hp _ _ _ _ (by omega) (by omega) (by omega)) zrS_z (by rw [← pt_put (v := some (10, 0)) (hj 3)]) hF) ?_
  refine ⟨0, ⟨rfl, rfl⟩, ?_⟩
  refine call_eq (v0 := none) (s0 := (46, z0, pt ρ 9 [4, 3, 2])) (fun F hF => tw_Kept_mk (ρ := pt ρ 9 [4, 3, 2]) (fun a b j h1 h2 => hp _ _ _ _ (by omega) (by omega) (by omega)) zrS_z (by rw [← pt_put (v := some (15, 0)) (hj 4)]) hF) ?_
  exact hF
def vl : Nat → List Nat
  | 0 => []
  | v + 1 => v :: vl v
/-- the mill but for its matcher, v variables made -/
def vW (v : Nat) : Rh := pt (pt r0 3 (vl v)) 0 [3, 2, 1, 0]
theorem vW_put {v : Nat} (hv : v < 8) : upR (vW v) 3 0 v (some (1, 3 + v)) = vW (v + 1) := by
  unfold vW
  rw [pt_up_in (by omega), pt_put (v := some (1, 3 + v)) (if_pos hv)]
  rfl
theorem vW_end : vW 8 = pt r0 0 [3, 2, 1, 0] := by
  unfold vW
  rw [pt_fin (ρ := r0) (a := 3) (fun j h => ?_)]
  by_cases h8 : j < 8
  · exact (by decide : ∀ j, j < 8 → hasN (vl 8) j = false → r0 3 0 j = none) j h8 h
  · exact if_neg h8
theorem vW_na {v a b j : Nat} (h0 : ¬ a = 0) (h3 : ¬ a = 3) : vW v a b j = r0 a b j := (pt_na h0).trans (pt_na h3)
theorem lp_vars (hK : Xz SL xs (m_Mill_init SL xs) F (73, [some (.inr (some (0, 0))), some (.inl 8)], [], (27, z0, vW 8), 26, 929)) : ∀ (m v : Nat), v + m = 8 → Xz SL xs (m_Mill_init SL xs) F (48, [some (.inr (some (0, 0))), some (.inl (v : Int))], [], (11 + 2 * v, z0, vW v), 10 + 2 * v, 401 + 66 * v) := by
  intro m
  induction m with
  | zero =>
    intro v hv
    have hv : v = 8 := by omega
    subst hv
    refine run 3 ?_
    exact And.intro (fun _ => leaf hK) (fun h => absurd (show (8 : Int) ≤ ((8 : Nat) : Int) by omega) h)
  | succ m ih =>
    intro v hv
    have K := ih (v + 1) (by omega)
    have hwi : wr ((v : Int) + 1) = ((v + 1 : Nat) : Int) := by rw [wr_eq ⟨by omega, by omega⟩]; omega
    rw [← hwi, ← vW_put (by omega)] at K
    refine run 14 ?_
    refine And.intro (fun h => ?_) (fun _ => ?_)
    · have h : (8 : Int) ≤ (v : Int) := h
      omega
    refine ⟨3 + v, ⟨?_, ?_⟩, cnd_in ?_ ?_⟩
    · simp [idq]; omega
    · show ad 1 (3 + v) = 11 + 2 * v
      have : ad 1 (3 + v) = adT (3 + v) := rfl
      rw [this]
      unfold adT
      rw [if_neg (by omega), if_neg (by omega), if_neg (by omega), if_pos (by omega)]
      omega
    · show (Nat.ble (10 + 2 * v + 1) 45 && Nat.ble (401 + 66 * v + 2) 82943) = true
      rw [Nat.ble_eq_true_of_le (by omega), Nat.ble_eq_true_of_le (by omega)]
      rfl
    refine cnd_in ?_ ?_
    · show (Nat.ble 3 8 && Nat.ble (10 + 2 * v + 1 + 1) 45 && Nat.ble (401 + 66 * v + 2 + 64) 82943) = true
      rw [Nat.ble_eq_true_of_le (show 3 ≤ 8 by omega), Nat.ble_eq_true_of_le (show 10 + 2 * v + 1 + 1 ≤ 45 by omega), Nat.ble_eq_true_of_le (show 401 + 66 * v + 2 + 64 ≤ 82943 by omega)]
      rfl
    refine call_eq (v0 := none) (s0 := (11 + 2 * v + 1 + 1, z0, vW v)) (fun F hF => tw_Text_mk (ρ := vW v) (b := 3 + v) (by omega) (fun j => vW_na (by omega) (by omega)) (fun j => vW_na (by omega) (by omega)) ?_ zrS_z rfl hF) ?_
    · show ad 2 (3 + v) = 11 + 2 * v + 1
      have : ad 2 (3 + v) = adT (3 + v) + 1 := rfl
      rw [this]
      unfold adT
      rw [if_neg (by omega), if_neg (by omega), if_neg (by omega), if_pos (by omega)]
      omega
    refine And.intro ⟨show (0 : Int) ≤ (v : Int) by omega, show (v : Int) < 8 by omega⟩ ?_
    exact leaf (by first | exact run 3 K | exact run 2 K)
theorem tw_Mill_mk (hσ : σ = z0) (hr : ρ' = zrR r0 0 0) (hF : F none (46, z0, r0)) : T_Mill_init SL xs [.inr (some (0, 0))] (1, σ, ρ') F := by
  subst hσ hr
  have e : upR (pt r0 0 [3, 2, 1, 0]) 0 0 4 (some (9, 0)) = r0 := by
    rw [pt_put (v := some (9, 0)) rfl]
    refine pt_fin (fun j h => ?_)
    by_cases h6 : j < 5
    · exact (by decide : ∀ j, j < 5 → hasN [4, 3, 2, 1, 0] j = false → r0 0 0 j = none) j h6 h
    · obtain ⟨m, rfl⟩ : ∃ m, j = m + 5 := ⟨j - 5, by omega⟩
      rfl
  have hp : ∀ L a b j, ¬ a = 0 → pt r0 0 L a b j = r0 a b j := fun L a b j h => pt_na h
  rw [← e] at hF
  have K73 : Xz SL xs (m_Mill_init SL xs) F (73, [some (.inr (some (0, 0))), some (.inl 8)], [], (27, z0, vW 8), 26, 929) := by
    rw [vW_end]
    refine run 12 ?_
    refine ⟨0, ⟨rfl, rfl⟩, ?_⟩
    refine call_eq (v0 := none) (s0 := (46, z0, pt r0 0 [3, 2, 1, 0])) (fun F hF => tw_Matcher_mk (ρ := pt r0 0 [3, 2, 1, 0]) (fun a b j h1 h2 => hp _ _ _ _ (by omega)) zrS_z rfl hF) ?_
    exact hF
  have K48 := lp_vars K73 8 0 rfl
  have e2 : upR (pt (pt r0 3 []) 0 [2, 1, 0]) 0 0 3 (some (4, 0)) = vW 0 := pt_put (v := some (4, 0)) rfl
  rw [← e2] at K48
  refine run 40 ?_
  refine call_eq (v0 := none) (s0 := (1, z0, zrR r0 0 0)) (fun F hF => hF) ?_
  refine ⟨0, ⟨rfl, rfl⟩, ?_⟩
  refine call_eq (v0 := none) (s0 := (3, z0, pt r0 0 [])) (fun F hF => tw_Text_mk (ρ := pt r0 0 []) (b := 0) (by omega) (fun j => hp _ _ _ _ (by omega)) (fun j => hp _ _ _ _ (by omega)) rfl zrS_z (by rw [pt_nil (ρ := r0) (a := 0)]) hF) ?_
  refine ⟨1, ⟨rfl, rfl⟩, ?_⟩
  refine call_eq (v0 := none) (s0 := (5, z0, pt r0 0 [0])) (fun F hF => tw_Text_mk (ρ := pt r0 0 [0]) (b := 1) (by omega) (fun j => hp _ _ _ _ (by omega)) (fun j => hp _ _ _ _ (by omega)) rfl zrS_z (by rw [← pt_put (ρ := r0) (j := 0) (v := some (1, 0)) rfl]) hF) ?_
  refine ⟨3, 0, 4, ⟨rfl, Or.inr ⟨rfl, rfl⟩, (by decide), rfl, rfl⟩, ?_⟩
  refine ⟨0, ⟨rfl, rfl⟩, ?_⟩
  refine call_eq (v0 := none) (s0 := (11, z0, pt (pt r0 3 []) 0 [2, 1, 0])) (fun F hF => tw_Nodes_mk (ρ := pt (pt r0 3 []) 0 [2, 1, 0]) (fun a b j h1 h2 => (pt_na (by omega)).trans (pt_na (by omega))) (by rw [zrS_z, zrS_z]) (by rw [← pt_put (ρ := pt r0 3 []) (j := 2) (v := some (3, 0)) rfl, ← pt_zr_in (by omega), ← pt_put (ρ := r0) (j := 1) (v := some (1, 1)) rfl]) hF) ?_
  exact leaf (run 3 K48)
def E0 : Ev := (fun _ => 0, fun _ => 0, fun _ => 0, fun _ => [], [], 0)
theorem RR0 : RR 65 z0 (fun _ => none) (fun j => decide (j < 0)) 0 [] (fun _ => []) E0 :=
  ⟨⟨rfl, by omega, Nat.le_refl _, rfl⟩, ⟨tl_nil rfl, tl_nil rfl, by simp, byt_nil⟩, ⟨fun v _ => ⟨tl_nil rfl, by simp⟩, fun v _ => ⟨tl_nil rfl, by simp⟩, fun v _ => byt_nil⟩, ⟨⟨rfl, fun k hk => absurd hk (Nat.not_lt_zero _)⟩, ⟨rfl, fun k hk => absurd hk (Nat.not_lt_zero _)⟩, ⟨Nat.zero_le _, Nat.zero_le _, fun k hk => absurd hk (Nat.not_lt_zero _)⟩, rfl⟩, Or.inl ⟨rfl, rfl⟩⟩
theorem law_true (hL : SL ≤ 2048) (hxs : ∀ j, rng (xs j)) : Xz SL xs (m_Law_law SL xs) (fun v _ => v = some (.inl 1)) (0, entL [.inr (some (47, 0))] 4, [], (0, (fun _ _ _ => 0), r0), 0, 0) := by
  have K := lw_loop hL hxs 513 0 rfl 65 z0 _ _ 0 [] _ E0 65 114980 RR0 (by omega) (by omega)
  have K : Xz SL xs (m_Law_law SL xs) (fun v _ => v = some (.inl 1)) (18, [some (.inr (some (47, 0))), some (.inr (some (0, 0))), some (.inr (some (26, 0))), some (.inl 0)], [], (65, z0, r0), 65, 114980) := K
  refine run 20 ?_
  refine ⟨0, ⟨rfl, rfl⟩, ?_⟩
  refine call_eq (v0 := none) (s0 := (46, z0, r0)) (fun F hF => tw_Mill_mk zrS_z rfl hF) ?_
  refine ⟨0, ⟨rfl, rfl⟩, ?_⟩
  refine call_eq (v0 := none) (s0 := (65, z0, r0)) (fun F hF => tw_Model_mk (ρ := r0) (fun a b j _ _ => rfl) zrS_z rfl hF) ?_
  exact leaf (by first | exact run 3 K | exact run 2 K)
end
end
section
theorem whole_start {p : Program} {e : Env} {s : State} {m : MethodId} {below : List Frame} {meth : Method} {c : Code} (l : Launch) {b L : Nat} {xs : Nat → Int32} (hL : L ≤ 2048) (C0 : lw_At p s m meth c b L xs) : W p l e room_1 s m #[Value.ref b] below meth c s.heap [] 0 0 (lw_Z below #[Value.ref b] s) (entryFrame m ([Value.ref b] : List Value).toArray 4) := start_W l r0 hL C0 (law_true hL (fun j => rng_32 _))
set_option maxHeartbeats 4000000 in
theorem lw_walk (l : Launch) (b : Addr) (xs : List Int32) : MetFree l x (headSpec (Jvm.Cond.code x code maxLocals ret :: tables_1) room_1) (lw_P b xs) (fun _ _ _ _ _ => True) lw_Q := by
  refine MetFree.of_bodyS (code := code) (maxLocals := maxLocals) (ret := ret) (by decide) ?_ ?_
  · intro args s m h hn
    obtain ⟨meth, c, h1, h2, h3, h4, h5, h6, -, -⟩ := Cond.code_spec hn (atoms_spec (ws := Jvm.Cond.code x code maxLocals ret :: tables_1) h _ List.mem_cons_self)
    exact ⟨meth, c, h1, h2, h3, h4, h5, h6⟩
  · intro p e s m args below meth c s₁ B hml0 hP _
    obtain ⟨rfl, hx, hbd, hgv⟩ := hP
    obtain ⟨scr, harrAt, hlist, hof, hsmall⟩ := hx
    obtain ⟨hcb, hkn, -, -⟩ := State.arrayAt?_spec harrAt
    have hown : s.vm.findClass R_law = some m.cls := findClass_of_methodNamed B.named
    have hts0 : ∀ c ∈ (Jvm.Cond.code x code maxLocals ret :: tables_1), c.before #[Value.ref b] s = true := atoms_spec (ws := Jvm.Cond.code x code maxLocals ret :: tables_1) B.pre
    have hts : ∀ w ∈ lw_tbl, w.before #[Value.ref b] s = true := k2_hts_sels lw_privs (fun w hw => hts0 w (List.mem_cons_of_mem _ hw)) lw_privs_ok
    have hml : c.maxLocals = 4 := B.maxLocals_eq (hts0 _ List.mem_cons_self)
    have X₀ : Stand p l e room_1 s m #[Value.ref b] below meth c s₁ [] 0 0 := Stand.of_body B
    have hh0 : s₁.heap = s.heap := by rw [B.state]; rfl
    have hsz : scr.slots.size = xs.length := by rw [← Array.length_toList, hlist, List.length_map]
    have hval : ∀ j : Nat, j < xs.length → scr.slots[j]? = some (.int (xs.getD j 0)) := fun j hj => by
      rw [← Array.getElem?_toList, hlist]
      simp [hj]
    have hbl : b < s.heap.size := (Array.getElem?_eq_some_iff.mp hcb).1
    have hX : va_X b xs.length (fun j => xs.getD j 0) s s.heap := ⟨scr, hcb, hof, hkn, hsz, hval⟩
    have K : W p l e room_1 s m #[Value.ref b] below meth c s₁.heap [] 0 0 (lw_Z below #[Value.ref b] s) (entryFrame m ([Value.ref b] : List Value).toArray 4) := by
      rw [hh0]
      exact whole_start l hbd ⟨B.exec, B.bytes, B.returns, hml, hown, hts, hX, hbl, B.notSynchronized, hgv⟩
    obtain ⟨t, a1, o, b1, b2, b3⟩ := K s₁ rfl X₀
    exact ⟨t, o, a1, b1, b2, b3⟩
theorem lw_pre_spec {args : Array Value} {s : State} (h : (Jvm.Cond.and given_1 narrow_1).before args s = true) (hr : rest_1_c.before args s = true) : ∃ (b : Addr) (xs : List Int32), lw_P b xs args s := by
  have hs := flat_of_before _ h
  have hq := flat_of_before _ hr
  have hc : (Cond.count 1).before args s = true := hs _ (by decide +kernel)
  have harr : (Cond.arrayOf (.arg 0) .int).before args s = true := hs _ (by decide +kernel)
  have hle : (Cond.le (.length (.arg 0)) (.int 2048)).before args s = true := hs _ (by decide +kernel)
  have hlen : (Cond.isInt (.length (.arg 0))).before args s = true := hq _ (by decide +kernel)
  have hall : (Cond.all (.arg 0) (.isInt (.elem (.arg 0) (.index 0)))).before args s = true := hq _ (by decide +kernel)
  obtain ⟨b, xs, hb, hx⟩ := State.ints_of_pre rfl harr hlen hall
  have hsm : xs.length < 2 ^ 31 := hx.choose_spec.2.2.2
  have hev : (Term.length (.arg 0)).eval args s none [] s = some (.int xs.length.toInt32) := hx.length_eval hb
  have hv := Cond.le_ints hev (show (Term.int 2048).eval args s none [] s = some (.int 2048) from rfl)
  have hd : xs.length.toInt32 ≤ 2048 := by
    simpa [Cond.before, Cond.holds, hv] using hle
  have hN : xs.length ≤ 2048 := (Int32.ofNat_le_ofNat hsm (by decide)).mp (show Int32.ofNat xs.length ≤ Int32.ofNat 2048 from hd)
  exact ⟨b, xs, Cond.one_arg hc (show args[0]? = some (.ref b) from hb), hx, hN, h⟩
theorem lw_comes (l : Launch) : Comes l x (Jvm.Cond.code x code maxLocals ret :: tables_1) room_1 (fun tb e args s => Calls_1 tb e args s ∧ rest_1 tb e args s ∧ Pre_1 tb e args s)
    (fun _ _ args s o t => lw_Q args s o t) := by
  intro p e ha hc hk s m args below hf hfit hheap happ hpre
  obtain ⟨b, xs, hP⟩ := lw_pre_spec hpre.2.2 hpre.2.1
  obtain ⟨k, o, h1, h2, h3, hQ⟩ := lw_walk l b xs p e ha hc hk s m args below hf ((Spec.applies_iff_loose hf).mp happ).1 hP trivial
  exact ⟨k, o, h1, h2, h3, hQ⟩
theorem lw_frame {s t : State} {o : Outcome} {args : Array Value} (h : Framed s o t [] 600000 7302250) :
    Framed s o t (fieldLocs frame_1_writes args s ++ arrayLocs frame_1_arrays args s ++ staticLocs frame_1_statics s) 600000 7302250 := h
theorem lw_limb (L : Cond) (hL : ∀ (args : Array Value) (s t : State), L.after args s (.returned (some (.int 1))) t = true) :
    ArmFor flags0 classFile x code maxLocals ret World_1 tables_1 room_1 Calls_1 rest_1 Pre_1
      (fun tb e a s o t => postC L tb e a s o t ∧ Framed s o t (fieldLocs frame_1_writes a s ++ arrayLocs frame_1_arrays a s ++ staticLocs frame_1_statics s) 600000 7302250) := by
  intro l _ _ _ p e ha hc hk s m args below hf hfit hheap happ hpre
  obtain ⟨k, o, h1, h2, h3, rfl, hF⟩ := lw_comes l p e ha hc hk s m args below hf hfit hheap happ hpre
  exact ⟨k, _, h1, h2, h3, hL args s _, lw_frame hF⟩
theorem i_vc : Claimed_1_1 ∧ Claimed_1_2 := ⟨lw_limb limb_1_1 (fun args s t => by simp [limb_1_1, Cond.after, Cond.holds, Cond.value]), lw_limb limb_1_2 (fun args s t => Cond.after_iff.mpr (by
  first | (rw [show limb_1_2 = Cond.eq .result (.int 1) from rfl, Cond.eq_ints (x := 1) (y := 1) rfl rfl]; simp; done) | (simp [limb_1_2, Cond.value, Term.eval]; done)))⟩
end
