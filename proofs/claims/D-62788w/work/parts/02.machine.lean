/-! A small machine over the bytecode: values are mathematical integers (in the range of int) or references (a number of a class, a copy); one step as a predicate transformer; its least fixed point. -/
abbrev Rf : Type := Option (Nat × Nat)
abbrev Av : Type := Int ⊕ Rf
abbrev Sg : Type := Nat → Nat → Nat → Int
abbrev Rh : Type := Nat → Nat → Nat → Rf
/-- cells made so far, what the int places hold, what the reference places hold -/
abbrev St : Type := Nat × Sg × Rh
/-- an instruction, the pc behind it, its target (a switch: the default), a switch's cases -/
abbrev En : Type := Instr × Nat × Nat × List (Int × Nat)
def lk {α : Type} : List (Nat × α) → Nat → Option α
  | [], _ => none
  | q :: r, i => bif Nat.beq q.1 i then some q.2 else lk r i
def wr (x : Int) : Int := (Int32.ofInt x).toInt
def w_and (x y : Int) : Int := (Int32.ofInt x &&& Int32.ofInt y).toInt
def w_or (x y : Int) : Int := (Int32.ofInt x ||| Int32.ofInt y).toInt
def w_div (x y : Int) : Int := (Int32.ofInt x / Int32.ofInt y).toInt
def w_rem (x y : Int) : Int := (Int32.ofInt x - Int32.ofInt x / Int32.ofInt y * Int32.ofInt y).toInt
def b8 (x : Int) : Int := ((Int32.ofInt x).toInt8.toInt32).toInt
def rng (x : Int) : Prop := -2147483648 ≤ x ∧ x < 2147483648
def upS (f : Sg) (a b j : Nat) (v : Int) : Sg := fun a' b' j' => if a' = a ∧ b' = b ∧ j' = j then v else f a' b' j'
def upR (f : Rh) (a b j : Nat) (v : Rf) : Rh := fun a' b' j' => if a' = a ∧ b' = b ∧ j' = j then v else f a' b' j'
/-- a cell's places as they are at first -/
def zrS (f : Sg) (a b : Nat) : Sg := fun a' b' j' => if a' = a ∧ b' = b then 0 else f a' b' j'
def zrR (f : Rh) (a b : Nat) : Rh := fun a' b' j' => if a' = a ∧ b' = b then none else f a' b' j'
/-- a run of places copied -/
def cpS (f : Sg) (a b i a1 b1 i1 n : Nat) : Sg := fun a' b' j' => if a' = a1 ∧ b' = b1 ∧ i1 ≤ j' ∧ j' < i1 + n then f a b (i + (j' - i1)) else f a' b' j'
/-! what the numbers of classes mean: an object of a class of the list 'classes', or an array (kind 0 int, 1 byte, 2 boolean, 3 of Kind, 4 of Text; its length) -/
def shpL : List (Nat ⊕ (Nat × Nat)) := [.inl 0, .inl 1, .inr (1, 64), .inr (4, 8), .inl 2, .inr (3, 64), .inr (0, 64), .inr (0, 64), .inr (4, 64), .inl 3,
  .inl 4, .inr (1, 8192), .inr (0, 8192), .inr (0, 8192), .inr (0, 8192), .inl 5, .inr (1, 4096), .inr (0, 4096), .inr (0, 4096), .inr (0, 4096), .inr (0, 4096), .inr (0, 4096),
  .inl 6, .inr (0, 8192), .inr (0, 8192), .inr (0, 8192), .inl 7, .inr (1, 64), .inr (1, 512), .inr (0, 8), .inr (0, 64), .inr (0, 64), .inr (0, 64), .inr (1, 4096), .inr (0, 64), .inr (1, 64),
  .inr (0, 3000), .inr (0, 3000), .inr (0, 3000), .inr (0, 3000), .inr (0, 3000), .inr (0, 3000), .inr (2, 3000), .inr (0, 3000), .inr (0, 3000), .inl 8]
def nth {α : Type} : List α → Nat → Option α
  | [], _ => none
  | q :: _, 0 => some q
  | _ :: r, i + 1 => nth r i
def shp (a : Nat) : Nat ⊕ (Nat × Nat) := match nth shpL a with
  | some x => x
  | none => .inl 99
/-- the number of the class of which objects of the i-th class are -/
def oaL : List Nat := [0, 1, 4, 9, 10, 15, 22, 26]
/-- fields that hold references -/
def frL : List (List Nat) := [[1, 1, 1, 1, 1, 2], [1, 0], [1, 1, 1, 1, 0], [1, 1, 1, 1, 1, 1, 0, 0, 0, 0, 0, 0], [1, 1, 1, 1, 0], [1, 1, 1, 1, 1, 1, 0], [1, 1, 1, 0],
  [0, 1, 0, 1, 1, 0, 1, 1, 1, 1, 1, 2, 0, 0, 0, 1, 0, 1, 1, 1, 1, 1, 1, 1, 1, 0, 0, 0, 2, 2, 1]]
/-- a field's kind: 0 an int, 1 a reference, 2 a boolean -/
def fk (ci j : Nat) : Nat := ((nth frL ci).bind (fun l => nth l j)).getD 9
/-- where cells stand, by the order in which they are made -/
def adL : List Nat := [0, 0, 0, 5, 6, 7, 8, 9, 10, 27, 30, 31, 32, 33, 34, 35, 36, 37, 38, 39, 40, 41, 42, 43, 44, 45, 46, 47, 48, 49, 50, 51, 52, 53, 54, 55, 56, 57, 58, 59, 60, 61, 62, 63, 64]
def adT (b : Nat) : Nat := if b = 0 then 1 else if b = 1 then 3 else if b = 2 then 28 else if b < 11 then 5 + 2 * b else 43 + 2 * b
def ad (a b : Nat) : Nat := if a = 1 then adT b else if a = 2 then adT b + 1 else (nth adL a).getD 0
/-- a cell of ours -/
def idq (a b : Nat) : Bool := if a = 1 ∨ a = 2 then decide (b < 75) else decide (a < 45 ∧ b = 0)
def idL : List (Nat × Nat) := [(0, 0), (1, 0), (2, 0), (1, 1), (2, 1), (3, 0), (4, 0), (5, 0), (6, 0), (7, 0), (8, 0), (1, 3), (2, 3), (1, 4), (2, 4), (1, 5), (2, 5), (1, 6), (2, 6), (1, 7), (2, 7), (1, 8), (2, 8), (1, 9), (2, 9), (1, 10), (2, 10), (9, 0), (1, 2), (2, 2),
  (10, 0), (11, 0), (12, 0), (13, 0), (14, 0), (15, 0), (16, 0), (17, 0), (18, 0), (19, 0), (20, 0), (21, 0), (22, 0), (23, 0), (24, 0), (25, 0), (26, 0), (27, 0), (28, 0), (29, 0), (30, 0), (31, 0), (32, 0), (33, 0), (34, 0), (35, 0), (36, 0), (37, 0), (38, 0), (39, 0), (40, 0), (41, 0), (42, 0), (43, 0), (44, 0)]
def idof (k : Nat) : Nat × Nat := if k < 65 then (nth idL k).getD (0, 0) else if (k - 65) % 2 = 0 then (1, 11 + (k - 65) / 2) else (2, 11 + (k - 65) / 2)
theorem idof_ad1 : ∀ b, b < 75 → idof (ad 1 b) = (1, b) ∧ idof (ad 2 b) = (2, b) := by decide +kernel
theorem idof_ad0 : ∀ a, a < 45 → idq a 0 = true → idof (ad a 0) = (a, 0) := by decide +kernel
theorem idof_ad {a b : Nat} (h : idq a b = true) : idof (ad a b) = (a, b) := by
  by_cases h1 : a = 1
  · subst h1
    exact (idof_ad1 b (by simpa [idq] using h)).1
  · by_cases h2 : a = 2
    · subst h2
      exact (idof_ad1 b (by simpa [idq] using h)).2
    · have h3 : a < 45 ∧ b = 0 := by simpa [idq, h1, h2] using h
      obtain ⟨h4, rfl⟩ := h3
      exact idof_ad0 a h4 h
/-! the constants of Kind: text, first, second, ordinal -/
def kF (j i : Nat) : Int := match j with
  | 0 => if i < 5 then 1 else 0
  | 1 => ([0, 0, 0, 0, 0, 1, 1, 1, 1, 1, 0, 0, 0, 0, 0, 0, 2, 2, 2, 2, 2, 3, 3, 4] : List Int).getD i 0
  | 2 => ([0, 0, 0, 0, 0, 0, 0, 0, 0, 0, 0, 0, 0, 0, 0, 0, 0, 2, 2, 3, 3, 0, 0, 0] : List Int).getD i 0
  | _ => i
/-- a switch -/
def swt (x : Int) (P : Nat → Prop) (d : Nat) : List (Int × Nat) → Prop
  | [] => P d
  | (k, t) :: r => (x = k → P t) ∧ (¬ x = k → swt x P d r)
abbrev Tr : Type := List Av → St → (Option Av → St → Prop) → Prop
/-- a call: how many values it takes (the object too), cells and slots that it may make, what it does -/
abbrev Cs : Type := Nat → Option (Nat × Nat × Nat × Tr)
/-- pc, locals, stack, state, cells and slots made so far -/
abbrev Cf : Type := Nat × List (Option Av) × List Av × St × Nat × Nat
def popn : Nat → List Av → List Av → Option (List Av × List Av)
  | 0, acc, st => some (acc, st)
  | _ + 1, _, [] => none
  | n + 1, acc, v :: r => popn n (v :: acc) r
def cnd (c : ClassFile.Cond) (x y : Int) : Prop := match c with
  | .eq => x = y
  | .ne => ¬ x = y
  | .lt => x < y
  | .ge => y ≤ x
  | .gt => y < x
  | .le => x ≤ y
def atk : ArrayType → Nat
  | .int => 0
  | .byte => 1
  | .boolean => 2
  | _ => 9
/-- fields by the class that links them and the place of the link: the class, the field -/
abbrev Fl : Type := Nat → Option (Nat × Nat)
/-- a method: its fields' links, its classes' links, statics' links (what they hold), code, calls; locals; cells and slots that it may make; a constructor of which class (99: none); its answer (0 none, 1 int, 2 boolean) -/
abbrev Me : Type := Fl × (Nat → Option Nat) × (Nat → Option (Nat × Nat)) × (Nat → Option En) × Cs × Nat × Nat × Nat × Nat × Nat
section
variable (SL : Nat) (xs : Nat → Int)
def stp (M : Me) (F : Option Av → St → Prop) (P : Cf → Prop) (c : Cf) : Prop :=
  match M with
  | (fl, kl, sl, code, cs, nL, MC, MS, ini, rt) =>
  match c with
  | (pc, lv, st, s, kc, ks) =>
  match code pc with
  | none => False
  | some (i, nx, tg, cas) =>
  match i with
  | .iconst n => P (nx, lv, .inl n :: st, s, kc, ks)
  | .bipush n => P (nx, lv, .inl n :: st, s, kc, ks)
  | .sipush n => P (nx, lv, .inl n :: st, s, kc, ks)
  | .iload_n k => match nth lv k.val with
    | some (some (.inl x)) => P (nx, lv, .inl x :: st, s, kc, ks)
    | _ => False
  | .iload k => match nth lv k with
    | some (some (.inl x)) => P (nx, lv, .inl x :: st, s, kc, ks)
    | _ => False
  | .aload_n k => match nth lv k.val with
    | some (some (.inr x)) => P (nx, lv, .inr x :: st, s, kc, ks)
    | _ => False
  | .aload k => match nth lv k with
    | some (some (.inr x)) => P (nx, lv, .inr x :: st, s, kc, ks)
    | _ => False
  | .istore_n k => match st with
    | .inl x :: r => bif Nat.blt k.val nL then P (nx, lv.set k.val (some (.inl x)), r, s, kc, ks) else False
    | _ => False
  | .istore k => match st with
    | .inl x :: r => bif Nat.blt k nL then P (nx, lv.set k (some (.inl x)), r, s, kc, ks) else False
    | _ => False
  | .astore_n k => match st with
    | .inr x :: r => bif Nat.blt k.val nL then P (nx, lv.set k.val (some (.inr x)), r, s, kc, ks) else False
    | _ => False
  | .astore k => match st with
    | .inr x :: r => bif Nat.blt k nL then P (nx, lv.set k (some (.inr x)), r, s, kc, ks) else False
    | _ => False
  | .iinc k n => match nth lv k with
    | some (some (.inl x)) => bif Nat.blt k nL then P (nx, lv.set k (some (.inl (wr (x + n)))), st, s, kc, ks) else False
    | _ => False
  | .iadd => match st with
    | .inl y :: .inl x :: r => P (nx, lv, .inl (wr (x + y)) :: r, s, kc, ks)
    | _ => False
  | .isub => match st with
    | .inl y :: .inl x :: r => P (nx, lv, .inl (wr (x - y)) :: r, s, kc, ks)
    | _ => False
  | .imul => match st with
    | .inl y :: .inl x :: r => P (nx, lv, .inl (wr (x * y)) :: r, s, kc, ks)
    | _ => False
  | .idiv => match st with
    | .inl y :: .inl x :: r => ¬ y = 0 ∧ P (nx, lv, .inl (w_div x y) :: r, s, kc, ks)
    | _ => False
  | .irem => match st with
    | .inl y :: .inl x :: r => ¬ y = 0 ∧ P (nx, lv, .inl (w_rem x y) :: r, s, kc, ks)
    | _ => False
  | .iand => match st with
    | .inl y :: .inl x :: r => P (nx, lv, .inl (w_and x y) :: r, s, kc, ks)
    | _ => False
  | .ior => match st with
    | .inl y :: .inl x :: r => P (nx, lv, .inl (w_or x y) :: r, s, kc, ks)
    | _ => False
  | .i2b => match st with
    | .inl x :: r => P (nx, lv, .inl (b8 x) :: r, s, kc, ks)
    | _ => False
  | .dup => match st with
    | v :: r => P (nx, lv, v :: v :: r, s, kc, ks)
    | _ => False
  | .goto _ => P (tg, lv, st, s, kc, ks)
  | .ifCond cd _ => match st with
    | .inl x :: r => (cnd cd x 0 → P (tg, lv, r, s, kc, ks)) ∧ (¬ cnd cd x 0 → P (nx, lv, r, s, kc, ks))
    | _ => False
  | .if_icmp cd _ => match st with
    | .inl y :: .inl x :: r => (cnd cd x y → P (tg, lv, r, s, kc, ks)) ∧ (¬ cnd cd x y → P (nx, lv, r, s, kc, ks))
    | _ => False
  | .ifnonnull _ => match st with
    | .inr x :: r => (¬ x = none → P (tg, lv, r, s, kc, ks)) ∧ (x = none → P (nx, lv, r, s, kc, ks))
    | _ => False
  | .if_acmp .ne _ => match st with
    | .inr (some (a1, b1)) :: .inr (some (a, b)) :: r => bif Nat.beq a1 45 && Nat.beq a 45 then ((¬ b = b1 → P (tg, lv, r, s, kc, ks)) ∧ (b = b1 → P (nx, lv, r, s, kc, ks))) else False
    | _ => False
  | .tableswitch _ _ _ _ => match st with
    | .inl x :: r => swt x (fun t => P (t, lv, r, s, kc, ks)) tg cas
    | _ => False
  | .lookupswitch _ _ => match st with
    | .inl x :: r => swt x (fun t => P (t, lv, r, s, kc, ks)) tg cas
    | _ => False
  | .getfield k => match st with
    | .inr (some (a, b)) :: r => match fl k with
      | some (ci, j) => match shp a with
        | .inl cj => bif Nat.beq ci cj then (bif Nat.beq ci 8 then P (nx, lv, .inl (kF j b) :: r, s, kc, ks) else
            match fk ci j with
            | 1 => P (nx, lv, .inr (s.2.2 a b j) :: r, s, kc, ks)
            | _ => P (nx, lv, .inl (s.2.1 a b j) :: r, s, kc, ks)) else False
        | _ => False
      | _ => False
    | _ => False
  | .putfield k => match st with
    | .inl x :: .inr (some (a, b)) :: r => match fl k with
      | some (ci, j) => match shp a with
        | .inl cj => bif Nat.beq ci cj then
            match fk ci j with
            | 0 => P (nx, lv, r, (s.1, upS s.2.1 a b j x, s.2.2), kc, ks)
            | 2 => (x = 0 ∨ x = 1) ∧ P (nx, lv, r, (s.1, upS s.2.1 a b j x, s.2.2), kc, ks)
            | _ => False else False
        | _ => False
      | _ => False
    | .inr x :: .inr (some (a, b)) :: r => match fl k with
      | some (ci, j) => match shp a with
        | .inl cj => bif Nat.beq ci cj && Nat.beq ini ci then
            match fk ci j with
            | 1 => P (nx, lv, r, (s.1, s.2.1, upR s.2.2 a b j x), kc, ks)
            | _ => False else False
        | _ => False
      | _ => False
    | _ => False
  | .getstatic k => match sl k with
    | some q => P (nx, lv, .inr (some q) :: st, s, kc, ks)
    | none => False
  | .iaload => match st with
    | .inl x :: .inr (some (a, b)) :: r => bif Nat.beq a 47 then ((0 ≤ x ∧ x < SL) ∧ P (nx, lv, .inl (xs x.toNat) :: r, s, kc, ks)) else
      match shp a with
      | .inr (0, n) => (0 ≤ x ∧ x < n) ∧ P (nx, lv, .inl (s.2.1 a b x.toNat) :: r, s, kc, ks)
      | _ => False
    | _ => False
  | .baload => match st with
    | .inl x :: .inr (some (a, b)) :: r => match shp a with
      | .inr (1, n) => (0 ≤ x ∧ x < n) ∧ P (nx, lv, .inl (s.2.1 a b x.toNat) :: r, s, kc, ks)
      | .inr (2, n) => (0 ≤ x ∧ x < n) ∧ P (nx, lv, .inl (s.2.1 a b x.toNat) :: r, s, kc, ks)
      | _ => False
    | _ => False
  | .aaload => match st with
    | .inl x :: .inr (some (a, b)) :: r => bif Nat.beq a 46 then ((0 ≤ x ∧ x < 24) ∧ P (nx, lv, .inr (some (45, x.toNat)) :: r, s, kc, ks)) else
      match shp a with
      | .inr (3, n) => (0 ≤ x ∧ x < n) ∧ P (nx, lv, .inr (s.2.2 a b x.toNat) :: r, s, kc, ks)
      | .inr (4, n) => (0 ≤ x ∧ x < n) ∧ P (nx, lv, .inr (s.2.2 a b x.toNat) :: r, s, kc, ks)
      | _ => False
    | _ => False
  | .iastore => match st with
    | .inl v :: .inl x :: .inr (some (a, b)) :: r => match shp a with
      | .inr (0, n) => (0 ≤ x ∧ x < n) ∧ P (nx, lv, r, (s.1, upS s.2.1 a b x.toNat v, s.2.2), kc, ks)
      | _ => False
    | _ => False
  | .bastore => match st with
    | .inl v :: .inl x :: .inr (some (a, b)) :: r => match shp a with
      | .inr (1, n) => (0 ≤ x ∧ x < n) ∧ P (nx, lv, r, (s.1, upS s.2.1 a b x.toNat (b8 v), s.2.2), kc, ks)
      | .inr (2, n) => (0 ≤ x ∧ x < n) ∧ (v = 0 ∨ v = 1) ∧ P (nx, lv, r, (s.1, upS s.2.1 a b x.toNat v, s.2.2), kc, ks)
      | _ => False
    | _ => False
  | .aastore => match st with
    | .inr (some (a1, b1)) :: .inl x :: .inr (some (a, b)) :: r => match shp a with
      | .inr (3, n) => bif Nat.beq a1 45 then ((0 ≤ x ∧ x < n) ∧ P (nx, lv, r, (s.1, s.2.1, upR s.2.2 a b x.toNat (some (a1, b1))), kc, ks)) else False
      | .inr (4, n) => bif Nat.beq a1 1 then ((0 ≤ x ∧ x < n) ∧ P (nx, lv, r, (s.1, s.2.1, upR s.2.2 a b x.toNat (some (a1, b1))), kc, ks)) else False
      | _ => False
    | _ => False
  | .arraylength => match st with
    | .inr (some (a, _)) :: r => bif Nat.beq a 47 then P (nx, lv, .inl SL :: r, s, kc, ks) else bif Nat.beq a 46 then P (nx, lv, .inl 24 :: r, s, kc, ks) else False
    | _ => False
  | .new k => match kl k with
    | some ci => match nth oaL ci, nth frL ci with
      | some a, some l => ∃ b, (idq a b = true ∧ ad a b = s.1) ∧ bif Nat.ble (kc + 1) MC && Nat.ble (ks + l.length) MS then P (nx, lv, .inr (some (a, b)) :: st, (s.1 + 1, zrS s.2.1 a b, zrR s.2.2 a b), kc + 1, ks + l.length) else False
      | _, _ => False
    | none => False
  | .newarray ty => match st with
    | .inl n :: r => ∃ a b, (shp a = .inr (atk ty, n.toNat) ∧ 0 ≤ n ∧ idq a b = true ∧ ad a b = s.1) ∧ bif Nat.ble (kc + 1) MC && Nat.ble (ks + n.toNat) MS then P (nx, lv, .inr (some (a, b)) :: r, (s.1 + 1, zrS s.2.1 a b, zrR s.2.2 a b), kc + 1, ks + n.toNat) else False
    | _ => False
  | .anewarray k => match st with
    | .inl n :: r => match kl k with
      | some ci => ∃ a b t, (shp a = .inr (t, n.toNat) ∧ ((ci = 8 ∧ t = 3) ∨ (ci = 1 ∧ t = 4)) ∧ 0 ≤ n ∧ idq a b = true ∧ ad a b = s.1) ∧ bif Nat.ble (kc + 1) MC && Nat.ble (ks + n.toNat) MS then P (nx, lv, .inr (some (a, b)) :: r, (s.1 + 1, zrS s.2.1 a b, zrR s.2.2 a b), kc + 1, ks + n.toNat) else False
      | none => False
    | _ => False
  | .invokevirtual k => match cs k with
    | some (n, mc, ms, T) => match popn n [] st with
      | some (av, r) => bif Nat.ble r.length 8 && Nat.ble (kc + mc) MC && Nat.ble (ks + ms) MS then
          (∃ Y : Option Av → St → Prop, T av s Y ∧ ∀ v s', Y v s' → P (nx, lv, v.toList ++ r, s', kc + mc, ks + ms)) else False
      | none => False
    | none => False
  | .invokespecial k => match cs k with
    | some (n, mc, ms, T) => match popn n [] st with
      | some (av, r) => bif Nat.ble r.length 8 && Nat.ble (kc + mc) MC && Nat.ble (ks + ms) MS then
          (∃ Y : Option Av → St → Prop, T av s Y ∧ ∀ v s', Y v s' → P (nx, lv, v.toList ++ r, s', kc + mc, ks + ms)) else False
      | none => False
    | none => False
  | .invokestatic k => match cs k with
    | some (n, mc, ms, T) => match popn n [] st with
      | some (av, r) => bif Nat.ble r.length 8 && Nat.ble (kc + mc) MC && Nat.ble (ks + ms) MS then
          (∃ Y : Option Av → St → Prop, T av s Y ∧ ∀ v s', Y v s' → P (nx, lv, v.toList ++ r, s', kc + mc, ks + ms)) else False
      | none => False
    | none => False
  | .ireturn => match st with
    | [.inl x] => match rt with
      | 1 => F (some (.inl x)) s
      | 2 => (x = 0 ∨ x = 1) ∧ F (some (.inl x)) s
      | _ => False
    | _ => False
  | .return_ => match st with
    | [] => match rt with
      | 0 => F none s
      | _ => False
    | _ => False
  | _ => False
end
