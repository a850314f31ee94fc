/-! What matching is, without any program: goals, choices, kept texts as lists -/
def scanB (f : Int → Bool) (S : List Int) : Nat → Nat → Nat
  | 0, k => k
  | m + 1, k => if f (S.getD k 0) = true then scanB f S m (k + 1) else k
def spn (l S : List Int) (p : Nat) : Nat := scanB (fun x => decide (x ∈ l)) S (S.length - p) p
def brk (l S : List Int) (p : Nat) : Nat := scanB (fun x => !decide (x ∈ l)) S (S.length - p) p
def brc (x : Int) : Int := if x = 40 then 1 else if x = 41 then -1 else 0
def balF (S : List Int) : Nat → Int → Nat → Option Nat
  | 0, _, _ => none
  | m + 1, d, p => if d + brc (S.getD p 0) < 0 then none else if 0 < d + brc (S.getD p 0) then balF S m (d + brc (S.getD p 0)) (p + 1) else some (p + 1)
def balN (S : List Int) (p : Nat) : Option Nat := balF S (S.length - p) 0 p
def dig (n : Nat) : List Int := if 9 < n then [((48 + n / 10 : Nat) : Int), ((48 + n % 10 : Nat) : Int)] else [((48 + n % 10 : Nat) : Int)]
abbrev Gl : Type := Nat × Nat × Nat
abbrev Kp : Type := Nat × Nat × Nat
abbrev Ch : Type := Nat × Nat × List Gl × List Kp
abbrev Nu : Type := Nat → List Int
/-- nodes' kinds, firsts, seconds, words; the subject; how many nodes -/
abbrev Ev : Type := (Nat → Nat) × (Nat → Nat) × (Nat → Nat) × (Nat → List Int) × List Int × Nat
abbrev ekd (E : Ev) (k : Nat) : Nat := E.1 k
abbrev efa (E : Ev) (k : Nat) : Nat := E.2.1 k
abbrev efb (E : Ev) (k : Nat) : Nat := E.2.2.1 k
abbrev ewd (E : Ev) (k : Nat) : List Int := E.2.2.2.1 k
abbrev esb (E : Ev) : List Int := E.2.2.2.2.1
abbrev ect (E : Ev) : Nat := E.2.2.2.2.2
def upN (ν : Nu) (v : Nat) (l : List Int) : Nu := fun w => if w = v then l else ν w
/-- a state: 0 a node begins, 1 going back, 2 the goals are done; node, place, goals, choices, kept, variables, steps -/
abbrev As : Type := Nat × Nat × Nat × List Gl × List Ch × List Kp × Nu × Nat
abbrev BS (k p : Nat) (g : List Gl) (c : List Ch) (q : List Kp) (ν : Nu) (n : Nat) : As := (0, k, p, g, c, q, ν, n)
abbrev KS (c : List Ch) (ν : Nu) (n : Nat) : As := (1, 0, 0, [], c, [], ν, n)
abbrev GS (p : Nat) (g : List Gl) (c : List Ch) (q : List Kp) (ν : Nu) (n : Nat) : As := (2, 0, p, g, c, q, ν, n)
/-- a node that needs no others and leaves no choice: where it succeeds -/
def plA (E : Ev) (ν : Nu) (k p : Nat) : Option Nat := match ekd E k with
  | 0 => if (esb E).drop p |>.take (ewd E k).length |> (· = ewd E k) then some (p + (ewd E k).length) else none
  | 1 => if p < (esb E).length ∧ (esb E).getD p 0 ∈ ewd E k then some (p + 1) else none
  | 2 => if p < (esb E).length ∧ ¬ (esb E).getD p 0 ∈ ewd E k then some (p + 1) else none
  | 3 => if p < (esb E).length ∧ (esb E).getD p 0 ∈ ewd E k then some (spn (ewd E k) (esb E) p) else none
  | 4 => if brk (ewd E k) (esb E) p < (esb E).length then some (brk (ewd E k) (esb E) p) else none
  | 5 => if p + efa E k ≤ (esb E).length then some (p + efa E k) else none
  | 6 => if p = efa E k then some p else none
  | 7 => if p + efa E k = (esb E).length then some p else none
  | 8 => if p ≤ efa E k ∧ efa E k ≤ (esb E).length then some (efa E k) else none
  | 9 => if p + efa E k ≤ (esb E).length then some ((esb E).length - efa E k) else none
  | 10 => some (esb E).length
  | 22 => if (esb E).drop p |>.take (ν (efa E k)).length |> (· = ν (efa E k)) then some (p + (ν (efa E k)).length) else none
  | _ => none
def stepB (E : Ev) (k p : Nat) (g : List Gl) (c : List Ch) (q : List Kp) (ν : Nu) (n : Nat) : As ⊕ (Nat × As) := match ekd E k with
  | 11 => .inl (GS p g (if p < (esb E).length then (1, p, g, q) :: c else c) q ν n)
  | 12 => match balN (esb E) p with
    | some p' => .inl (GS p' g ((2, p', g, q) :: c) q ν n)
    | none => .inl (KS c ν n)
  | 14 => .inl (GS p g ((3, p, g, q) :: c) q ν n)
  | 15 => .inr (2, KS c ν n)
  | 16 => .inl (GS p g ((0, p, (0, efa E k, 0) :: (0, k, 0) :: g, q) :: c) q ν n)
  | 17 => .inl (GS p ((0, efa E k, 0) :: (0, efb E k, 0) :: g) c q ν n)
  | 18 => .inl (GS p ((0, efa E k, 0) :: g) ((0, p, (0, efb E k, 0) :: g, q) :: c) q ν n)
  | 19 => .inl (GS p ((0, efa E k, 0) :: (1, efb E k, p) :: g) c q ν n)
  | 20 => .inl (GS p ((0, efa E k, 0) :: (2, efb E k, p) :: g) c q ν n)
  | 21 => .inl (GS p g c q (upN ν (efa E k) (dig p)) n)
  | 23 => if efa E k < ect E then .inl (GS p ((0, efa E k, 0) :: g) c q ν n) else .inl (KS c ν n)
  | _ => match plA E ν k p with
    | some p' => .inl (GS p' g c q ν n)
    | none => .inl (KS c ν n)
def stepG (E : Ev) (p : Nat) (g : List Gl) (c : List Ch) (q : List Kp) (ν : Nu) (n : Nat) : As ⊕ (Nat × As) := match g with
  | [] => .inr (1, GS p [] c q ν n)
  | (0, k, _) :: r => if n = 3000 then .inr (3, KS c ν n) else .inl (BS k p r c q ν (n + 1))
  | (1, v, f) :: r => .inl (GS p r c (q ++ [(v, f, p)]) ν n)
  | (_, v, f) :: r => .inl (GS p r c q (upN ν v (((esb E).drop f).take (p - f))) n)
def stepK (E : Ev) (c : List Ch) (ν : Nu) (n : Nat) : As ⊕ (Nat × As) := match c with
  | [] => .inr (0, KS [] ν n)
  | (0, p, g, q) :: r => .inl (GS p g r q ν n)
  | (1, p, g, q) :: r => .inl (GS (p + 1) g (if p + 1 < (esb E).length then (1, p + 1, g, q) :: r else r) q ν n)
  | (2, p, g, q) :: r => match balN (esb E) p with
    | some p' => .inl (GS p' g ((2, p', g, q) :: r) q ν n)
    | none => .inl (KS r ν n)
  | _ :: r => .inr (2, KS r ν n)
def astep (E : Ev) (x : As) : As ⊕ (Nat × As) := match x with
  | (0, k, p, g, c, q, ν, n) => stepB E k p g c q ν n
  | (1, _, _, _, c, _, ν, n) => stepK E c ν n
  | (_, _, p, g, c, q, ν, n) => stepG E p g c q ν n
def runA (E : Ev) : Nat → As → Option (Nat × As)
  | 0, _ => none
  | f + 1, x => match astep E x with
    | .inl y => runA E f y
    | .inr z => some z
theorem runA_B {E : Ev} {f k p : Nat} {g : List Gl} {c : List Ch} {q : List Kp} {ν : Nu} {n : Nat} : runA E (f + 1) (BS k p g c q ν n) = match stepB E k p g c q ν n with | .inl y => runA E f y | .inr z => some z := rfl
theorem runA_K {E : Ev} {f : Nat} {c : List Ch} {ν : Nu} {n : Nat} : runA E (f + 1) (KS c ν n) = match stepK E c ν n with | .inl y => runA E f y | .inr z => some z := rfl
theorem runA_G {E : Ev} {f p : Nat} {g : List Gl} {c : List Ch} {q : List Kp} {ν : Nu} {n : Nat} : runA E (f + 1) (GS p g c q ν n) = match stepG E p g c q ν n with | .inl y => runA E f y | .inr z => some z := rfl
/-- it comes to an end -/
def TotA (E : Ev) (x : As) : Prop := ∃ f z, runA E f x = some z
theorem tot_step {E : Ev} {x y : As} (h : astep E x = .inl y) (hy : TotA E y) : TotA E x := by
  obtain ⟨f, z, hf⟩ := hy
  exact ⟨f + 1, z, by simp [runA, h, hf]⟩
theorem tot_end {E : Ev} {x : As} {z : Nat × As} (h : astep E x = .inr z) : TotA E x := ⟨1, z, by simp [runA, h]⟩
theorem stepB_cases (E : Ev) (k p : Nat) (g : List Gl) (c : List Ch) (q : List Kp) (ν : Nu) (n : Nat) : (∃ p' g' c' q' ν', stepB E k p g c q ν n = .inl (GS p' g' c' q' ν' n)) ∨ stepB E k p g c q ν n = .inl (KS c ν n) ∨ ∃ z, stepB E k p g c q ν n = .inr z := by
  unfold stepB
  split
  all_goals first
    | exact Or.inl ⟨_, _, _, _, _, rfl⟩
    | exact Or.inr (Or.inr ⟨_, rfl⟩)
    | (split <;> first | exact Or.inl ⟨_, _, _, _, _, rfl⟩ | exact Or.inr (Or.inl rfl))
theorem totA (E : Ev) : ∀ m, (∀ k p g c q ν n, n + m = 3000 → TotA E (BS k p g c q ν n)) ∧ (∀ p g c q ν n, n + m = 3000 → TotA E (GS p g c q ν n)) := by
  intro m
  induction m with
  | zero =>
    have hG : ∀ g p c q ν n, n + 0 = 3000 → TotA E (GS p g c q ν n) := by
      intro g
      induction g with
      | nil => intro p c q ν n hn; exact tot_end rfl
      | cons x r ih =>
        intro p c q ν n hn
        obtain ⟨w, k, f⟩ := x
        rcases w with _ | _ | w
        · have hn : n = 3000 := by omega
          exact tot_end (z := (3, KS c ν n)) (by show stepG E p ((0, k, f) :: r) c q ν n = _; simp [stepG, hn])
        · exact tot_step rfl (ih _ _ _ _ _ hn)
        · exact tot_step rfl (ih _ _ _ _ _ hn)
    have hK : ∀ c ν n, n + 0 = 3000 → TotA E (KS c ν n) := by
      intro c
      induction c with
      | nil => intro ν n hn; exact tot_end rfl
      | cons x r ih =>
        intro ν n hn
        obtain ⟨w, p, g, q⟩ := x
        rcases w with _ | _ | _ | w
        · exact tot_step rfl (hG _ _ _ _ _ _ hn)
        · exact tot_step rfl (hG _ _ _ _ _ _ hn)
        · cases hb : balN (esb E) p with
          | none => exact tot_step (y := KS r ν n) (by show stepK E ((2, p, g, q) :: r) ν n = _; simp [stepK, hb]) (ih _ _ hn)
          | some p' => exact tot_step (y := GS p' g ((2, p', g, q) :: r) q ν n) (by show stepK E ((2, p, g, q) :: r) ν n = _; simp [stepK, hb]) (hG _ _ _ _ _ _ hn)
        · exact tot_end rfl
    refine ⟨fun k p g c q ν n hn => ?_, fun p g c q ν n hn => hG g p c q ν n hn⟩
    rcases stepB_cases E k p g c q ν n with ⟨p', g', c', q', ν', h⟩ | h | ⟨z, h⟩
    · exact tot_step h (hG _ _ _ _ _ _ hn)
    · exact tot_step h (hK _ _ _ hn)
    · exact tot_end h
  | succ m ihm =>
    have hG : ∀ g p c q ν n, n + (m + 1) = 3000 → TotA E (GS p g c q ν n) := by
      intro g
      induction g with
      | nil => intro p c q ν n hn; exact tot_end rfl
      | cons x r ih =>
        intro p c q ν n hn
        obtain ⟨w, k, f⟩ := x
        rcases w with _ | _ | w
        · exact tot_step (y := BS k p r c q ν (n + 1)) (by show stepG E p ((0, k, f) :: r) c q ν n = _; simp only [stepG]; rw [if_neg (by omega)]) (ihm.1 _ _ _ _ _ _ _ (by omega))
        · exact tot_step rfl (ih _ _ _ _ _ hn)
        · exact tot_step rfl (ih _ _ _ _ _ hn)
    have hK : ∀ c ν n, n + (m + 1) = 3000 → TotA E (KS c ν n) := by
      intro c
      induction c with
      | nil => intro ν n hn; exact tot_end rfl
      | cons x r ih =>
        intro ν n hn
        obtain ⟨w, p, g, q⟩ := x
        rcases w with _ | _ | _ | w
        · exact tot_step rfl (hG _ _ _ _ _ _ hn)
        · exact tot_step rfl (hG _ _ _ _ _ _ hn)
        · cases hb : balN (esb E) p with
          | none => exact tot_step (y := KS r ν n) (by show stepK E ((2, p, g, q) :: r) ν n = _; simp [stepK, hb]) (ih _ _ hn)
          | some p' => exact tot_step (y := GS p' g ((2, p', g, q) :: r) q ν n) (by show stepK E ((2, p, g, q) :: r) ν n = _; simp [stepK, hb]) (hG _ _ _ _ _ _ hn)
        · exact tot_end rfl
    refine ⟨fun k p g c q ν n hn => ?_, fun p g c q ν n hn => hG g p c q ν n hn⟩
    rcases stepB_cases E k p g c q ν n with ⟨p', g', c', q', ν', h⟩ | h | ⟨z, h⟩
    · exact tot_step h (hG _ _ _ _ _ _ hn)
    · exact tot_step h (hK _ _ _ hn)
    · exact tot_end h
