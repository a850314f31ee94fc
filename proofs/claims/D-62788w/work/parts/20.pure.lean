/-! The pure part: references as they stand once all is made -/
def rX (kn : Nat → Option Nat) (tx : Nat → Bool) : Rh := fun a b j => match a with
  | 0 => match j with
    | 0 => some (1, 0)
    | 1 => some (1, 1)
    | 2 => some (3, 0)
    | 3 => some (4, 0)
    | 4 => some (9, 0)
    | _ => none
  | 1 => match j with
    | 0 => some (2, b)
    | _ => none
  | 3 => if j < 8 then some (1, 3 + j) else none
  | 4 => match j with
    | 0 => some (5, 0)
    | 1 => some (6, 0)
    | 2 => some (7, 0)
    | 3 => some (8, 0)
    | _ => none
  | 5 => match b with
    | 0 => (kn j).map (fun k => (45, k))
    | _ => none
  | 8 => match b with
    | 0 => if tx j = true then some (1, 11 + j) else none
    | _ => none
  | 9 => match j with
    | 0 => some (4, 0)
    | 1 => some (3, 0)
    | 2 => some (1, 2)
    | 3 => some (10, 0)
    | 4 => some (15, 0)
    | 5 => some (22, 0)
    | _ => none
  | 10 => match j with
    | 0 => some (11, 0)
    | 1 => some (12, 0)
    | 2 => some (13, 0)
    | 3 => some (14, 0)
    | _ => none
  | 15 => match j with
    | 0 => some (16, 0)
    | 1 => some (17, 0)
    | 2 => some (18, 0)
    | 3 => some (19, 0)
    | 4 => some (20, 0)
    | 5 => some (21, 0)
    | _ => none
  | 22 => match j with
    | 0 => some (23, 0)
    | 1 => some (24, 0)
    | 2 => some (25, 0)
    | _ => none
  | 26 => match j with
    | 1 => some (27, 0)
    | 3 => some (28, 0)
    | 4 => some (29, 0)
    | 6 => some (30, 0)
    | 7 => some (31, 0)
    | 8 => some (32, 0)
    | 9 => some (33, 0)
    | 10 => some (34, 0)
    | 15 => some (35, 0)
    | 17 => some (36, 0)
    | 18 => some (37, 0)
    | 19 => some (38, 0)
    | 20 => some (39, 0)
    | 21 => some (40, 0)
    | 22 => some (41, 0)
    | 23 => some (42, 0)
    | 24 => some (43, 0)
    | 30 => some (44, 0)
    | _ => none
  | _ => none
theorem upS_same {f : Sg} {a b j : Nat} {v : Int} : upS f a b j v a b j = v := by simp [upS]
theorem upS_ne {f : Sg} {a b j a' b' j' : Nat} {v : Int} (h : ¬ (a' = a ∧ b' = b ∧ j' = j)) : upS f a b j v a' b' j' = f a' b' j' := by simp [upS, h]
theorem call_eq {T : Tr} {av : List Av} {s s0 : St} {v0 : Option Av} {P : Option Av → St → Prop} (hT : ∀ F : Option Av → St → Prop, F v0 s0 → T av s F) (h : P v0 s0) : ∃ Y : Option Av → St → Prop, T av s Y ∧ ∀ v s', Y v s' → P v s' :=
  ⟨fun v s' => v = v0 ∧ s' = s0, hT _ ⟨rfl, rfl⟩, fun v s' e => by obtain ⟨rfl, rfl⟩ := e; exact h⟩
theorem call_any {T : Tr} {av : List Av} {s : St} {P Y : Option Av → St → Prop} (hT : T av s Y) (h : ∀ v s', Y v s' → P v s') : ∃ Y : Option Av → St → Prop, T av s Y ∧ ∀ v s', Y v s' → P v s' := ⟨Y, hT, h⟩
section
variable {SL : Nat} {xs : Nat → Int} {nx : Nat} {σ : Sg} {kn : Nat → Option Nat} {tx : Nat → Bool} {F : Option Av → St → Prop} {t : Nat}
theorem tw_Text_isFull (hF : F (some (.inl (if σ 1 t 1 = 64 then 1 else 0))) (nx, σ, rX kn tx)) : T_Text_isFull SL xs [.inr (some (1, t))] (nx, σ, rX kn tx) F := by
  refine run 20 ?_
  refine And.intro (fun h => ?_) (fun h => ?_)
  · have h : ¬ σ 1 t 1 = 64 := h
    rw [if_neg h] at hF
    exact And.intro (Or.inl rfl) hF
  · have h : σ 1 t 1 = 64 := Classical.not_not.mp h
    rw [if_pos h] at hF
    exact And.intro (Or.inr rfl) hF
theorem tw_Text_add {x : Int} (hs : 0 ≤ σ 1 t 1 ∧ σ 1 t 1 < 64) (hF : F none (nx, upS (upS σ 2 t (σ 1 t 1).toNat (b8 (b8 x))) 1 t 1 (wr (σ 1 t 1 + 1)), rX kn tx)) : T_Text_add SL xs [.inr (some (1, t)), .inl x] (nx, σ, rX kn tx) F := by
  refine run 20 ?_
  refine And.intro hs ?_
  exact hF
theorem tw_Mill_isVariable {s : St} {v : Int} (hF : F (some (.inl (if 0 ≤ v ∧ v < 8 then 1 else 0))) s) : T_Mill_isVariable SL xs [.inl v] s F := by
  refine run 20 ?_
  refine And.intro (fun h => ?_) (fun h => ?_)
  · have h : v < 0 := h
    rw [if_neg (by omega)] at hF
    exact And.intro (Or.inl rfl) hF
  · have h : ¬ v < 0 := h
    refine And.intro (fun h2 => ?_) (fun h2 => ?_)
    · have h2 : 8 ≤ v := h2
      rw [if_neg (by omega)] at hF
      exact And.intro (Or.inl rfl) hF
    · have h2 : ¬ 8 ≤ v := h2
      rw [if_pos (by omega)] at hF
      exact And.intro (Or.inr rfl) hF
/-- a text: its length and its signs -/
def tl (f : Nat → Int) (len : Int) (l : List Int) : Prop := len = l.length ∧ ∀ i, i < l.length → f i = l.getD i 0
theorem tw_Text_part {b0 : Nat} {f u : Int} (h : 0 ≤ f ∧ f ≤ u ∧ u ≤ 64) (hF : F none (nx, cpS (upS σ 1 t 1 (u - f)) 2 b0 f.toNat 2 t 0 (u - f).toNat, rX kn tx)) : T_Text_part SL xs [.inr (some (1, t)), .inr (some (2, b0)), .inl f, .inl u] (nx, σ, rX kn tx) F := by
  have e1 : wr (u - f) = u - f := wr_eq ⟨by omega, by omega⟩
  refine run 20 ?_
  refine call_eq (v0 := none) (s0 := (nx, cpS (upS σ 1 t 1 (wr (u - f))) 2 b0 f.toNat 2 t 0 (upS σ 1 t 1 (wr (u - f)) 1 t 1).toNat, rX kn tx)) (fun F hF => ?_) ?_
  · refine And.intro ?_ hF
    show 0 ≤ f ∧ (0 : Int) ≤ 0 ∧ 0 ≤ upS σ 1 t 1 (wr (u - f)) 1 t 1 ∧ f + upS σ 1 t 1 (wr (u - f)) 1 t 1 ≤ 64 ∧ 0 + upS σ 1 t 1 (wr (u - f)) 1 t 1 ≤ 64
    rw [upS_same, e1]
    omega
  · rw [upS_same, e1]
    exact hF
theorem tw_Text_become {o : Nat} (h : 0 ≤ σ 1 o 1 ∧ σ 1 o 1 ≤ 64) (hF : F none (nx, cpS (upS σ 1 t 1 (σ 1 o 1)) 2 o 0 2 t 0 (σ 1 o 1).toNat, rX kn tx)) : T_Text_become SL xs [.inr (some (1, t)), .inr (some (1, o))] (nx, σ, rX kn tx) F := by
  refine run 20 ?_
  refine call_eq (v0 := none) (s0 := (nx, cpS (upS σ 1 t 1 (σ 1 o 1)) 2 o 0 2 t 0 (σ 1 o 1).toNat, rX kn tx)) (fun F hF => ?_) ?_
  · refine tw_Text_part (f := 0) (u := σ 1 o 1) ⟨by omega, by omega, by omega⟩ ?_
    rw [show σ 1 o 1 - 0 = σ 1 o 1 by omega]
    exact hF
  · exact hF
theorem tw_Text_take {o : Nat} (h : 0 ≤ σ 1 o 1 ∧ σ 1 o 1 ≤ 64) (hF : F none (nx, upS (cpS (upS σ 1 t 1 (σ 1 o 1)) 2 o 0 2 t 0 (σ 1 o 1).toNat) 1 o 1 0, rX kn tx)) : T_Text_take SL xs [.inr (some (1, t)), .inr (some (1, o))] (nx, σ, rX kn tx) F := by
  refine run 20 ?_
  refine call_eq (v0 := none) (s0 := (nx, cpS (upS σ 1 t 1 (σ 1 o 1)) 2 o 0 2 t 0 (σ 1 o 1).toNat, rX kn tx)) (fun F hF => ?_) ?_
  · exact tw_Text_become h hF
  · exact hF
theorem wo00 : w_or 0 0 = 0 := by decide
theorem wo01 : w_or 0 1 = 1 := by decide
theorem wo10 : w_or 1 0 = 1 := by decide
theorem wo11 : w_or 1 1 = 1 := by decide
theorem take_s {l : List Int} {i : Nat} (h : i < l.length) : l.take (i + 1) = l.take i ++ [l.getD i 0] := by
  rw [List.take_add_one, List.getD_eq_getElem?_getD, List.getElem?_eq_getElem h]
  rfl
theorem lp_Text_has {x : Int} {l : List Int} (hl : tl (σ 2 t) (σ 1 t 1) l) (h64 : l.length ≤ 64) (hF : F (some (.inl (if x ∈ l then 1 else 0))) (nx, σ, rX kn tx)) : ∀ (m i : Nat), i + m = l.length → ∀ acc : Int, acc = (if x ∈ l.take i then 1 else 0) → Xz SL xs (m_Text_has SL xs) F (4, [some (.inr (some (1, t))), some (.inl x), some (.inl acc), some (.inl i)], [], (nx, σ, rX kn tx), 0, 0) := by
  have hlen : σ 1 t 1 = l.length := hl.1
  intro m
  induction m with
  | zero =>
    intro i hi acc hacc
    have hi : i = l.length := by omega
    subst hi
    rw [List.take_length] at hacc
    refine run 30 ?_
    refine And.intro (fun h => ?_) (fun h => absurd (show σ 1 t 1 ≤ (l.length : Int) by rw [hlen]; exact Int.le_refl _) h)
    refine And.intro ?_ (by rw [hacc]; exact hF)
    rw [hacc]
    split
    · exact Or.inr rfl
    · exact Or.inl rfl
  | succ m ih =>
    intro i hi acc hacc
    refine run 40 ?_
    refine And.intro (fun h => absurd h (show ¬ σ 1 t 1 ≤ (i : Int) by rw [hlen]; omega)) (fun h => ?_)
    refine And.intro ⟨by omega, show (i : Int) < 64 by omega⟩ ?_
    have hsg : σ 2 t (i : Int).toNat = l.getD i 0 := by rw [show (i : Int).toNat = i by omega]; exact hl.2 i (by omega)
    have hw : wr ((i : Int) + 1) = ((i + 1 : Nat) : Int) := by rw [wr_eq ⟨by omega, by omega⟩]; omega
    have htk := take_s (l := l) (i := i) (by omega)
    refine And.intro (fun h => ?_) (fun h => ?_)
    · have h : ¬ σ 2 t (i : Int).toNat = x := h
      rw [hsg] at h
      have hx : (x ∈ l.take (i + 1)) ↔ (x ∈ l.take i) := by
        rw [htk, List.mem_append, List.mem_singleton]
        exact ⟨fun q => q.elim id (fun q => absurd q.symm h), Or.inl⟩
      have K := ih (i + 1) (by omega) (w_or acc 0) (by
        rw [hacc]
        by_cases hq : x ∈ l.take i
        · rw [if_pos hq, if_pos (hx.mpr hq)]
          exact wo10
        · rw [if_neg hq, if_neg (fun z => hq (hx.mp z))]
          exact wo00)
      rw [← hw] at K
      exact leaf (by first | exact run 1 K | exact run 2 K | exact run 3 K | exact run 4 K | exact run 5 K | exact run 6 K | exact run 7 K | exact run 8 K)
    · have h : σ 2 t (i : Int).toNat = x := Classical.not_not.mp h
      rw [hsg] at h
      have hx : x ∈ l.take (i + 1) := by
        rw [htk, List.mem_append, List.mem_singleton]
        exact Or.inr h.symm
      have K := ih (i + 1) (by omega) (w_or acc 1) (by
        rw [hacc, if_pos hx]
        split
        · exact wo11
        · exact wo01)
      rw [← hw] at K
      exact leaf (by first | exact run 1 K | exact run 2 K | exact run 3 K | exact run 4 K | exact run 5 K | exact run 6 K | exact run 7 K | exact run 8 K)
theorem tw_Text_has {x : Int} {l : List Int} (hl : tl (σ 2 t) (σ 1 t 1) l) (h64 : l.length ≤ 64) (hF : F (some (.inl (if x ∈ l then 1 else 0))) (nx, σ, rX kn tx)) : T_Text_has SL xs [.inr (some (1, t)), .inl x] (nx, σ, rX kn tx) F := by
  refine run 4 ?_
  exact lp_Text_has hl h64 hF l.length 0 (by omega) 0 (by simp)
/-- a text stands in another from a place on -/
def atT (l S : List Int) (p : Nat) : Prop := (S.drop p).take l.length = l
theorem atT_len {l S : List Int} {p : Nat} (h : atT l S p) (hp : p ≤ S.length) : p + l.length ≤ S.length := by
  have := congrArg List.length h
  simp at this
  omega
theorem atT_iff {l S : List Int} {p : Nat} (hl : p + l.length ≤ S.length) : atT l S p ↔ ∀ i, i < l.length → l.getD i 0 = S.getD (p + i) 0 := by
  have key : ∀ i, i < l.length → ((S.drop p).take l.length)[i]? = S[p + i]? := fun i hi => by
    rw [List.getElem?_take, if_pos hi, List.getElem?_drop]
  constructor
  · intro h i hi
    have h1 := key i hi
    rw [show (S.drop p).take l.length = l from h] at h1
    rw [List.getD_eq_getElem?_getD, List.getD_eq_getElem?_getD, h1]
  · intro h
    apply List.ext_getElem?
    intro i
    by_cases hi : i < l.length
    · rw [key i hi]
      have h1 := h i hi
      rw [List.getD_eq_getElem?_getD, List.getD_eq_getElem?_getD, List.getElem?_eq_getElem hi, List.getElem?_eq_getElem (show p + i < S.length by omega)] at h1
      rw [List.getElem?_eq_getElem hi, List.getElem?_eq_getElem (show p + i < S.length by omega)]
      simp only [Option.getD_some] at h1
      rw [h1]
    · rw [List.getElem?_eq_none (by simp; omega), List.getElem?_eq_none (by omega)]
theorem lp_Text_isAt {o p : Nat} {l S : List Int} (hl : tl (σ 2 t) (σ 1 t 1) l) (h64 : l.length ≤ 64) (hS : tl (σ 2 o) (σ 1 o 1) S) (hS64 : S.length ≤ 64) (hp : p + l.length ≤ S.length) (hF1 : atT l S p → F (some (.inl 1)) (nx, σ, rX kn tx)) (hF0 : ¬ atT l S p → F (some (.inl 0)) (nx, σ, rX kn tx)) : ∀ (m i : Nat), i + m = l.length → (∀ j, j < i → l.getD j 0 = S.getD (p + j) 0) → Xz SL xs (m_Text_isAt SL xs) F (17, [some (.inr (some (1, t))), some (.inr (some (1, o))), some (.inl p), some (.inl i)], [], (nx, σ, rX kn tx), 0, 0) := by
  have hlen : σ 1 t 1 = l.length := hl.1
  intro m
  induction m with
  | zero =>
    intro i hi hpre
    have hi : i = l.length := by omega
    subst hi
    refine run 30 ?_
    refine And.intro (fun h => ?_) (fun h => absurd (show σ 1 t 1 ≤ (l.length : Int) by rw [hlen]; exact Int.le_refl _) h)
    refine And.intro (fun h => absurd (show (l.length : Int) = σ 1 t 1 from hlen.symm) h) (fun h => ?_)
    exact And.intro (Or.inr rfl) (hF1 ((atT_iff hp).mpr hpre))
  | succ m ih =>
    intro i hi hpre
    have hsg : σ 2 t (i : Int).toNat = l.getD i 0 := by rw [show (i : Int).toNat = i by omega]; exact hl.2 i (by omega)
    have hw2 : wr ((p : Int) + i) = ((p + i : Nat) : Int) := by rw [wr_eq ⟨by omega, by omega⟩]; omega
    have hso : σ 2 o (wr ((p : Int) + i)).toNat = S.getD (p + i) 0 := by rw [hw2, Int.toNat_natCast]; exact hS.2 (p + i) (by omega)
    have hw : wr ((i : Int) + 1) = ((i + 1 : Nat) : Int) := by rw [wr_eq ⟨by omega, by omega⟩]; omega
    refine run 40 ?_
    refine And.intro (fun h => absurd h (show ¬ σ 1 t 1 ≤ (i : Int) by rw [hlen]; omega)) (fun h => ?_)
    refine And.intro ⟨by omega, show (i : Int) < 64 by omega⟩ ?_
    refine And.intro ⟨by rw [hw2]; omega, by rw [hw2]; show ((p + i : Nat) : Int) < 64; omega⟩ ?_
    refine And.intro (fun h => ?_) (fun h => ?_)
    · have h : ¬ σ 2 t (i : Int).toNat = σ 2 o (wr ((p : Int) + i)).toNat := h
      rw [hsg, hso] at h
      refine And.intro (fun h2 => ?_) (fun h2 => absurd (Classical.not_not.mp h2) (show ¬ (i : Int) = σ 1 t 1 by rw [hlen]; omega))
      exact And.intro (Or.inl rfl) (hF0 (fun q => h ((atT_iff hp).mp q i (by omega))))
    · have h : σ 2 t (i : Int).toNat = σ 2 o (wr ((p : Int) + i)).toNat := Classical.not_not.mp h
      rw [hsg, hso] at h
      have K := ih (i + 1) (by omega) (fun j hj => by
        by_cases hji : j = i
        · subst hji
          exact h
        · exact hpre j (by omega))
      rw [← hw] at K
      exact leaf (by first | exact run 1 K | exact run 2 K | exact run 3 K | exact run 4 K | exact run 5 K | exact run 6 K | exact run 7 K | exact run 8 K)
theorem tw_Text_isAt {o p : Nat} {l S : List Int} (hl : tl (σ 2 t) (σ 1 t 1) l) (h64 : l.length ≤ 64) (hS : tl (σ 2 o) (σ 1 o 1) S) (hS64 : S.length ≤ 64) (hp : p ≤ S.length) (hF1 : atT l S p → F (some (.inl 1)) (nx, σ, rX kn tx)) (hF0 : ¬ atT l S p → F (some (.inl 0)) (nx, σ, rX kn tx)) : T_Text_isAt SL xs [.inr (some (1, t)), .inr (some (1, o)), .inl p] (nx, σ, rX kn tx) F := by
  have hlen : σ 1 t 1 = l.length := hl.1
  have hlen2 : σ 1 o 1 = S.length := hS.1
  have hw : wr ((p : Int) + σ 1 t 1) = ((p + l.length : Nat) : Int) := by rw [hlen, wr_eq ⟨by omega, by omega⟩]; omega
  refine run 12 ?_
  refine And.intro (fun h => ?_) (fun h => ?_)
  · have h : wr ((p : Int) + σ 1 t 1) ≤ σ 1 o 1 := h
    rw [hw, hlen2] at h
    exact leaf (run 2 (lp_Text_isAt hl h64 hS hS64 (by omega) hF1 hF0 l.length 0 (by omega) (fun j hj => by omega)))
  · have h : ¬ wr ((p : Int) + σ 1 t 1) ≤ σ 1 o 1 := h
    rw [hw, hlen2] at h
    exact And.intro (Or.inl rfl) (hF0 (fun q => by have := atT_len q hp; omega))
end
