/-! The model: what needs no others -/
def EvM (E : Ev) (σ : Sg) : Prop := σ 26 0 5 = ect E ∧ tl (σ 35 0) (σ 26 0 16) (esb E) ∧ ∀ k, k < ect E → σ 30 0 k = ekd E k ∧ σ 31 0 k = efa E k ∧ σ 32 0 k = efb E k ∧ tl (fun i => σ 33 0 (64 * k + i)) (σ 34 0 k) (ewd E k) ∧ (ewd E k).length ≤ 64
def NuM (ν : Nu) (σ : Sg) : Prop := ∀ v, v < 8 → tl (fun i => σ 28 0 (64 * v + i)) (σ 29 0 v) (ν v) ∧ (ν v).length ≤ 64
def setM (σ : Sg) (v : Nat) (l : List Int) (σ' : Sg) : Prop := tl (fun i => σ' 28 0 (64 * v + i)) (σ' 29 0 v) l ∧ ∀ a b j, ¬ (a = 29 ∧ b = 0 ∧ j = v) → ¬ (a = 28 ∧ b = 0 ∧ 64 * v ≤ j ∧ j < 64 * v + 64) → σ' a b j = σ a b j
def enc : Option Nat → Int
  | some x => x
  | none => -1
def balM (S : List Int) (q : Nat) : Nat → Int → Nat → Option Nat
  | 0, _, _ => none
  | m + 1, d, p => if d + brc (S.getD p 0) < 0 then none else if d + brc (S.getD p 0) = 0 ∧ q < p + 1 then some (p + 1) else balM S q m (d + brc (S.getD p 0)) (p + 1)
theorem balM_F {S : List Int} {q : Nat} : ∀ (m : Nat) (d : Int) (p : Nat), q ≤ p → balM S q m d p = balF S m d p
  | 0, d, p, h => rfl
  | m + 1, d, p, h => by
    simp only [balM, balF]
    by_cases h1 : d + brc (S.getD p 0) < 0
    · rw [if_pos h1, if_pos h1]
    · rw [if_neg h1, if_neg h1]
      by_cases h2 : 0 < d + brc (S.getD p 0)
      · rw [if_neg (by omega), if_pos h2]
        exact balM_F m _ (p + 1) (by omega)
      · rw [if_pos ⟨by omega, by omega⟩, if_neg h2]
theorem balF_M {S : List Int} : ∀ (m : Nat) (d : Int) (p p' q : Nat), balF S m d p = some p' → p' ≤ q → balM S q m d p = balM S q (m - (p' - p)) 0 p'
  | 0, d, p, p', q, h, hq => by cases h
  | m + 1, d, p, p', q, h, hq => by
    have hb := balF_bd S _ _ _ _ h
    simp only [balF] at h
    simp only [balM]
    split at h
    · cases h
    · rename_i h1
      split at h
      · rename_i h2
        have hb2 := balF_bd S _ _ _ _ h
        rw [if_neg h1, if_neg (by omega), balF_M m _ (p + 1) p' q h hq]
        congr 1
        omega
      · rename_i h2
        cases h
        rw [if_neg h1, if_neg (by omega), show d + brc (S.getD p 0) = 0 by omega]
        congr 1
        omega
/-- it is balanced from a place to another -/
def bfx (S : List Int) (p p' : Nat) : Prop := ∀ q, p' ≤ q → balM S q (S.length - p) 0 p = balM S q (S.length - p') 0 p'
theorem bfx.refl {S : List Int} {p : Nat} : bfx S p p := fun _ _ => rfl
theorem bfx.next {S : List Int} {p p' p2 : Nat} (h : bfx S p p') (hb : balN S p' = some p2) (hp : p' ≤ S.length) : bfx S p p2 := fun q hq => by
  have hb2 := balN_bd hp hb
  rw [h q (by omega), balF_M _ _ _ _ q hb hq]
  congr 1
  omega
theorem bfx.val {S : List Int} {p p' : Nat} (h : bfx S p p') : balM S p' (S.length - p) 0 p = balN S p' := by
  rw [h p' (Nat.le_refl _)]
  exact balM_F _ _ _ (Nat.le_refl _)
theorem w64 {k i : Nat} (hk : k < 64) (hi : i < 128) : wr (wr (64 * (k : Int)) + (i : Int)) = ((64 * k + i : Nat) : Int) := by
  rw [wr_eq (x := 64 * (k : Int)) ⟨by omega, by omega⟩, wr_eq ⟨by omega, by omega⟩]
  omega
theorem w640 {k : Nat} (hk : k < 64) : wr (64 * (k : Int)) = ((64 * k : Nat) : Int) := by
  rw [wr_eq (x := 64 * (k : Int)) ⟨by omega, by omega⟩]
  omega
section
variable {SL : Nat} {xs : Nat → Int} {nx : Nat} {σ : Sg} {kn : Nat → Option Nat} {tx : Nat → Bool} {F : Option Av → St → Prop} {E : Ev} {ν : Nu} {k p : Nat}
theorem tw_Model_isVariable {s : St} {v : Int} (hF : F (some (.inl (if 0 ≤ v ∧ v < 8 then 1 else 0))) s) : T_Model_isVariable SL xs [.inl v] s F := by
  refine run 20 ?_
  refine And.intro (fun h => ?_) (fun h => ?_)
  · have h : v < 0 := h
    rw [if_neg (by omega)] at hF
    exact And.intro (Or.inl rfl) hF
  · have h : ¬ v < 0 := h
    refine And.intro (fun h2 => ?_) (fun h2 => ?_)
    · have h2 : 8 ≤ v := h2
      rw [if_neg (by omega)] at hF
      exact And.intro (Or.inl rfl) hF
    · have h2 : ¬ 8 ≤ v := h2
      rw [if_pos (by omega)] at hF
      exact And.intro (Or.inr rfl) hF
theorem tw_Model_isNode {x : Int} (hF : F (some (.inl (if 0 ≤ x ∧ x < σ 26 0 5 then 1 else 0))) (nx, σ, rX kn tx)) : T_Model_isNode SL xs [.inr (some (26, 0)), .inl x] (nx, σ, rX kn tx) F := by
  refine run 30 ?_
  refine And.intro (fun h => ?_) (fun h => ?_)
  · have h : x < 0 := h
    rw [if_neg (by omega)] at hF
    exact And.intro (Or.inl rfl) hF
  · have h : ¬ x < 0 := h
    refine And.intro (fun h2 => ?_) (fun h2 => ?_)
    · have h2 : σ 26 0 5 ≤ x := h2
      rw [if_neg (by omega)] at hF
      exact And.intro (Or.inl rfl) hF
    · have h2 : ¬ σ 26 0 5 ≤ x := h2
      rw [if_pos (by omega)] at hF
      exact And.intro (Or.inr rfl) hF
theorem lp_Model_isIn (hE : EvM E σ) (hO : EvOK E) (hk : k < ect E) (hp : p < (esb E).length) (hF : F (some (.inl (if (esb E).getD p 0 ∈ ewd E k then 1 else 0))) (nx, σ, rX kn tx)) : ∀ (m i : Nat), i + m = (ewd E k).length → ¬ (esb E).getD p 0 ∈ (ewd E k).take i → Xz SL xs (m_Model_isIn SL xs) F (2, [some (.inr (some (26, 0))), some (.inl k), some (.inl p), some (.inl i)], [], (nx, σ, rX kn tx), 0, 0) := by
  obtain ⟨e1, e2, e3⟩ := hE
  obtain ⟨-, -, -, hw, hw64⟩ := e3 k hk
  have hwl : σ 34 0 k = (ewd E k).length := hw.1
  have hS64 := hO.1
  have hk64 : k < 64 := by have := hO.2.1; omega
  have hix : (0 : Int) ≤ (k : Int) ∧ (k : Int) < 64 := by omega
  have hsp : σ 35 0 (p : Int).toNat = (esb E).getD p 0 := by rw [Int.toNat_natCast]; exact e2.2 p hp
  intro m
  induction m with
  | zero =>
    intro i hi hpre
    have hi : i = (ewd E k).length := by omega
    subst hi
    rw [List.take_length] at hpre
    rw [if_neg hpre] at hF
    refine run 30 ?_
    refine And.intro hix ?_
    refine And.intro (fun h => And.intro (Or.inl rfl) hF) (fun h => absurd (show σ 34 0 (k : Int).toNat ≤ ((ewd E k).length : Int) by rw [Int.toNat_natCast, hwl]; exact Int.le_refl _) h)
  | succ m ih =>
    intro i hi hpre
    have hw6 := w64 (k := k) (i := i) hk64 (by omega)
    have hsg : σ 33 0 (wr (wr (64 * (k : Int)) + (i : Int))).toNat = (ewd E k).getD i 0 := by rw [hw6, Int.toNat_natCast]; exact hw.2 i (by omega)
    have hwi : wr ((i : Int) + 1) = ((i + 1 : Nat) : Int) := by rw [wr_eq ⟨by omega, by omega⟩]; omega
    have htk := take_s (l := ewd E k) (i := i) (by omega)
    refine run 30 ?_
    refine And.intro hix ?_
    refine And.intro (fun h => absurd h (show ¬ σ 34 0 (k : Int).toNat ≤ (i : Int) by rw [Int.toNat_natCast, hwl]; omega)) (fun h => ?_)
    refine And.intro (by show 0 ≤ wr (wr (64 * (k : Int)) + (i : Int)) ∧ wr (wr (64 * (k : Int)) + (i : Int)) < 4096; rw [hw6]; omega) ?_
    refine And.intro ⟨show (0 : Int) ≤ (p : Int) by omega, show (p : Int) < 64 by omega⟩ ?_
    refine And.intro (fun h => ?_) (fun h => ?_)
    · have h : ¬ σ 33 0 (wr (wr (64 * (k : Int)) + (i : Int))).toNat = σ 35 0 (p : Int).toNat := h
      rw [hsg, hsp] at h
      have K := ih (i + 1) (by omega) (by
        rw [htk, List.mem_append, List.mem_singleton]
        exact fun z => z.elim hpre (fun z => h z.symm))
      rw [← hwi] at K
      exact leaf (by first | exact run 1 K | exact run 2 K | exact run 3 K)
    · have h : σ 33 0 (wr (wr (64 * (k : Int)) + (i : Int))).toNat = σ 35 0 (p : Int).toNat := Classical.not_not.mp h
      rw [hsg, hsp] at h
      have hin : (esb E).getD p 0 ∈ ewd E k := by
        rw [← h, List.getD_eq_getElem?_getD, List.getElem?_eq_getElem (show i < (ewd E k).length by omega)]
        exact List.getElem_mem _
      rw [if_pos hin] at hF
      exact And.intro (Or.inr rfl) hF
theorem tw_Model_isIn (hE : EvM E σ) (hO : EvOK E) (hk : k < ect E) (hp : p < (esb E).length) (hF : F (some (.inl (if (esb E).getD p 0 ∈ ewd E k then 1 else 0))) (nx, σ, rX kn tx)) : T_Model_isIn SL xs [.inr (some (26, 0)), .inl k, .inl p] (nx, σ, rX kn tx) F := by
  refine run 2 ?_
  exact lp_Model_isIn hE hO hk hp hF _ 0 (Nat.zero_add _) (by simp)
theorem lp_Model_behind33 {L S : List Int} {at_ c : Nat} (hL : tl (fun i => σ 33 0 (at_ + i)) L.length L) (hL64 : L.length ≤ 64) (hat : at_ + L.length ≤ 4096) (hS : tl (σ 35 0) (σ 26 0 16) S) (hS64 : S.length ≤ 64) (hc : c + L.length ≤ S.length) (hF1 : atT L S c → F (some (.inl ((c + L.length : Nat) : Int))) (nx, σ, rX kn tx)) (hF0 : ¬ atT L S c → F (some (.inl (-1))) (nx, σ, rX kn tx)) : ∀ (m i : Nat), i + m = L.length → (∀ j, j < i → L.getD j 0 = S.getD (c + j) 0) → Xz SL xs (m_Model_behind SL xs) F (16, [some (.inr (some (26, 0))), some (.inr (some (33, 0))), some (.inl at_), some (.inl L.length), some (.inl c), some (.inl i)], [], (nx, σ, rX kn tx), 0, 0) := by
  intro m
  induction m with
  | zero =>
    intro i hi hpre
    have hi : i = L.length := by omega
    subst hi
    have K := hF1 ((atT_iff hc).mpr hpre)
    have hw : wr ((c : Int) + (L.length : Int)) = ((c + L.length : Nat) : Int) := by rw [wr_eq ⟨by omega, by omega⟩]; omega
    rw [← hw] at K
    refine run 30 ?_
    refine And.intro (fun h => K) (fun h => absurd (show (L.length : Int) ≤ (L.length : Int) from Int.le_refl _) h)
  | succ m ih =>
    intro i hi hpre
    have hw1 : wr ((at_ : Int) + (i : Int)) = ((at_ + i : Nat) : Int) := by rw [wr_eq ⟨by omega, by omega⟩]; omega
    have hw2 : wr ((c : Int) + (i : Int)) = ((c + i : Nat) : Int) := by rw [wr_eq ⟨by omega, by omega⟩]; omega
    have hwi : wr ((i : Int) + 1) = ((i + 1 : Nat) : Int) := by rw [wr_eq ⟨by omega, by omega⟩]; omega
    have h1 : σ 33 0 (wr ((at_ : Int) + (i : Int))).toNat = L.getD i 0 := by rw [hw1, Int.toNat_natCast]; exact hL.2 i (by omega)
    have h2 : σ 35 0 (wr ((c : Int) + (i : Int))).toNat = S.getD (c + i) 0 := by rw [hw2, Int.toNat_natCast]; exact hS.2 (c + i) (by omega)
    refine run 30 ?_
    refine And.intro (fun h => absurd (show (L.length : Int) ≤ (i : Int) from h) (by omega)) (fun h => ?_)
    refine And.intro (by show 0 ≤ wr ((at_ : Int) + (i : Int)) ∧ wr ((at_ : Int) + (i : Int)) < 4096; rw [hw1]; omega) ?_
    refine And.intro (by show 0 ≤ wr ((c : Int) + (i : Int)) ∧ wr ((c : Int) + (i : Int)) < 64; rw [hw2]; omega) ?_
    refine And.intro (fun h => ?_) (fun h => ?_)
    · have h : σ 33 0 (wr ((at_ : Int) + (i : Int))).toNat = σ 35 0 (wr ((c : Int) + (i : Int))).toNat := h
      rw [h1, h2] at h
      have K := ih (i + 1) (by omega) (fun j hj => by
        by_cases hji : j = i
        · subst hji
          exact h
        · exact hpre j (by omega))
      rw [← hwi] at K
      exact leaf (by first | exact run 1 K | exact run 2 K | exact run 3 K)
    · have h : ¬ σ 33 0 (wr ((at_ : Int) + (i : Int))).toNat = σ 35 0 (wr ((c : Int) + (i : Int))).toNat := h
      rw [h1, h2] at h
      exact hF0 (fun z => h ((atT_iff hc).mp z i (by omega)))
theorem tw_Model_behind33 {L S : List Int} {at_ c : Nat} (hL : tl (fun i => σ 33 0 (at_ + i)) L.length L) (hL64 : L.length ≤ 64) (hat : at_ + L.length ≤ 4096) (hS : tl (σ 35 0) (σ 26 0 16) S) (hS64 : S.length ≤ 64) (hc : c ≤ S.length) (hF1 : atT L S c → F (some (.inl ((c + L.length : Nat) : Int))) (nx, σ, rX kn tx)) (hF0 : ¬ atT L S c → F (some (.inl (-1))) (nx, σ, rX kn tx)) : T_Model_behind SL xs [.inr (some (26, 0)), .inr (some (33, 0)), .inl at_, .inl L.length, .inl c] (nx, σ, rX kn tx) F := by
  have hn : σ 26 0 16 = S.length := hS.1
  have hw : wr (σ 26 0 16 - (c : Int)) = (S.length : Int) - c := by rw [hn, wr_eq ⟨by omega, by omega⟩]
  refine run 8 ?_
  refine And.intro (fun h => ?_) (fun h => ?_)
  · have h : (L.length : Int) ≤ wr (σ 26 0 16 - (c : Int)) := h
    rw [hw] at h
    have K := lp_Model_behind33 (SL := SL) (xs := xs) hL hL64 hat hS hS64 (by omega) hF1 hF0 L.length 0 (Nat.zero_add _) (fun j hj => by omega)
    exact leaf (by first | exact run 1 K | exact run 2 K | exact run 3 K)
  · have h : ¬ (L.length : Int) ≤ wr (σ 26 0 16 - (c : Int)) := h
    rw [hw] at h
    exact hF0 (fun z => by have := atT_len z hc; omega)
theorem lp_Model_behind28 {L S : List Int} {at_ c : Nat} (hL : tl (fun i => σ 28 0 (at_ + i)) L.length L) (hL64 : L.length ≤ 64) (hat : at_ + L.length ≤ 512) (hS : tl (σ 35 0) (σ 26 0 16) S) (hS64 : S.length ≤ 64) (hc : c + L.length ≤ S.length) (hF1 : atT L S c → F (some (.inl ((c + L.length : Nat) : Int))) (nx, σ, rX kn tx)) (hF0 : ¬ atT L S c → F (some (.inl (-1))) (nx, σ, rX kn tx)) : ∀ (m i : Nat), i + m = L.length → (∀ j, j < i → L.getD j 0 = S.getD (c + j) 0) → Xz SL xs (m_Model_behind SL xs) F (16, [some (.inr (some (26, 0))), some (.inr (some (28, 0))), some (.inl at_), some (.inl L.length), some (.inl c), some (.inl i)], [], (nx, σ, rX kn tx), 0, 0) := by
  intro m
  induction m with
  | zero =>
    intro i hi hpre
    have hi : i = L.length := by omega
    subst hi
    have K := hF1 ((atT_iff hc).mpr hpre)
    have hw : wr ((c : Int) + (L.length : Int)) = ((c + L.length : Nat) : Int) := by rw [wr_eq ⟨by omega, by omega⟩]; omega
    rw [← hw] at K
    refine run 30 ?_
    refine And.intro (fun h => K) (fun h => absurd (show (L.length : Int) ≤ (L.length : Int) from Int.le_refl _) h)
  | succ m ih =>
    intro i hi hpre
    have hw1 : wr ((at_ : Int) + (i : Int)) = ((at_ + i : Nat) : Int) := by rw [wr_eq ⟨by omega, by omega⟩]; omega
    have hw2 : wr ((c : Int) + (i : Int)) = ((c + i : Nat) : Int) := by rw [wr_eq ⟨by omega, by omega⟩]; omega
    have hwi : wr ((i : Int) + 1) = ((i + 1 : Nat) : Int) := by rw [wr_eq ⟨by omega, by omega⟩]; omega
    have h1 : σ 28 0 (wr ((at_ : Int) + (i : Int))).toNat = L.getD i 0 := by rw [hw1, Int.toNat_natCast]; exact hL.2 i (by omega)
    have h2 : σ 35 0 (wr ((c : Int) + (i : Int))).toNat = S.getD (c + i) 0 := by rw [hw2, Int.toNat_natCast]; exact hS.2 (c + i) (by omega)
    refine run 30 ?_
    refine And.intro (fun h => absurd (show (L.length : Int) ≤ (i : Int) from h) (by omega)) (fun h => ?_)
    refine And.intro (by show 0 ≤ wr ((at_ : Int) + (i : Int)) ∧ wr ((at_ : Int) + (i : Int)) < 512; rw [hw1]; omega) ?_
    refine And.intro (by show 0 ≤ wr ((c : Int) + (i : Int)) ∧ wr ((c : Int) + (i : Int)) < 64; rw [hw2]; omega) ?_
    refine And.intro (fun h => ?_) (fun h => ?_)
    · have h : σ 28 0 (wr ((at_ : Int) + (i : Int))).toNat = σ 35 0 (wr ((c : Int) + (i : Int))).toNat := h
      rw [h1, h2] at h
      have K := ih (i + 1) (by omega) (fun j hj => by
        by_cases hji : j = i
        · subst hji
          exact h
        · exact hpre j (by omega))
      rw [← hwi] at K
      exact leaf (by first | exact run 1 K | exact run 2 K | exact run 3 K)
    · have h : ¬ σ 28 0 (wr ((at_ : Int) + (i : Int))).toNat = σ 35 0 (wr ((c : Int) + (i : Int))).toNat := h
      rw [h1, h2] at h
      exact hF0 (fun z => h ((atT_iff hc).mp z i (by omega)))
theorem tw_Model_behind28 {L S : List Int} {at_ c : Nat} (hL : tl (fun i => σ 28 0 (at_ + i)) L.length L) (hL64 : L.length ≤ 64) (hat : at_ + L.length ≤ 512) (hS : tl (σ 35 0) (σ 26 0 16) S) (hS64 : S.length ≤ 64) (hc : c ≤ S.length) (hF1 : atT L S c → F (some (.inl ((c + L.length : Nat) : Int))) (nx, σ, rX kn tx)) (hF0 : ¬ atT L S c → F (some (.inl (-1))) (nx, σ, rX kn tx)) : T_Model_behind SL xs [.inr (some (26, 0)), .inr (some (28, 0)), .inl at_, .inl L.length, .inl c] (nx, σ, rX kn tx) F := by
  have hn : σ 26 0 16 = S.length := hS.1
  have hw : wr (σ 26 0 16 - (c : Int)) = (S.length : Int) - c := by rw [hn, wr_eq ⟨by omega, by omega⟩]
  refine run 8 ?_
  refine And.intro (fun h => ?_) (fun h => ?_)
  · have h : (L.length : Int) ≤ wr (σ 26 0 16 - (c : Int)) := h
    rw [hw] at h
    have K := lp_Model_behind28 (SL := SL) (xs := xs) hL hL64 hat hS hS64 (by omega) hF1 hF0 L.length 0 (Nat.zero_add _) (fun j hj => by omega)
    exact leaf (by first | exact run 1 K | exact run 2 K | exact run 3 K)
  · have h : ¬ (L.length : Int) ≤ wr (σ 26 0 16 - (c : Int)) := h
    rw [hw] at h
    exact hF0 (fun z => by have := atT_len z hc; omega)
theorem lp_Model_span (hE : EvM E σ) (hO : EvOK E) (hk : k < ect E) {c : Nat} (hK : Xz SL xs (m_Model_span SL xs) F (25, [some (.inr (some (26, 0))), some (.inl k), some (.inl c), some (.inl (scanB (fun x => decide (x ∈ ewd E k)) (esb E) ((esb E).length - c) c : Nat))], [], (nx, σ, rX kn tx), 0, 0)) : ∀ (m p : Nat), p + m = (esb E).length → scanB (fun x => decide (x ∈ ewd E k)) (esb E) ((esb E).length - c) c = scanB (fun x => decide (x ∈ ewd E k)) (esb E) m p → Xz SL xs (m_Model_span SL xs) F (2, [some (.inr (some (26, 0))), some (.inl k), some (.inl c), some (.inl p)], [], (nx, σ, rX kn tx), 0, 0) := by
  have hn : σ 26 0 16 = (esb E).length := hE.2.1.1
  have hS64 := hO.1
  intro m
  induction m with
  | zero =>
    intro p hp he
    have he : scanB (fun x => decide (x ∈ ewd E k)) (esb E) ((esb E).length - c) c = p := he
    rw [he] at hK
    refine run 4 ?_
    refine And.intro (fun h => leaf hK) (fun h => ?_)
    have h : ¬ σ 26 0 16 ≤ (p : Int) := h
    rw [hn] at h
    omega
  | succ m ih =>
    intro p hp he
    have hw : wr ((p : Int) + 1) = ((p + 1 : Nat) : Int) := by rw [wr_eq ⟨by omega, by omega⟩]; omega
    refine run 12 ?_
    refine And.intro (fun h => ?_) (fun h => ?_)
    · have h : σ 26 0 16 ≤ (p : Int) := h
      rw [hn] at h
      omega
    refine call_eq (fun F hF => tw_Model_isIn hE hO hk (show p < (esb E).length by omega) hF) ?_
    refine And.intro (fun h => ?_) (fun h => ?_)
    · have h : (if (esb E).getD p 0 ∈ ewd E k then (1 : Int) else 0) = 0 := h
      have hin : ¬ (esb E).getD p 0 ∈ ewd E k := ite0.mp h
      have he : scanB (fun x => decide (x ∈ ewd E k)) (esb E) ((esb E).length - c) c = p := by
        rw [he]
        simp only [scanB, decide_eq_true_eq]
        rw [if_neg hin]
      rw [he] at hK
      exact leaf hK
    · have h : ¬ (if (esb E).getD p 0 ∈ ewd E k then (1 : Int) else 0) = 0 := h
      have hin : (esb E).getD p 0 ∈ ewd E k := Classical.not_not.mp (fun z => h (ite0.mpr z))
      have he : scanB (fun x => decide (x ∈ ewd E k)) (esb E) ((esb E).length - c) c = scanB (fun x => decide (x ∈ ewd E k)) (esb E) m (p + 1) := by
        rw [he]
        simp only [scanB, decide_eq_true_eq]
        rw [if_pos hin]
      have K := ih (p + 1) (by omega) he
      rw [← hw] at K
      exact leaf (by first | exact run 1 K | exact run 2 K | exact run 3 K)
theorem lp_Model_stop (hE : EvM E σ) (hO : EvOK E) (hk : k < ect E) {c : Nat} (hK : Xz SL xs (m_Model_stop SL xs) F (25, [some (.inr (some (26, 0))), some (.inl k), some (.inl c), some (.inl (scanB (fun x => !decide (x ∈ ewd E k)) (esb E) ((esb E).length - c) c : Nat))], [], (nx, σ, rX kn tx), 0, 0)) : ∀ (m p : Nat), p + m = (esb E).length → scanB (fun x => !decide (x ∈ ewd E k)) (esb E) ((esb E).length - c) c = scanB (fun x => !decide (x ∈ ewd E k)) (esb E) m p → Xz SL xs (m_Model_stop SL xs) F (2, [some (.inr (some (26, 0))), some (.inl k), some (.inl c), some (.inl p)], [], (nx, σ, rX kn tx), 0, 0) := by
  have hn : σ 26 0 16 = (esb E).length := hE.2.1.1
  have hS64 := hO.1
  intro m
  induction m with
  | zero =>
    intro p hp he
    have he : scanB (fun x => !decide (x ∈ ewd E k)) (esb E) ((esb E).length - c) c = p := he
    rw [he] at hK
    refine run 4 ?_
    refine And.intro (fun h => leaf hK) (fun h => ?_)
    have h : ¬ σ 26 0 16 ≤ (p : Int) := h
    rw [hn] at h
    omega
  | succ m ih =>
    intro p hp he
    have hw : wr ((p : Int) + 1) = ((p + 1 : Nat) : Int) := by rw [wr_eq ⟨by omega, by omega⟩]; omega
    refine run 12 ?_
    refine And.intro (fun h => ?_) (fun h => ?_)
    · have h : σ 26 0 16 ≤ (p : Int) := h
      rw [hn] at h
      omega
    refine call_eq (fun F hF => tw_Model_isIn hE hO hk (show p < (esb E).length by omega) hF) ?_
    refine And.intro (fun h => ?_) (fun h => ?_)
    · have h : ¬ (if (esb E).getD p 0 ∈ ewd E k then (1 : Int) else 0) = 0 := h
      have hin : (esb E).getD p 0 ∈ ewd E k := Classical.not_not.mp (fun z => h (ite0.mpr z))
      have he : scanB (fun x => !decide (x ∈ ewd E k)) (esb E) ((esb E).length - c) c = p := by
        rw [he]
        simp only [scanB, Bool.not_eq_true', decide_eq_false_iff_not]
        rw [if_neg (fun z => z hin)]
      rw [he] at hK
      exact leaf hK
    · have h : ¬ (¬ (if (esb E).getD p 0 ∈ ewd E k then (1 : Int) else 0) = 0) := h
      have hin : ¬ (esb E).getD p 0 ∈ ewd E k := ite0.mp (Classical.not_not.mp h)
      have he : scanB (fun x => !decide (x ∈ ewd E k)) (esb E) ((esb E).length - c) c = scanB (fun x => !decide (x ∈ ewd E k)) (esb E) m (p + 1) := by
        rw [he]
        simp only [scanB, Bool.not_eq_true', decide_eq_false_iff_not]
        rw [if_pos hin]
      have K := ih (p + 1) (by omega) he
      rw [← hw] at K
      exact leaf (by first | exact run 1 K | exact run 2 K | exact run 3 K)
theorem tw_Model_span (hE : EvM E σ) (hO : EvOK E) (hk : k < ect E) (hp : p ≤ (esb E).length) (hF : F (some (.inl (enc (if p < (esb E).length ∧ (esb E).getD p 0 ∈ ewd E k then some (spn (ewd E k) (esb E) p) else none)))) (nx, σ, rX kn tx)) : T_Model_span SL xs [.inr (some (26, 0)), .inl k, .inl p] (nx, σ, rX kn tx) F := by
  refine run 2 ?_
  refine lp_Model_span hE hO hk (c := p) ?_ ((esb E).length - p) p (by omega) rfl
  have hb := scan_bd (fun x => decide (x ∈ ewd E k)) (esb E) ((esb E).length - p) p
  have hiff : p < spn (ewd E k) (esb E) p ↔ (p < (esb E).length ∧ (esb E).getD p 0 ∈ ewd E k) := by
    unfold spn
    cases hm : (esb E).length - p with
    | zero => simp only [scanB]; omega
    | succ m =>
      simp only [scanB, decide_eq_true_eq]
      by_cases hin : (esb E).getD p 0 ∈ ewd E k
      · have := scan_bd (fun x => decide (x ∈ ewd E k)) (esb E) m (p + 1)
        rw [if_pos hin]
        exact ⟨fun _ => ⟨by omega, hin⟩, fun _ => by omega⟩
      · rw [if_neg hin]
        exact ⟨fun z => by omega, fun z => absurd z.2 hin⟩
  refine run 30 ?_
  refine And.intro (fun h => ?_) (fun h => ?_)
  · have h : ((spn (ewd E k) (esb E) p : Nat) : Int) ≤ (p : Int) := h
    rw [if_neg (fun z => by have := hiff.mpr z; omega)] at hF
    exact hF
  · have h : ¬ ((spn (ewd E k) (esb E) p : Nat) : Int) ≤ (p : Int) := h
    rw [if_pos (hiff.mp (by omega))] at hF
    exact hF
theorem tw_Model_stop (hE : EvM E σ) (hO : EvOK E) (hk : k < ect E) (hp : p ≤ (esb E).length) (hF : F (some (.inl (enc (if brk (ewd E k) (esb E) p < (esb E).length then some (brk (ewd E k) (esb E) p) else none)))) (nx, σ, rX kn tx)) : T_Model_stop SL xs [.inr (some (26, 0)), .inl k, .inl p] (nx, σ, rX kn tx) F := by
  have hn : σ 26 0 16 = (esb E).length := hE.2.1.1
  refine run 2 ?_
  refine lp_Model_stop hE hO hk (c := p) ?_ ((esb E).length - p) p (by omega) rfl
  refine run 30 ?_
  refine And.intro (fun h => ?_) (fun h => ?_)
  · have h : σ 26 0 16 ≤ ((brk (ewd E k) (esb E) p : Nat) : Int) := h
    rw [hn] at h
    rw [if_neg (by omega)] at hF
    exact hF
  · have h : ¬ σ 26 0 16 ≤ ((brk (ewd E k) (esb E) p : Nat) : Int) := h
    rw [hn] at h
    rw [if_pos (by omega)] at hF
    exact hF
theorem lp_Model_balanced {S : List Int} {c q : Int} {qn : Nat} (hqn : q = qn) (hS : tl (σ 35 0) (σ 26 0 16) S) (hS64 : S.length ≤ 64) : ∀ (m : Nat) (d : Int) (p : Nat), p + m = S.length → 0 ≤ d → d ≤ p → F (some (.inl (enc (balM S qn m d p)))) (nx, σ, rX kn tx) → Xz SL xs (m_Model_balanced SL xs) F (5, [some (.inr (some (26, 0))), some (.inl c), some (.inl q), some (.inl d), some (.inl p)], [], (nx, σ, rX kn tx), 0, 0) := by
  have hn : σ 26 0 16 = S.length := hS.1
  intro m
  induction m with
  | zero =>
    intro d p hp hd hdp hF
    refine run 30 ?_
    refine And.intro (fun h => hF) (fun h => ?_)
    have h : ¬ σ 26 0 16 ≤ (p : Int) := h
    rw [hn] at h
    omega
  | succ m ih =>
    intro d p hp hd hdp hF
    have hsg : σ 35 0 (p : Int).toNat = S.getD p 0 := by rw [Int.toNat_natCast]; exact hS.2 p (by omega)
    have hw : wr ((p : Int) + 1) = ((p + 1 : Nat) : Int) := by rw [wr_eq ⟨by omega, by omega⟩]; omega
    have hix : (0 : Int) ≤ (p : Int) ∧ (p : Int) < 64 := by omega
    have fin : ∀ (b : Int), brc (S.getD p 0) = b → (b = 1 ∨ b = -1 ∨ b = 0) → Xz SL xs (m_Model_balanced SL xs) F (48, [some (.inr (some (26, 0))), some (.inl c), some (.inl q), some (.inl d), some (.inl p)], [.inl b, .inl d], (nx, σ, rX kn tx), 0, 0) := by
      intro b hb hb3
      have hwd : wr (d + b) = d + b := wr_eq ⟨by omega, by omega⟩
      simp only [balM, hb] at hF
      have go : ¬ d + b < 0 → ¬ (d + b = 0 ∧ qn < p + 1) → Xz SL xs (m_Model_balanced SL xs) F (5, [some (.inr (some (26, 0))), some (.inl c), some (.inl q), some (.inl (wr (d + b))), some (.inl (wr ((p : Int) + 1)))], [], (nx, σ, rX kn tx), 0, 0) := by
        intro h1 h2
        rw [if_neg h1, if_neg h2] at hF
        have K := ih (d + b) (p + 1) (by omega) (by omega) (by omega) hF
        rw [← hw, ← hwd] at K
        exact K
      refine run 20 ?_
      refine And.intro (fun h => ?_) (fun h => ?_)
      · have h : 0 ≤ wr (d + b) := h
        rw [hwd] at h
        refine And.intro (fun h2 => ?_) (fun h2 => ?_)
        · have h2 : ¬ wr (d + b) = 0 := h2
          rw [hwd] at h2
          have K := go (by omega) (by omega)
          exact leaf (by first | exact run 1 K | exact run 2 K | exact run 3 K)
        · have h2 : wr (d + b) = 0 := Classical.not_not.mp h2
          rw [hwd] at h2
          refine And.intro (fun h3 => ?_) (fun h3 => ?_)
          · have h3 : wr ((p : Int) + 1) ≤ q := h3
            rw [hw, hqn] at h3
            have K := go (by omega) (by omega)
            exact leaf (by first | exact run 1 K | exact run 2 K | exact run 3 K)
          · have h3 : ¬ wr ((p : Int) + 1) ≤ q := h3
            rw [hw, hqn] at h3
            rw [if_neg (by omega), if_pos ⟨by omega, by omega⟩] at hF
            have K : F (some (.inl ((p + 1 : Nat) : Int))) (nx, σ, rX kn tx) := hF
            rw [← hw] at K
            exact K
      · have h : ¬ 0 ≤ wr (d + b) := h
        rw [hwd] at h
        rw [if_pos (by omega)] at hF
        exact hF
    refine run 30 ?_
    refine And.intro (fun h => ?_) (fun h => ?_)
    · have h : σ 26 0 16 ≤ (p : Int) := h
      rw [hn] at h
      omega
    refine And.intro hix ?_
    refine And.intro (fun h => ?_) (fun h => ?_)
    · have h : ¬ σ 35 0 (p : Int).toNat = 40 := h
      rw [hsg] at h
      refine And.intro hix ?_
      refine And.intro (fun h2 => ?_) (fun h2 => ?_)
      · have h2 : ¬ σ 35 0 (p : Int).toNat = 41 := h2
        rw [hsg] at h2
        have K := fin 0 (by unfold brc; rw [if_neg h, if_neg h2]) (by omega)
        exact leaf (by first | exact run 1 K | exact run 2 K | exact run 3 K)
      · have h2 : σ 35 0 (p : Int).toNat = 41 := Classical.not_not.mp h2
        rw [hsg] at h2
        have K := fin (-1) (by unfold brc; rw [if_neg h, if_pos h2]) (by omega)
        exact leaf (by first | exact run 1 K | exact run 2 K | exact run 3 K)
    · have h : σ 35 0 (p : Int).toNat = 40 := Classical.not_not.mp h
      rw [hsg] at h
      have K := fin 1 (by unfold brc; rw [if_pos h]) (by omega)
      exact leaf (by first | exact run 1 K | exact run 2 K | exact run 3 K)
theorem tw_Model_balanced {S : List Int} {c q : Nat} (hS : tl (σ 35 0) (σ 26 0 16) S) (hS64 : S.length ≤ 64) (hc : c ≤ S.length) (hF : F (some (.inl (enc (balM S q (S.length - c) 0 c)))) (nx, σ, rX kn tx)) : T_Model_balanced SL xs [.inr (some (26, 0)), .inl c, .inl q] (nx, σ, rX kn tx) F := by
  refine run 4 ?_
  exact lp_Model_balanced (qn := q) rfl hS hS64 (S.length - c) 0 c (by omega) (by omega) (by omega) hF
theorem digm : ∀ n : Nat, n < 65 → b8 (b8 (wr (48 + w_div n 10))) = ((48 + n / 10 : Nat) : Int) ∧ b8 (b8 (wr (48 + w_rem n 10))) = ((48 + n % 10 : Nat) : Int) ∧ (n ≤ 9 → b8 (b8 (wr (48 + n))) = ((48 + n % 10 : Nat) : Int)) := by decide +kernel
theorem tw_Model_told {v c : Nat} (hv : v < 8) (hc : c < 65) (hF : ∀ σ', setM σ v (dig c) σ' → F (some (.inl c)) (nx, σ', rX kn tx)) : T_Model_told SL xs [.inr (some (26, 0)), .inl v, .inl c] (nx, σ, rX kn tx) F := by
  obtain ⟨d1, d2, d3⟩ := digm c hc
  have w0 := w640 (k := v) (by omega)
  have w1 := w64 (k := v) (i := 1) (by omega) (by omega)
  have hiv : (0 : Int) ≤ (v : Int) ∧ (v : Int) < 8 := by omega
  have hi0 : 0 ≤ wr (64 * (v : Int)) ∧ wr (64 * (v : Int)) < 512 := by rw [w0]; omega
  have hi1 : 0 ≤ wr (wr (64 * (v : Int)) + 1) ∧ wr (wr (64 * (v : Int)) + 1) < 512 := by rw [show (1 : Int) = ((1 : Nat) : Int) from rfl, w1]; omega
  have t0 : (wr (64 * (v : Int))).toNat = 64 * v := by rw [w0, Int.toNat_natCast]
  have t1 : (wr (wr (64 * (v : Int)) + 1)).toNat = 64 * v + 1 := by rw [show (1 : Int) = ((1 : Nat) : Int) from rfl, w1, Int.toNat_natCast]
  refine run 50 ?_
  refine And.intro (fun h => ?_) (fun h => ?_)
  · have h : (c : Int) ≤ 9 := h
    refine And.intro hiv ?_
    refine And.intro (fun h' => ?_) (fun h' => absurd h h')
    refine And.intro hi0 ?_
    refine And.intro (show ¬ (10 : Int) = 0 by omega) ?_
    refine And.intro hi1 ?_
    refine hF _ ⟨⟨?_, fun i hi => ?_⟩, fun a b j h1 h2 => ?_⟩
    · show upS (upS (upS σ 29 0 (v : Int).toNat 1) 28 0 (wr (64 * (v : Int))).toNat (b8 (b8 (wr (48 + (c : Int)))))) 28 0 (wr (wr (64 * (v : Int)) + 1)).toNat (b8 (b8 (wr (48 + w_rem c 10)))) 29 0 v = _
      rw [upS_ne (by omega), upS_ne (by omega), Int.toNat_natCast, upS_same]
      simp [dig, show ¬ 9 < c by omega]
    · have hi : i = 0 := by simp [dig, show ¬ 9 < c by omega] at hi; exact hi
      subst hi
      show upS (upS (upS σ 29 0 (v : Int).toNat 1) 28 0 (wr (64 * (v : Int))).toNat (b8 (b8 (wr (48 + (c : Int)))))) 28 0 (wr (wr (64 * (v : Int)) + 1)).toNat (b8 (b8 (wr (48 + w_rem c 10)))) 28 0 (64 * v + 0) = _
      rw [t0, t1, upS_ne (by omega), Nat.add_zero, upS_same, d3 (by omega)]
      simp [dig, show ¬ 9 < c by omega]
    · show upS (upS (upS σ 29 0 (v : Int).toNat 1) 28 0 (wr (64 * (v : Int))).toNat (b8 (b8 (wr (48 + (c : Int)))))) 28 0 (wr (wr (64 * (v : Int)) + 1)).toNat (b8 (b8 (wr (48 + w_rem c 10)))) a b j = _
      rw [t0, t1, upS_ne (by omega), upS_ne (by omega), upS_ne (by omega)]
  · have h : ¬ (c : Int) ≤ 9 := h
    refine And.intro hiv ?_
    refine And.intro (fun h' => absurd h' h) (fun h' => ?_)
    refine And.intro (show ¬ (10 : Int) = 0 by omega) ?_
    refine And.intro hi0 ?_
    refine And.intro (show ¬ (10 : Int) = 0 by omega) ?_
    refine And.intro hi1 ?_
    refine hF _ ⟨⟨?_, fun i hi => ?_⟩, fun a b j h1 h2 => ?_⟩
    · show upS (upS (upS σ 29 0 (v : Int).toNat 2) 28 0 (wr (64 * (v : Int))).toNat (b8 (b8 (wr (48 + w_div c 10))))) 28 0 (wr (wr (64 * (v : Int)) + 1)).toNat (b8 (b8 (wr (48 + w_rem c 10)))) 29 0 v = _
      rw [upS_ne (by omega), upS_ne (by omega), Int.toNat_natCast, upS_same]
      simp [dig, show 9 < c by omega]
    · have hi : i = 0 ∨ i = 1 := by simp [dig, show 9 < c by omega] at hi; omega
      show upS (upS (upS σ 29 0 (v : Int).toNat 2) 28 0 (wr (64 * (v : Int))).toNat (b8 (b8 (wr (48 + w_div c 10))))) 28 0 (wr (wr (64 * (v : Int)) + 1)).toNat (b8 (b8 (wr (48 + w_rem c 10)))) 28 0 (64 * v + i) = _
      rw [t0, t1]
      rcases hi with rfl | rfl
      · rw [upS_ne (by omega), Nat.add_zero, upS_same, d1]
        simp [dig, show 9 < c by omega]
      · rw [upS_same, d2]
        simp [dig, show 9 < c by omega]
    · show upS (upS (upS σ 29 0 (v : Int).toNat 2) 28 0 (wr (64 * (v : Int))).toNat (b8 (b8 (wr (48 + w_div c 10))))) 28 0 (wr (wr (64 * (v : Int)) + 1)).toNat (b8 (b8 (wr (48 + w_rem c 10)))) a b j = _
      rw [t0, t1, upS_ne (by omega), upS_ne (by omega), upS_ne (by omega)]
end
