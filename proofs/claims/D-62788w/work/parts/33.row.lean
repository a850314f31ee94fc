/-! The model: a row begins, succeeds; a variable is set -/
def bgF (σ : Sg) (n k c : Nat) (u : Int) (σ' : Sg) : Prop := σ' 36 0 n = k ∧ σ' 37 0 n = c ∧ σ' 38 0 n = c ∧ σ' 39 0 n = u ∧ σ' 40 0 n = -1 ∧ σ' 41 0 n = -1 ∧ σ' 42 0 n = 0 ∧ σ' 26 0 26 = n ∧ σ' 26 0 14 = ((n + 1 : Nat) : Int) ∧ σ' 26 0 27 = 0 ∧
  ∀ a b j, ¬ (36 ≤ a ∧ a ≤ 42 ∧ j = n) → ¬ (a = 26 ∧ (j = 14 ∨ j = 26 ∨ j = 27)) → σ' a b j = σ a b j
def scF (σ : Sg) (r : Nat) (x : Int) (σ' : Sg) : Prop := σ' 38 0 r = x ∧ σ' 26 0 27 = (if x = -1 then 3 else 2) ∧ ∀ a b j, ¬ (a = 38 ∧ b = 0 ∧ j = r) → ¬ (a = 26 ∧ b = 0 ∧ j = 27) → σ' a b j = σ a b j
def bgW (σ : Sg) (k c u z : Int) : Sg := upS (upS (upS (upS (upS (upS (upS (upS (upS (upS σ 26 0 26 (σ 26 0 14)) 26 0 14 z) 36 0 (σ 26 0 14).toNat k) 37 0 (σ 26 0 14).toNat c) 38 0 (σ 26 0 14).toNat c) 39 0 (σ 26 0 14).toNat u) 40 0 (σ 26 0 14).toNat (-1)) 41 0 (σ 26 0 14).toNat (-1)) 42 0 (σ 26 0 14).toNat 0) 26 0 27 0
theorem bgW_F {σ : Sg} {n k c : Nat} {u : Int} (hn : σ 26 0 14 = n) : bgF σ n k c u (bgW σ k c u ((n + 1 : Nat) : Int)) := by
  unfold bgW
  rw [hn, Int.toNat_natCast]
  refine ⟨?_, ?_, ?_, ?_, ?_, ?_, ?_, ?_, ?_, upS_same, fun a b j h1 h2 => ?_⟩
  · rw [upS_ne (by omega), upS_ne (by omega), upS_ne (by omega), upS_ne (by omega), upS_ne (by omega), upS_ne (by omega), upS_ne (by omega), upS_same]
  · rw [upS_ne (by omega), upS_ne (by omega), upS_ne (by omega), upS_ne (by omega), upS_ne (by omega), upS_ne (by omega), upS_same]
  · rw [upS_ne (by omega), upS_ne (by omega), upS_ne (by omega), upS_ne (by omega), upS_ne (by omega), upS_same]
  · rw [upS_ne (by omega), upS_ne (by omega), upS_ne (by omega), upS_ne (by omega), upS_same]
  · rw [upS_ne (by omega), upS_ne (by omega), upS_ne (by omega), upS_same]
  · rw [upS_ne (by omega), upS_ne (by omega), upS_same]
  · rw [upS_ne (by omega), upS_same]
  · rw [upS_ne (by omega), upS_ne (by omega), upS_ne (by omega), upS_ne (by omega), upS_ne (by omega), upS_ne (by omega), upS_ne (by omega), upS_ne (by omega), upS_ne (by omega), upS_same]
  · rw [upS_ne (by omega), upS_ne (by omega), upS_ne (by omega), upS_ne (by omega), upS_ne (by omega), upS_ne (by omega), upS_ne (by omega), upS_ne (by omega), upS_same]
  · rw [upS_ne (by omega), upS_ne (by omega), upS_ne (by omega), upS_ne (by omega), upS_ne (by omega), upS_ne (by omega), upS_ne (by omega), upS_ne (by omega), upS_ne (by omega), upS_ne (by omega)]
section
variable {SL : Nat} {xs : Nat → Int} {nx : Nat} {σ σ0 : Sg} {kn : Nat → Option Nat} {tx : Nat → Bool} {F : Option Av → St → Prop} {E : Ev} {ν : Nu} {k p n : Nat}
theorem tw_Model_begin {c : Nat} {u : Int} (hn : σ 26 0 14 = n) (hn3 : n ≤ 3000) (h0 : n = 3000 → F none (nx, upS σ 26 0 29 1, rX kn tx)) (h1 : n < 3000 → ∀ σ', bgF σ n k c u σ' → F none (nx, σ', rX kn tx)) : T_Model_begin SL xs [.inr (some (26, 0)), .inl k, .inl c, .inl u] (nx, σ, rX kn tx) F := by
  refine run 60 ?_
  refine And.intro (fun h => ?_) (fun h => ?_)
  · have h : ¬ σ 26 0 14 = 3000 := h
    rw [hn] at h
    have hlt : n < 3000 := by omega
    have K := h1 hlt _ (bgW_F (k := k) (c := c) (u := u) hn)
    have hw : wr (σ 26 0 14 + 1) = ((n + 1 : Nat) : Int) := by rw [hn, wr_eq ⟨by omega, by omega⟩]; omega
    rw [← hw] at K
    have hix : 0 ≤ σ 26 0 14 ∧ σ 26 0 14 < 3000 := by rw [hn]; omega
    refine And.intro hix ?_
    refine And.intro hix ?_
    refine And.intro hix ?_
    refine And.intro hix ?_
    refine And.intro hix ?_
    refine And.intro hix ?_
    refine And.intro hix ?_
    refine And.intro (Or.inl rfl) ?_
    exact K
  · have h : σ 26 0 14 = 3000 := Classical.not_not.mp h
    rw [hn] at h
    exact And.intro (Or.inr rfl) (h0 (by omega))
theorem tw_Model_succeeds {r : Nat} {x : Int} (hr : σ 26 0 26 = r) (hr3 : r < 3000) (hF : ∀ σ', scF σ r x σ' → F none (nx, σ', rX kn tx)) : T_Model_succeeds SL xs [.inr (some (26, 0)), .inl x] (nx, σ, rX kn tx) F := by
  have hix : 0 ≤ σ 26 0 26 ∧ σ 26 0 26 < 3000 := by rw [hr]; omega
  have ht : (σ 26 0 26).toNat = r := by rw [hr, Int.toNat_natCast]
  have K : ∀ w : Int, w = (if x = -1 then 3 else 2) → F none (nx, upS (upS σ 38 0 (σ 26 0 26).toNat x) 26 0 27 w, rX kn tx) := by
    intro w hw
    refine hF _ ⟨?_, ?_, fun a b j h1 h2 => ?_⟩
    · rw [ht, upS_ne (by omega), upS_same]
    · rw [upS_same, hw]
    · rw [ht, upS_ne h2, upS_ne h1]
  refine run 30 ?_
  refine And.intro hix ?_
  refine And.intro (fun h => ?_) (fun h => ?_)
  · have h : ¬ x = -1 := h
    exact K 2 (by rw [if_neg h])
  · have h : x = -1 := Classical.not_not.mp h
    exact K 3 (by rw [if_pos h])
/-- a part of a variable is set -/
def parM (σ : Sg) (v : Nat) (l : List Int) (i : Nat) (σ' : Sg) : Prop := σ' 29 0 v = l.length ∧ (∀ j, j < i → σ' 28 0 (64 * v + j) = l.getD j 0) ∧ ∀ a b j, ¬ (a = 29 ∧ b = 0 ∧ j = v) → ¬ (a = 28 ∧ b = 0 ∧ 64 * v ≤ j ∧ j < 64 * v + 64) → σ' a b j = σ a b j
theorem lp_Model_becomes {v r p' : Nat} (hE : EvM E σ) (hO : EvOK E) (hb : byt (esb E)) (hv : v < 8) (hr : r < 3000) (h37 : σ 37 0 r = p) (hpp : p ≤ p') (hp' : p' ≤ (esb E).length) (hF : ∀ σ', setM σ v (((esb E).drop p).take (p' - p)) σ' → F none (nx, σ', rX kn tx)) : ∀ (m i : Nat) (σ1 : Sg), i + m = p' - p → parM σ v (((esb E).drop p).take (p' - p)) i σ1 → Xz SL xs (m_Model_becomes SL xs) F (21, [some (.inr (some (26, 0))), some (.inl v), some (.inl r), some (.inl i)], [], (nx, σ1, rX kn tx), 0, 0) := by
  have hS64 := hO.1
  have hlen : (((esb E).drop p).take (p' - p)).length = p' - p := by simp; omega
  have hiv : (0 : Int) ≤ (v : Int) ∧ (v : Int) < 8 := by omega
  have hir : (0 : Int) ≤ (r : Int) ∧ (r : Int) < 3000 := by omega
  intro m
  induction m with
  | zero =>
    intro i σ1 hi hP
    obtain ⟨q1, q2, q3⟩ := hP
    rw [hlen] at q1
    refine run 30 ?_
    refine And.intro hiv ?_
    refine And.intro (fun h => hF σ1 ⟨⟨by rw [hlen]; exact q1, fun j hj => q2 j (by omega)⟩, q3⟩) (fun h => ?_)
    have h : ¬ σ1 29 0 (v : Int).toNat ≤ (i : Int) := h
    rw [Int.toNat_natCast, q1] at h
    omega
  | succ m ih =>
    intro i σ1 hi hP
    have hP' := hP
    obtain ⟨q1, q2, q3⟩ := hP
    rw [hlen] at q1
    have hw6 := w64 (k := v) (i := i) (by omega) (by omega)
    have e37 : σ1 37 0 (r : Int).toNat = p := by rw [Int.toNat_natCast, q3 37 0 r (by omega) (by omega)]; exact h37
    have hw2 : wr (σ1 37 0 (r : Int).toNat + (i : Int)) = ((p + i : Nat) : Int) := by rw [e37, wr_eq ⟨by omega, by omega⟩]; omega
    have hwi : wr ((i : Int) + 1) = ((i + 1 : Nat) : Int) := by rw [wr_eq ⟨by omega, by omega⟩]; omega
    have hsg : σ1 35 0 (wr (σ1 37 0 (r : Int).toNat + (i : Int))).toNat = (esb E).getD (p + i) 0 := by
      rw [hw2, Int.toNat_natCast, q3 35 0 _ (by omega) (by omega)]
      exact hE.2.1.2 (p + i) (by omega)
    have hgd : (((esb E).drop p).take (p' - p)).getD i 0 = (esb E).getD (p + i) 0 := by
      rw [List.getD_eq_getElem?_getD, List.getD_eq_getElem?_getD, List.getElem?_take, if_pos (by omega), List.getElem?_drop]
    have hb8 : b8 ((esb E).getD (p + i) 0) = (esb E).getD (p + i) 0 := by
      refine hb _ ?_
      rw [List.getD_eq_getElem?_getD, List.getElem?_eq_getElem (by omega)]
      exact List.getElem_mem _
    have K := ih (i + 1) (upS σ1 28 0 (64 * v + i) ((esb E).getD (p + i) 0)) (by omega) ⟨by rw [upS_ne (by omega), hlen]; exact q1, fun j hj => by
        by_cases hji : j = i
        · subst hji
          rw [upS_same, hgd]
        · rw [upS_ne (by omega)]
          exact q2 j (by omega), fun a b j h1 h2 => by rw [upS_ne (by omega)]; exact q3 a b j h1 h2⟩
    have eix : (wr (wr (64 * (v : Int)) + (i : Int))).toNat = 64 * v + i := by rw [hw6, Int.toNat_natCast]
    rw [← eix, ← hb8, ← hsg, ← hwi] at K
    refine run 30 ?_
    refine And.intro hiv ?_
    refine And.intro (fun h => ?_) (fun h => ?_)
    · have h : σ1 29 0 (v : Int).toNat ≤ (i : Int) := h
      rw [Int.toNat_natCast, q1] at h
      omega
    refine And.intro hir ?_
    refine And.intro (by show 0 ≤ wr (σ1 37 0 (r : Int).toNat + (i : Int)) ∧ wr (σ1 37 0 (r : Int).toNat + (i : Int)) < 64; rw [hw2]; omega) ?_
    refine And.intro (by show 0 ≤ wr (wr (64 * (v : Int)) + (i : Int)) ∧ wr (wr (64 * (v : Int)) + (i : Int)) < 512; rw [hw6]; omega) ?_
    exact leaf (by first | exact run 1 K | exact run 2 K | exact run 3 K)
theorem tw_Model_becomes {v r p' : Nat} (hE : EvM E σ) (hO : EvOK E) (hb : byt (esb E)) (hv : v < 8) (hr : r < 3000) (h37 : σ 37 0 r = p) (h38 : σ 38 0 r = p') (hpp : p ≤ p') (hp' : p' ≤ (esb E).length) (hF : ∀ σ', setM σ v (((esb E).drop p).take (p' - p)) σ' → F none (nx, σ', rX kn tx)) : T_Model_becomes SL xs [.inr (some (26, 0)), .inl v, .inl r] (nx, σ, rX kn tx) F := by
  have hS64 := hO.1
  have hlen : (((esb E).drop p).take (p' - p)).length = p' - p := by simp; omega
  have hiv : (0 : Int) ≤ (v : Int) ∧ (v : Int) < 8 := by omega
  have hir : (0 : Int) ≤ (r : Int) ∧ (r : Int) < 3000 := by omega
  have hw : wr (σ 38 0 (r : Int).toNat - σ 37 0 (r : Int).toNat) = ((p' - p : Nat) : Int) := by rw [Int.toNat_natCast, h38, h37, wr_eq ⟨by omega, by omega⟩]; omega
  have K := lp_Model_becomes (SL := SL) (xs := xs) hE hO hb hv hr h37 hpp hp' hF (p' - p) 0 (upS σ 29 0 (v : Int).toNat ((p' - p : Nat) : Int)) (Nat.zero_add _) ⟨by rw [Int.toNat_natCast, upS_same, hlen], fun j hj => by omega, fun a b j h1 h2 => by rw [Int.toNat_natCast, upS_ne h1]⟩
  rw [← hw] at K
  refine run 20 ?_
  refine And.intro hir ?_
  refine And.intro hir ?_
  refine And.intro hiv ?_
  exact leaf (by first | exact run 1 K | exact run 2 K | exact run 3 K)
end
