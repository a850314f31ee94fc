/-! The model: a node that needs no others -/
section
variable {SL : Nat} {xs : Nat → Int} {nx : Nat} {σ : Sg} {kn : Nat → Option Nat} {tx : Nat → Bool} {F : Option Av → St → Prop} {E : Ev} {ν : Nu} {k p : Nat}
def plL : List (Int × Nat) := [(0, 144), (1, 164), (2, 177), (3, 198), (4, 205), (5, 212), (6, 230), (7, 241), (8, 257), (9, 276), (10, 297), (11, 302), (12, 304), (13, 338), (14, 302), (15, 338), (16, 338), (17, 338), (18, 338), (19, 338), (20, 338), (21, 311), (22, 318)]
abbrev plX (SL : Nat) (xs : Nat → Int) (F : Option Av → St → Prop) (pc : Nat) (k p a g : Int) (s : St) : Prop := Xz SL xs (m_Model_plain SL xs) F (pc, [some (.inr (some (26, 0))), some (.inl k), some (.inl p), some (.inl a), some (.inl g)], [], s, 0, 0)
theorem pl_sw {t : Nat} (hE : EvM E σ) (hO : EvOK E) (hN : NuM ν σ) (hk : k < ect E) (hp : p ≤ (esb E).length) (h : lkI plL (ekd E k : Nat) = some t) (K : plX SL xs F t k p (efa E k : Nat) (if p < (esb E).length ∧ (esb E).getD p 0 ∈ ewd E k then 1 else 0) (nx, σ, rX kn tx)) : T_Model_plain SL xs [.inr (some (26, 0)), .inl k, .inl p] (nx, σ, rX kn tx) F := by
  have hn : σ 26 0 16 = (esb E).length := hE.2.1.1
  have hS64 := hO.1
  obtain ⟨-, -, -, hw, hw64⟩ := hE.2.2 k hk
  have hk64 : k < 64 := by have := hO.2.1; omega
  obtain ⟨k1, k2, k3, -, -⟩ := hE.2.2 k hk
  have hix : (0 : Int) ≤ (k : Int) ∧ (k : Int) < 64 := by omega
  have K2 : ∀ g : Int, g = (if p < (esb E).length ∧ (esb E).getD p 0 ∈ ewd E k then 1 else 0) → Xz SL xs (m_Model_plain SL xs) F (29, [some (.inr (some (26, 0))), some (.inl k), some (.inl p), some (.inl (σ 31 0 (k : Int).toNat)), none], [.inl g], (nx, σ, rX kn tx), 0, 0) := by
    intro g hg
    rw [← hg, ← k2] at K
    refine run 6 ?_
    refine And.intro hix ?_
    refine swt_in (t := t) (show lkI _ (σ 30 0 (k : Int).toNat) = some t by rw [Int.toNat_natCast, k1]; exact h) ?_
    exact K
  refine run 20 ?_
  refine And.intro hix ?_
  refine And.intro (fun h => ?_) (fun h => ?_)
  · have h : σ 26 0 16 ≤ (p : Int) := h
    rw [hn] at h
    have K := K2 0 (by rw [if_neg (by omega)])
    exact leaf (by first | exact run 1 K | exact run 2 K | exact run 3 K)
  · have h : ¬ σ 26 0 16 ≤ (p : Int) := h
    rw [hn] at h
    refine call_eq (fun F hF => tw_Model_isIn hE hO hk (show p < (esb E).length by omega) hF) ?_
    refine And.intro (fun h2 => ?_) (fun h2 => ?_)
    · have h2 : (if (esb E).getD p 0 ∈ ewd E k then (1 : Int) else 0) = 0 := h2
      have K := K2 0 (by rw [if_neg (fun z => ite0.mp h2 z.2)])
      exact leaf (by first | exact run 1 K | exact run 2 K | exact run 3 K)
    · have h2 : ¬ (if (esb E).getD p 0 ∈ ewd E k then (1 : Int) else 0) = 0 := h2
      have K := K2 1 (by rw [if_pos ⟨by omega, Classical.not_not.mp (fun z => h2 (ite0.mpr z))⟩])
      exact leaf (by first | exact run 1 K | exact run 2 K | exact run 3 K)
theorem pl_0 (hE : EvM E σ) (hO : EvOK E) (hN : NuM ν σ) (hk : k < ect E) (hp : p ≤ (esb E).length) (hd : ekd E k = 0) (hF : F (some (.inl (enc (plA E ν k p)))) (nx, σ, rX kn tx)) {a g : Int} : plX SL xs F 144 k p a g (nx, σ, rX kn tx) := by
  have hn : σ 26 0 16 = (esb E).length := hE.2.1.1
  have hS64 := hO.1
  obtain ⟨-, -, -, hw, hw64⟩ := hE.2.2 k hk
  have hk64 : k < 64 := by have := hO.2.1; omega
  have hix : (0 : Int) ≤ (k : Int) ∧ (k : Int) < 64 := by omega
  have hwl : σ 34 0 k = (ewd E k).length := hw.1
  refine run 30 ?_
  refine And.intro hix ?_
  refine call_any (Y := fun v s' => v = some (.inl (enc (plA E ν k p))) ∧ s' = (nx, σ, rX kn tx)) ?_ ?_
  · show vT 7 (T_Model_behind SL xs) [.inr (some (26, 0)), .inr (some (33, 0)), .inl (wr (64 * (k : Int))), .inl (σ 34 0 (k : Int).toNat), .inl (p : Int)] (nx, σ, rX kn tx) _
    rw [w640 hk64, Int.toNat_natCast, hwl]
    refine tw_Model_behind33 (S := esb E) ⟨rfl, hw.2⟩ hw64 (by omega) hE.2.1 hS64 hp (fun h => ⟨?_, rfl⟩) (fun h => ⟨?_, rfl⟩)
    · have e : plA E ν k p = some (p + (ewd E k).length) := by
        simp only [plA, hd]
        exact if_pos h
      rw [e]
      rfl
    · have e : plA E ν k p = none := by
        simp only [plA, hd]
        exact if_neg h
      rw [e]
      rfl
  · intro v s' hv
    obtain ⟨rfl, rfl⟩ := hv
    exact hF
theorem pl_22 (hE : EvM E σ) (hO : EvOK E) (hN : NuM ν σ) (hk : k < ect E) (hp : p ≤ (esb E).length) (hd : ekd E k = 22) (hF : F (some (.inl (enc (plA E ν k p)))) (nx, σ, rX kn tx)) {g : Int} : plX SL xs F 318 k p (efa E k : Nat) g (nx, σ, rX kn tx) := by
  have hn : σ 26 0 16 = (esb E).length := hE.2.1.1
  have hS64 := hO.1
  obtain ⟨-, -, -, hw, hw64⟩ := hE.2.2 k hk
  have hk64 : k < 64 := by have := hO.2.1; omega
  have hae : efa E k < 8 := (hO.2.2 k hk).2.2.2.2.2 (Or.inr hd)
  obtain ⟨hv, hv64⟩ := hN (efa E k) hae
  have hix : (0 : Int) ≤ ((efa E k : Nat) : Int) ∧ ((efa E k : Nat) : Int) < 8 := by omega
  have hvl : σ 29 0 (efa E k) = (ν (efa E k)).length := hv.1
  refine run 30 ?_
  refine And.intro hix ?_
  refine call_any (Y := fun v s' => v = some (.inl (enc (plA E ν k p))) ∧ s' = (nx, σ, rX kn tx)) ?_ ?_
  · show vT 7 (T_Model_behind SL xs) [.inr (some (26, 0)), .inr (some (28, 0)), .inl (wr (64 * ((efa E k : Nat) : Int))), .inl (σ 29 0 ((efa E k : Nat) : Int).toNat), .inl (p : Int)] (nx, σ, rX kn tx) _
    rw [w640 (k := efa E k) (by omega), Int.toNat_natCast, hvl]
    refine tw_Model_behind28 (S := esb E) ⟨rfl, hv.2⟩ hv64 (by omega) hE.2.1 hS64 hp (fun h => ⟨?_, rfl⟩) (fun h => ⟨?_, rfl⟩)
    · have e : plA E ν k p = some (p + (ν (efa E k)).length) := by
        simp only [plA, hd]
        exact if_pos h
      rw [e]
      rfl
    · have e : plA E ν k p = none := by
        simp only [plA, hd]
        exact if_neg h
      rw [e]
      rfl
  · intro v s' hv
    obtain ⟨rfl, rfl⟩ := hv
    exact hF
theorem pl_1 (hE : EvM E σ) (hO : EvOK E) (hN : NuM ν σ) (hk : k < ect E) (hp : p ≤ (esb E).length) (hd : ekd E k = 1) (hF : F (some (.inl (enc (plA E ν k p)))) (nx, σ, rX kn tx)) {a : Int} : plX SL xs F 164 k p a (if p < (esb E).length ∧ (esb E).getD p 0 ∈ ewd E k then 1 else 0) (nx, σ, rX kn tx) := by
  have hn : σ 26 0 16 = (esb E).length := hE.2.1.1
  have hS64 := hO.1
  obtain ⟨-, -, -, hw, hw64⟩ := hE.2.2 k hk
  have hk64 : k < 64 := by have := hO.2.1; omega
  have hq : plA E ν k p = if p < (esb E).length ∧ (esb E).getD p 0 ∈ ewd E k then some (p + 1) else none := by simp only [plA, hd]
  rw [hq] at hF
  have hwr : wr ((p : Int) + 1) = ((p + 1 : Nat) : Int) := by rw [wr_eq ⟨by omega, by omega⟩]; omega
  refine run 30 ?_
  refine And.intro (fun h => ?_) (fun h => ?_)
  · have h : (if p < (esb E).length ∧ (esb E).getD p 0 ∈ ewd E k then (1 : Int) else 0) = 0 := h
    rw [if_neg (ite0.mp h)] at hF
    exact hF
  · have h : ¬ (if p < (esb E).length ∧ (esb E).getD p 0 ∈ ewd E k then (1 : Int) else 0) = 0 := h
    rw [if_pos (Classical.not_not.mp (fun z => h (ite0.mpr z)))] at hF
    have K : F (some (.inl ((p + 1 : Nat) : Int))) (nx, σ, rX kn tx) := hF
    rw [← hwr] at K
    exact K
theorem pl_2 (hE : EvM E σ) (hO : EvOK E) (hN : NuM ν σ) (hk : k < ect E) (hp : p ≤ (esb E).length) (hd : ekd E k = 2) (hF : F (some (.inl (enc (plA E ν k p)))) (nx, σ, rX kn tx)) {a : Int} : plX SL xs F 177 k p a (if p < (esb E).length ∧ (esb E).getD p 0 ∈ ewd E k then 1 else 0) (nx, σ, rX kn tx) := by
  have hn : σ 26 0 16 = (esb E).length := hE.2.1.1
  have hS64 := hO.1
  obtain ⟨-, -, -, hw, hw64⟩ := hE.2.2 k hk
  have hk64 : k < 64 := by have := hO.2.1; omega
  have hq : plA E ν k p = if p < (esb E).length ∧ ¬ (esb E).getD p 0 ∈ ewd E k then some (p + 1) else none := by simp only [plA, hd]
  rw [hq] at hF
  have hwr : wr ((p : Int) + 1) = ((p + 1 : Nat) : Int) := by rw [wr_eq ⟨by omega, by omega⟩]; omega
  refine run 30 ?_
  refine And.intro (fun h => ?_) (fun h => ?_)
  · have h : σ 26 0 16 ≤ (p : Int) := h
    rw [hn] at h
    rw [if_neg (by omega)] at hF
    exact hF
  have h : ¬ σ 26 0 16 ≤ (p : Int) := h
  rw [hn] at h
  refine And.intro (fun h2 => ?_) (fun h2 => ?_)
  · have h2 : ¬ (if p < (esb E).length ∧ (esb E).getD p 0 ∈ ewd E k then (1 : Int) else 0) = 0 := h2
    rw [if_neg (fun z => z.2 (Classical.not_not.mp (fun z => h2 (ite0.mpr z))).2)] at hF
    exact hF
  · have h2 : (if p < (esb E).length ∧ (esb E).getD p 0 ∈ ewd E k then (1 : Int) else 0) = 0 := Classical.not_not.mp h2
    rw [if_pos ⟨by omega, fun z => ite0.mp h2 ⟨by omega, z⟩⟩] at hF
    have K : F (some (.inl ((p + 1 : Nat) : Int))) (nx, σ, rX kn tx) := hF
    rw [← hwr] at K
    exact K
theorem pl_3 (hE : EvM E σ) (hO : EvOK E) (hN : NuM ν σ) (hk : k < ect E) (hp : p ≤ (esb E).length) (hd : ekd E k = 3) (hF : F (some (.inl (enc (plA E ν k p)))) (nx, σ, rX kn tx)) {a g : Int} : plX SL xs F 198 k p a g (nx, σ, rX kn tx) := by
  have hq : plA E ν k p = if p < (esb E).length ∧ (esb E).getD p 0 ∈ ewd E k then some (spn (ewd E k) (esb E) p) else none := by simp only [plA, hd]
  rw [hq] at hF
  refine run 30 ?_
  exact call_eq (fun F hF => tw_Model_span hE hO hk hp hF) hF
theorem pl_4 (hE : EvM E σ) (hO : EvOK E) (hN : NuM ν σ) (hk : k < ect E) (hp : p ≤ (esb E).length) (hd : ekd E k = 4) (hF : F (some (.inl (enc (plA E ν k p)))) (nx, σ, rX kn tx)) {a g : Int} : plX SL xs F 205 k p a g (nx, σ, rX kn tx) := by
  have hq : plA E ν k p = if brk (ewd E k) (esb E) p < (esb E).length then some (brk (ewd E k) (esb E) p) else none := by simp only [plA, hd]
  rw [hq] at hF
  refine run 30 ?_
  exact call_eq (fun F hF => tw_Model_stop hE hO hk hp hF) hF
theorem pl_5 (hE : EvM E σ) (hO : EvOK E) (hN : NuM ν σ) (hk : k < ect E) (hp : p ≤ (esb E).length) (hd : ekd E k = 5) (hF : F (some (.inl (enc (plA E ν k p)))) (nx, σ, rX kn tx)) {g : Int} : plX SL xs F 212 k p (efa E k : Nat) g (nx, σ, rX kn tx) := by
  have hn : σ 26 0 16 = (esb E).length := hE.2.1.1
  have hS64 := hO.1
  obtain ⟨-, -, -, hw, hw64⟩ := hE.2.2 k hk
  have hk64 : k < 64 := by have := hO.2.1; omega
  have ha := (hO.2.2 k hk).2.1
  have hq : plA E ν k p = if p + efa E k ≤ (esb E).length then some (p + efa E k) else none := by simp only [plA, hd]
  rw [hq] at hF
  refine run 30 ?_
  refine And.intro (fun h => ?_) (fun h => ?_)
  · have h : wr (σ 26 0 16 - (p : Int)) < ((efa E k : Nat) : Int) := h
    rw [hn, wr_eq ⟨by omega, by omega⟩] at h
    rw [if_neg (by omega)] at hF
    exact hF
  · have h : ¬ (wr (σ 26 0 16 - (p : Int)) < ((efa E k : Nat) : Int)) := h
    rw [hn, wr_eq ⟨by omega, by omega⟩] at h
    rw [if_pos (by omega)] at hF
    have K : F (some (.inl ((p + efa E k : Nat) : Int))) (nx, σ, rX kn tx) := hF
    rw [show ((p + efa E k : Nat) : Int) = wr ((p : Int) + ((efa E k : Nat) : Int)) by rw [wr_eq ⟨by omega, by omega⟩]; omega] at K
    exact K
theorem pl_6 (hE : EvM E σ) (hO : EvOK E) (hN : NuM ν σ) (hk : k < ect E) (hp : p ≤ (esb E).length) (hd : ekd E k = 6) (hF : F (some (.inl (enc (plA E ν k p)))) (nx, σ, rX kn tx)) {g : Int} : plX SL xs F 230 k p (efa E k : Nat) g (nx, σ, rX kn tx) := by
  have hn : σ 26 0 16 = (esb E).length := hE.2.1.1
  have hS64 := hO.1
  obtain ⟨-, -, -, hw, hw64⟩ := hE.2.2 k hk
  have hk64 : k < 64 := by have := hO.2.1; omega
  have ha := (hO.2.2 k hk).2.1
  have hq : plA E ν k p = if p = efa E k then some (p) else none := by simp only [plA, hd]
  rw [hq] at hF
  refine run 30 ?_
  refine And.intro (fun h => ?_) (fun h => ?_)
  · have h : ¬ (p : Int) = ((efa E k : Nat) : Int) := h
    skip
    rw [if_neg (by omega)] at hF
    exact hF
  · have h : ¬ (¬ (p : Int) = ((efa E k : Nat) : Int)) := h
    skip
    rw [if_pos (by omega)] at hF
    have K : F (some (.inl ((p : Nat) : Int))) (nx, σ, rX kn tx) := hF
    exact K
theorem pl_7 (hE : EvM E σ) (hO : EvOK E) (hN : NuM ν σ) (hk : k < ect E) (hp : p ≤ (esb E).length) (hd : ekd E k = 7) (hF : F (some (.inl (enc (plA E ν k p)))) (nx, σ, rX kn tx)) {g : Int} : plX SL xs F 241 k p (efa E k : Nat) g (nx, σ, rX kn tx) := by
  have hn : σ 26 0 16 = (esb E).length := hE.2.1.1
  have hS64 := hO.1
  obtain ⟨-, -, -, hw, hw64⟩ := hE.2.2 k hk
  have hk64 : k < 64 := by have := hO.2.1; omega
  have ha := (hO.2.2 k hk).2.1
  have hq : plA E ν k p = if p + efa E k = (esb E).length then some (p) else none := by simp only [plA, hd]
  rw [hq] at hF
  refine run 30 ?_
  refine And.intro (fun h => ?_) (fun h => ?_)
  · have h : ¬ wr (σ 26 0 16 - (p : Int)) = ((efa E k : Nat) : Int) := h
    rw [hn, wr_eq ⟨by omega, by omega⟩] at h
    rw [if_neg (by omega)] at hF
    exact hF
  · have h : ¬ (¬ wr (σ 26 0 16 - (p : Int)) = ((efa E k : Nat) : Int)) := h
    rw [hn, wr_eq ⟨by omega, by omega⟩] at h
    rw [if_pos (by omega)] at hF
    have K : F (some (.inl ((p : Nat) : Int))) (nx, σ, rX kn tx) := hF
    exact K
theorem pl_9 (hE : EvM E σ) (hO : EvOK E) (hN : NuM ν σ) (hk : k < ect E) (hp : p ≤ (esb E).length) (hd : ekd E k = 9) (hF : F (some (.inl (enc (plA E ν k p)))) (nx, σ, rX kn tx)) {g : Int} : plX SL xs F 276 k p (efa E k : Nat) g (nx, σ, rX kn tx) := by
  have hn : σ 26 0 16 = (esb E).length := hE.2.1.1
  have hS64 := hO.1
  obtain ⟨-, -, -, hw, hw64⟩ := hE.2.2 k hk
  have hk64 : k < 64 := by have := hO.2.1; omega
  have ha := (hO.2.2 k hk).2.1
  have hq : plA E ν k p = if p + efa E k ≤ (esb E).length then some ((esb E).length - efa E k) else none := by simp only [plA, hd]
  rw [hq] at hF
  refine run 30 ?_
  refine And.intro (fun h => ?_) (fun h => ?_)
  · have h : wr (σ 26 0 16 - (p : Int)) < ((efa E k : Nat) : Int) := h
    rw [hn, wr_eq ⟨by omega, by omega⟩] at h
    rw [if_neg (by omega)] at hF
    exact hF
  · have h : ¬ (wr (σ 26 0 16 - (p : Int)) < ((efa E k : Nat) : Int)) := h
    rw [hn, wr_eq ⟨by omega, by omega⟩] at h
    rw [if_pos (by omega)] at hF
    have K : F (some (.inl (((esb E).length - efa E k : Nat) : Int))) (nx, σ, rX kn tx) := hF
    rw [show (((esb E).length - efa E k : Nat) : Int) = wr (σ 26 0 16 - ((efa E k : Nat) : Int)) by rw [hn, wr_eq ⟨by omega, by omega⟩]; omega] at K
    exact K
theorem pl_8 (hE : EvM E σ) (hO : EvOK E) (hN : NuM ν σ) (hk : k < ect E) (hp : p ≤ (esb E).length) (hd : ekd E k = 8) (hF : F (some (.inl (enc (plA E ν k p)))) (nx, σ, rX kn tx)) {g : Int} : plX SL xs F 257 k p (efa E k : Nat) g (nx, σ, rX kn tx) := by
  have hn : σ 26 0 16 = (esb E).length := hE.2.1.1
  have hS64 := hO.1
  obtain ⟨-, -, -, hw, hw64⟩ := hE.2.2 k hk
  have hk64 : k < 64 := by have := hO.2.1; omega
  have hq : plA E ν k p = if p ≤ efa E k ∧ efa E k ≤ (esb E).length then some (efa E k) else none := by simp only [plA, hd]
  rw [hq] at hF
  refine run 30 ?_
  refine And.intro (fun h => ?_) (fun h => ?_)
  · have h : ((efa E k : Nat) : Int) < (p : Int) := h
    rw [if_neg (by omega)] at hF
    exact hF
  have h : ¬ ((efa E k : Nat) : Int) < (p : Int) := h
  refine And.intro (fun h2 => ?_) (fun h2 => ?_)
  · have h2 : σ 26 0 16 < ((efa E k : Nat) : Int) := h2
    rw [hn] at h2
    rw [if_neg (by omega)] at hF
    exact hF
  · have h2 : ¬ σ 26 0 16 < ((efa E k : Nat) : Int) := h2
    rw [hn] at h2
    rw [if_pos (by omega)] at hF
    exact hF
theorem pl_10 (hE : EvM E σ) (hO : EvOK E) (hN : NuM ν σ) (hk : k < ect E) (hp : p ≤ (esb E).length) (hd : ekd E k = 10) (hF : F (some (.inl (enc (plA E ν k p)))) (nx, σ, rX kn tx)) {a g : Int} : plX SL xs F 297 k p a g (nx, σ, rX kn tx) := by
  have hn : σ 26 0 16 = (esb E).length := hE.2.1.1
  have hS64 := hO.1
  obtain ⟨-, -, -, hw, hw64⟩ := hE.2.2 k hk
  have hk64 : k < 64 := by have := hO.2.1; omega
  have hq : plA E ν k p = some (esb E).length := by simp only [plA, hd]
  rw [hq] at hF
  have K : F (some (.inl ((esb E).length : Int))) (nx, σ, rX kn tx) := hF
  rw [← hn] at K
  exact run 10 K
/-- what 'plain' answers -/
theorem tw_Model_plain (hE : EvM E σ) (hO : EvOK E) (hN : NuM ν σ) (hk : k < ect E) (hp : p ≤ (esb E).length) (hkd : ekd E k ≤ 10 ∨ ekd E k = 22) (hF : F (some (.inl (enc (plA E ν k p)))) (nx, σ, rX kn tx)) : T_Model_plain SL xs [.inr (some (26, 0)), .inl k, .inl p] (nx, σ, rX kn tx) F := by
  have sw := fun t h K => pl_sw (SL := SL) (xs := xs) (nx := nx) (F := F) (kn := kn) (tx := tx) (t := t) hE hO hN hk hp h K
  generalize hd : ekd E k = kd at hkd sw
  have hcase : kd = 0 ∨ kd = 1 ∨ kd = 2 ∨ kd = 3 ∨ kd = 4 ∨ kd = 5 ∨ kd = 6 ∨ kd = 7 ∨ kd = 8 ∨ kd = 9 ∨ kd = 10 ∨ kd = 22 := by omega
  rcases hcase with rfl | rfl | rfl | rfl | rfl | rfl | rfl | rfl | rfl | rfl | rfl | rfl
  · exact sw _ rfl (pl_0 hE hO hN hk hp hd hF)
  · exact sw _ rfl (pl_1 hE hO hN hk hp hd hF)
  · exact sw _ rfl (pl_2 hE hO hN hk hp hd hF)
  · exact sw _ rfl (pl_3 hE hO hN hk hp hd hF)
  · exact sw _ rfl (pl_4 hE hO hN hk hp hd hF)
  · exact sw _ rfl (pl_5 hE hO hN hk hp hd hF)
  · exact sw _ rfl (pl_6 hE hO hN hk hp hd hF)
  · exact sw _ rfl (pl_7 hE hO hN hk hp hd hF)
  · exact sw _ rfl (pl_8 hE hO hN hk hp hd hF)
  · exact sw _ rfl (pl_9 hE hO hN hk hp hd hF)
  · exact sw _ rfl (pl_10 hE hO hN hk hp hd hF)
  · exact sw _ rfl (pl_22 hE hO hN hk hp hd hF)
theorem tw_Model_plain11 (hE : EvM E σ) (hO : EvOK E) (hN : NuM ν σ) (hk : k < ect E) (hp : p ≤ (esb E).length) (hkd : ekd E k = 11 ∨ ekd E k = 14) (hF : F (some (.inl p)) (nx, σ, rX kn tx)) : T_Model_plain SL xs [.inr (some (26, 0)), .inl k, .inl p] (nx, σ, rX kn tx) F := by
  refine pl_sw (t := 302) hE hO hN hk hp ?_ (run 10 hF)
  rcases hkd with h | h <;> rw [h] <;> rfl
theorem tw_Model_plain12 (hE : EvM E σ) (hO : EvOK E) (hN : NuM ν σ) (hk : k < ect E) (hp : p ≤ (esb E).length) (hkd : ekd E k = 12) (hF : F (some (.inl (enc (balN (esb E) p)))) (nx, σ, rX kn tx)) : T_Model_plain SL xs [.inr (some (26, 0)), .inl k, .inl p] (nx, σ, rX kn tx) F := by
  refine pl_sw (t := 304) hE hO hN hk hp (by rw [hkd]; rfl) (run 10 ?_)
  refine call_eq (v0 := some (.inl (enc (balN (esb E) p)))) (fun F hF => tw_Model_balanced hE.2.1 hO.1 hp ?_) hF
  rw [balM_F _ _ _ (Nat.le_refl _)]
  exact hF
theorem tw_Model_plain21 (hE : EvM E σ) (hO : EvOK E) (hN : NuM ν σ) (hk : k < ect E) (hp : p ≤ (esb E).length) (hkd : ekd E k = 21) (hF : ∀ σ', setM σ (efa E k) (dig p) σ' → F (some (.inl p)) (nx, σ', rX kn tx)) : T_Model_plain SL xs [.inr (some (26, 0)), .inl k, .inl p] (nx, σ, rX kn tx) F := by
  have hS64 := hO.1
  refine pl_sw (t := 311) hE hO hN hk hp (by rw [hkd]; rfl) (run 10 ?_)
  refine call_any (Y := fun v s' => v = some (.inl (p : Int)) ∧ ∃ σ', s' = (nx, σ', rX kn tx) ∧ setM σ (efa E k) (dig p) σ') (tw_Model_told (v := efa E k) (c := p) ((hO.2.2 k hk).2.2.2.2.2 (Or.inl hkd)) (by omega) (fun σ' h => ⟨rfl, σ', rfl, h⟩)) ?_
  intro v s' hv
  obtain ⟨rfl, σ', rfl, h⟩ := hv
  exact hF σ' h
theorem tw_Model_plain13 (hE : EvM E σ) (hO : EvOK E) (hN : NuM ν σ) (hk : k < ect E) (hp : p ≤ (esb E).length) (hkd : ekd E k = 13) (hF : F (some (.inl (-1))) (nx, σ, rX kn tx)) : T_Model_plain SL xs [.inr (some (26, 0)), .inl k, .inl p] (nx, σ, rX kn tx) F := by
  exact pl_sw (t := 338) hE hO hN hk hp (by rw [hkd]; rfl) (run 10 hF)
end
