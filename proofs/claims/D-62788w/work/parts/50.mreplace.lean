/-! The model's replace -/
theorem w3 {v p i : Nat} (hv : v < 64) (hp : p < 128) (hi : i < 128) : wr (wr (wr (64 * (v : Int)) + (p : Int)) + (i : Int)) = ((64 * v + p + i : Nat) : Int) := by
  rw [w64 hv hp, wr_eq ⟨by omega, by omega⟩]
  omega
section
variable {SL : Nat} {xs : Nat → Int} {nx hi : Nat} {σ σ' : Sg} {kn : Nat → Option Nat} {tx : Nat → Bool} {F : Option Av → St → Prop} {E : Ev} {ν : Nu} {sl : List Int}
abbrev mrL (v : Nat) (d i : Int) : List (Option Av) := [some (.inr (some (26, 0))), some (.inl (v : Int)), some (.inl d), some (.inl i)]
theorem lp_mrA {v p : Nat} {T : List Int} (hv : v < 8) (hT : tl (fun i => σ 28 0 (64 * v + i)) (σ 29 0 v) T) (hT64 : T.length ≤ 64) (hTb : byt T) (hpT : p ≤ T.length) (h13 : σ 26 0 13 = p) (hK : ∀ σ1, (∀ j, j < T.length - p → σ1 35 0 j = T.getD (p + j) 0) → (∀ a b j, ¬ a = 35 → σ1 a b j = σ a b j) → Xz SL xs (m_Model_replace SL xs) F (115, mrL v ((T.length - p : Nat) : Int) ((T.length - p : Nat) : Int), [], (nx, σ1, rX kn tx), 0, 0)) : ∀ (m i : Nat) (σ1 : Sg), i + m = T.length - p → (∀ j, j < i → σ1 35 0 j = T.getD (p + j) 0) → (∀ a b j, ¬ a = 35 → σ1 a b j = σ a b j) → Xz SL xs (m_Model_replace SL xs) F (82, mrL v ((T.length - p : Nat) : Int) i, [], (nx, σ1, rX kn tx), 0, 0) := by
  intro m
  induction m with
  | zero =>
    intro i σ1 hi h1 h2
    have hi : i = T.length - p := by omega
    subst hi
    refine run 3 ?_
    refine And.intro (fun h => leaf (hK σ1 h1 h2)) (fun h => absurd (show ((T.length - p : Nat) : Int) ≤ ((T.length - p : Nat) : Int) from Int.le_refl _) h)
  | succ m ih =>
    intro i σ1 hi h1 h2
    have e13 : σ1 26 0 13 = p := by rw [h2 26 0 13 (by omega)]; exact h13
    have hw6 : wr (wr (wr (64 * (v : Int)) + σ1 26 0 13) + (i : Int)) = ((64 * v + p + i : Nat) : Int) := by rw [e13]; exact w3 (by omega) (by omega) (by omega)
    have hwi : wr ((i : Int) + 1) = ((i + 1 : Nat) : Int) := by rw [wr_eq ⟨by omega, by omega⟩]; omega
    have hsg : σ1 28 0 (wr (wr (wr (64 * (v : Int)) + σ1 26 0 13) + (i : Int))).toNat = T.getD (p + i) 0 := by
      rw [hw6, Int.toNat_natCast, h2 28 0 _ (by omega), show 64 * v + p + i = 64 * v + (p + i) by omega]
      exact hT.2 (p + i) (by omega)
    have hb8 : b8 (T.getD (p + i) 0) = T.getD (p + i) 0 := by
      refine hTb _ ?_
      rw [List.getD_eq_getElem?_getD, List.getElem?_eq_getElem (by omega)]
      exact List.getElem_mem _
    have K := ih (i + 1) (upS σ1 35 0 i (T.getD (p + i) 0)) (by omega) (fun j hj => by
      by_cases hji : j = i
      · subst hji
        exact upS_same
      · rw [upS_ne (by omega)]
        exact h1 j (by omega)) (fun a b j h => by rw [upS_ne (by omega)]; exact h2 a b j h)
    have K2 : Xz SL xs (m_Model_replace SL xs) F (82, mrL v ((T.length - p : Nat) : Int) (wr ((i : Int) + 1)), [], (nx, upS σ1 35 0 (i : Int).toNat (b8 (σ1 28 0 (wr (wr (wr (64 * (v : Int)) + σ1 26 0 13) + (i : Int))).toNat)), rX kn tx), 0, 0) := by
      rw [hwi, hsg, hb8, Int.toNat_natCast]
      exact K
    refine run 24 ?_
    refine And.intro (fun h => absurd (show ((T.length - p : Nat) : Int) ≤ (i : Int) from h) (by omega)) (fun h => ?_)
    refine And.intro (by show 0 ≤ wr (wr (wr (64 * (v : Int)) + σ1 26 0 13) + (i : Int)) ∧ wr (wr (wr (64 * (v : Int)) + σ1 26 0 13) + (i : Int)) < 512; rw [hw6]; omega) ?_
    refine And.intro ⟨show (0 : Int) ≤ (i : Int) by omega, show (i : Int) < 64 by omega⟩ ?_
    exact leaf (by first | exact run 1 K2 | exact run 2 K2 | exact run 3 K2)
theorem lp_mrB {v f : Nat} {d : Int} (hv : v < 8) (hs : tl (σ 27 0) (σ 26 0 2) sl) (hsb : byt sl) (hf : f + sl.length ≤ 64) (h12 : σ 26 0 12 = f) (hK : ∀ σ1, (∀ j, j < sl.length → σ1 28 0 (64 * v + f + j) = sl.getD j 0) → (∀ a b j, ¬ (a = 28 ∧ b = 0 ∧ 64 * v + f ≤ j ∧ j < 64 * v + f + sl.length) → σ1 a b j = σ a b j) → Xz SL xs (m_Model_replace SL xs) F (153, mrL v d sl.length, [], (nx, σ1, rX kn tx), 0, 0)) : ∀ (m i : Nat) (σ1 : Sg), i + m = sl.length → (∀ j, j < i → σ1 28 0 (64 * v + f + j) = sl.getD j 0) → (∀ a b j, ¬ (a = 28 ∧ b = 0 ∧ 64 * v + f ≤ j ∧ j < 64 * v + f + sl.length) → σ1 a b j = σ a b j) → Xz SL xs (m_Model_replace SL xs) F (117, mrL v d i, [], (nx, σ1, rX kn tx), 0, 0) := by
  have hl : σ 26 0 2 = sl.length := hs.1
  intro m
  induction m with
  | zero =>
    intro i σ1 hi h1 h2
    have hi : i = sl.length := by omega
    subst hi
    refine run 4 ?_
    refine And.intro (fun h => leaf (hK σ1 h1 h2)) (fun h => absurd (show σ1 26 0 2 ≤ (sl.length : Int) by rw [h2 26 0 2 (by omega), hl]; exact Int.le_refl _) h)
  | succ m ih =>
    intro i σ1 hi h1 h2
    have e12 : σ1 26 0 12 = f := by rw [h2 26 0 12 (by omega)]; exact h12
    have hw6 : wr (wr (wr (64 * (v : Int)) + σ1 26 0 12) + (i : Int)) = ((64 * v + f + i : Nat) : Int) := by rw [e12]; exact w3 (by omega) (by omega) (by omega)
    have hwi : wr ((i : Int) + 1) = ((i + 1 : Nat) : Int) := by rw [wr_eq ⟨by omega, by omega⟩]; omega
    have hsg : σ1 27 0 (i : Int).toNat = sl.getD i 0 := by rw [Int.toNat_natCast, h2 27 0 _ (by omega)]; exact hs.2 i (by omega)
    have hb8 : b8 (sl.getD i 0) = sl.getD i 0 := by
      refine hsb _ ?_
      rw [List.getD_eq_getElem?_getD, List.getElem?_eq_getElem (by omega)]
      exact List.getElem_mem _
    have K := ih (i + 1) (upS σ1 28 0 (64 * v + f + i) (sl.getD i 0)) (by omega) (fun j hj => by
      by_cases hji : j = i
      · subst hji
        exact upS_same
      · rw [upS_ne (by omega)]
        exact h1 j (by omega)) (fun a b j h => by rw [upS_ne (by omega)]; exact h2 a b j h)
    have K2 : Xz SL xs (m_Model_replace SL xs) F (117, mrL v d (wr ((i : Int) + 1)), [], (nx, upS σ1 28 0 (wr (wr (wr (64 * (v : Int)) + σ1 26 0 12) + (i : Int))).toNat (b8 (σ1 27 0 (i : Int).toNat)), rX kn tx), 0, 0) := by
      rw [hwi, hsg, hb8, hw6, Int.toNat_natCast]
      exact K
    refine run 24 ?_
    refine And.intro (fun h => ?_) (fun h => ?_)
    · have h : σ1 26 0 2 ≤ (i : Int) := h
      rw [h2 26 0 2 (by omega), hl] at h
      omega
    refine And.intro ⟨show (0 : Int) ≤ (i : Int) by omega, show (i : Int) < 64 by omega⟩ ?_
    refine And.intro (by show 0 ≤ wr (wr (wr (64 * (v : Int)) + σ1 26 0 12) + (i : Int)) ∧ wr (wr (wr (64 * (v : Int)) + σ1 26 0 12) + (i : Int)) < 512; rw [hw6]; omega) ?_
    exact leaf (by first | exact run 1 K2 | exact run 2 K2 | exact run 3 K2)
theorem w4 {v f g i : Nat} (hv : v < 64) (hf : f < 128) (hg : g < 128) (hi : i < 128) : wr (wr (wr (wr (64 * (v : Int)) + (f : Int)) + (g : Int)) + (i : Int)) = ((64 * v + f + g + i : Nat) : Int) := by
  rw [w3 hv hf hg, wr_eq ⟨by omega, by omega⟩]
  omega
theorem lp_mrC {v f g d : Nat} {R : List Int} (hv : v < 8) (hR : R.length = d) (hs : ∀ j, j < d → σ 35 0 j = R.getD j 0) (hRb : byt R) (hf : f + g + d ≤ 64) (h12 : σ 26 0 12 = f) (h2' : σ 26 0 2 = g) (hK : ∀ σ1, (∀ j, j < d → σ1 28 0 (64 * v + f + g + j) = R.getD j 0) → (∀ a b j, ¬ (a = 28 ∧ b = 0 ∧ 64 * v + f + g ≤ j ∧ j < 64 * v + f + g + d) → σ1 a b j = σ a b j) → Xz SL xs (m_Model_replace SL xs) F (193, mrL v d d, [], (nx, σ1, rX kn tx), 0, 0)) : ∀ (m i : Nat) (σ1 : Sg), i + m = d → (∀ j, j < i → σ1 28 0 (64 * v + f + g + j) = R.getD j 0) → (∀ a b j, ¬ (a = 28 ∧ b = 0 ∧ 64 * v + f + g ≤ j ∧ j < 64 * v + f + g + d) → σ1 a b j = σ a b j) → Xz SL xs (m_Model_replace SL xs) F (155, mrL v d i, [], (nx, σ1, rX kn tx), 0, 0) := by
  intro m
  induction m with
  | zero =>
    intro i σ1 hi h1 h2
    have hi : i = d := by omega
    subst hi
    refine run 3 ?_
    refine And.intro (fun h => leaf (hK σ1 h1 h2)) (fun h => absurd (show (i : Int) ≤ (i : Int) from Int.le_refl _) h)
  | succ m ih =>
    intro i σ1 hi h1 h2
    have e12 : σ1 26 0 12 = f := by rw [h2 26 0 12 (by omega)]; exact h12
    have e2 : σ1 26 0 2 = g := by rw [h2 26 0 2 (by omega)]; exact h2'
    have hw6 : wr (wr (wr (wr (64 * (v : Int)) + σ1 26 0 12) + σ1 26 0 2) + (i : Int)) = ((64 * v + f + g + i : Nat) : Int) := by rw [e12, e2]; exact w4 (by omega) (by omega) (by omega) (by omega)
    have hwi : wr ((i : Int) + 1) = ((i + 1 : Nat) : Int) := by rw [wr_eq ⟨by omega, by omega⟩]; omega
    have hsg : σ1 35 0 (i : Int).toNat = R.getD i 0 := by rw [Int.toNat_natCast, h2 35 0 _ (by omega)]; exact hs i (by omega)
    have hb8 : b8 (R.getD i 0) = R.getD i 0 := by
      refine hRb _ ?_
      rw [List.getD_eq_getElem?_getD, List.getElem?_eq_getElem (by omega)]
      exact List.getElem_mem _
    have K := ih (i + 1) (upS σ1 28 0 (64 * v + f + g + i) (R.getD i 0)) (by omega) (fun j hj => by
      by_cases hji : j = i
      · subst hji
        exact upS_same
      · rw [upS_ne (by omega)]
        exact h1 j (by omega)) (fun a b j h => by rw [upS_ne (by omega)]; exact h2 a b j h)
    have K2 : Xz SL xs (m_Model_replace SL xs) F (155, mrL v d (wr ((i : Int) + 1)), [], (nx, upS σ1 28 0 (wr (wr (wr (wr (64 * (v : Int)) + σ1 26 0 12) + σ1 26 0 2) + (i : Int))).toNat (b8 (σ1 35 0 (i : Int).toNat)), rX kn tx), 0, 0) := by
      rw [hwi, hsg, hb8, hw6, Int.toNat_natCast]
      exact K
    refine run 24 ?_
    refine And.intro (fun h => absurd (show (d : Int) ≤ (i : Int) from h) (by omega)) (fun h => ?_)
    refine And.intro ⟨show (0 : Int) ≤ (i : Int) by omega, show (i : Int) < 64 by omega⟩ ?_
    refine And.intro (by show 0 ≤ wr (wr (wr (wr (64 * (v : Int)) + σ1 26 0 12) + σ1 26 0 2) + (i : Int)) ∧ wr (wr (wr (wr (64 * (v : Int)) + σ1 26 0 12) + σ1 26 0 2) + (i : Int)) < 512; rw [hw6]; omega) ?_
    exact leaf (by first | exact run 1 K2 | exact run 2 K2 | exact run 3 K2)
def mrF (σ : Sg) (v : Nat) (l : List Int) (σ1 : Sg) : Prop := tl (fun i => σ1 28 0 (64 * v + i)) (σ1 29 0 v) l ∧ σ1 26 0 2 = 0 ∧ ∀ a b j, ¬ (a = 26 ∧ (j = 0 ∨ j = 2)) → ¬ a = 35 → ¬ (a = 29 ∧ b = 0 ∧ j = v) → ¬ (a = 28 ∧ b = 0 ∧ 64 * v ≤ j ∧ j < 64 * v + 64) → σ1 a b j = σ a b j
theorem tw_Model_replace {v b p : Nat} {T : List Int} (hv : v < 8) (hm : ¬ σ 26 0 11 = 0) (hb : σ 26 0 12 = b) (hp : σ 26 0 13 = p) (hbp : b ≤ p) (hT : tl (fun i => σ 28 0 (64 * v + i)) (σ 29 0 v) T) (hT64 : T.length ≤ 64) (hTb : byt T) (hpT : p ≤ T.length) (hs : tl (σ 27 0) (σ 26 0 2) sl) (hsb : byt sl) (h64 : b + sl.length + (T.length - p) ≤ 64)
    (hF : ∀ σ1, mrF σ v (T.take b ++ sl ++ T.drop p) σ1 → F (some (.inl 1)) (nx, σ1, rX kn tx)) : T_Model_replace SL xs [.inr (some (26, 0)), .inl v] (nx, σ, rX kn tx) F := by
  have lT : σ 29 0 v = T.length := hT.1
  have ls : σ 26 0 2 = sl.length := hs.1
  have hiv : (0 : Int) ≤ (v : Int) ∧ (v : Int) < 8 := by omega
  have h0 : ∀ a b j, ¬ (a = 26 ∧ j = 0) → upS σ 26 0 0 0 a b j = σ a b j := fun a b j h => upS_ne (by omega)
  have K80 : Xz SL xs (m_Model_replace SL xs) F (82, mrL v ((T.length - p : Nat) : Int) ((0 : Nat) : Int), [], (nx, upS σ 26 0 0 0, rX kn tx), 0, 0) := by
    refine lp_mrA (σ := upS σ 26 0 0 0) hv (hT.fr (fun i _ => h0 28 0 _ (by omega)) (h0 29 0 v (by omega))) hT64 hTb hpT (by rw [h0 26 0 13 (by omega)]; exact hp) (fun σ1 a1 a2 => ?_) (T.length - p) 0 _ (Nat.zero_add _) (fun j hj => by omega) (fun a b j _ => rfl)
    have KB := lp_mrB (SL := SL) (xs := xs) (nx := nx) (kn := kn) (tx := tx) (F := F) (σ := σ1) (sl := sl) (v := v) (f := b) (d := ((T.length - p : Nat) : Int)) hv (hs.fr (fun i _ => by rw [a2 27 0 i (by omega), h0 27 0 i (by omega)]) (by rw [a2 26 0 2 (by omega), h0 26 0 2 (by omega)])) hsb (by omega) (by rw [a2 26 0 12 (by omega), h0 26 0 12 (by omega)]; exact hb) (fun σ2 b1 b2 => ?_) sl.length 0 σ1 (Nat.zero_add _) (fun j hj => by omega) (fun a b j _ => rfl)
    · exact run 2 KB
    · have KC := lp_mrC (SL := SL) (xs := xs) (nx := nx) (kn := kn) (tx := tx) (F := F) (σ := σ2) (v := v) (f := b) (g := sl.length) (d := T.length - p) (R := T.drop p) hv (by simp) (fun j hj => by
        rw [b2 35 0 j (by omega), a1 j hj, List.getD_eq_getElem?_getD, List.getD_eq_getElem?_getD, List.getElem?_drop]) (fun x hx => hTb x (List.mem_of_mem_drop hx)) (by omega) (by rw [b2 26 0 12 (by omega), a2 26 0 12 (by omega), h0 26 0 12 (by omega)]; exact hb) (by rw [b2 26 0 2 (by omega), a2 26 0 2 (by omega), h0 26 0 2 (by omega)]; exact ls) (fun σ3 c1 c2 => ?_) (T.length - p) 0 σ2 (Nat.zero_add _) (fun j hj => by omega) (fun a b j _ => rfl)
      · exact run 2 KC
      · have n3 : ∀ a b' j, ¬ (a = 26 ∧ j = 0) → ¬ a = 35 → ¬ (a = 28 ∧ b' = 0 ∧ 64 * v + b ≤ j ∧ j < 64 * v + 64) → σ3 a b' j = σ a b' j := fun a b' j q1 q2 q3 => by rw [c2 a b' j (by omega), b2 a b' j (by omega), a2 a b' j q2, h0 a b' j q1]
        have e12 : σ3 26 0 12 = b := by rw [n3 26 0 12 (by omega) (by omega) (by omega)]; exact hb
        have e2 : σ3 26 0 2 = sl.length := by rw [n3 26 0 2 (by omega) (by omega) (by omega)]; exact ls
        have hlen : (T.take b ++ sl ++ T.drop p).length = b + sl.length + (T.length - p) := by simp; omega
        have hw : wr (wr (σ3 26 0 12 + σ3 26 0 2) + ((T.length - p : Nat) : Int)) = ((b + sl.length + (T.length - p) : Nat) : Int) := by rw [e12, e2, wr_eq (x := (b : Int) + sl.length) ⟨by omega, by omega⟩, wr_eq ⟨by omega, by omega⟩]; omega
        refine run 20 ?_
        refine And.intro hiv ?_
        refine And.intro (Or.inr rfl) (hF _ ⟨⟨?_, fun i hi => ?_⟩, upS_same, fun a b' j q1 q2 q3 q4 => ?_⟩)
        · show upS (upS σ3 29 0 (v : Int).toNat (wr (wr (σ3 26 0 12 + σ3 26 0 2) + ((T.length - p : Nat) : Int)))) 26 0 2 0 29 0 v = _
          rw [Int.toNat_natCast, upS_ne (by omega), upS_same, hw, hlen]
        · show upS (upS σ3 29 0 (v : Int).toNat (wr (wr (σ3 26 0 12 + σ3 26 0 2) + ((T.length - p : Nat) : Int)))) 26 0 2 0 28 0 (64 * v + i) = _
          rw [upS_ne (by omega), upS_ne (by omega)]
          rw [hlen] at hi
          have htb : (T.take b).length = b := by simp; omega
          by_cases i1 : i < b
          · rw [n3 28 0 _ (by omega) (by omega) (by omega)]
            have := hT.2 i (by omega)
            rw [show σ 28 0 (64 * v + i) = T.getD i 0 from this, List.getD_eq_getElem?_getD, List.getD_eq_getElem?_getD, List.append_assoc, List.getElem?_append_left (by omega), List.getElem?_take, if_pos i1]
          · by_cases i2 : i < b + sl.length
            · have := b1 (i - b) (by omega)
              rw [c2 28 0 _ (by omega), show 64 * v + i = 64 * v + b + (i - b) by omega, this, List.getD_eq_getElem?_getD, List.getD_eq_getElem?_getD, List.append_assoc, List.getElem?_append_right (by omega), htb, List.getElem?_append_left (by omega)]
            · have := c1 (i - b - sl.length) (by omega)
              rw [show 64 * v + i = 64 * v + b + sl.length + (i - b - sl.length) by omega, this, List.getD_eq_getElem?_getD, List.getD_eq_getElem?_getD, List.append_assoc, List.getElem?_append_right (by omega), htb, List.getElem?_append_right (by omega)]
        · show upS (upS σ3 29 0 (v : Int).toNat (wr (wr (σ3 26 0 12 + σ3 26 0 2) + ((T.length - p : Nat) : Int)))) 26 0 2 0 a b' j = _
          rw [Int.toNat_natCast, upS_ne (by omega), upS_ne (by omega), n3 a b' j (by omega) q2 (by omega)]
  have e29 : upS σ 26 0 0 0 29 0 (v : Int).toNat = T.length := by rw [Int.toNat_natCast, upS_ne (by omega)]; exact lT
  have e13 : upS σ 26 0 0 0 26 0 13 = p := by rw [upS_ne (by omega)]; exact hp
  have e12 : upS σ 26 0 0 0 26 0 12 = b := by rw [upS_ne (by omega)]; exact hb
  have e2 : upS σ 26 0 0 0 26 0 2 = sl.length := by rw [upS_ne (by omega)]; exact ls
  have hwr : wr (upS σ 26 0 0 0 29 0 (v : Int).toNat - upS σ 26 0 0 0 26 0 13) = ((T.length - p : Nat) : Int) := by rw [e29, e13, wr_eq ⟨by omega, by omega⟩]; omega
  have K68 : Xz SL xs (m_Model_replace SL xs) F (68, [some (.inr (some (26, 0))), some (.inl (v : Int)), none, none], [], (nx, upS σ 26 0 0 0, rX kn tx), 0, 0) := by
    rw [← hwr] at K80
    refine run 12 ?_
    refine And.intro hiv ?_
    exact leaf (by first | exact run 1 K80 | exact run 2 K80 | exact run 3 K80 | exact run 4 K80 | exact run 5 K80 | exact run 6 K80)
  refine run 36 ?_
  refine call_eq (fun F hF => tw_Model_isVariable hF) ?_
  refine And.intro (fun h => absurd (show (if 0 ≤ (v : Int) ∧ (v : Int) < 8 then (1 : Int) else 0) = 0 from h) (by rw [if_pos hiv]; omega)) (fun h => ?_)
  refine And.intro (fun h => absurd (show σ 26 0 11 = 0 from h) hm) (fun h => ?_)
  refine And.intro (fun h => absurd (show upS σ 26 0 0 0 26 0 13 = -1 from h) (by rw [e13]; omega)) (fun h => ?_)
  refine And.intro hiv ?_
  refine And.intro (fun h => ?_) (fun h => ?_)
  · have h : upS σ 26 0 0 0 29 0 (v : Int).toNat < upS σ 26 0 0 0 26 0 13 := h
    rw [e29, e13] at h
    omega
  refine And.intro hiv ?_
  refine And.intro (fun h => leaf K68) (fun h => ?_)
  exfalso
  have h : ¬ wr (wr (upS σ 26 0 0 0 29 0 (v : Int).toNat - wr (upS σ 26 0 0 0 26 0 13 - upS σ 26 0 0 0 26 0 12)) + upS σ 26 0 0 0 26 0 2) ≤ 64 := h
  rw [e29, e13, e12, e2, wr_eq (x := (p : Int) - b) ⟨by omega, by omega⟩, wr_eq (x := (T.length : Int) - ((p : Int) - b)) ⟨by omega, by omega⟩, wr_eq ⟨by omega, by omega⟩] at h
  omega
end
