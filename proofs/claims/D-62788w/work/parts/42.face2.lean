/-! Both faces: latest, about, clear, let, match -/
section
variable {SL : Nat} {xs : Nat → Int} {nx hi : Nat} {σ σ' : Sg} {kn : Nat → Option Nat} {tx : Nat → Bool} {F : Option Av → St → Prop} {E : Ev} {ν : Nu} {sl : List Int}
theorem tw_Mill_isWell (hF : F (some (.inl (if ¬ σ 0 0 5 = 0 ∧ σ 9 0 11 = 1 then 1 else 0))) (nx, σ, rX kn tx)) : T_Mill_isWell SL xs [.inr (some (0, 0))] (nx, σ, rX kn tx) F := by
  refine run 20 ?_
  refine And.intro (fun h => ?_) (fun h => ?_)
  · have h : σ 0 0 5 = 0 := h
    rw [if_neg (fun z => z.1 h)] at hF
    exact And.intro (Or.inl rfl) hF
  · have h : ¬ σ 0 0 5 = 0 := h
    refine And.intro (fun h2 => ?_) (fun h2 => ?_)
    · have h2 : ¬ σ 9 0 11 = 1 := h2
      rw [if_neg (fun z => h2 z.2)] at hF
      exact And.intro (Or.inl rfl) hF
    · have h2 : σ 9 0 11 = 1 := Classical.not_not.mp h2
      rw [if_pos ⟨h, h2⟩] at hF
      exact And.intro (Or.inr rfl) hF
theorem bth_latest {w : Int} (hR : RR nx σ kn tx hi sl ν E) : Bth SL xs (T_Mill_latest SL xs) (T_Model_latest SL xs) [.inl w] nx σ kn tx := by
  rcases hR.2.2.2.2 with ⟨m1, m2⟩ | ⟨m1, m2, m3, m4⟩
  · refine bth_no (x := -1) hR ?_ ?_
    · refine run 20 ?_
      exact And.intro (fun h => absurd (show σ 0 0 5 = 0 from m1) h) (fun h => ⟨rfl, rfl⟩)
    · refine run 20 ?_
      exact And.intro (fun h => absurd (show σ 26 0 11 = 0 from m2) h) (fun h => ⟨rfl, rfl⟩)
  · have hne : ¬ σ 0 0 5 = 0 := by rw [m1]; omega
    have hne2 : ¬ σ 26 0 11 = 0 := by rw [m2]; omega
    refine bth_no (x := if w = 0 then σ 26 0 12 else if w = 1 then σ 26 0 13 else if w = 2 then σ 26 0 14 else -1) hR ?_ ?_
    · refine run 30 ?_
      refine And.intro (fun h => ?_) (fun h => absurd (show ¬ σ 0 0 5 = 0 from hne) h)
      refine And.intro (fun h => ?_) (fun h => ?_)
      · have h : ¬ w = 0 := h
        rw [if_neg h]
        refine And.intro (fun h1 => ?_) (fun h1 => ?_)
        · have h1 : ¬ w = 1 := h1
          rw [if_neg h1]
          refine And.intro (fun h2 => ?_) (fun h2 => ?_)
          · have h2 : ¬ w = 2 := h2
            rw [if_neg h2]
            exact ⟨rfl, rfl⟩
          · have h2 : w = 2 := Classical.not_not.mp h2
            rw [if_pos h2, ← m3]
            exact ⟨rfl, rfl⟩
        · have h1 : w = 1 := Classical.not_not.mp h1
          rw [if_pos h1]
          refine call_eq (fun F hF => tw_Mill_isWell hF) ?_
          rcases m4 with ⟨q1, b, p, q2, q3, q4, q5, -⟩ | ⟨q1, q2, q3⟩
          · refine And.intro (fun h => absurd (show (if ¬ σ 0 0 5 = 0 ∧ σ 9 0 11 = 1 then (1 : Int) else 0) = 0 from h) (by rw [if_pos ⟨hne, q1⟩]; omega)) (fun h => ?_)
            rw [q5, ← q4]
            exact ⟨rfl, rfl⟩
          · refine And.intro (fun h => ?_) (fun h => absurd (show (if ¬ σ 0 0 5 = 0 ∧ σ 9 0 11 = 1 then (1 : Int) else 0) = 0 by rw [if_neg (fun z => q1 z.2)]) h)
            rw [q3]
            exact ⟨rfl, rfl⟩
      · have h : w = 0 := Classical.not_not.mp h
        rw [if_pos h]
        refine call_eq (fun F hF => tw_Mill_isWell hF) ?_
        rcases m4 with ⟨q1, b, p, q2, q3, q4, q5, -⟩ | ⟨q1, q2, q3⟩
        · refine And.intro (fun h => absurd (show (if ¬ σ 0 0 5 = 0 ∧ σ 9 0 11 = 1 then (1 : Int) else 0) = 0 from h) (by rw [if_pos ⟨hne, q1⟩]; omega)) (fun h => ?_)
          rw [q3, ← q2]
          exact ⟨rfl, rfl⟩
        · refine And.intro (fun h => ?_) (fun h => absurd (show (if ¬ σ 0 0 5 = 0 ∧ σ 9 0 11 = 1 then (1 : Int) else 0) = 0 by rw [if_neg (fun z => q1 z.2)]) h)
          rw [q2]
          exact ⟨rfl, rfl⟩
    · refine run 30 ?_
      refine And.intro (fun h => ?_) (fun h => absurd (show ¬ σ 26 0 11 = 0 from hne2) h)
      refine And.intro (fun h => ?_) (fun h => ?_)
      · have h : ¬ w = 0 := h
        rw [if_neg h]
        refine And.intro (fun h1 => ?_) (fun h1 => ?_)
        · have h1 : ¬ w = 1 := h1
          rw [if_neg h1]
          refine And.intro (fun h2 => ?_) (fun h2 => ?_)
          · have h2 : ¬ w = 2 := h2
            rw [if_neg h2]
            exact ⟨rfl, rfl⟩
          · have h2 : w = 2 := Classical.not_not.mp h2
            rw [if_pos h2]
            exact ⟨rfl, rfl⟩
        · have h1 : w = 1 := Classical.not_not.mp h1
          rw [if_pos h1]
          exact ⟨rfl, rfl⟩
      · have h : w = 0 := Classical.not_not.mp h
        rw [if_pos h]
        exact ⟨rfl, rfl⟩
theorem bth_about {k w : Int} (hR : RR nx σ kn tx hi sl ν E) : Bth SL xs (T_Mill_about SL xs) (T_Model_about SL xs) [.inl k, .inl w] nx σ kn tx := by
  obtain ⟨⟨c1, c2⟩, ⟨d1, d2⟩, hO, -⟩ := hR.2.2.2.1
  obtain ⟨-, h64, hle, htx⟩ := hR.1
  by_cases hk : 0 ≤ k ∧ k < (ect E : Int)
  · obtain ⟨q1, q2, q3, q4, -⟩ := c2 k.toNat (by omega)
    obtain ⟨g1, g2, g3, g4, -⟩ := d2 k.toNat (by omega)
    have q5 : σ 1 (11 + k.toNat) 1 = (ewd E k.toNat).length := q4.1
    have g5 : σ 34 0 k.toNat = (ewd E k.toNat).length := g4.1
    have hik : 0 ≤ k ∧ k < 64 := by omega
    refine bth_no (x := if w = 0 then (ekd E k.toNat : Nat) else if w = 1 then (efa E k.toNat : Nat) else if w = 2 then (efb E k.toNat : Nat) else if w = 3 then ((ewd E k.toNat).length : Int) else -1) hR ?_ ?_
    · refine run 10 ?_
      refine call_eq (fun F hF => tw_Nodes_is hF) ?_
      refine And.intro (fun h => ?_) (fun h => absurd (show ¬ (if 0 ≤ k ∧ k < σ 4 0 4 then (1 : Int) else 0) = 0 by rw [c1, if_pos hk]; omega) h)
      by_cases h0 : w = 0
      · subst h0
        refine swt_in (t := 44) rfl ?_
        rw [if_pos rfl]
        have K : Xz SL xs (m_Mill_about SL xs) (fun v s => v = some (.inl ((ekd E k.toNat : Nat) : Int)) ∧ s = (nx, σ, rX kn tx)) (44, [some (.inr (some (0, 0))), some (.inl k), some (.inl 0)], [], (nx, σ, rX kn tx), 0, 0) := by
          refine run 10 ?_
          refine And.intro hik ?_
          refine call_eq (v0 := some (.inl ((ekd E k.toNat : Nat) : Int))) (s0 := (nx, σ, rX kn tx)) (fun F hF => ?_) ⟨rfl, rfl⟩
          show vT 8 (T_Enum_ordinal SL xs) [.inr ((kn k.toNat).map (fun k => (45, k)))] (nx, σ, rX kn tx) F
          rw [q1]
          exact tw_Enum_ordinal hF
        exact leaf K
      · rw [if_neg h0]
        by_cases h1 : w = 1
        · subst h1
          refine swt_in (t := 57) rfl ?_
          rw [if_pos rfl, ← q2]
          have K : Xz SL xs (m_Mill_about SL xs) (fun v s => v = some (.inl (σ 6 0 k.toNat)) ∧ s = (nx, σ, rX kn tx)) (57, [some (.inr (some (0, 0))), some (.inl k), some (.inl 1)], [], (nx, σ, rX kn tx), 0, 0) := run 10 (And.intro hik ⟨rfl, rfl⟩)
          exact leaf K
        · rw [if_neg h1]
          by_cases h2 : w = 2
          · subst h2
            refine swt_in (t := 67) rfl ?_
            rw [if_pos rfl, ← q3]
            have K : Xz SL xs (m_Mill_about SL xs) (fun v s => v = some (.inl (σ 7 0 k.toNat)) ∧ s = (nx, σ, rX kn tx)) (67, [some (.inr (some (0, 0))), some (.inl k), some (.inl 2)], [], (nx, σ, rX kn tx), 0, 0) := run 10 (And.intro hik ⟨rfl, rfl⟩)
            exact leaf K
          · rw [if_neg h2]
            by_cases h3 : w = 3
            · subst h3
              refine swt_in (t := 77) rfl ?_
              rw [if_pos rfl, ← q5]
              have e : (if tx k.toNat = true then some (1, 11 + k.toNat) else none) = some (1, 11 + k.toNat) := if_pos (by rw [htx]; exact decide_eq_true (by omega))
              have K : Xz SL xs (m_Mill_about SL xs) (fun v s => v = some (.inl (σ 1 (11 + k.toNat) 1)) ∧ s = (nx, σ, rX kn tx)) (86, [some (.inr (some (0, 0))), some (.inl k), some (.inl 3)], [.inr (some (1, 11 + k.toNat))], (nx, σ, rX kn tx), 0, 0) := run 3 ⟨rfl, rfl⟩
              rw [← e] at K
              have K2 : Xz SL xs (m_Mill_about SL xs) (fun v s => v = some (.inl (σ 1 (11 + k.toNat) 1)) ∧ s = (nx, σ, rX kn tx)) (77, [some (.inr (some (0, 0))), some (.inl k), some (.inl 3)], [], (nx, σ, rX kn tx), 0, 0) := run 5 (And.intro hik (leaf K))
              exact leaf K2
            · rw [if_neg h3]
              refine swt_out (by simp [lkI, h0, h1, h2, h3]) ?_
              have K : Xz SL xs (m_Mill_about SL xs) (fun v s => v = some (.inl (-1)) ∧ s = (nx, σ, rX kn tx)) (90, [some (.inr (some (0, 0))), some (.inl k), some (.inl w)], [], (nx, σ, rX kn tx), 0, 0) := run 3 ⟨rfl, rfl⟩
              exact leaf K
    · refine run 30 ?_
      refine call_eq (fun F hF => tw_Model_isNode (σ := upS σ 26 0 0 0) hF) ?_
      refine And.intro (fun h => ?_) (fun h => absurd (show ¬ (if 0 ≤ k ∧ k < upS σ 26 0 0 0 26 0 5 then (1 : Int) else 0) = 0 by rw [upS_ne (by omega), d1, if_pos hk]; omega) h)
      refine And.intro (fun h => ?_) (fun h => ?_)
      · have h : ¬ w = 0 := h
        rw [if_neg h]
        refine And.intro (fun h1 => ?_) (fun h1 => ?_)
        · have h1 : ¬ w = 1 := h1
          rw [if_neg h1]
          refine And.intro (fun h2 => ?_) (fun h2 => ?_)
          · have h2 : ¬ w = 2 := h2
            rw [if_neg h2]
            refine And.intro (fun h3 => ?_) (fun h3 => ?_)
            · have h3 : ¬ w = 3 := h3
              rw [if_neg h3]
              exact ⟨rfl, rfl⟩
            · have h3 : w = 3 := Classical.not_not.mp h3
              rw [if_pos h3, ← g5]
              exact And.intro hik ⟨rfl, rfl⟩
          · have h2 : w = 2 := Classical.not_not.mp h2
            rw [if_pos h2, ← g3]
            exact And.intro hik ⟨rfl, rfl⟩
        · have h1 : w = 1 := Classical.not_not.mp h1
          rw [if_pos h1, ← g2]
          exact And.intro hik ⟨rfl, rfl⟩
      · have h : w = 0 := Classical.not_not.mp h
        rw [if_pos h, ← g1]
        exact And.intro hik ⟨rfl, rfl⟩
  · refine bth_no (x := -1) hR ?_ ?_
    · refine run 10 ?_
      refine call_eq (fun F hF => tw_Nodes_is hF) ?_
      exact And.intro (fun h => absurd (show (if 0 ≤ k ∧ k < σ 4 0 4 then (1 : Int) else 0) = 0 by rw [c1, if_neg hk]) h) (fun h => ⟨rfl, rfl⟩)
    · refine run 12 ?_
      refine call_eq (fun F hF => tw_Model_isNode (σ := upS σ 26 0 0 0) hF) ?_
      exact And.intro (fun h => absurd (show (if 0 ≤ k ∧ k < upS σ 26 0 0 0 26 0 5 then (1 : Int) else 0) = 0 by rw [upS_ne (by omega), d1, if_neg hk]) h) (fun h => ⟨rfl, rfl⟩)
end
