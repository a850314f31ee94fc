/-! What a node needs -/
abbrev ft (w v n : Int) : Prop := w = 0 ∨ (w = 1 ∧ 0 ≤ v) ∨ (w = 2 ∧ 0 ≤ v ∧ v < n) ∨ (w = 3 ∧ 0 ≤ v ∧ v < 8) ∨ (w = 4 ∧ 0 ≤ v ∧ v < 64)
section
variable {SL : Nat} {xs : Nat → Int} {nx hi : Nat} {σ σ' : Sg} {kn : Nat → Option Nat} {tx : Nat → Bool} {F : Option Av → St → Prop} {E : Ev} {ν : Nu} {sl : List Int}
theorem tw_Kind_fits {w v n : Int} {s : St} (hw : 0 ≤ w ∧ w ≤ 4) (hF : F (some (.inl (if ft w v n then 1 else 0))) s) : T_Kind_fits SL xs [.inl w, .inl v, .inl n] s F := by
  have h0 : ft w v n → F (some (.inl 1)) s := fun h => by rw [if_pos h] at hF; exact hF
  have h1 : ¬ ft w v n → F (some (.inl 0)) s := fun h => by rw [if_neg h] at hF; exact hF
  unfold ft at h0 h1
  have hcase : w = 0 ∨ w = 1 ∨ w = 2 ∨ w = 3 ∨ w = 4 := by omega
  rcases hcase with rfl | rfl | rfl | rfl | rfl
  · refine run 20 ?_
    refine swt_in (t := 32) rfl ?_
    exact And.intro (Or.inr rfl) (h0 (by omega))
  · refine run 20 ?_
    refine swt_in (t := 34) rfl ?_
    refine And.intro (fun h => And.intro (Or.inl rfl) (h1 ?_)) (fun h => And.intro (Or.inr rfl) (h0 ?_))
    · have h : v < 0 := h
      omega
    · have h : ¬ v < 0 := h
      omega
  · refine run 20 ?_
    refine swt_in (t := 44) rfl ?_
    refine And.intro (fun h => And.intro (Or.inl rfl) (h1 ?_)) (fun h => ?_)
    · have h : v < 0 := h
      omega
    · have h : ¬ v < 0 := h
      refine And.intro (fun h2 => And.intro (Or.inl rfl) (h1 ?_)) (fun h2 => And.intro (Or.inr rfl) (h0 ?_))
      · have h2 : n ≤ v := h2
        omega
      · have h2 : ¬ n ≤ v := h2
        omega
  · refine run 20 ?_
    refine swt_in (t := 59) rfl ?_
    refine And.intro (fun h => And.intro (Or.inl rfl) (h1 ?_)) (fun h => ?_)
    · have h : v < 0 := h
      omega
    · have h : ¬ v < 0 := h
      refine And.intro (fun h2 => And.intro (Or.inl rfl) (h1 ?_)) (fun h2 => And.intro (Or.inr rfl) (h0 ?_))
      · have h2 : 8 ≤ v := h2
        omega
      · have h2 : ¬ 8 ≤ v := h2
        omega
  · refine run 20 ?_
    refine swt_out rfl ?_
    refine And.intro (fun h => And.intro (Or.inl rfl) (h1 ?_)) (fun h => ?_)
    · have h : v < 0 := h
      omega
    · have h : ¬ v < 0 := h
      refine And.intro (fun h2 => And.intro (Or.inl rfl) (h1 ?_)) (fun h2 => And.intro (Or.inr rfl) (h0 ?_))
      · have h2 : 64 ≤ v := h2
        omega
      · have h2 : ¬ 64 ≤ v := h2
        omega
theorem kF12 : ∀ kd : Nat, kd < 24 → (0 ≤ kF 1 kd ∧ kF 1 kd ≤ 4) ∧ (0 ≤ kF 2 kd ∧ kF 2 kd ≤ 4) := by decide +kernel
theorem tw_Kind_suits {kd : Nat} {a b n : Int} {s : St} (hk : kd < 24) (hF : F (some (.inl (if ft (kF 1 kd) a n ∧ ft (kF 2 kd) b n then 1 else 0))) s) : T_Kind_suits SL xs [.inr (some (45, kd)), .inl a, .inl b, .inl n] s F := by
  obtain ⟨w1, w2⟩ := kF12 kd hk
  refine run 20 ?_
  refine call_eq (fun F hF => tw_Kind_fits w1 hF) ?_
  refine And.intro (fun h => ?_) (fun h => ?_)
  · have h : (if ft (kF 1 kd) a n then (1 : Int) else 0) = 0 := h
    rw [if_neg (fun z => ite0.mp h z.1)] at hF
    exact And.intro (Or.inl rfl) hF
  · have h : ¬ (if ft (kF 1 kd) a n then (1 : Int) else 0) = 0 := h
    have h := Classical.not_not.mp (fun z => h (ite0.mpr z))
    refine call_eq (fun F hF => tw_Kind_fits w2 hF) ?_
    refine And.intro (fun h2 => ?_) (fun h2 => ?_)
    · have h2 : (if ft (kF 2 kd) b n then (1 : Int) else 0) = 0 := h2
      rw [if_neg (fun z => ite0.mp h2 z.2)] at hF
      exact And.intro (Or.inl rfl) hF
    · have h2 : ¬ (if ft (kF 2 kd) b n then (1 : Int) else 0) = 0 := h2
      have h2 := Classical.not_not.mp (fun z => h2 (ite0.mpr z))
      rw [if_pos ⟨h, h2⟩] at hF
      exact And.intro (Or.inr rfl) hF
def canL : List (Int × Nat) := [(5, 112), (6, 112), (7, 112), (8, 112), (9, 112), (10, 192), (11, 192), (12, 192), (13, 192), (14, 192), (15, 192), (16, 122), (17, 128), (18, 128), (19, 150), (20, 150), (21, 171), (22, 171), (23, 176)]
theorem tw_Model_can {kd n : Nat} {a b : Int} (hk : kd < 24) (hn : σ 26 0 5 = n) (hn64 : ¬ n = 64) (hF : F (some (.inl (if ft (kF 1 kd) a n ∧ ft (kF 2 kd) b n then 1 else 0))) (nx, σ, rX kn tx)) : T_Model_can SL xs [.inr (some (26, 0)), .inl kd, .inl a, .inl b] (nx, σ, rX kn tx) F := by
  have h0 : (ft (kF 1 kd) a n ∧ ft (kF 2 kd) b n) → F (some (.inl 1)) (nx, σ, rX kn tx) := fun h => by rw [if_pos h] at hF; exact hF
  have h1 : ¬ (ft (kF 1 kd) a n ∧ ft (kF 2 kd) b n) → F (some (.inl 0)) (nx, σ, rX kn tx) := fun h => by rw [if_neg h] at hF; exact hF
  have sw : ∀ t, (lkI canL (kd : Int)).getD 192 = t → Xz SL xs (m_Model_can SL xs) F (t, [some (.inr (some (26, 0))), some (.inl (kd : Int)), some (.inl a), some (.inl b)], [], (nx, σ, rX kn tx), 0, 0) → T_Model_can SL xs [.inr (some (26, 0)), .inl kd, .inl a, .inl b] (nx, σ, rX kn tx) F := by
    intro t ht K
    refine run 12 ?_
    refine And.intro (fun h => absurd (show (kd : Int) < 0 from h) (by omega)) (fun h => ?_)
    refine And.intro (fun h => absurd (show (23 : Int) < (kd : Int) from h) (by omega)) (fun h => ?_)
    refine And.intro (fun h => ?_) (fun h => absurd (show ¬ σ 26 0 5 = 64 by rw [hn]; omega) h)
    cases hl : lkI canL (kd : Int) with
    | some t' =>
      rw [hl] at ht
      have ht : t' = t := ht
      subst ht
      refine swt_in (t := t') (show lkI _ (kd : Int) = some t' from hl) ?_
      exact leaf K
    | none =>
      rw [hl] at ht
      have ht : 192 = t := ht
      subst ht
      refine swt_out (show lkI _ (kd : Int) = none from hl) ?_
      exact leaf K
  have t192 : kF 1 kd = 0 → kF 2 kd = 0 → Xz SL xs (m_Model_can SL xs) F (192, [some (.inr (some (26, 0))), some (.inl (kd : Int)), some (.inl a), some (.inl b)], [], (nx, σ, rX kn tx), 0, 0) := fun e1 e2 => run 4 (And.intro (Or.inr rfl) (h0 (by rw [e1, e2]; unfold ft; omega)))
  have t112 : kF 1 kd = 1 → kF 2 kd = 0 → Xz SL xs (m_Model_can SL xs) F (112, [some (.inr (some (26, 0))), some (.inl (kd : Int)), some (.inl a), some (.inl b)], [], (nx, σ, rX kn tx), 0, 0) := fun e1 e2 => by
    rw [e1, e2] at h0 h1
    unfold ft at h0 h1
    refine run 8 ?_
    refine And.intro (fun h => And.intro (Or.inl rfl) (h1 ?_)) (fun h => And.intro (Or.inr rfl) (h0 ?_))
    · have h : a < 0 := h
      omega
    · have h : ¬ a < 0 := h
      omega
  have t122 : kF 1 kd = 2 → kF 2 kd = 0 → Xz SL xs (m_Model_can SL xs) F (122, [some (.inr (some (26, 0))), some (.inl (kd : Int)), some (.inl a), some (.inl b)], [], (nx, σ, rX kn tx), 0, 0) := fun e1 e2 => by
    rw [e1, e2] at h0 h1
    unfold ft at h0 h1
    refine run 8 ?_
    refine call_eq (fun F hF => tw_Model_isNode hF) ?_
    by_cases h : 0 ≤ a ∧ a < σ 26 0 5
    · rw [if_pos h]
      rw [hn] at h
      exact And.intro (Or.inr rfl) (h0 (by omega))
    · rw [if_neg h]
      rw [hn] at h
      exact And.intro (Or.inl rfl) (h1 (by omega))
  have t128 : kF 1 kd = 2 → kF 2 kd = 2 → Xz SL xs (m_Model_can SL xs) F (128, [some (.inr (some (26, 0))), some (.inl (kd : Int)), some (.inl a), some (.inl b)], [], (nx, σ, rX kn tx), 0, 0) := fun e1 e2 => by
    rw [e1, e2] at h0 h1
    unfold ft at h0 h1
    refine run 16 ?_
    refine call_eq (fun F hF => tw_Model_isNode hF) ?_
    refine And.intro (fun h => ?_) (fun h => ?_)
    · have h := ite0.mp (show (if 0 ≤ a ∧ a < σ 26 0 5 then (1 : Int) else 0) = 0 from h)
      rw [hn] at h
      exact And.intro (Or.inl rfl) (h1 (by omega))
    · have h : ¬ (if 0 ≤ a ∧ a < σ 26 0 5 then (1 : Int) else 0) = 0 := h
      have h := Classical.not_not.mp (fun z => h (ite0.mpr z))
      rw [hn] at h
      refine call_eq (fun F hF => tw_Model_isNode hF) ?_
      refine And.intro (fun h2 => ?_) (fun h2 => ?_)
      · have h2 := ite0.mp (show (if 0 ≤ b ∧ b < σ 26 0 5 then (1 : Int) else 0) = 0 from h2)
        rw [hn] at h2
        exact And.intro (Or.inl rfl) (h1 (by omega))
      · have h2 : ¬ (if 0 ≤ b ∧ b < σ 26 0 5 then (1 : Int) else 0) = 0 := h2
        have h2 := Classical.not_not.mp (fun z => h2 (ite0.mpr z))
        rw [hn] at h2
        exact And.intro (Or.inr rfl) (h0 (by omega))
  have t150 : kF 1 kd = 2 → kF 2 kd = 3 → Xz SL xs (m_Model_can SL xs) F (150, [some (.inr (some (26, 0))), some (.inl (kd : Int)), some (.inl a), some (.inl b)], [], (nx, σ, rX kn tx), 0, 0) := fun e1 e2 => by
    rw [e1, e2] at h0 h1
    unfold ft at h0 h1
    refine run 16 ?_
    refine call_eq (fun F hF => tw_Model_isNode hF) ?_
    refine And.intro (fun h => ?_) (fun h => ?_)
    · have h := ite0.mp (show (if 0 ≤ a ∧ a < σ 26 0 5 then (1 : Int) else 0) = 0 from h)
      rw [hn] at h
      exact And.intro (Or.inl rfl) (h1 (by omega))
    · have h : ¬ (if 0 ≤ a ∧ a < σ 26 0 5 then (1 : Int) else 0) = 0 := h
      have h := Classical.not_not.mp (fun z => h (ite0.mpr z))
      rw [hn] at h
      refine call_eq (fun F hF => tw_Model_isVariable hF) ?_
      refine And.intro (fun h2 => ?_) (fun h2 => ?_)
      · have h2 := ite0.mp (show (if 0 ≤ b ∧ b < 8 then (1 : Int) else 0) = 0 from h2)
        exact And.intro (Or.inl rfl) (h1 (by omega))
      · have h2 : ¬ (if 0 ≤ b ∧ b < 8 then (1 : Int) else 0) = 0 := h2
        have h2 := Classical.not_not.mp (fun z => h2 (ite0.mpr z))
        exact And.intro (Or.inr rfl) (h0 (by omega))
  have t171 : kF 1 kd = 3 → kF 2 kd = 0 → Xz SL xs (m_Model_can SL xs) F (171, [some (.inr (some (26, 0))), some (.inl (kd : Int)), some (.inl a), some (.inl b)], [], (nx, σ, rX kn tx), 0, 0) := fun e1 e2 => by
    rw [e1, e2] at h0 h1
    unfold ft at h0 h1
    refine run 8 ?_
    refine call_eq (fun F hF => tw_Model_isVariable hF) ?_
    by_cases h : 0 ≤ a ∧ a < 8
    · rw [if_pos h]
      exact And.intro (Or.inr rfl) (h0 (by omega))
    · rw [if_neg h]
      exact And.intro (Or.inl rfl) (h1 (by omega))
  have t176 : kF 1 kd = 4 → kF 2 kd = 0 → Xz SL xs (m_Model_can SL xs) F (176, [some (.inr (some (26, 0))), some (.inl (kd : Int)), some (.inl a), some (.inl b)], [], (nx, σ, rX kn tx), 0, 0) := fun e1 e2 => by
    rw [e1, e2] at h0 h1
    unfold ft at h0 h1
    refine run 12 ?_
    refine And.intro (fun h => And.intro (Or.inl rfl) (h1 ?_)) (fun h => ?_)
    · have h : a < 0 := h
      omega
    · have h : ¬ a < 0 := h
      refine And.intro (fun h2 => And.intro (Or.inl rfl) (h1 ?_)) (fun h2 => And.intro (Or.inr rfl) (h0 ?_))
      · have h2 : 64 ≤ a := h2
        omega
      · have h2 : ¬ 64 ≤ a := h2
        omega
  have hcase : kd = 0 ∨ kd = 1 ∨ kd = 2 ∨ kd = 3 ∨ kd = 4 ∨ kd = 5 ∨ kd = 6 ∨ kd = 7 ∨ kd = 8 ∨ kd = 9 ∨ kd = 10 ∨ kd = 11 ∨ kd = 12 ∨ kd = 13 ∨ kd = 14 ∨ kd = 15 ∨ kd = 16 ∨ kd = 17 ∨ kd = 18 ∨ kd = 19 ∨ kd = 20 ∨ kd = 21 ∨ kd = 22 ∨ kd = 23 := by omega
  rcases hcase with rfl | rfl | rfl | rfl | rfl | rfl | rfl | rfl | rfl | rfl | rfl | rfl | rfl | rfl | rfl | rfl | rfl | rfl | rfl | rfl | rfl | rfl | rfl | rfl
  all_goals first
    | exact sw 192 rfl (t192 rfl rfl)
    | exact sw 112 rfl (t112 rfl rfl)
    | exact sw 122 rfl (t122 rfl rfl)
    | exact sw 128 rfl (t128 rfl rfl)
    | exact sw 150 rfl (t150 rfl rfl)
    | exact sw 171 rfl (t171 rfl rfl)
    | exact sw 176 rfl (t176 rfl rfl)
theorem tw_Model_can_no {kd a b : Int} (h : ¬ (0 ≤ kd ∧ kd < 24) ∨ σ 26 0 5 = 64) (hF : F (some (.inl 0)) (nx, σ, rX kn tx)) : T_Model_can SL xs [.inr (some (26, 0)), .inl kd, .inl a, .inl b] (nx, σ, rX kn tx) F := by
  refine run 12 ?_
  refine And.intro (fun _ => And.intro (Or.inl rfl) hF) (fun h1 => ?_)
  have h1 : ¬ kd < 0 := h1
  refine And.intro (fun _ => And.intro (Or.inl rfl) hF) (fun h2 => ?_)
  have h2 : ¬ (23 : Int) < kd := h2
  refine And.intro (fun h3 => ?_) (fun _ => And.intro (Or.inl rfl) hF)
  have h3 : ¬ σ 26 0 5 = 64 := h3
  omega
end
