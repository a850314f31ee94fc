/-! Both faces: let, clear -/
section
variable {SL : Nat} {xs : Nat → Int} {nx hi : Nat} {σ σ' : Sg} {kn : Nat → Option Nat} {tx : Nat → Bool} {F : Option Av → St → Prop} {E : Ev} {ν : Nu} {sl : List Int}
/-- a text takes the slip -/
def tkF (σ : Sg) (t : Nat) (l : List Int) (σ1 : Sg) : Prop := tl (σ1 2 t) (σ1 1 t 1) l ∧ σ1 1 0 1 = 0 ∧ ∀ a b j, ¬ (a = 1 ∧ (b = t ∨ b = 0) ∧ j = 1) → ¬ (a = 2 ∧ b = t) → σ1 a b j = σ a b j
theorem take_F {t : Nat} (ht : ¬ t = 0) (hs : tl (σ 2 0) (σ 1 0 1) sl) (h64 : sl.length ≤ 64) (hF : ∀ σ1, tkF σ t sl σ1 → F none (nx, σ1, rX kn tx)) : T_Text_take SL xs [.inr (some (1, t)), .inr (some (1, 0))] (nx, σ, rX kn tx) F := by
  have hl : σ 1 0 1 = sl.length := hs.1
  refine tw_Text_take (by rw [hl]; omega) (hF _ ⟨⟨?_, fun i hi => ?_⟩, upS_same, fun a b j h1 h2 => ?_⟩)
  · rw [upS_ne (by omega)]
    have e : cpS (upS σ 1 t 1 (σ 1 0 1)) 2 0 0 2 t 0 (σ 1 0 1).toNat 1 t 1 = upS σ 1 t 1 (σ 1 0 1) 1 t 1 := if_neg (by omega)
    rw [e, upS_same]
    exact hl
  · rw [upS_ne (by omega)]
    have e : cpS (upS σ 1 t 1 (σ 1 0 1)) 2 0 0 2 t 0 (σ 1 0 1).toNat 2 t i = upS σ 1 t 1 (σ 1 0 1) 2 0 (0 + (i - 0)) := if_pos ⟨rfl, rfl, by omega, by omega⟩
    rw [e, upS_ne (by omega), Nat.zero_add]
    exact hs.2 i hi
  · rw [upS_ne (by omega)]
    have e : cpS (upS σ 1 t 1 (σ 1 0 1)) 2 0 0 2 t 0 (σ 1 0 1).toNat a b j = upS σ 1 t 1 (σ 1 0 1) a b j := if_neg (by omega)
    rw [e, upS_ne (by omega)]
theorem lp_Model_let {v : Nat} (hv : v < 8) (h64 : sl.length ≤ 64) (hb : byt sl) (hs : tl (σ 27 0) (σ 26 0 2) sl) (hK : ∀ σ1, (∀ j, j < sl.length → σ1 28 0 (64 * v + j) = sl.getD j 0) → (∀ a b j, ¬ (a = 28 ∧ b = 0 ∧ 64 * v ≤ j ∧ j < 64 * v + 64) → σ1 a b j = σ a b j) → Xz SL xs (m_Model_let SL xs) F (47, [some (.inr (some (26, 0))), some (.inl v), some (.inl sl.length)], [], (nx, σ1, rX kn tx), 0, 0)) : ∀ (m i : Nat) (σ1 : Sg), i + m = sl.length → (∀ j, j < i → σ1 28 0 (64 * v + j) = sl.getD j 0) → (∀ a b j, ¬ (a = 28 ∧ b = 0 ∧ 64 * v ≤ j ∧ j < 64 * v + 64) → σ1 a b j = σ a b j) → Xz SL xs (m_Model_let SL xs) F (16, [some (.inr (some (26, 0))), some (.inl v), some (.inl i)], [], (nx, σ1, rX kn tx), 0, 0) := by
  have hl : σ 26 0 2 = sl.length := hs.1
  intro m
  induction m with
  | zero =>
    intro i σ1 hi h1 h2
    have hi : i = sl.length := by omega
    subst hi
    refine run 4 ?_
    refine And.intro (fun h => leaf (hK σ1 h1 h2)) (fun h => absurd (show σ1 26 0 2 ≤ (sl.length : Int) by rw [h2 26 0 2 (by omega), hl]; exact Int.le_refl _) h)
  | succ m ih =>
    intro i σ1 hi h1 h2
    have hw6 := w64 (k := v) (i := i) (by omega) (by omega)
    have hwi : wr ((i : Int) + 1) = ((i + 1 : Nat) : Int) := by rw [wr_eq ⟨by omega, by omega⟩]; omega
    have hsg : σ1 27 0 (i : Int).toNat = sl.getD i 0 := by rw [Int.toNat_natCast, h2 27 0 _ (by omega)]; exact hs.2 i (by omega)
    have hb8 : b8 (sl.getD i 0) = sl.getD i 0 := by
      refine hb _ ?_
      rw [List.getD_eq_getElem?_getD, List.getElem?_eq_getElem (by omega)]
      exact List.getElem_mem _
    have K := ih (i + 1) (upS σ1 28 0 (64 * v + i) (sl.getD i 0)) (by omega) (fun j hj => by
      by_cases hji : j = i
      · subst hji
        exact upS_same
      · rw [upS_ne (by omega)]
        exact h1 j (by omega)) (fun a b j h => by rw [upS_ne (by omega)]; exact h2 a b j h)
    have eix : (wr (wr (64 * (v : Int)) + (i : Int))).toNat = 64 * v + i := by rw [hw6, Int.toNat_natCast]
    rw [← eix, ← hb8, ← hsg, ← hwi] at K
    refine run 24 ?_
    refine And.intro (fun h => ?_) (fun h => ?_)
    · have h : σ1 26 0 2 ≤ (i : Int) := h
      rw [h2 26 0 2 (by omega), hl] at h
      omega
    refine And.intro ⟨show (0 : Int) ≤ (i : Int) by omega, show (i : Int) < 64 by omega⟩ ?_
    refine And.intro (by show 0 ≤ wr (wr (64 * (v : Int)) + (i : Int)) ∧ wr (wr (64 * (v : Int)) + (i : Int)) < 512; rw [hw6]; omega) ?_
    exact leaf (by first | exact run 1 K | exact run 2 K | exact run 3 K)
theorem tl_nil {f : Nat → Int} {n : Int} (h : n = 0) : tl f n [] := ⟨by rw [h]; rfl, fun i hi => by simp at hi⟩
theorem byt_nil : byt [] := fun x hx => by cases hx
theorem bth_let {v : Int} (hR : RR nx σ kn tx hi sl ν E) : Bth SL xs (T_Mill_let SL xs) (T_Model_let SL xs) [.inl v] nx σ kn tx := by
  have hR0 := hR
  obtain ⟨h1, ⟨s1, s2, s3, s4⟩, ⟨n1, n2, n3⟩, h4, h5⟩ := hR
  by_cases hv : 0 ≤ v ∧ v < 8
  · have hvc : ((v.toNat : Nat) : Int) = v := by omega
    have hv8 : v.toNat < 8 := by omega
    refine bth_p (x := 1) (PA := fun σ1 => tkF σ (3 + v.toNat) sl σ1) (PC := fun σ1 σ2 => tl (fun i => σ2 28 0 (64 * v.toNat + i)) (σ2 29 0 v.toNat) sl ∧ σ2 26 0 2 = 0 ∧ ∀ a b j, ¬ (a = 29 ∧ b = 0 ∧ j = v.toNat) → ¬ (a = 28 ∧ b = 0 ∧ 64 * v.toNat ≤ j ∧ j < 64 * v.toNat + 64) → ¬ (a = 26 ∧ (j = 0 ∨ j = 2)) → σ2 a b j = σ1 a b j) ?_ (fun σ1 hs => ?_) (fun σ1 σ2 hs hl => ?_)
    · refine run 20 ?_
      refine call_eq (fun F hF => tw_Mill_isVariable hF) ?_
      refine And.intro (fun h => ?_) (fun h => absurd (show ¬ (if 0 ≤ v ∧ v < 8 then (1 : Int) else 0) = 0 by rw [if_pos hv]; omega) h)
      refine And.intro hv ?_
      refine call_any (Y := fun v0 s => v0 = none ∧ ∃ σ1, s = (nx, σ1, rX kn tx) ∧ tkF σ (3 + v.toNat) sl σ1) ?_ ?_
      · show vT 1 (T_Text_take SL xs) [.inr (if v.toNat < 8 then some (1, 3 + v.toNat) else none), .inr (some (1, 0))] (nx, σ, rX kn tx) _
        rw [vref hv]
        exact take_F (t := 3 + v.toNat) (by omega) s1 s3 (fun σ1 h => ⟨rfl, σ1, rfl, h⟩)
      · intro v0 s hv0
        obtain ⟨rfl, σ1, rfl, h⟩ := hv0
        exact And.intro (Or.inr rfl) ⟨rfl, σ1, rfl, h⟩
    · have e2 : tl (upS σ1 26 0 0 0 27 0) (upS σ1 26 0 0 0 26 0 2) sl := s2.fr (fun i _ => by rw [upS_ne (by omega), hs.2.2 27 0 i (by omega) (by omega)]) (by rw [upS_ne (by omega), hs.2.2 26 0 2 (by omega) (by omega)])
      have K := lp_Model_let (SL := SL) (xs := xs) (nx := nx) (kn := kn) (tx := tx) (v := v.toNat) (F := fun v_1 s => v_1 = some (.inl 1) ∧ ∃ σ2, s = (nx, σ2, rX kn tx) ∧ (tl (fun i => σ2 28 0 (64 * v.toNat + i)) (σ2 29 0 v.toNat) sl ∧ σ2 26 0 2 = 0 ∧ ∀ a b j, ¬ (a = 29 ∧ b = 0 ∧ j = v.toNat) → ¬ (a = 28 ∧ b = 0 ∧ 64 * v.toNat ≤ j ∧ j < 64 * v.toNat + 64) → ¬ (a = 26 ∧ (j = 0 ∨ j = 2)) → σ2 a b j = σ1 a b j)) hv8 s3 s4 e2 (fun σ2 q1 q2 => ?_) sl.length 0 _ (Nat.zero_add _) (fun j hj => by omega) (fun a b j _ => rfl)
      · rw [hvc] at K
        refine run 12 ?_
        refine call_eq (fun F hF => tw_Model_isVariable hF) ?_
        refine And.intro (fun h => ?_) (fun h => absurd (show ¬ (if 0 ≤ v ∧ v < 8 then (1 : Int) else 0) = 0 by rw [if_pos hv]; omega) h)
        exact leaf (by first | exact run 1 K | exact run 2 K | exact run 3 K)
      · have l2 : σ2 26 0 2 = sl.length := by rw [q2 26 0 2 (by omega)]; exact e2.1
        refine run 12 ?_
        refine And.intro ⟨show (0 : Int) ≤ (v.toNat : Int) by omega, show (v.toNat : Int) < 8 by omega⟩ ?_
        refine And.intro (Or.inr rfl) ⟨rfl, _, rfl, ⟨?_, fun i hi => ?_⟩, upS_same, fun a b j g1 g2 g3 => ?_⟩
        · show upS (upS σ2 29 0 (v.toNat : Int).toNat (σ2 26 0 2)) 26 0 2 0 29 0 v.toNat = _
          rw [Int.toNat_natCast, upS_ne (by omega), upS_same]
          exact l2
        · show upS (upS σ2 29 0 (v.toNat : Int).toNat (σ2 26 0 2)) 26 0 2 0 28 0 (64 * v.toNat + i) = _
          rw [upS_ne (by omega), upS_ne (by omega)]
          exact q1 i hi
        · show upS (upS σ2 29 0 (v.toNat : Int).toNat (σ2 26 0 2)) 26 0 2 0 a b j = _
          rw [Int.toNat_natCast, upS_ne (by omega), upS_ne (by omega), q2 a b j (by omega), upS_ne (by omega)]
    · obtain ⟨t1, t2, t3⟩ := hs
      obtain ⟨g1, g2, g3⟩ := hl
      refine ⟨hi, [], upN ν v.toNat sl, E, hR0.mk (fun a b j q1 q2 q3 q4 => by rw [g3 a b j (by omega) (by omega) q2, t3 a b j (by omega) (by omega)]) ⟨tl_nil (by rw [g3 1 0 1 (by omega) (by omega) (by omega)]; exact t2), tl_nil g2, by simp, byt_nil⟩ ⟨fun w hw => ?_, fun w hw => ?_, fun w hw => ?_⟩⟩
      · by_cases hwv : w = v.toNat
        · subst hwv
          simp only [upN, if_true]
          exact ⟨t1.fr (fun i _ => g3 2 _ i (by omega) (by omega) (by omega)) (g3 1 _ 1 (by omega) (by omega) (by omega)), s3⟩
        · simp only [upN, if_neg hwv]
          exact ⟨(n1 w hw).1.fr (fun i _ => by rw [g3 2 _ i (by omega) (by omega) (by omega), t3 2 _ i (by omega) (by omega)]) (by rw [g3 1 _ 1 (by omega) (by omega) (by omega), t3 1 _ 1 (by omega) (by omega)]), (n1 w hw).2⟩
      · by_cases hwv : w = v.toNat
        · subst hwv
          simp only [upN, if_true]
          exact ⟨g1, s3⟩
        · simp only [upN, if_neg hwv]
          exact ⟨(n2 w hw).1.fr (fun i hi => by
            have := (n2 w hw).2
            rw [g3 28 0 _ (by omega) (by omega) (by omega), t3 28 0 _ (by omega) (by omega)]) (by rw [g3 29 0 w (by omega) (by omega) (by omega), t3 29 0 w (by omega) (by omega)]), (n2 w hw).2⟩
      · unfold upN
        split
        · exact s4
        · exact n3 w hw
  · refine bth_no (x := 0) hR0 ?_ ?_
    · refine run 20 ?_
      refine call_eq (fun F hF => tw_Mill_isVariable hF) ?_
      exact And.intro (fun h => absurd (show (if 0 ≤ v ∧ v < 8 then (1 : Int) else 0) = 0 by rw [if_neg hv]) h) (fun h => And.intro (Or.inl rfl) ⟨rfl, rfl⟩)
    · refine run 20 ?_
      refine call_eq (fun F hF => tw_Model_isVariable hF) ?_
      exact And.intro (fun h => absurd (show (if 0 ≤ v ∧ v < 8 then (1 : Int) else 0) = 0 by rw [if_neg hv]) h) (fun h => And.intro (Or.inl rfl) ⟨rfl, rfl⟩)
def noE (E : Ev) : Ev := (E.1, E.2.1, E.2.2.1, E.2.2.2.1, E.2.2.2.2.1, 0)
theorem RR.clear (hR : RR nx σ kn tx hi sl ν E) : RR nx (upS (upS (upS σ 4 0 4 0) 26 0 0 0) 26 0 5 0) kn tx hi sl ν (noE E) := by
  have ex : ∀ a b j, ¬ a = 4 → ¬ (a = 26 ∧ (j = 0 ∨ j = 5)) → upS (upS (upS σ 4 0 4 0) 26 0 0 0) 26 0 5 0 a b j = σ a b j := fun a b j h1 h2 => by rw [upS_ne (by omega), upS_ne (by omega), upS_ne (by omega)]
  obtain ⟨⟨r1, r2, r3, r4⟩, hsl, hnu, ⟨hC, hM, hO, hE0⟩, hmc⟩ := hR
  refine ⟨⟨r1, r2, Nat.zero_le _, r4⟩, hsl.fr (fun j => ex _ _ _ (by omega) (by omega)) (ex _ _ _ (by omega) (by omega)) (fun j => ex _ _ _ (by omega) (by omega)) (ex _ _ _ (by omega) (by omega)), hnu.fr (fun b j _ _ => ex _ _ _ (by omega) (by omega)) (fun b _ _ => ex _ _ _ (by omega) (by omega)) (fun j => ex _ _ _ (by omega) (by omega)) (fun j => ex _ _ _ (by omega) (by omega)), ⟨⟨by rw [upS_ne (by omega), upS_ne (by omega), upS_same]; rfl, fun k hk => absurd (show k < 0 from hk) (by omega)⟩, ⟨by rw [upS_same]; rfl, fun k hk => absurd (show k < 0 from hk) (by omega)⟩, ⟨hO.1, Nat.zero_le _, fun k hk => absurd (show k < 0 from hk) (by omega)⟩, hE0⟩, hmc.fr (ex _ _ _ (by omega) (by omega)) (fun j => ex _ _ _ (by omega) (by omega)) (fun j _ _ => ex _ _ _ (by omega) (by omega))⟩
theorem tw_Mill_clear (hF : F none (nx, upS σ 4 0 4 0, rX kn tx)) : T_Mill_clear SL xs [.inr (some (0, 0))] (nx, σ, rX kn tx) F := run 10 hF
theorem tw_Model_clear (hF : F none (nx, upS (upS σ 26 0 0 0) 26 0 5 0, rX kn tx)) : T_Model_clear SL xs [.inr (some (26, 0))] (nx, σ, rX kn tx) F := run 10 hF
end
