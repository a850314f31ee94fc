/-! Both faces: the relation, the small methods -/
theorem b8_idem (x : Int) : b8 (b8 x) = b8 x := by
  unfold b8
  rw [Int32.ofInt_toInt, Int8.toInt8_toInt32]
theorem cnd_in {b : Bool} {A : Prop} (h : b = true) (hA : A) : bif b then A else False := by
  rw [h]
  exact hA
theorem tl.fr {f f' : Nat → Int} {n n' : Int} {l : List Int} (h : tl f n l) (h1 : ∀ i, i < l.length → f' i = f i) (h2 : n' = n) : tl f' n' l := ⟨by rw [h2]; exact h.1, fun i hi => by rw [h1 i hi]; exact h.2 i hi⟩
def slR (σ : Sg) (sl : List Int) : Prop := tl (σ 2 0) (σ 1 0 1) sl ∧ tl (σ 27 0) (σ 26 0 2) sl ∧ sl.length ≤ 64 ∧ byt sl
def nuR (σ : Sg) (ν : Nu) : Prop := NuC ν σ ∧ NuM ν σ ∧ ∀ v, v < 8 → byt (ν v)
def NdC (E : Ev) (σ : Sg) (kn : Nat → Option Nat) : Prop := σ 4 0 4 = ect E ∧ ∀ k, k < ect E → kn k = some (ekd E k) ∧ σ 6 0 k = efa E k ∧ σ 7 0 k = efb E k ∧ tl (σ 2 (11 + k)) (σ 1 (11 + k) 1) (ewd E k) ∧ (ewd E k).length ≤ 64
def NdM (E : Ev) (σ : Sg) : Prop := σ 26 0 5 = ect E ∧ ∀ k, k < ect E → σ 30 0 k = ekd E k ∧ σ 31 0 k = efa E k ∧ σ 32 0 k = efb E k ∧ tl (fun i => σ 33 0 (64 * k + i)) (σ 34 0 k) (ewd E k) ∧ (ewd E k).length ≤ 64
def mcR (σ : Sg) : Prop := (σ 0 0 5 = 0 ∧ σ 26 0 11 = 0) ∨ (σ 0 0 5 = 1 ∧ σ 26 0 11 = 1 ∧ σ 9 0 6 = σ 26 0 14 ∧ ((σ 9 0 11 = 1 ∧ ∃ b p : Nat, σ 9 0 10 = b ∧ σ 26 0 12 = b ∧ σ 9 0 7 = p ∧ σ 26 0 13 = p ∧ b ≤ p ∧ p ≤ 64) ∨ (¬ σ 9 0 11 = 1 ∧ σ 26 0 12 = -1 ∧ σ 26 0 13 = -1)))
def RR (nx : Nat) (σ : Sg) (kn : Nat → Option Nat) (tx : Nat → Bool) (hi : Nat) (sl : List Int) (ν : Nu) (E : Ev) : Prop :=
  (nx = 65 + 2 * hi ∧ hi ≤ 64 ∧ ect E ≤ hi ∧ tx = fun j => decide (j < hi)) ∧ slR σ sl ∧ nuR σ ν ∧ (NdC E σ kn ∧ NdM E σ ∧ EvOK E ∧ esb E = []) ∧ mcR σ
section
variable {SL : Nat} {xs : Nat → Int} {nx hi : Nat} {σ σ' : Sg} {kn : Nat → Option Nat} {tx : Nat → Bool} {F : Option Av → St → Prop} {E : Ev} {ν : Nu} {sl : List Int}
theorem slR.fr (h : slR σ sl) (h1 : ∀ j, σ' 2 0 j = σ 2 0 j) (h2 : σ' 1 0 1 = σ 1 0 1) (h3 : ∀ j, σ' 27 0 j = σ 27 0 j) (h4 : σ' 26 0 2 = σ 26 0 2) : slR σ' sl := ⟨h.1.fr (fun i _ => h1 i) h2, h.2.1.fr (fun i _ => h3 i) h4, h.2.2⟩
theorem nuR.fr (h : nuR σ ν) (h1 : ∀ b j, 3 ≤ b → b < 11 → σ' 2 b j = σ 2 b j) (h2 : ∀ b, 3 ≤ b → b < 11 → σ' 1 b 1 = σ 1 b 1) (h3 : ∀ j, σ' 28 0 j = σ 28 0 j) (h4 : ∀ j, σ' 29 0 j = σ 29 0 j) : nuR σ' ν := ⟨fun v hv => ⟨(h.1 v hv).1.fr (fun i _ => h1 (3 + v) i (by omega) (by omega)) (h2 (3 + v) (by omega) (by omega)), (h.1 v hv).2⟩, fun v hv => ⟨(h.2.1 v hv).1.fr (fun i _ => h3 _) (h4 v), (h.2.1 v hv).2⟩, h.2.2⟩
theorem NdC.fr (h : NdC E σ kn) (h0 : σ' 4 0 4 = σ 4 0 4) (h1 : ∀ j, σ' 6 0 j = σ 6 0 j) (h2 : ∀ j, σ' 7 0 j = σ 7 0 j) (h3 : ∀ b j, 11 ≤ b → σ' 2 b j = σ 2 b j) (h4 : ∀ b, 11 ≤ b → σ' 1 b 1 = σ 1 b 1) : NdC E σ' kn := ⟨by rw [h0]; exact h.1, fun k hk => by
  obtain ⟨k1, k2, k3, k4, k5⟩ := h.2 k hk
  exact ⟨k1, by rw [h1]; exact k2, by rw [h2]; exact k3, k4.fr (fun i _ => h3 _ i (by omega)) (h4 _ (by omega)), k5⟩⟩
theorem NdM.fr (h : NdM E σ) (h0 : σ' 26 0 5 = σ 26 0 5) (h1 : ∀ a j, 30 ≤ a → a ≤ 34 → σ' a 0 j = σ a 0 j) : NdM E σ' := ⟨by rw [h0]; exact h.1, fun k hk => by
  obtain ⟨k1, k2, k3, k4, k5⟩ := h.2 k hk
  exact ⟨by rw [h1 30 k (by omega) (by omega)]; exact k1, by rw [h1 31 k (by omega) (by omega)]; exact k2, by rw [h1 32 k (by omega) (by omega)]; exact k3, k4.fr (fun i _ => h1 33 _ (by omega) (by omega)) (h1 34 k (by omega) (by omega)), k5⟩⟩
theorem mcR.fr (h : mcR σ) (h0 : σ' 0 0 5 = σ 0 0 5) (h1 : ∀ j, σ' 9 0 j = σ 9 0 j) (h2 : ∀ j, 11 ≤ j → j ≤ 14 → σ' 26 0 j = σ 26 0 j) : mcR σ' := by
  unfold mcR
  rw [h0, h1, h1, h1, h1, h2 11 (by omega) (by omega), h2 12 (by omega) (by omega), h2 13 (by omega) (by omega), h2 14 (by omega) (by omega)]
  exact h
/-- 'thrown' does not matter -/
theorem RR.thr (h : RR nx σ kn tx hi sl ν E) : RR nx (upS σ 26 0 0 0) kn tx hi sl ν E := ⟨h.1, h.2.1.fr (fun j => upS_ne (by omega)) (upS_ne (by omega)) (fun j => upS_ne (by omega)) (upS_ne (by omega)), h.2.2.1.fr (fun b j _ _ => upS_ne (by omega)) (fun b _ _ => upS_ne (by omega)) (fun j => upS_ne (by omega)) (fun j => upS_ne (by omega)), ⟨h.2.2.2.1.1.fr (upS_ne (by omega)) (fun j => upS_ne (by omega)) (fun j => upS_ne (by omega)) (fun b j _ => upS_ne (by omega)) (fun b _ => upS_ne (by omega)), h.2.2.2.1.2.1.fr (upS_ne (by omega)) (fun a j _ _ => upS_ne (by omega)), h.2.2.2.1.2.2⟩, h.2.2.2.2.fr (upS_ne (by omega)) (fun j => upS_ne (by omega)) (fun j _ _ => upS_ne (by omega))⟩
/-- both answer alike -/
def Bth (SL : Nat) (xs : Nat → Int) (TA TB : Tr) (av : List Av) (nx : Nat) (σ : Sg) (kn : Nat → Option Nat) (tx : Nat → Bool) : Prop :=
  ∃ (Y : Option Av → St → Prop), TA (.inr (some (0, 0)) :: av) (nx, σ, rX kn tx) Y ∧ ∀ v s, Y v s → ∃ x : Int, v = some (.inl x) ∧ ∃ Z : Option Av → St → Prop, TB (.inr (some (26, 0)) :: av) s Z ∧ ∀ v' s', Z v' s' → v' = some (.inl x) ∧ ∃ nx' σ' kn' tx' hi' sl' ν' E', s' = (nx', σ', rX kn' tx') ∧ RR nx' σ' kn' tx' hi' sl' ν' E'
theorem bth_p {TA TB : Tr} {av : List Av} {x : Int} {PA : Sg → Prop} {PC : Sg → Sg → Prop} (hA : TA (.inr (some (0, 0)) :: av) (nx, σ, rX kn tx) (fun v s => v = some (.inl x) ∧ ∃ σ1, s = (nx, σ1, rX kn tx) ∧ PA σ1)) (hB : ∀ σ1, PA σ1 → TB (.inr (some (26, 0)) :: av) (nx, σ1, rX kn tx) (fun v s => v = some (.inl x) ∧ ∃ σ2, s = (nx, σ2, rX kn tx) ∧ PC σ1 σ2)) (hR : ∀ σ1 σ2, PA σ1 → PC σ1 σ2 → ∃ hi' sl' ν' E', RR nx σ2 kn tx hi' sl' ν' E') : Bth SL xs TA TB av nx σ kn tx :=
  ⟨_, hA, fun v s h => by
    obtain ⟨rfl, σ1, rfl, h1⟩ := h
    refine ⟨x, rfl, _, hB σ1 h1, fun v' s' h => ?_⟩
    obtain ⟨rfl, σ2, rfl, h2⟩ := h
    obtain ⟨hi', sl', ν', E', h3⟩ := hR σ1 σ2 h1 h2
    exact ⟨rfl, nx, σ2, kn, tx, hi', sl', ν', E', rfl, h3⟩⟩
/-- nothing changes but 'thrown' -/
theorem bth_no {TA TB : Tr} {av : List Av} {x : Int} (hR : RR nx σ kn tx hi sl ν E) (hA : TA (.inr (some (0, 0)) :: av) (nx, σ, rX kn tx) (fun v s => v = some (.inl x) ∧ s = (nx, σ, rX kn tx))) (hB : TB (.inr (some (26, 0)) :: av) (nx, σ, rX kn tx) (fun v s => v = some (.inl x) ∧ s = (nx, upS σ 26 0 0 0, rX kn tx))) : Bth SL xs TA TB av nx σ kn tx :=
  ⟨_, hA, fun v s h => by
    obtain ⟨rfl, rfl⟩ := h
    refine ⟨x, rfl, _, hB, fun v' s' h => ?_⟩
    obtain ⟨rfl, rfl⟩ := h
    exact ⟨rfl, nx, _, kn, tx, hi, sl, ν, E, rfl, hR.thr⟩⟩
theorem RR.mk {sl' : List Int} {ν' : Nu} (h : RR nx σ kn tx hi sl ν E) (hc : ∀ a b j, ¬ ((a = 1 ∨ a = 2) ∧ b < 11) → ¬ (a = 26 ∧ (j = 0 ∨ j = 2)) → ¬ (27 ≤ a ∧ a ≤ 29) → ¬ a = 35 → σ' a b j = σ a b j) (hs : slR σ' sl') (hn : nuR σ' ν') : RR nx σ' kn tx hi sl' ν' E :=
  ⟨h.1, hs, hn, ⟨h.2.2.2.1.1.fr (hc _ _ _ (by omega) (by omega) (by omega) (by omega)) (fun j => hc _ _ _ (by omega) (by omega) (by omega) (by omega)) (fun j => hc _ _ _ (by omega) (by omega) (by omega) (by omega)) (fun b j _ => hc _ _ _ (by omega) (by omega) (by omega) (by omega)) (fun b _ => hc _ _ _ (by omega) (by omega) (by omega) (by omega)), h.2.2.2.1.2.1.fr (hc _ _ _ (by omega) (by omega) (by omega) (by omega)) (fun a j _ _ => hc _ _ _ (by omega) (by omega) (by omega) (by omega)), h.2.2.2.1.2.2⟩, h.2.2.2.2.fr (hc _ _ _ (by omega) (by omega) (by omega) (by omega)) (fun j => hc _ _ _ (by omega) (by omega) (by omega) (by omega)) (fun j _ _ => hc _ _ _ (by omega) (by omega) (by omega) (by omega))⟩
def setL (σ : Sg) (l : List Int) (σ' : Sg) : Prop := tl (σ' 27 0) (σ' 26 0 2) l ∧ ∀ a b j, ¬ a = 27 → ¬ (a = 26 ∧ (j = 0 ∨ j = 2)) → σ' a b j = σ a b j
theorem tl_snoc {f f' : Nat → Int} {n n' x : Int} {l : List Int} (h : tl f n l) (h1 : ∀ i, i < l.length → f' i = f i) (h2 : f' l.length = x) (h3 : n' = ((l.length + 1 : Nat) : Int)) : tl f' n' (l ++ [x]) := by
  refine ⟨by rw [h3]; simp, fun i hi => ?_⟩
  by_cases hil : i < l.length
  · rw [h1 i hil, h.2 i hil, List.getD_eq_getElem?_getD, List.getD_eq_getElem?_getD, List.getElem?_append_left hil]
  · have hi : i = l.length := by simp at hi; omega
    subst hi
    rw [h2, List.getD_eq_getElem?_getD, List.getElem?_append_right (Nat.le_refl _), Nat.sub_self]
    rfl
theorem byt_snoc {l : List Int} {x : Int} (h : byt l) (hx : b8 x = x) : byt (l ++ [x]) := fun z hz => by
  rcases List.mem_append.mp hz with hz | hz
  · exact h z hz
  · rw [List.mem_singleton] at hz
    rw [hz]
    exact hx
/-! sign -/
theorem bth_sign {x : Int} (hR : RR nx σ kn tx hi sl ν E) : Bth SL xs (T_Mill_sign SL xs) (T_Model_sign SL xs) [.inl x] nx σ kn tx := by
  have hR0 := hR
  obtain ⟨h1, ⟨s1, s2, s3, s4⟩, h3, h4, h5⟩ := hR
  have l1 : σ 1 0 1 = sl.length := s1.1
  have l2 : σ 26 0 2 = sl.length := s2.1
  by_cases hf : sl.length = 64
  · refine bth_no (x := -1) hR0 ?_ ?_
    · refine run 20 ?_
      refine call_eq (fun F hF => tw_Text_isFull (t := 0) hF) ?_
      refine And.intro (fun h => absurd (show (if σ 1 0 1 = 64 then (1 : Int) else 0) = 0 from h) (by rw [l1, if_pos (by omega)]; omega)) (fun h => ⟨rfl, rfl⟩)
    · refine run 20 ?_
      exact And.intro (fun h => absurd (show σ 26 0 2 = 64 by rw [l2]; omega) h) (fun h => ⟨rfl, rfl⟩)
  · have hw : wr (σ 1 0 1 + 1) = ((sl.length + 1 : Nat) : Int) := by rw [l1, wr_eq ⟨by omega, by omega⟩]; omega
    have ht : (σ 1 0 1).toNat = sl.length := by rw [l1, Int.toNat_natCast]
    refine bth_p (x := ((sl.length + 1 : Nat) : Int)) (PA := fun σ1 => setT σ 0 (sl ++ [b8 (b8 x)]) σ1) (PC := fun σ1 σ2 => setL σ1 (sl ++ [b8 (b8 x)]) σ2) ?_ (fun σ1 hs => ?_) (fun σ1 σ2 hs hl => ?_)
    · refine run 20 ?_
      refine call_eq (fun F hF => tw_Text_isFull (t := 0) hF) ?_
      refine And.intro (fun h => ?_) (fun h => absurd (show (if σ 1 0 1 = 64 then (1 : Int) else 0) = 0 by rw [l1, if_neg (by omega)]) h)
      refine call_eq (fun F hF => tw_Text_add (t := 0) (by rw [l1]; omega) hF) ?_
      refine ⟨?_, _, rfl, tl_snoc s1 (fun i hi => ?_) ?_ ?_, fun a b j q1 q2 => ?_⟩
      · show some (Sum.inl (upS (upS σ 2 0 (σ 1 0 1).toNat (b8 (b8 x))) 1 0 1 (wr (σ 1 0 1 + 1)) 1 0 1)) = _
        rw [upS_same, hw]
      · rw [upS_ne (by omega), upS_ne (by omega)]
      · rw [upS_ne (by omega), ht, upS_same]
      · rw [upS_same, hw]
      · rw [upS_ne q1, upS_ne (by omega)]
    · have l2' : σ1 26 0 2 = sl.length := by rw [hs.2 26 0 2 (by omega) (by omega)]; exact l2
      have hw2 : wr (σ1 26 0 2 + 1) = ((sl.length + 1 : Nat) : Int) := by rw [l2', wr_eq ⟨by omega, by omega⟩]; omega
      have ht2 : (σ1 26 0 2).toNat = sl.length := by rw [l2', Int.toNat_natCast]
      refine run 30 ?_
      refine And.intro (fun h => ?_) (fun h => absurd (show ¬ σ1 26 0 2 = 64 by rw [l2']; omega) h)
      refine And.intro (by show 0 ≤ σ1 26 0 2 ∧ σ1 26 0 2 < 64; rw [l2']; omega) ?_
      refine ⟨?_, _, rfl, tl_snoc (s2.fr (f' := σ1 27 0) (n' := σ1 26 0 2) (fun i _ => hs.2 27 0 i (by omega) (by omega)) (by rw [l2', l2])) (fun i hi => ?_) ?_ ?_, fun a b j q1 q2 => ?_⟩
      · show some (Sum.inl (upS (upS (upS σ1 26 0 0 0) 27 0 (σ1 26 0 2).toNat (b8 (b8 x))) 26 0 2 (wr (σ1 26 0 2 + 1)) 26 0 2)) = _
        rw [upS_same, hw2]
      · show upS (upS (upS σ1 26 0 0 0) 27 0 (σ1 26 0 2).toNat (b8 (b8 x))) 26 0 2 (wr (σ1 26 0 2 + 1)) 27 0 i = _
        rw [upS_ne (by omega), upS_ne (by omega), upS_ne (by omega)]
      · show upS (upS (upS σ1 26 0 0 0) 27 0 (σ1 26 0 2).toNat (b8 (b8 x))) 26 0 2 (wr (σ1 26 0 2 + 1)) 27 0 sl.length = _
        rw [upS_ne (by omega), ht2, upS_same]
      · show upS (upS (upS σ1 26 0 0 0) 27 0 (σ1 26 0 2).toNat (b8 (b8 x))) 26 0 2 (wr (σ1 26 0 2 + 1)) 26 0 2 = _
        rw [upS_same, hw2]
      · show upS (upS (upS σ1 26 0 0 0) 27 0 (σ1 26 0 2).toNat (b8 (b8 x))) 26 0 2 (wr (σ1 26 0 2 + 1)) a b j = _
        rw [upS_ne (by omega), upS_ne (by omega), upS_ne (by omega)]
    · have ne1 : ∀ a b j, ¬ ((a = 1 ∨ a = 2) ∧ b = 0) → ¬ a = 27 → ¬ (a = 26 ∧ (j = 0 ∨ j = 2)) → σ2 a b j = σ a b j := fun a b j q1 q2 q3 => by rw [hl.2 a b j q2 q3, hs.2 a b j (by omega) (by omega)]
      refine ⟨hi, _, ν, E, hR0.mk (fun a b j q1 q2 q3 q4 => ne1 a b j (by omega) (by omega) q2) ⟨hs.1.fr (fun i _ => hl.2 2 0 i (by omega) (by omega)) (hl.2 1 0 1 (by omega) (by omega)), hl.1, by simp; omega, byt_snoc s4 (by rw [b8_idem, b8_idem])⟩ (h3.fr (fun b j _ _ => ne1 2 b j (by omega) (by omega) (by omega)) (fun b _ _ => ne1 1 b 1 (by omega) (by omega) (by omega)) (fun j => ne1 28 0 j (by omega) (by omega) (by omega)) (fun j => ne1 29 0 j (by omega) (by omega) (by omega)))⟩
/-! value, length -/
theorem vref {v : Int} (hv : 0 ≤ v ∧ v < 8) : (if v.toNat < 8 then some (1, 3 + v.toNat) else none) = some (1, 3 + v.toNat) := if_pos (by omega)
theorem bth_length {v : Int} (hR : RR nx σ kn tx hi sl ν E) : Bth SL xs (T_Mill_length SL xs) (T_Model_length SL xs) [.inl v] nx σ kn tx := by
  by_cases hv : 0 ≤ v ∧ v < 8
  · obtain ⟨n1, n2, -⟩ := hR.2.2.1
    have e1 : σ 1 (3 + v.toNat) 1 = (ν v.toNat).length := (n1 v.toNat (by omega)).1.1
    have e2 : σ 29 0 v.toNat = (ν v.toNat).length := (n2 v.toNat (by omega)).1.1
    refine bth_no (x := ((ν v.toNat).length : Int)) hR ?_ ?_
    · have K : Xz SL xs (m_Mill_length SL xs) (fun v_1 s => v_1 = some (.inl ((ν v.toNat).length : Int)) ∧ s = (nx, σ, rX kn tx)) (13, [some (.inr (some (0, 0))), some (.inl v)], [.inr (some (1, 3 + v.toNat))], (nx, σ, rX kn tx), 0, 0) := by
        refine run 4 ?_
        refine ⟨?_, rfl⟩
        show some (Sum.inl (σ 1 (3 + v.toNat) 1)) = _
        rw [e1]
      rw [← vref hv] at K
      refine run 10 ?_
      refine call_eq (fun F hF => tw_Mill_isVariable hF) ?_
      refine And.intro (fun h => absurd (show (if 0 ≤ v ∧ v < 8 then (1 : Int) else 0) = 0 from h) (by rw [if_pos hv]; omega)) (fun h => ?_)
      refine And.intro hv ?_
      exact leaf K
    · refine run 20 ?_
      refine call_eq (fun F hF => tw_Model_isVariable hF) ?_
      refine And.intro (fun h => absurd (show (if 0 ≤ v ∧ v < 8 then (1 : Int) else 0) = 0 from h) (by rw [if_pos hv]; omega)) (fun h => ?_)
      refine And.intro hv ?_
      refine ⟨?_, rfl⟩
      show some (Sum.inl (upS σ 26 0 0 0 29 0 v.toNat)) = _
      rw [upS_ne (by omega), e2]
  · refine bth_no (x := -1) hR ?_ ?_
    · refine run 20 ?_
      refine call_eq (fun F hF => tw_Mill_isVariable hF) ?_
      exact And.intro (fun h => ⟨rfl, rfl⟩) (fun h => absurd (show (if 0 ≤ v ∧ v < 8 then (1 : Int) else 0) = 0 by rw [if_neg hv]) h)
    · refine run 20 ?_
      refine call_eq (fun F hF => tw_Model_isVariable hF) ?_
      exact And.intro (fun h => ⟨rfl, rfl⟩) (fun h => absurd (show (if 0 ≤ v ∧ v < 8 then (1 : Int) else 0) = 0 by rw [if_neg hv]) h)
theorem bth_value {v i : Int} (hR : RR nx σ kn tx hi sl ν E) : Bth SL xs (T_Mill_value SL xs) (T_Model_value SL xs) [.inl v, .inl i] nx σ kn tx := by
  by_cases hv : 0 ≤ v ∧ v < 8
  · obtain ⟨n1, n2, -⟩ := hR.2.2.1
    obtain ⟨t1, t64⟩ := n1 v.toNat (by omega)
    obtain ⟨t2, -⟩ := n2 v.toNat (by omega)
    have e1 : σ 1 (3 + v.toNat) 1 = (ν v.toNat).length := t1.1
    have e2 : σ 29 0 v.toNat = (ν v.toNat).length := t2.1
    have hw6 : i < (ν v.toNat).length → 0 ≤ i → wr (wr (64 * v) + i) = ((64 * v.toNat + i.toNat : Nat) : Int) := fun h1 h2 => by
      have := w64 (k := v.toNat) (i := i.toNat) (by omega) (by omega)
      rw [show ((v.toNat : Nat) : Int) = v by omega, show ((i.toNat : Nat) : Int) = i by omega] at this
      exact this
    let x : Int := if 0 ≤ i ∧ i < (ν v.toNat).length then w_and ((ν v.toNat).getD i.toNat 0) 255 else -1
    refine bth_no (x := x) hR ?_ ?_
    · have K : 0 ≤ i → Xz SL xs (m_Mill_value SL xs) (fun v_1 s => v_1 = some (.inl x) ∧ s = (nx, σ, rX kn tx)) (18, [some (.inr (some (0, 0))), some (.inl v), some (.inl i)], [.inr (some (1, 3 + v.toNat)), .inl i], (nx, σ, rX kn tx), 0, 0) := by
        intro hi0
        have K2 : i < (ν v.toNat).length → Xz SL xs (m_Mill_value SL xs) (fun v_1 s => v_1 = some (.inl x) ∧ s = (nx, σ, rX kn tx)) (30, [some (.inr (some (0, 0))), some (.inl v), some (.inl i)], [.inr (some (1, 3 + v.toNat))], (nx, σ, rX kn tx), 0, 0) := by
          intro hil
          refine run 10 ?_
          refine And.intro ⟨hi0, show i < 64 by omega⟩ ?_
          refine ⟨?_, rfl⟩
          show some (Sum.inl (w_and (σ 2 (3 + v.toNat) i.toNat) 255)) = some (Sum.inl x)
          rw [t1.2 i.toNat (by omega)]
          show _ = some (Sum.inl (if 0 ≤ i ∧ i < (ν v.toNat).length then w_and ((ν v.toNat).getD i.toNat 0) 255 else -1))
          rw [if_pos ⟨hi0, hil⟩]
        rw [← vref hv] at K2
        refine run 6 ?_
        refine And.intro (fun h => ?_) (fun h => ?_)
        · have h : σ 1 (3 + v.toNat) 1 ≤ i := h
          rw [e1] at h
          refine ⟨?_, rfl⟩
          show _ = some (Sum.inl (if 0 ≤ i ∧ i < (ν v.toNat).length then w_and ((ν v.toNat).getD i.toNat 0) 255 else -1))
          rw [if_neg (by omega)]
        · have h : ¬ σ 1 (3 + v.toNat) 1 ≤ i := h
          rw [e1] at h
          refine And.intro hv ?_
          exact leaf (K2 (by omega))
      rw [← vref hv] at K
      refine run 12 ?_
      refine call_eq (fun F hF => tw_Mill_isVariable hF) ?_
      refine And.intro (fun h => absurd (show (if 0 ≤ v ∧ v < 8 then (1 : Int) else 0) = 0 from h) (by rw [if_pos hv]; omega)) (fun h => ?_)
      refine And.intro (fun h => ?_) (fun h => ?_)
      · have h : i < 0 := h
        refine ⟨?_, rfl⟩
        show _ = some (Sum.inl (if 0 ≤ i ∧ i < (ν v.toNat).length then w_and ((ν v.toNat).getD i.toNat 0) 255 else -1))
        rw [if_neg (by omega)]
      · have h : ¬ i < 0 := h
        refine And.intro hv ?_
        exact leaf (K (by omega))
    · refine run 30 ?_
      refine call_eq (fun F hF => tw_Model_isVariable hF) ?_
      refine And.intro (fun h => absurd (show (if 0 ≤ v ∧ v < 8 then (1 : Int) else 0) = 0 from h) (by rw [if_pos hv]; omega)) (fun h => ?_)
      refine And.intro (fun h => ?_) (fun h => ?_)
      · have h : i < 0 := h
        refine ⟨?_, rfl⟩
        show _ = some (Sum.inl (if 0 ≤ i ∧ i < (ν v.toNat).length then w_and ((ν v.toNat).getD i.toNat 0) 255 else -1))
        rw [if_neg (by omega)]
      · have h : ¬ i < 0 := h
        refine And.intro hv ?_
        refine And.intro (fun h2 => ?_) (fun h2 => ?_)
        · have h2 : upS σ 26 0 0 0 29 0 v.toNat ≤ i := h2
          rw [upS_ne (by omega), e2] at h2
          refine ⟨?_, rfl⟩
          show _ = some (Sum.inl (if 0 ≤ i ∧ i < (ν v.toNat).length then w_and ((ν v.toNat).getD i.toNat 0) 255 else -1))
          rw [if_neg (by omega)]
        · have h2 : ¬ upS σ 26 0 0 0 29 0 v.toNat ≤ i := h2
          rw [upS_ne (by omega), e2] at h2
          have hw := hw6 (by omega) (by omega)
          refine And.intro (by show 0 ≤ wr (wr (64 * v) + i) ∧ wr (wr (64 * v) + i) < 512; rw [hw]; omega) ?_
          refine ⟨?_, rfl⟩
          show some (Sum.inl (w_and (upS σ 26 0 0 0 28 0 (wr (wr (64 * v) + i)).toNat) 255)) = some (Sum.inl (if 0 ≤ i ∧ i < (ν v.toNat).length then w_and ((ν v.toNat).getD i.toNat 0) 255 else -1))
          rw [hw, Int.toNat_natCast, upS_ne (by omega), if_pos (by omega)]
          have := t2.2 i.toNat (by omega)
          rw [← this]
  · refine bth_no (x := -1) hR ?_ ?_
    · refine run 20 ?_
      refine call_eq (fun F hF => tw_Mill_isVariable hF) ?_
      exact And.intro (fun h => ⟨rfl, rfl⟩) (fun h => absurd (show (if 0 ≤ v ∧ v < 8 then (1 : Int) else 0) = 0 by rw [if_neg hv]) h)
    · refine run 20 ?_
      refine call_eq (fun F hF => tw_Model_isVariable hF) ?_
      exact And.intro (fun h => ⟨rfl, rfl⟩) (fun h => absurd (show (if 0 ≤ v ∧ v < 8 then (1 : Int) else 0) = 0 by rw [if_neg hv]) h)
end
