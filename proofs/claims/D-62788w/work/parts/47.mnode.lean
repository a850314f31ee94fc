/-! The model's node -/
def ndM (σ : Sg) (n kd : Nat) (a b : Int) (sl : List Int) (σ2 : Sg) : Prop := σ2 26 0 5 = ((n + 1 : Nat) : Int) ∧ σ2 30 0 n = kd ∧ σ2 31 0 n = (if kF 1 kd = 0 then 0 else a) ∧ σ2 32 0 n = (if kF 2 kd = 0 then 0 else b) ∧ tl (fun i => σ2 33 0 (64 * n + i)) (σ2 34 0 n) (if kd < 5 then sl else []) ∧ σ2 26 0 2 = (if kd < 5 then 0 else σ 26 0 2) ∧
  ∀ a b j, ¬ (a = 26 ∧ (j = 0 ∨ j = 2 ∨ j = 5)) → ¬ (((30 ≤ a ∧ a ≤ 32) ∨ a = 34) ∧ j = n) → ¬ (a = 33 ∧ b = 0 ∧ 64 * n ≤ j ∧ j < 64 * n + 64) → σ2 a b j = σ a b j
theorem kFh : ∀ kd : Nat, kd < 24 → ((kF 1 kd = 0) ↔ ¬ ((4 < kd ∧ kd < 10) ∨ 15 < kd)) ∧ ((kF 2 kd = 0) ↔ ¬ (16 < kd ∧ kd < 21)) := by decide +kernel
section
variable {SL : Nat} {xs : Nat → Int} {nx hi : Nat} {σ σ' : Sg} {kn : Nat → Option Nat} {tx : Nat → Bool} {F : Option Av → St → Prop} {E : Ev} {ν : Nu} {sl : List Int}
abbrev mnL (kd : Nat) (a b hf hs : Int) (l6 : Option Av) : List (Option Av) := [some (.inr (some (26, 0))), some (.inl (kd : Int)), some (.inl a), some (.inl b), some (.inl hf), some (.inl hs), l6]
theorem mn_181 {n kd : Nat} {a b hf hs : Int} {l6 : Option Av} {σb : Sg} (hn : n < 64) (h5 : σb 26 0 5 = n) (hF : ndM σ n kd a b sl (upS σb 26 0 5 ((n + 1 : Nat) : Int)) → F (some (.inl (n : Int))) (nx, upS σb 26 0 5 ((n + 1 : Nat) : Int), rX kn tx)) (hM : ndM σ n kd a b sl (upS σb 26 0 5 ((n + 1 : Nat) : Int))) : Xz SL xs (m_Model_node SL xs) F (181, mnL kd a b hf hs l6, [], (nx, σb, rX kn tx), 0, 0) := by
  have hw : wr (σb 26 0 5 + 1) = ((n + 1 : Nat) : Int) := by rw [h5, wr_eq ⟨by omega, by omega⟩]; omega
  have hw2 : wr (((n + 1 : Nat) : Int) - 1) = (n : Int) := by rw [wr_eq ⟨by omega, by omega⟩]; omega
  have K := hF hM
  rw [← hw2, ← hw] at K
  exact run 12 K
theorem lp_mnode {n kd : Nat} {a b hf hs : Int} (hn : n < 64) (h64 : sl.length ≤ 64) (hb : byt sl) (hsl : tl (σ 27 0) (σ 26 0 2) sl) (h5 : σ 26 0 5 = n) (hK : ∀ σ1, (∀ j, j < sl.length → σ1 33 0 (64 * n + j) = sl.getD j 0) → (∀ a b j, ¬ (a = 33 ∧ b = 0 ∧ 64 * n ≤ j ∧ j < 64 * n + 64) → σ1 a b j = σ a b j) → Xz SL xs (m_Model_node SL xs) F (163, mnL kd a b hf hs (some (.inl sl.length)), [], (nx, σ1, rX kn tx), 0, 0)) : ∀ (m i : Nat) (σ1 : Sg), i + m = sl.length → (∀ j, j < i → σ1 33 0 (64 * n + j) = sl.getD j 0) → (∀ a b j, ¬ (a = 33 ∧ b = 0 ∧ 64 * n ≤ j ∧ j < 64 * n + 64) → σ1 a b j = σ a b j) → Xz SL xs (m_Model_node SL xs) F (126, mnL kd a b hf hs (some (.inl i)), [], (nx, σ1, rX kn tx), 0, 0) := by
  have hl : σ 26 0 2 = sl.length := hsl.1
  intro m
  induction m with
  | zero =>
    intro i σ1 hi h1 h2
    have hi : i = sl.length := by omega
    subst hi
    refine run 4 ?_
    refine And.intro (fun h => leaf (hK σ1 h1 h2)) (fun h => absurd (show σ1 26 0 2 ≤ (sl.length : Int) by rw [h2 26 0 2 (by omega), hl]; exact Int.le_refl _) h)
  | succ m ih =>
    intro i σ1 hi h1 h2
    have e5 : σ1 26 0 5 = n := by rw [h2 26 0 5 (by omega)]; exact h5
    have hw6 : wr (wr (64 * σ1 26 0 5) + (i : Int)) = ((64 * n + i : Nat) : Int) := by rw [e5]; exact w64 (by omega) (by omega)
    have hwi : wr ((i : Int) + 1) = ((i + 1 : Nat) : Int) := by rw [wr_eq ⟨by omega, by omega⟩]; omega
    have hsg : σ1 27 0 (i : Int).toNat = sl.getD i 0 := by rw [Int.toNat_natCast, h2 27 0 _ (by omega)]; exact hsl.2 i (by omega)
    have hb8 : b8 (sl.getD i 0) = sl.getD i 0 := by
      refine hb _ ?_
      rw [List.getD_eq_getElem?_getD, List.getElem?_eq_getElem (by omega)]
      exact List.getElem_mem _
    have K := ih (i + 1) (upS σ1 33 0 (64 * n + i) (sl.getD i 0)) (by omega) (fun j hj => by
      by_cases hji : j = i
      · subst hji
        exact upS_same
      · rw [upS_ne (by omega)]
        exact h1 j (by omega)) (fun a b j h => by rw [upS_ne (by omega)]; exact h2 a b j h)
    have eix : (wr (wr (64 * σ1 26 0 5) + (i : Int))).toNat = 64 * n + i := by rw [hw6, Int.toNat_natCast]
    rw [← eix, ← hb8, ← hsg, ← hwi] at K
    refine run 24 ?_
    refine And.intro (fun h => ?_) (fun h => ?_)
    · have h : σ1 26 0 2 ≤ (i : Int) := h
      rw [h2 26 0 2 (by omega), hl] at h
      omega
    refine And.intro ⟨show (0 : Int) ≤ (i : Int) by omega, show (i : Int) < 64 by omega⟩ ?_
    refine And.intro (by show 0 ≤ wr (wr (64 * σ1 26 0 5) + (i : Int)) ∧ wr (wr (64 * σ1 26 0 5) + (i : Int)) < 4096; rw [hw6]; omega) ?_
    exact leaf (by first | exact run 1 K | exact run 2 K | exact run 3 K)
theorem tw_Model_node {n kd : Nat} {a b : Int} (hk : kd < 24) (hn : n < 64) (h5 : σ 26 0 5 = n) (hsl : tl (σ 27 0) (σ 26 0 2) sl) (h64 : sl.length ≤ 64) (hb : byt sl) (hok : ft (kF 1 kd) a n ∧ ft (kF 2 kd) b n) (hF : ∀ σ2, ndM σ n kd a b sl σ2 → F (some (.inl (n : Int))) (nx, σ2, rX kn tx)) : T_Model_node SL xs [.inr (some (26, 0)), .inl kd, .inl a, .inl b] (nx, σ, rX kn tx) F := by
  obtain ⟨kh1, kh2⟩ := kFh kd hk
  have hin : ∀ σx : Sg, σx 26 0 5 = (n : Int) → 0 ≤ σx 26 0 5 ∧ σx 26 0 5 < 64 := fun σx h => by rw [h]; omega
  have hl2 : σ 26 0 2 = sl.length := hsl.1
  -- the arrays are set
  let σb : Sg := upS (upS (upS (upS (upS σ 26 0 0 0) 30 0 n (kd : Int)) 31 0 n (if kF 1 kd = 0 then 0 else a)) 32 0 n (if kF 2 kd = 0 then 0 else b)) 34 0 n 0
  have ex : ∀ a' b' j', ¬ (a' = 26 ∧ j' = 0) → ¬ (((30 ≤ a' ∧ a' ≤ 32) ∨ a' = 34) ∧ j' = n) → σb a' b' j' = σ a' b' j' := fun a' b' j' g1 g2 => by
    show upS (upS (upS (upS (upS σ 26 0 0 0) 30 0 n (kd : Int)) 31 0 n (if kF 1 kd = 0 then 0 else a)) 32 0 n (if kF 2 kd = 0 then 0 else b)) 34 0 n 0 a' b' j' = _
    rw [upS_ne (by omega), upS_ne (by omega), upS_ne (by omega), upS_ne (by omega), upS_ne (by omega)]
  have x30 : σb 30 0 n = kd := by
    show upS (upS (upS (upS (upS σ 26 0 0 0) 30 0 n (kd : Int)) 31 0 n (if kF 1 kd = 0 then 0 else a)) 32 0 n (if kF 2 kd = 0 then 0 else b)) 34 0 n 0 30 0 n = _
    rw [upS_ne (by omega), upS_ne (by omega), upS_ne (by omega), upS_same]
  have x31 : σb 31 0 n = (if kF 1 kd = 0 then 0 else a) := by
    show upS (upS (upS (upS (upS σ 26 0 0 0) 30 0 n (kd : Int)) 31 0 n (if kF 1 kd = 0 then 0 else a)) 32 0 n (if kF 2 kd = 0 then 0 else b)) 34 0 n 0 31 0 n = _
    rw [upS_ne (by omega), upS_ne (by omega), upS_same]
  have x32 : σb 32 0 n = (if kF 2 kd = 0 then 0 else b) := by
    show upS (upS (upS (upS (upS σ 26 0 0 0) 30 0 n (kd : Int)) 31 0 n (if kF 1 kd = 0 then 0 else a)) 32 0 n (if kF 2 kd = 0 then 0 else b)) 34 0 n 0 32 0 n = _
    rw [upS_ne (by omega), upS_same]
  have x34 : σb 34 0 n = 0 := upS_same
  have b5 : σb 26 0 5 = n := by rw [ex 26 0 5 (by omega) (by omega)]; exact h5
  have b2 : σb 26 0 2 = sl.length := by rw [ex 26 0 2 (by omega) (by omega)]; exact hl2
  have K118 : ∀ (hf hs : Int), Xz SL xs (m_Model_node SL xs) F (118, mnL kd a b hf hs none, [], (nx, σb, rX kn tx), 0, 0) := by
    intro hf hs
    refine run 3 ?_
    refine And.intro (fun h => ?_) (fun h => ?_)
    · have h : (5 : Int) ≤ (kd : Int) := h
      refine leaf (mn_181 (σ := σ) (sl := sl) hn b5 (hF _) ⟨upS_same, by rw [upS_ne (by omega)]; exact x30, by rw [upS_ne (by omega)]; exact x31, by rw [upS_ne (by omega)]; exact x32, ?_, ?_, fun a' b' j' g1 g2 g3 => ?_⟩)
      · rw [if_neg (by omega)]
        exact tl_nil (by rw [upS_ne (by omega)]; exact x34)
      · rw [if_neg (by omega), upS_ne (by omega), ex 26 0 2 (by omega) (by omega)]
      · rw [upS_ne (by omega), ex a' b' j' (by omega) (by omega)]
    · have h : ¬ (5 : Int) ≤ (kd : Int) := h
      have K := lp_mnode (SL := SL) (xs := xs) (nx := nx) (kn := kn) (tx := tx) (F := F) (kd := kd) (a := a) (b := b) (hf := hf) (hs := hs) (σ := σb) (sl := sl) (n := n) hn h64 hb (hsl.fr (fun i _ => ex 27 0 i (by omega) (by omega)) (by rw [b2, hl2])) b5 (fun σ1 q1 q2 => ?_) sl.length 0 σb (Nat.zero_add _) (fun j hj => by omega) (fun a' b' j' _ => rfl)
      · exact leaf (by first | exact run 1 K | exact run 2 K)
      · have c5 : σ1 26 0 5 = n := by rw [q2 26 0 5 (by omega)]; exact b5
        have c2 : σ1 26 0 2 = sl.length := by rw [q2 26 0 2 (by omega)]; exact b2
        have K := mn_181 (SL := SL) (xs := xs) (nx := nx) (kn := kn) (tx := tx) (F := F) (hf := hf) (hs := hs) (l6 := some (.inl (sl.length : Int))) (σ := σ) (sl := sl) (kd := kd) (a := a) (b := b) (σb := upS (upS σ1 34 0 n (σ1 26 0 2)) 26 0 2 0) hn (by rw [upS_ne (by omega), upS_ne (by omega)]; exact c5) (hF _) ⟨upS_same, by rw [upS_ne (by omega), upS_ne (by omega), upS_ne (by omega), q2 30 0 n (by omega)]; exact x30, by rw [upS_ne (by omega), upS_ne (by omega), upS_ne (by omega), q2 31 0 n (by omega)]; exact x31, by rw [upS_ne (by omega), upS_ne (by omega), upS_ne (by omega), q2 32 0 n (by omega)]; exact x32, ?_, ?_, fun a' b' j' g1 g2 g3 => ?_⟩
        · refine run 12 ?_
          refine And.intro (hin σ1 c5) ?_
          have e : upS σ1 34 0 (σ1 26 0 5).toNat (σ1 26 0 2) = upS σ1 34 0 n (σ1 26 0 2) := by rw [c5, Int.toNat_natCast]
          rw [← e] at K
          exact leaf (by first | exact run 1 K | exact run 2 K | exact run 3 K | exact run 4 K)
        · rw [if_pos (by omega)]
          refine ⟨?_, fun i hi => ?_⟩
          · rw [upS_ne (by omega), upS_ne (by omega), upS_same]
            exact c2
          · show upS (upS (upS σ1 34 0 n (σ1 26 0 2)) 26 0 2 0) 26 0 5 _ 33 0 (64 * n + i) = _
            rw [upS_ne (by omega), upS_ne (by omega), upS_ne (by omega)]
            exact q1 i hi
        · rw [if_pos (by omega), upS_ne (by omega), upS_same]
        · rw [upS_ne (by omega), upS_ne (by omega), upS_ne (by omega), q2 a' b' j' g3, ex a' b' j' (by omega) g2]
  have fin : ∀ v1 v2 hf hs : Int, v1 = (if kF 1 kd = 0 then 0 else a) → v2 = (if kF 2 kd = 0 then 0 else b) → Xz SL xs (m_Model_node SL xs) F (118, mnL kd a b hf hs none, [], (nx, upS (upS (upS (upS (upS σ 26 0 0 0) 30 0 (σ 26 0 5).toNat (kd : Int)) 31 0 (σ 26 0 5).toNat v1) 32 0 (σ 26 0 5).toNat v2) 34 0 (σ 26 0 5).toNat 0, rX kn tx), 0, 0) := by
    intro v1 v2 hf hs e1 e2
    rw [e1, e2, h5, Int.toNat_natCast]
    exact K118 hf hs
  have hi5 : 0 ≤ σ 26 0 5 ∧ σ 26 0 5 < 64 := hin σ h5
  have K60 : ∀ hf hs : Int, (hf = 0 ↔ kF 1 kd = 0) → (hs = 0 ↔ kF 2 kd = 0) → Xz SL xs (m_Model_node SL xs) F (60, mnL kd a b hf hs none, [], (nx, upS σ 26 0 0 0, rX kn tx), 0, 0) := by
    intro hf hs e1 e2
    refine run 40 ?_
    refine And.intro hi5 ?_
    refine And.intro (fun h => ?_) (fun h => ?_)
    · have h : hf = 0 := h
      refine And.intro hi5 ?_
      refine And.intro (fun h2 => ?_) (fun h2 => ?_)
      · have h2 : hs = 0 := h2
        refine And.intro hi5 ?_
        refine And.intro hi5 ?_
        exact leaf (fin 0 0 hf hs (by rw [if_pos (e1.mp h)]) (by rw [if_pos (e2.mp h2)]))
      · have h2 : ¬ hs = 0 := h2
        refine And.intro hi5 ?_
        refine And.intro hi5 ?_
        exact leaf (fin 0 b hf hs (by rw [if_pos (e1.mp h)]) (by rw [if_neg (fun z => h2 (e2.mpr z))]))
    · have h : ¬ hf = 0 := h
      refine And.intro hi5 ?_
      refine And.intro (fun h2 => ?_) (fun h2 => ?_)
      · have h2 : hs = 0 := h2
        refine And.intro hi5 ?_
        refine And.intro hi5 ?_
        exact leaf (fin a 0 hf hs (by rw [if_neg (fun z => h (e1.mpr z))]) (by rw [if_pos (e2.mp h2)]))
      · have h2 : ¬ hs = 0 := h2
        refine And.intro hi5 ?_
        refine And.intro hi5 ?_
        exact leaf (fin a b hf hs (by rw [if_neg (fun z => h (e1.mpr z))]) (by rw [if_neg (fun z => h2 (e2.mpr z))]))
  have K41 : ∀ hf : Int, (hf = 0 ↔ kF 1 kd = 0) → Xz SL xs (m_Model_node SL xs) F (41, [some (.inr (some (26, 0))), some (.inl (kd : Int)), some (.inl a), some (.inl b), some (.inl hf), none, none], [], (nx, upS σ 26 0 0 0, rX kn tx), 0, 0) := by
    intro hf e1
    have k0 : ¬ (16 < kd ∧ kd < 21) → Xz SL xs (m_Model_node SL xs) F (60, mnL kd a b hf 0 none, [], (nx, upS σ 26 0 0 0, rX kn tx), 0, 0) := fun z => K60 hf 0 e1 ⟨fun _ => kh2.mpr z, fun _ => rfl⟩
    have k1 : (16 < kd ∧ kd < 21) → Xz SL xs (m_Model_node SL xs) F (60, mnL kd a b hf 1 none, [], (nx, upS σ 26 0 0 0, rX kn tx), 0, 0) := fun z => K60 hf 1 e1 ⟨fun e => by omega, fun e => absurd z (kh2.mp e)⟩
    refine run 6 ?_
    refine And.intro (fun h => ?_) (fun h => ?_)
    · have h : (kd : Int) ≤ 16 := h
      have K := k0 (by omega)
      exact leaf (by first | exact run 1 K | exact run 2 K | exact run 3 K)
    · have h : ¬ (kd : Int) ≤ 16 := h
      refine And.intro (fun h2 => ?_) (fun h2 => ?_)
      · have h2 : (21 : Int) ≤ (kd : Int) := h2
        have K := k0 (by omega)
        exact leaf (by first | exact run 1 K | exact run 2 K | exact run 3 K)
      · have h2 : ¬ (21 : Int) ≤ (kd : Int) := h2
        have K := k1 (by omega)
        exact leaf (by first | exact run 1 K | exact run 2 K | exact run 3 K | exact run 4 K)
  have K17 : Xz SL xs (m_Model_node SL xs) F (17, [some (.inr (some (26, 0))), some (.inl (kd : Int)), some (.inl a), some (.inl b), none, none, none], [], (nx, upS σ 26 0 0 0, rX kn tx), 0, 0) := by
    have k0 := fun (z : ¬ ((4 < kd ∧ kd < 10) ∨ 15 < kd)) => K41 0 ⟨fun _ => kh1.mpr z, fun _ => rfl⟩
    have k1 := fun (z : (4 < kd ∧ kd < 10) ∨ 15 < kd) => K41 1 ⟨fun e => by omega, fun e => absurd z (kh1.mp e)⟩
    have K28 : ¬ (4 < kd ∧ kd < 10) → Xz SL xs (m_Model_node SL xs) F (28, [some (.inr (some (26, 0))), some (.inl (kd : Int)), some (.inl a), some (.inl b), none, none, none], [], (nx, upS σ 26 0 0 0, rX kn tx), 0, 0) := by
      intro hz
      refine run 3 ?_
      refine And.intro (fun h => ?_) (fun h => ?_)
      · have h : (kd : Int) ≤ 15 := h
        have K := k0 (by omega)
        exact leaf (by first | exact run 1 K | exact run 2 K | exact run 3 K)
      · have h : ¬ (kd : Int) ≤ 15 := h
        have K := k1 (by omega)
        exact leaf (by first | exact run 1 K | exact run 2 K | exact run 3 K | exact run 4 K)
    refine run 6 ?_
    refine And.intro (fun h => ?_) (fun h => ?_)
    · have h : (kd : Int) ≤ 4 := h
      exact leaf (K28 (by omega))
    · have h : ¬ (kd : Int) ≤ 4 := h
      refine And.intro (fun h2 => ?_) (fun h2 => ?_)
      · have h2 : (kd : Int) < 10 := h2
        have K := k1 (by omega)
        exact leaf (by first | exact run 1 K | exact run 2 K | exact run 3 K | exact run 4 K)
      · have h2 : ¬ (kd : Int) < 10 := h2
        exact leaf (K28 (by omega))
  refine run 9 ?_
  refine call_eq (fun F hF => tw_Model_can (σ := upS σ 26 0 0 0) (n := n) hk (by rw [upS_ne (by omega)]; exact h5) (by omega) hF) ?_
  refine And.intro (fun h => leaf K17) (fun h => absurd (show ¬ (if ft (kF 1 kd) a n ∧ ft (kF 2 kd) b n then (1 : Int) else 0) = 0 by rw [if_pos hok]; omega) h)
end
