/-! The component's node -/
def knU (kn : Nat → Option Nat) (n kd : Nat) : Nat → Option Nat := fun j => if j = n then some kd else kn j
/-- a text is made for a node -/
def mkR (ρ : Rh) (n : Nat) : Rh := upR (upR (zrR (zrR ρ 1 (11 + n)) 2 (11 + n)) 1 (11 + n) 0 (some (2, 11 + n))) 8 0 n (some (1, 11 + n))
section
variable {SL : Nat} {xs : Nat → Int} {nx hi : Nat} {σ σ' : Sg} {kn : Nat → Option Nat} {tx : Nat → Bool} {F : Option Av → St → Prop} {E : Ev} {ν : Nu} {sl : List Int}
theorem rX_kn {n kd : Nat} : upR (rX kn tx) 5 0 n (some (45, kd)) = rX (knU kn n kd) tx := by
  funext a b j
  unfold upR
  by_cases h : a = 5 ∧ b = 0 ∧ j = n
  · obtain ⟨rfl, rfl, rfl⟩ := h
    rw [if_pos ⟨rfl, rfl, rfl⟩]
    show _ = ((knU kn j kd) j).map (fun k => (45, k))
    unfold knU
    rw [if_pos rfl]
    rfl
  · rw [if_neg h]
    by_cases ha : a = 5
    · subst ha
      cases b with
      | zero =>
        show (kn j).map (fun k => (45, k)) = ((knU kn n kd) j).map (fun k => (45, k))
        unfold knU
        rw [if_neg (fun e => h ⟨rfl, rfl, e⟩)]
      | succ b => rfl
    · unfold rX
      split <;> first | rfl | exact absurd rfl ha
theorem rX_mk {n : Nat} : mkR (rX kn tx) n = rX kn (fun j => if j = n then true else tx j) := by
  funext a b j
  unfold mkR
  by_cases h8 : a = 8 ∧ b = 0 ∧ j = n
  · obtain ⟨rfl, rfl, rfl⟩ := h8
    unfold upR
    rw [if_pos ⟨rfl, rfl, rfl⟩]
    show _ = if (if j = j then true else tx j) = true then some (1, 11 + j) else none
    rw [if_pos rfl, if_pos rfl]
  · unfold upR
    rw [if_neg h8]
    by_cases h1 : a = 1 ∧ b = 11 + n ∧ j = 0
    · obtain ⟨rfl, rfl, rfl⟩ := h1
      rw [if_pos ⟨rfl, rfl, rfl⟩]
      rfl
    · rw [if_neg h1]
      unfold zrR
      by_cases h2 : a = 2 ∧ b = 11 + n
      · rw [if_pos h2, h2.1]
        rfl
      · rw [if_neg h2]
        by_cases h3 : a = 1 ∧ b = 11 + n
        · rw [if_pos h3, h3.1]
          cases j with
          | zero => exact absurd ⟨h3.1, h3.2, rfl⟩ h1
          | succ j => rfl
        · rw [if_neg h3]
          by_cases ha : a = 8
          · subst ha
            cases b with
            | zero =>
              show (if tx j = true then some (1, 11 + j) else none) = if (if j = n then true else tx j) = true then some (1, 11 + j) else none
              rw [if_neg (show ¬ j = n from fun e => h8 ⟨rfl, rfl, e⟩)]
            | succ b => rfl
          · unfold rX
            split <;> first | rfl | exact absurd rfl ha
theorem tw_Text_init {n : Nat} {ρ : Rh} {nx : Nat} (hnx : nx = 66 + 2 * n) (hn : n < 64) (hF : F none (nx + 1, zrS σ 2 (11 + n), upR (zrR ρ 2 (11 + n)) 1 (11 + n) 0 (some (2, 11 + n)))) : T_Text_init SL xs [.inr (some (1, 11 + n))] (nx, σ, ρ) F := by
  refine run 10 ?_
  refine call_eq (v0 := none) (s0 := (nx, σ, ρ)) (fun F hF => hF) ?_
  refine ⟨2, 11 + n, ⟨rfl, (by omega), ?_, ?_⟩, ?_⟩
  · simp [idq]; omega
  · show ad 2 (11 + n) = nx
    have : ad 2 (11 + n) = adT (11 + n) + 1 := rfl
    rw [this]
    unfold adT
    rw [if_neg (by omega), if_neg (by omega), if_neg (by omega), if_neg (by omega)]
    omega
  · exact hF
abbrev ndL (kind a b : Int) (kd n : Nat) : List (Option Av) := [some (.inr (some (0, 0))), some (.inl kind), some (.inl a), some (.inl b), some (.inr (some (45, kd))), some (.inl (n : Int))]
/-- what the component's node leaves -/
def ndF (σ : Sg) (n kd : Nat) (a b : Int) (sl : List Int) (σ1 : Sg) : Prop := σ1 4 0 4 = ((n + 1 : Nat) : Int) ∧ σ1 6 0 n = (if kF 1 kd = 0 then 0 else a) ∧ σ1 7 0 n = (if kF 2 kd = 0 then 0 else b) ∧ tl (σ1 2 (11 + n)) (σ1 1 (11 + n) 1) (if kd < 5 then sl else []) ∧ σ1 1 0 1 = (if kd < 5 then 0 else σ 1 0 1) ∧
  ∀ a b j, ¬ (a = 4 ∧ j = 4) → ¬ ((a = 6 ∨ a = 7) ∧ j = n) → ¬ ((a = 1 ∨ a = 2) ∧ b = 11 + n) → ¬ (a = 1 ∧ b = 0 ∧ j = 1) → σ1 a b j = σ a b j
theorem kF0 : ∀ kd : Nat, kF 0 kd = if kd < 5 then 1 else 0 := fun kd => rfl
theorem nd_149 {kind a b : Int} {n kd kc ks : Nat} {σa : Sg} (hk : (kc = 0 ∧ ks = 0) ∨ (kc = 2 ∧ ks = 66)) (hn : n < 64) (htx : tx n = true) (h4 : σa 4 0 4 = n) (h6 : σa 6 0 n = (if kF 1 kd = 0 then 0 else a)) (h7 : σa 7 0 n = (if kF 2 kd = 0 then 0 else b)) (hs : tl (σa 2 0) (σa 1 0 1) sl) (h64 : sl.length ≤ 64) (hl : σa 1 0 1 = σ 1 0 1)
    (hfr : ∀ a b j, ¬ (a = 4 ∧ j = 4) → ¬ ((a = 6 ∨ a = 7) ∧ j = n) → ¬ ((a = 1 ∨ a = 2) ∧ b = 11 + n) → σa a b j = σ a b j) (hF : ∀ σ1, ndF σ n kd a b sl σ1 → F (some (.inl (n : Int))) (nx, σ1, rX kn tx)) : Xz SL xs (m_Mill_node SL xs) F (149, ndL kind a b kd n, [], (nx, σa, rX kn tx), kc, ks) := by
  have hin : (0 : Int) ≤ (n : Int) ∧ (n : Int) < 64 := by omega
  have e : (if tx (n : Int).toNat = true then some (1, 11 + (n : Int).toNat) else none) = some (1, 11 + n) := by rw [Int.toNat_natCast, if_pos htx]
  have hw : wr ((n : Int) + 1) = ((n + 1 : Nat) : Int) := by rw [wr_eq ⟨by omega, by omega⟩]; omega
  have K188 : ∀ σb : Sg, σb 4 0 4 = (n : Int) → (∀ z, ndF σ n kd a b sl (upS σb 4 0 4 z) ∨ ¬ z = ((n + 1 : Nat) : Int)) → Xz SL xs (m_Mill_node SL xs) F (188, ndL kind a b kd n, [], (nx, σb, rX kn tx), kc, ks) := by
    intro σb h4b h
    have K := hF _ ((h ((n + 1 : Nat) : Int)).resolve_right (fun z => z rfl))
    have K2 : F (some (.inl (n : Int))) (nx, upS σb 4 0 4 (wr (σb 4 0 4 + 1)), rX kn tx) := by
      rw [h4b, hw]
      exact K
    exact run 12 K2
  have K181 : kd < 5 → Xz SL xs (m_Mill_node SL xs) F (181, ndL kind a b kd n, [.inr (some (1, 11 + n))], (nx, upS σa 1 (11 + n) 1 0, rX kn tx), kc, ks) := by
    intro hkd
    have hT := fun Fx hx => take_F (SL := SL) (xs := xs) (nx := nx) (kn := kn) (tx := tx) (F := Fx) (σ := upS σa 1 (11 + n) 1 0) (t := 11 + n) (sl := sl) (by omega) (hs.fr (fun i _ => upS_ne (by omega)) (upS_ne (by omega))) h64 hx
    have fin : ∀ σb, tkF (upS σa 1 (11 + n) 1 0) (11 + n) sl σb → Xz SL xs (m_Mill_node SL xs) F (188, ndL kind a b kd n, [], (nx, σb, rX kn tx), kc, ks) := by
      intro σb ⟨t1, t2, t3⟩
      refine K188 σb (by rw [t3 4 0 4 (by omega) (by omega), upS_ne (by omega)]; exact h4) (fun z => ?_)
      by_cases hz : z = ((n + 1 : Nat) : Int)
      · refine Or.inl ⟨by rw [upS_same, hz], by rw [upS_ne (by omega), t3 6 0 n (by omega) (by omega), upS_ne (by omega)]; exact h6, by rw [upS_ne (by omega), t3 7 0 n (by omega) (by omega), upS_ne (by omega)]; exact h7, ?_, ?_, fun a' b' j' g1 g2 g3 g4 => ?_⟩
        · rw [if_pos hkd]
          exact t1.fr (fun i _ => upS_ne (by omega)) (upS_ne (by omega))
        · rw [if_pos hkd, upS_ne (by omega)]
          exact t2
        · rw [upS_ne (by omega), t3 a' b' j' (by omega) (by omega), upS_ne (by omega)]
          exact hfr a' b' j' g1 g2 g3
      · exact Or.inr hz
    rcases hk with ⟨rfl, rfl⟩ | ⟨rfl, rfl⟩
    · refine run 3 ?_
      refine call_any (Y := fun v0 s => v0 = none ∧ ∃ σb, s = (nx, σb, rX kn tx) ∧ tkF (upS σa 1 (11 + n) 1 0) (11 + n) sl σb) (hT _ (fun σb h => ⟨rfl, σb, rfl, h⟩)) ?_
      intro v0 s hv
      obtain ⟨rfl, σb, rfl, h⟩ := hv
      exact leaf (fin σb h)
    · refine run 3 ?_
      refine call_any (Y := fun v0 s => v0 = none ∧ ∃ σb, s = (nx, σb, rX kn tx) ∧ tkF (upS σa 1 (11 + n) 1 0) (11 + n) sl σb) (hT _ (fun σb h => ⟨rfl, σb, rfl, h⟩)) ?_
      intro v0 s hv
      obtain ⟨rfl, σb, rfl, h⟩ := hv
      exact leaf (fin σb h)
  rw [← e] at K181
  have K159 : Xz SL xs (m_Mill_node SL xs) F (159, ndL kind a b kd n, [.inr (some (1, 11 + n))], (nx, σa, rX kn tx), kc, ks) := by
    refine run 11 ?_
    refine And.intro (fun h => ?_) (fun h => ?_)
    · have h : kF 0 kd = 0 := h
      have hkd : ¬ kd < 5 := fun z => by rw [kF0, if_pos z] at h; omega
      refine leaf (K188 (upS σa 1 (11 + n) 1 0) (by rw [upS_ne (by omega)]; exact h4) (fun z => ?_))
      by_cases hz : z = ((n + 1 : Nat) : Int)
      · refine Or.inl ⟨by rw [upS_same, hz], by rw [upS_ne (by omega), upS_ne (by omega)]; exact h6, by rw [upS_ne (by omega), upS_ne (by omega)]; exact h7, ?_, ?_, fun a' b' j' g1 g2 g3 g4 => ?_⟩
        · rw [if_neg hkd]
          exact tl_nil (by rw [upS_ne (by omega), upS_same])
        · rw [if_neg hkd, upS_ne (by omega), upS_ne (by omega)]
          exact hl
        · rw [upS_ne (by omega), upS_ne (by omega)]
          exact hfr a' b' j' g1 g2 g3
      · exact Or.inr hz
    · have h : ¬ kF 0 kd = 0 := h
      have hkd : kd < 5 := Classical.not_not.mp (fun z => h (by rw [kF0, if_neg z]))
      refine And.intro hin ?_
      exact leaf (K181 hkd)
  rw [← e] at K159
  refine run 5 ?_
  refine And.intro hin ?_
  exact leaf K159
theorem nd_119 {kind a b : Int} {n kd : Nat} {σa : Sg} (hn : n < 64) (hnx : nx = 65 + 2 * hi) (hhi : hi ≤ 64) (hnh : n ≤ hi) (htx : tx = fun j => decide (j < hi)) (h4 : σa 4 0 4 = n) (h6 : σa 6 0 n = (if kF 1 kd = 0 then 0 else a)) (h7 : σa 7 0 n = (if kF 2 kd = 0 then 0 else b)) (hs : tl (σa 2 0) (σa 1 0 1) sl) (h64 : sl.length ≤ 64) (hl : σa 1 0 1 = σ 1 0 1)
    (hfr : ∀ a b j, ¬ (a = 4 ∧ j = 4) → ¬ ((a = 6 ∨ a = 7) ∧ j = n) → ¬ ((a = 1 ∨ a = 2) ∧ b = 11 + n) → σa a b j = σ a b j) (hF : ∀ σ1 hi', n < hi' → hi' ≤ 64 → ndF σ n kd a b sl σ1 → F (some (.inl (n : Int))) (65 + 2 * hi', σ1, rX kn (fun j => decide (j < hi')))) : Xz SL xs (m_Mill_node SL xs) F (119, ndL kind a b kd n, [], (nx, σa, rX kn tx), 0, 0) := by
  have hin : (0 : Int) ≤ (n : Int) ∧ (n : Int) < 64 := by omega
  subst htx
  subst hnx
  by_cases hlt : n < hi
  · have K := nd_149 (SL := SL) (xs := xs) (F := F) (kind := kind) (kn := kn) (tx := fun j => decide (j < hi)) (nx := 65 + 2 * hi) (Or.inl ⟨rfl, rfl⟩) hn (decide_eq_true hlt) h4 h6 h7 hs h64 hl hfr (fun σ1 h => hF σ1 hi hlt hhi h)
    refine run 6 ?_
    refine And.intro hin ?_
    refine And.intro (fun h => leaf K) (fun h => ?_)
    have h : (if (fun j => decide (j < hi)) (n : Int).toNat = true then some (1, 11 + (n : Int).toNat) else none) = none := h
    rw [Int.toNat_natCast, if_pos (decide_eq_true hlt)] at h
    cases h
  · have hnh2 : n = hi := by omega
    subst hnh2
    have etx : (fun j => if j = n then true else decide (j < n)) = fun j => decide (j < n + 1) := by
      funext j
      by_cases hj : j = n
      · rw [if_pos hj]
        exact (decide_eq_true (by omega)).symm
      · rw [if_neg hj]
        by_cases hj2 : j < n
        · rw [decide_eq_true hj2, decide_eq_true (by omega)]
        · rw [decide_eq_false hj2, decide_eq_false (by omega)]
    have ez : ∀ a' b' j', ¬ ((a' = 1 ∨ a' = 2) ∧ b' = 11 + n) → zrS (zrS σa 1 (11 + n)) 2 (11 + n) a' b' j' = σa a' b' j' := by
      intro a' b' j' h
      unfold zrS
      rw [if_neg (by omega), if_neg (by omega)]
    have K := nd_149 (SL := SL) (xs := xs) (F := F) (kind := kind) (kn := kn) (tx := fun j => decide (j < n + 1)) (nx := 65 + 2 * (n + 1)) (kd := kd) (a := a) (b := b) (sl := sl) (σ := σ) (σa := zrS (zrS σa 1 (11 + n)) 2 (11 + n)) (Or.inr ⟨rfl, rfl⟩) hn (decide_eq_true (by omega)) (by rw [ez 4 0 4 (by omega)]; exact h4) (by rw [ez 6 0 n (by omega)]; exact h6) (by rw [ez 7 0 n (by omega)]; exact h7) (hs.fr (fun i _ => ez 2 0 i (by omega)) (ez 1 0 1 (by omega))) h64 (by rw [ez 1 0 1 (by omega)]; exact hl) (fun a' b' j' g1 g2 g3 => by rw [ez a' b' j' g3]; exact hfr a' b' j' g1 g2 g3) (fun σ1 h => hF σ1 (n + 1) (by omega) (by omega) h)
    rw [← etx, ← rX_mk] at K
    refine run 14 ?_
    refine And.intro hin ?_
    refine And.intro (fun h => ?_) (fun h => ?_)
    · exfalso
      have h : ¬ (if (fun j => decide (j < n)) (n : Int).toNat = true then some (1, 11 + (n : Int).toNat) else none) = none := h
      rw [Int.toNat_natCast, if_neg (by simp)] at h
      exact h rfl
    · refine ⟨11 + n, ⟨?_, ?_⟩, ?_⟩
      · simp [idq]; omega
      · show ad 1 (11 + n) = 65 + 2 * n
        have : ad 1 (11 + n) = adT (11 + n) := rfl
        rw [this]
        unfold adT
        rw [if_neg (by omega), if_neg (by omega), if_neg (by omega), if_neg (by omega)]
        omega
      · refine call_eq (v0 := none) (s0 := (65 + 2 * n + 1 + 1, zrS (zrS σa 1 (11 + n)) 2 (11 + n), upR (zrR (zrR (rX kn (fun j => decide (j < n))) 1 (11 + n)) 2 (11 + n)) 1 (11 + n) 0 (some (2, 11 + n)))) (fun F hF => tw_Text_init (by omega) hn hF) ?_
        refine And.intro hin ?_
        have K3 : Xz SL xs (m_Mill_node SL xs) F (149, ndL kind a b kd n, [], (65 + 2 * n + 1 + 1, zrS (zrS σa 1 (11 + n)) 2 (11 + n), upR (upR (zrR (zrR (rX kn (fun j => decide (j < n))) 1 (11 + n)) 2 (11 + n)) 1 (11 + n) 0 (some (2, 11 + n))) 8 0 (n : Int).toNat (some (1, 11 + n))), 2, 66) := by
          rw [Int.toNat_natCast]
          exact K
        exact leaf K3
theorem tw_Mill_node {kind a b : Int} {n : Nat} (hk : 0 ≤ kind ∧ kind < 24) (hn : n < 64) (hnx : nx = 65 + 2 * hi) (hhi : hi ≤ 64) (hnh : n ≤ hi) (htx : tx = fun j => decide (j < hi)) (h4 : σ 4 0 4 = n) (hs : tl (σ 2 0) (σ 1 0 1) sl) (h64 : sl.length ≤ 64) (hok : ft (kF 1 kind.toNat) a n ∧ ft (kF 2 kind.toNat) b n)
    (hF : ∀ σ1 hi', n < hi' → hi' ≤ 64 → ndF σ n kind.toNat a b sl σ1 → F (some (.inl (n : Int))) (65 + 2 * hi', σ1, rX (knU kn n kind.toNat) (fun j => decide (j < hi')))) : T_Mill_node SL xs [.inr (some (0, 0)), .inl kind, .inl a, .inl b] (nx, σ, rX kn tx) F := by
  have hin : (0 : Int) ≤ (n : Int) ∧ (n : Int) < 64 := by omega
  have hin4 : 0 ≤ σ 4 0 4 ∧ σ 4 0 4 < 64 := by rw [h4]; omega
  have K119 : Xz SL xs (m_Mill_node SL xs) F (119, ndL kind a b kind.toNat n, [], (nx, upS (upS σ 6 0 n (if kF 1 kind.toNat = 0 then 0 else a)) 7 0 n (if kF 2 kind.toNat = 0 then 0 else b), rX (knU kn n kind.toNat) tx), 0, 0) :=
    nd_119 hn hnx hhi hnh htx (by rw [upS_ne (by omega), upS_ne (by omega)]; exact h4) (by rw [upS_ne (by omega), upS_same]) upS_same (hs.fr (fun i _ => by rw [upS_ne (by omega), upS_ne (by omega)]) (by rw [upS_ne (by omega), upS_ne (by omega)])) h64 (by rw [upS_ne (by omega), upS_ne (by omega)]) (fun a' b' j' g1 g2 g3 => by rw [upS_ne (by omega), upS_ne (by omega)]) hF
  have K96 : Xz SL xs (m_Mill_node SL xs) F (96, ndL kind a b kind.toNat n, [], (nx, upS σ 6 0 n (if kF 1 kind.toNat = 0 then 0 else a), rX (knU kn n kind.toNat) tx), 0, 0) := by
    have K118 : ∀ v : Int, v = (if kF 2 kind.toNat = 0 then 0 else b) → Xz SL xs (m_Mill_node SL xs) F (118, ndL kind a b kind.toNat n, [.inl v, .inl (n : Int), .inr (some (7, 0))], (nx, upS σ 6 0 n (if kF 1 kind.toNat = 0 then 0 else a), rX (knU kn n kind.toNat) tx), 0, 0) := by
      intro v hv
      rw [hv]
      refine run 1 ?_
      refine And.intro hin ?_
      show Xz SL xs (m_Mill_node SL xs) F (119, ndL kind a b kind.toNat n, [], (nx, upS (upS σ 6 0 n (if kF 1 kind.toNat = 0 then 0 else a)) 7 0 (n : Int).toNat (if kF 2 kind.toNat = 0 then 0 else b), rX (knU kn n kind.toNat) tx), 0, 0)
      rw [Int.toNat_natCast]
      exact K119
    refine run 7 ?_
    refine And.intro (fun h => ?_) (fun h => ?_)
    · have h : ¬ kF 2 kind.toNat = 0 := h
      have K := K118 b (by rw [if_neg h])
      exact leaf (by first | exact run 1 K | exact run 2 K | exact run 3 K)
    · have h : kF 2 kind.toNat = 0 := Classical.not_not.mp h
      have K := K118 0 (by rw [if_pos h])
      exact leaf (by first | exact run 1 K | exact run 2 K | exact run 3 K)
  have K73 : Xz SL xs (m_Mill_node SL xs) F (73, ndL kind a b kind.toNat n, [], (nx, σ, rX (knU kn n kind.toNat) tx), 0, 0) := by
    have K95 : ∀ v : Int, v = (if kF 1 kind.toNat = 0 then 0 else a) → Xz SL xs (m_Mill_node SL xs) F (95, ndL kind a b kind.toNat n, [.inl v, .inl (n : Int), .inr (some (6, 0))], (nx, σ, rX (knU kn n kind.toNat) tx), 0, 0) := by
      intro v hv
      rw [hv]
      refine run 1 ?_
      refine And.intro hin ?_
      show Xz SL xs (m_Mill_node SL xs) F (96, ndL kind a b kind.toNat n, [], (nx, upS σ 6 0 (n : Int).toNat (if kF 1 kind.toNat = 0 then 0 else a), rX (knU kn n kind.toNat) tx), 0, 0)
      rw [Int.toNat_natCast]
      exact K96
    refine run 7 ?_
    refine And.intro (fun h => ?_) (fun h => ?_)
    · have h : ¬ kF 1 kind.toNat = 0 := h
      have K := K95 a (by rw [if_neg h])
      exact leaf (by first | exact run 1 K | exact run 2 K | exact run 3 K)
    · have h : kF 1 kind.toNat = 0 := Classical.not_not.mp h
      have K := K95 0 (by rw [if_pos h])
      exact leaf (by first | exact run 1 K | exact run 2 K | exact run 3 K)
  rw [← rX_kn] at K73
  have K73' : Xz SL xs (m_Mill_node SL xs) F (73, [some (.inr (some (0, 0))), some (.inl kind), some (.inl a), some (.inl b), some (.inr (some (45, kind.toNat))), some (.inl (σ 4 0 4))], [], (nx, σ, upR (rX kn tx) 5 0 (σ 4 0 4).toNat (some (45, kind.toNat))), 0, 0) := by
    rw [h4, Int.toNat_natCast]
    exact K73
  refine run 34 ?_
  refine And.intro (fun h => absurd (show kind < 0 from h) (by omega)) (fun h => ?_)
  refine And.intro (fun h => absurd (show (24 : Int) ≤ kind from h) (by omega)) (fun h => ?_)
  refine And.intro (fun h => ?_) (fun h => absurd (show ¬ σ 4 0 4 = 64 by rw [h4]; omega) h)
  refine And.intro hk ?_
  refine call_eq (fun F hF => tw_Kind_suits (kd := kind.toNat) (a := a) (b := b) (n := σ 4 0 4) (by omega) hF) ?_
  refine And.intro (fun h => ?_) (fun h => absurd (show ¬ (if ft (kF 1 kind.toNat) a (σ 4 0 4) ∧ ft (kF 2 kind.toNat) b (σ 4 0 4) then (1 : Int) else 0) = 0 by rw [h4, if_pos hok]; omega) h)
  refine And.intro hin4 ?_
  exact leaf K73'
end
