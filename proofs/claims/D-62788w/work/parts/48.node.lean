/-! Both faces: node -/
theorem kFs : ∀ kd : Nat, kd < 24 → (16 ≤ kd ∧ kd ≤ 20 → kF 1 kd = 2) ∧ (kd = 17 ∨ kd = 18 → kF 2 kd = 2) ∧ (kd = 19 ∨ kd = 20 → kF 2 kd = 3) ∧ (kd = 21 ∨ kd = 22 → kF 1 kd = 3) := by decide +kernel
def ndE (E : Ev) (kd : Nat) (fa fb : Nat) (w : List Int) : Ev := (fun k => if k = ect E then kd else ekd E k, fun k => if k = ect E then fa else efa E k, fun k => if k = ect E then fb else efb E k, fun k => if k = ect E then w else ewd E k, esb E, ect E + 1)
section
variable {SL : Nat} {xs : Nat → Int} {nx hi : Nat} {σ σ' : Sg} {kn : Nat → Option Nat} {tx : Nat → Bool} {F : Option Av → St → Prop} {E : Ev} {ν : Nu} {sl : List Int}
theorem bth_node {kind a b : Int} (ha : rng a) (hb : rng b) (hR : RR nx σ kn tx hi sl ν E) : Bth SL xs (T_Mill_node SL xs) (T_Model_node SL xs) [.inl kind, .inl a, .inl b] nx σ kn tx := by
  have hR0 := hR
  obtain ⟨⟨r1, r2, r3, r4⟩, ⟨s1, s2, s3, s4⟩, hnu, ⟨hC, hM, hO, hE0⟩, hmc⟩ := hR
  have c4 : σ 4 0 4 = (ect E : Nat) := hC.1
  have d5 : σ 26 0 5 = (ect E : Nat) := hM.1
  by_cases hv : (0 ≤ kind ∧ kind < 24) ∧ ¬ ect E = 64
  · obtain ⟨hk, hn64⟩ := hv
    have hn : ect E < 64 := by omega
    have hkc : ((kind.toNat : Nat) : Int) = kind := by omega
    by_cases hok : ft (kF 1 kind.toNat) a (ect E : Nat) ∧ ft (kF 2 kind.toNat) b (ect E : Nat)
    · refine ⟨fun v s => v = some (.inl ((ect E : Nat) : Int)) ∧ ∃ σ1 hi', s = (65 + 2 * hi', σ1, rX (knU kn (ect E) kind.toNat) (fun j => decide (j < hi'))) ∧ ect E < hi' ∧ hi' ≤ 64 ∧ ndF σ (ect E) kind.toNat a b sl σ1, tw_Mill_node hk hn r1 r2 r3 r4 c4 s1 s3 hok (fun σ1 hi' h1 h2 h3 => ⟨rfl, σ1, hi', rfl, h1, h2, h3⟩), fun v s h => ?_⟩
      obtain ⟨rfl, σ1, hi', rfl, g1, g2, f1, f2, f3, f4, f5, f6⟩ := h
      refine ⟨_, rfl, fun v s => v = some (.inl ((ect E : Nat) : Int)) ∧ ∃ σ2, s = (65 + 2 * hi', σ2, rX (knU kn (ect E) kind.toNat) (fun j => decide (j < hi'))) ∧ ndM σ1 (ect E) kind.toNat a b sl σ2, ?_, fun v' s' h => ?_⟩
      · have K := tw_Model_node (SL := SL) (xs := xs) (nx := 65 + 2 * hi') (kn := knU kn (ect E) kind.toNat) (tx := fun j => decide (j < hi')) (σ := σ1) (sl := sl) (kd := kind.toNat) (a := a) (b := b) (F := fun v s => v = some (.inl ((ect E : Nat) : Int)) ∧ ∃ σ2, s = (65 + 2 * hi', σ2, rX (knU kn (ect E) kind.toNat) (fun j => decide (j < hi'))) ∧ ndM σ1 (ect E) kind.toNat a b sl σ2) (by omega) hn (by rw [f6 26 0 5 (by omega) (by omega) (by omega) (by omega)]; exact d5) (s2.fr (fun i _ => f6 27 0 i (by omega) (by omega) (by omega) (by omega)) (f6 26 0 2 (by omega) (by omega) (by omega) (by omega))) s3 s4 hok (fun σ2 h => ⟨rfl, σ2, rfl, h⟩)
        rw [hkc] at K
        exact K
      · obtain ⟨rfl, σ2, rfl, m1, m2, m3, m4, m5, m6, m7⟩ := h
        have hkd : kind.toNat < 24 := by omega
        obtain ⟨z1, z2, z3, z4⟩ := kFs kind.toNat hkd
        generalize kind.toNat = kd at *
        have pa : 0 ≤ (if kF 1 kd = 0 then 0 else a) ∧ (if kF 1 kd = 0 then 0 else a) < 2147483648 ∧ (16 ≤ kd ∧ kd ≤ 20 → (if kF 1 kd = 0 then 0 else a) < (ect E : Nat)) ∧ (kd = 21 ∨ kd = 22 → (if kF 1 kd = 0 then 0 else a) < 8) := by
          have h := hok.1
          unfold ft at h
          unfold rng at ha
          split
          · refine ⟨by omega, by omega, fun e => ?_, fun e => by omega⟩
            have := z1 e
            omega
          · refine ⟨by omega, by omega, fun e => ?_, fun e => ?_⟩
            · have := z1 e
              omega
            · have := z4 e
              omega
        have pb : 0 ≤ (if kF 2 kd = 0 then 0 else b) ∧ (kd = 17 ∨ kd = 18 → (if kF 2 kd = 0 then 0 else b) < (ect E : Nat)) ∧ (kd = 19 ∨ kd = 20 → (if kF 2 kd = 0 then 0 else b) < 8) := by
          have h := hok.2
          unfold ft at h
          split
          · refine ⟨by omega, fun e => ?_, fun e => by omega⟩
            have := z2 e
            omega
          · refine ⟨by omega, fun e => ?_, fun e => ?_⟩
            · have := z2 e
              omega
            · have := z3 e
              omega
        generalize (if kF 1 kd = 0 then 0 else a) = fa at *
        generalize (if kF 2 kd = 0 then 0 else b) = fb at *
        have ne1 : ∀ a b j, ¬ (a = 4 ∧ j = 4) → ¬ ((a = 6 ∨ a = 7) ∧ j = ect E) → ¬ ((a = 1 ∨ a = 2) ∧ b = 11 + ect E) → ¬ (a = 1 ∧ b = 0 ∧ j = 1) → ¬ (a = 26 ∧ (j = 0 ∨ j = 2 ∨ j = 5)) → ¬ (((30 ≤ a ∧ a ≤ 32) ∨ a = 34) ∧ j = ect E) → ¬ (a = 33 ∧ b = 0 ∧ 64 * ect E ≤ j ∧ j < 64 * ect E + 64) → σ2 a b j = σ a b j := fun a b j q1 q2 q3 q4 q5 q6 q7 => by rw [m7 a b j q5 q6 q7, f6 a b j q1 q2 q3 q4]
        refine ⟨rfl, _, σ2, _, _, hi', (if kd < 5 then [] else sl), ν, ndE E kd fa.toNat fb.toNat (if kd < 5 then sl else []), rfl, ⟨rfl, g2, g1, rfl⟩, ?_, ?_, ⟨⟨?_, fun k hk' => ?_⟩, ⟨m1, fun k hk' => ?_⟩, ⟨hO.1, by show ect E + 1 ≤ 64; omega, fun k hk' => ?_⟩, hE0⟩, ?_⟩
        · by_cases hk5 : kd < 5
          · rw [if_pos hk5] at f5 m6 ⊢
            exact ⟨tl_nil (by rw [m7 1 0 1 (by omega) (by omega) (by omega)]; exact f5), tl_nil m6, by simp, byt_nil⟩
          · rw [if_neg hk5] at f5 m6 ⊢
            exact ⟨s1.fr (fun i _ => ne1 2 0 i (by omega) (by omega) (by omega) (by omega) (by omega) (by omega) (by omega)) (by rw [m7 1 0 1 (by omega) (by omega) (by omega)]; exact f5), s2.fr (fun i _ => ne1 27 0 i (by omega) (by omega) (by omega) (by omega) (by omega) (by omega) (by omega)) (by rw [m6, f6 26 0 2 (by omega) (by omega) (by omega) (by omega)]), s3, s4⟩
        · exact hnu.fr (fun b j q1 q2 => ne1 2 b j (by omega) (by omega) (by omega) (by omega) (by omega) (by omega) (by omega)) (fun b q1 q2 => ne1 1 b 1 (by omega) (by omega) (by omega) (by omega) (by omega) (by omega) (by omega)) (fun j => ne1 28 0 j (by omega) (by omega) (by omega) (by omega) (by omega) (by omega) (by omega)) (fun j => ne1 29 0 j (by omega) (by omega) (by omega) (by omega) (by omega) (by omega) (by omega))
        · rw [m7 4 0 4 (by omega) (by omega) (by omega)]
          exact f1
        · have hk' : k < ect E + 1 := hk'
          by_cases hke : k = ect E
          · subst hke
            refine ⟨?_, ?_, ?_, ?_, ?_⟩
            · show (if ect E = ect E then some kd else kn (ect E)) = some (if ect E = ect E then kd else ekd E (ect E))
              rw [if_pos rfl, if_pos rfl]
            · show σ2 6 0 (ect E) = ((if ect E = ect E then fa.toNat else efa E (ect E) : Nat) : Int)
              rw [if_pos rfl, m7 6 0 _ (by omega) (by omega) (by omega), f2]
              omega
            · show σ2 7 0 (ect E) = ((if ect E = ect E then fb.toNat else efb E (ect E) : Nat) : Int)
              rw [if_pos rfl, m7 7 0 _ (by omega) (by omega) (by omega), f3]
              omega
            · show tl (σ2 2 (11 + ect E)) (σ2 1 (11 + ect E) 1) (if ect E = ect E then (if kd < 5 then sl else []) else ewd E (ect E))
              rw [if_pos rfl]
              exact f4.fr (fun i _ => m7 2 _ i (by omega) (by omega) (by omega)) (m7 1 _ 1 (by omega) (by omega) (by omega))
            · show (if ect E = ect E then (if kd < 5 then sl else []) else ewd E (ect E)).length ≤ 64
              rw [if_pos rfl]
              split
              · exact s3
              · simp
          · obtain ⟨k1, k2, k3, k4, k5⟩ := hC.2 k (by omega)
            refine ⟨?_, ?_, ?_, ?_, ?_⟩
            · show (if k = ect E then some kd else kn k) = some (if k = ect E then kd else ekd E k)
              rw [if_neg hke, if_neg hke]
              exact k1
            · show σ2 6 0 k = ((if k = ect E then fa.toNat else efa E k : Nat) : Int)
              rw [if_neg hke, ne1 6 0 k (by omega) (by omega) (by omega) (by omega) (by omega) (by omega) (by omega)]
              exact k2
            · show σ2 7 0 k = ((if k = ect E then fb.toNat else efb E k : Nat) : Int)
              rw [if_neg hke, ne1 7 0 k (by omega) (by omega) (by omega) (by omega) (by omega) (by omega) (by omega)]
              exact k3
            · show tl (σ2 2 (11 + k)) (σ2 1 (11 + k) 1) (if k = ect E then (if kd < 5 then sl else []) else ewd E k)
              rw [if_neg hke]
              exact k4.fr (fun i _ => ne1 2 _ i (by omega) (by omega) (by omega) (by omega) (by omega) (by omega) (by omega)) (ne1 1 _ 1 (by omega) (by omega) (by omega) (by omega) (by omega) (by omega) (by omega))
            · show (if k = ect E then (if kd < 5 then sl else []) else ewd E k).length ≤ 64
              rw [if_neg hke]
              exact k5
        · have hk' : k < ect E + 1 := hk'
          by_cases hke : k = ect E
          · subst hke
            refine ⟨?_, ?_, ?_, ?_, ?_⟩
            · show σ2 30 0 (ect E) = ((if ect E = ect E then kd else ekd E (ect E) : Nat) : Int)
              rw [if_pos rfl]
              exact m2
            · show σ2 31 0 (ect E) = ((if ect E = ect E then fa.toNat else efa E (ect E) : Nat) : Int)
              rw [if_pos rfl, m3]
              omega
            · show σ2 32 0 (ect E) = ((if ect E = ect E then fb.toNat else efb E (ect E) : Nat) : Int)
              rw [if_pos rfl, m4]
              omega
            · show tl (fun i => σ2 33 0 (64 * ect E + i)) (σ2 34 0 (ect E)) (if ect E = ect E then (if kd < 5 then sl else []) else ewd E (ect E))
              rw [if_pos rfl]
              exact m5
            · show (if ect E = ect E then (if kd < 5 then sl else []) else ewd E (ect E)).length ≤ 64
              rw [if_pos rfl]
              split
              · exact s3
              · simp
          · obtain ⟨k1, k2, k3, k4, k5⟩ := hM.2 k (by omega)
            refine ⟨?_, ?_, ?_, ?_, ?_⟩
            · show σ2 30 0 k = ((if k = ect E then kd else ekd E k : Nat) : Int)
              rw [if_neg hke, ne1 30 0 k (by omega) (by omega) (by omega) (by omega) (by omega) (by omega) (by omega)]
              exact k1
            · show σ2 31 0 k = ((if k = ect E then fa.toNat else efa E k : Nat) : Int)
              rw [if_neg hke, ne1 31 0 k (by omega) (by omega) (by omega) (by omega) (by omega) (by omega) (by omega)]
              exact k2
            · show σ2 32 0 k = ((if k = ect E then fb.toNat else efb E k : Nat) : Int)
              rw [if_neg hke, ne1 32 0 k (by omega) (by omega) (by omega) (by omega) (by omega) (by omega) (by omega)]
              exact k3
            · show tl (fun i => σ2 33 0 (64 * k + i)) (σ2 34 0 k) (if k = ect E then (if kd < 5 then sl else []) else ewd E k)
              rw [if_neg hke]
              exact k4.fr (fun i _ => ne1 33 0 (64 * k + i) (by omega) (by omega) (by omega) (by omega) (by omega) (by omega) (by omega)) (ne1 34 0 k (by omega) (by omega) (by omega) (by omega) (by omega) (by omega) (by omega))
            · show (if k = ect E then (if kd < 5 then sl else []) else ewd E k).length ≤ 64
              rw [if_neg hke]
              exact k5
        · have hk' : k < ect E + 1 := hk'
          show (if k = ect E then kd else ekd E k) < 24 ∧ (if k = ect E then fa.toNat else efa E k) < 2147483648 ∧ (16 ≤ (if k = ect E then kd else ekd E k) ∧ (if k = ect E then kd else ekd E k) ≤ 20 → (if k = ect E then fa.toNat else efa E k) < ect E + 1) ∧ ((if k = ect E then kd else ekd E k) = 17 ∨ (if k = ect E then kd else ekd E k) = 18 → (if k = ect E then fb.toNat else efb E k) < ect E + 1) ∧ ((if k = ect E then kd else ekd E k) = 19 ∨ (if k = ect E then kd else ekd E k) = 20 → (if k = ect E then fb.toNat else efb E k) < 8) ∧ ((if k = ect E then kd else ekd E k) = 21 ∨ (if k = ect E then kd else ekd E k) = 22 → (if k = ect E then fa.toNat else efa E k) < 8)
          by_cases hke : k = ect E
          · simp only [if_pos hke]
            obtain ⟨a1, a2, a3, a4⟩ := pa
            obtain ⟨b1, b2, b3⟩ := pb
            refine ⟨hkd, by omega, fun e => ?_, fun e => ?_, fun e => ?_, fun e => ?_⟩
            · have := a3 e
              omega
            · have := b2 e
              omega
            · have := b3 e
              omega
            · have := a4 e
              omega
          · simp only [if_neg hke]
            obtain ⟨e1, e2, e3, e4, e5, e6⟩ := hO.2.2 k (by omega)
            exact ⟨e1, e2, fun e => by have := e3 e; omega, fun e => by have := e4 e; omega, e5, e6⟩
        · exact hmc.fr (ne1 0 0 5 (by omega) (by omega) (by omega) (by omega) (by omega) (by omega) (by omega)) (fun j => ne1 9 0 j (by omega) (by omega) (by omega) (by omega) (by omega) (by omega) (by omega)) (fun j q1 q2 => ne1 26 0 j (by omega) (by omega) (by omega) (by omega) (by omega) (by omega) (by omega))
    · refine bth_no (x := -1) hR0 ?_ ?_
      · refine run 34 ?_
        refine And.intro (fun h => ⟨rfl, rfl⟩) (fun h => ?_)
        refine And.intro (fun h => ⟨rfl, rfl⟩) (fun h => ?_)
        refine And.intro (fun h => ?_) (fun h => ⟨rfl, rfl⟩)
        refine And.intro hk ?_
        refine call_eq (fun F hF => tw_Kind_suits (kd := kind.toNat) (a := a) (b := b) (n := σ 4 0 4) (by omega) hF) ?_
        exact And.intro (fun h => absurd (show (if ft (kF 1 kind.toNat) a (σ 4 0 4) ∧ ft (kF 2 kind.toNat) b (σ 4 0 4) then (1 : Int) else 0) = 0 by rw [c4, if_neg hok]) h) (fun h => ⟨rfl, rfl⟩)
      · refine run 12 ?_
        refine call_any (Y := fun v s => v = some (.inl 0) ∧ s = (nx, upS σ 26 0 0 0, rX kn tx)) ?_ ?_
        · have K := tw_Model_can (SL := SL) (xs := xs) (nx := nx) (kn := kn) (tx := tx) (σ := upS σ 26 0 0 0) (n := ect E) (kd := kind.toNat) (a := a) (b := b) (F := fun v s => v = some (.inl 0) ∧ s = (nx, upS σ 26 0 0 0, rX kn tx)) (by omega) (by rw [upS_ne (by omega)]; exact d5) hn64 (by rw [if_neg hok]; exact ⟨rfl, rfl⟩)
          rw [hkc] at K
          exact K
        · intro v s h
          obtain ⟨rfl, rfl⟩ := h
          exact And.intro (fun h => absurd (show (0 : Int) = 0 from rfl) h) (fun h => ⟨rfl, rfl⟩)
  · refine bth_no (x := -1) hR0 ?_ ?_
    · refine run 14 ?_
      refine And.intro (fun h => ⟨rfl, rfl⟩) (fun h => ?_)
      have h : ¬ kind < 0 := h
      refine And.intro (fun h => ⟨rfl, rfl⟩) (fun h2 => ?_)
      have h2 : ¬ (24 : Int) ≤ kind := h2
      refine And.intro (fun h3 => ?_) (fun h => ⟨rfl, rfl⟩)
      have h3 : ¬ σ 4 0 4 = 64 := h3
      rw [c4] at h3
      omega
    · refine run 12 ?_
      refine call_eq (fun F hF => tw_Model_can_no (σ := upS σ 26 0 0 0) (by rw [upS_ne (by omega), d5]; omega) hF) ?_
      exact And.intro (fun h => absurd (show (0 : Int) = 0 from rfl) h) (fun h => ⟨rfl, rfl⟩)
end
