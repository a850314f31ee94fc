/-! The model: the row at hand begins -/
section
variable {SL : Nat} {xs : Nat → Int} {nx : Nat} {σ σ0 σ' σ1 : Sg} {kn : Nat → Option Nat} {tx : Nat → Bool} {F : Option Av → St → Prop} {E : Ev} {ν : Nu} {k p n r m f o M h p' : Nat} {root : Nat × Nat} {G : List Gl} {B C : List Ch} {Q Q' : Qw} {y : As}
theorem Pt.ge : Pt E σ root m r k p G B Q → root.1 ≤ r := by
  intro h
  cases m with
  | zero => cases h
  | succ m =>
    rcases h.2 with h | ⟨u, ku, pu, Gu, Bu, Qu, u1, u2, u3, u4⟩
    · omega
    · omega
def bnL : List (Int × Nat) := [(15, 80), (16, 88), (17, 96), (18, 96), (19, 96), (20, 96), (21, 167), (22, 167), (23, 121)]
abbrev bnX (SL : Nat) (xs : Nat → Int) (F : Option Av → St → Prop) (pc : Nat) (k p r : Int) (s : St) : Prop := Xz SL xs (m_Model_begins SL xs) F (pc, [some (.inr (some (26, 0))), some (.inl k), some (.inl p), some (.inl r)], [], s, 0, 0)
theorem bn_sw {t : Nat} (hC : Cm E σ0 σ root ν n r m k p G B Q) (ht : (lkI bnL (ekd E k : Nat)).getD 167 = t) (K : bnX SL xs F t k p r (nx, σ, rX kn tx)) : T_Model_begins SL xs [.inr (some (26, 0))] (nx, σ, rX kn tx) F := by
  obtain ⟨hB, hr, -, -, hrn, hn3, hP, -⟩ := hC
  obtain ⟨w1, w2, w3, w4⟩ := hP.rw
  have hk64 : k < 64 := by have := hB.2.1.2.1; omega
  obtain ⟨k1, -⟩ := hB.ev.2.2 k w3
  have hix : 0 ≤ σ 26 0 26 ∧ σ 26 0 26 < 3000 := by rw [hr]; omega
  have e1 : σ 36 0 (σ 26 0 26).toNat = k := by rw [hr, Int.toNat_natCast]; exact w1
  have e2 : σ 37 0 (σ 26 0 26).toNat = p := by rw [hr, Int.toNat_natCast]; exact w2
  have e3 : σ 30 0 (σ 36 0 (σ 26 0 26).toNat).toNat = (ekd E k : Nat) := by rw [e1, Int.toNat_natCast]; exact k1
  rw [← e1, ← e2, ← hr] at K
  refine run 20 ?_
  refine And.intro hix ?_
  refine And.intro hix ?_
  refine And.intro (by show 0 ≤ σ 36 0 (σ 26 0 26).toNat ∧ σ 36 0 (σ 26 0 26).toNat < 64; rw [e1]; omega) ?_
  cases hl : lkI bnL (ekd E k : Nat) with
  | some t' =>
    rw [hl] at ht
    have ht : t' = t := ht
    subst ht
    refine swt_in (t := t') (show lkI _ (σ 30 0 (σ 36 0 (σ 26 0 26).toNat).toNat) = some t' by rw [e3]; exact hl) ?_
    exact leaf K
  | none =>
    rw [hl] at ht
    have ht : 167 = t := ht
    subst ht
    refine swt_out (show lkI _ (σ 30 0 (σ 36 0 (σ 26 0 26).toNat).toNat) = none by rw [e3]; exact hl) ?_
    exact leaf K
theorem bn_167 {Y : Option Av → St → Prop} (hr3 : r < 3000) (hT : T_Model_plain SL xs [.inr (some (26, 0)), .inl k, .inl p] (nx, σ, rX kn tx) Y) (hY : ∀ v s', Y v s' → ∃ x σ1, v = some (.inl x) ∧ s' = (nx, σ1, rX kn tx) ∧ σ1 26 0 26 = r ∧ ∀ σ', scF σ1 r x σ' → F none (nx, σ', rX kn tx)) : bnX SL xs F 167 k p r (nx, σ, rX kn tx) := by
  refine run 10 ?_
  refine call_any (Y := Y) hT ?_
  intro v s' hv
  obtain ⟨x, σ1, rfl, rfl, hr, hF⟩ := hY v s' hv
  refine call_any (call_succeeds hr hr3) ?_
  intro v s' hv
  obtain ⟨rfl, σ', rfl, hs⟩ := hv
  exact hF σ' hs
/-- a row within begins, at the end of 'begins' -/
theorem bn_96 {Gc : List Gl} {Bc : List Ch} (hC : Cm E σ0 σ root ν n r m k p G B Q) (h41 : σ 41 0 r = -1) (h42 : σ 42 0 r = 0) (hq : Srt σ Q) (hc : σ 26 0 25 ≤ 3001 * n) (hae : efa E k < ect E)
    (hl : oneC E 0 k p (efa E k) G B (qm Q) Gc Bc ∨ (ekd E k = 17 ∧ Gc = (0, sk E k, 0) :: G ∧ Bc = B))
    (hrun : runA E f (GS p ((0, efa E k, 0) :: Gc) Bc (qm Q) ν n) = some (o, y)) (hM : 20000000 * f ≤ M) (hF : ∀ M' σ', M' < M → Aft E σ0 root M' o y σ' → F none (nx, σ', rX kn tx)) {pc : Nat} (hpc : pc = 96 ∨ pc = 134) : bnX SL xs F pc k p r (nx, σ, rX kn tx) := by
  obtain ⟨hB, hr, h28, h29, hrn, hn3, hP, h25⟩ := hC
  obtain ⟨w1, w2, w3, w4⟩ := hP.rw
  have hk64 : k < 64 := by have := hB.2.1.2.1; omega
  obtain ⟨k1, k2, -⟩ := hB.ev.2.2 k w3
  have hix : (0 : Int) ≤ (k : Int) ∧ (k : Int) < 64 := by omega
  have hir : (0 : Int) ≤ (r : Int) ∧ (r : Int) < 3000 := by omega
  have hcall : vT 7 (T_Model_begin SL xs) [.inr (some (26, 0)), .inl (σ 31 0 (k : Int).toNat), .inl p, .inl r] (nx, σ, rX kn tx) (fun v s' => v = none ∧ ∃ σ', s' = (nx, σ', rX kn tx) ∧ ((n = 3000 ∧ σ' = upS σ 26 0 29 1) ∨ (n < 3000 ∧ bgF σ n (efa E k) p r σ'))) := by
    rw [Int.toNat_natCast, k2]
    exact call_begin hB.2.2.2.2.1 hn3
  have fin : ∀ σ1, ((n = 3000 ∧ σ1 = upS σ 26 0 29 1) ∨ (n < 3000 ∧ bgF σ n (efa E k) p r σ1)) → F none (nx, upS σ1 40 0 (r : Int).toNat (σ1 26 0 26), rX kn tx) := by
    intro σ1 h1
    rw [Int.toNat_natCast]
    have hf : ∃ f', f = f' + 1 := by
      obtain ⟨f', rfl, -⟩ := runG hrun
      exact ⟨f', rfl⟩
    rcases h1 with ⟨hn, rfl⟩ | ⟨hn, hb⟩
    · refine hF 0 _ (by omega) (aftO hB h28 hn hrun (by omega))
    · rcases runG0 hrun with ⟨hn', -⟩ | ⟨-, f', rfl, hrun'⟩
      · omega
      have hqn := hP.q
      have ne := hb.2.2.2.2.2.2.2.2.2.2
      refine hF (20000000 * f') _ (by omega) (Or.inl (simB (σ' := upS σ1 40 0 r (σ1 26 0 26)) hB hn hP hrn hP.ge h28 h29 h25 hb (fun a b j hj => by rw [upS_ne (by omega)]) hae w4 ?_ hq (by omega) hrun' (Nat.le_refl _) (fun x hx => by have := hqn x hx; omega)))
      have e40 : upS σ1 40 0 r (σ1 26 0 26) 40 0 r = n := by rw [upS_same]; exact hb.2.2.2.2.2.2.2.1
      have e41 : upS σ1 40 0 r (σ1 26 0 26) 41 0 r = -1 := by rw [upS_ne (by omega), ne 41 0 r (by omega) (by omega)]; exact h41
      have e42 : upS σ1 40 0 r (σ1 26 0 26) 42 0 r = 0 := by rw [upS_ne (by omega), ne 42 0 r (by omega) (by omega)]; exact h42
      rcases hl with hl | ⟨h1, h2, h3⟩
      · exact Or.inl ⟨e40, e41, rfl, rfl, by rw [e42]; exact hl⟩
      · exact Or.inr (Or.inl ⟨Or.inr h1, e40, e41, rfl, rfl, h2, h3, rfl⟩)
  rcases hpc with rfl | rfl
  · refine run 20 ?_
    refine And.intro hix ?_
    refine call_any hcall ?_
    intro v s' hv
    obtain ⟨rfl, σ1, rfl, h1⟩ := hv
    refine And.intro hir ?_
    exact fin σ1 h1
  · refine run 20 ?_
    refine And.intro hix ?_
    refine call_any hcall ?_
    intro v s' hv
    obtain ⟨rfl, σ1, rfl, h1⟩ := hv
    refine And.intro hir ?_
    exact fin σ1 h1
theorem tw_Model_begins (hC : Cm E σ0 σ root ν n r m k p G B Q) (h40 : σ 40 0 r = -1) (h41 : σ 41 0 r = -1) (h42 : σ 42 0 r = 0) (hq : Srt σ Q) (hc : σ 26 0 25 ≤ 3001 * n) (hrun : runA E f (BS k p G B (qm Q) ν n) = some (o, y)) (hM : 20000000 * f ≤ M) (hF : ∀ M' σ', M' < M → Aft E σ0 root M' o y σ' → F none (nx, σ', rX kn tx)) : T_Model_begins SL xs [.inr (some (26, 0))] (nx, σ, rX kn tx) F := by
  have hC' := hC
  obtain ⟨hB, hr, h28, h29, hrn, hn3, hP, h25⟩ := hC
  obtain ⟨w1, w2, w3, w4⟩ := hP.rw
  have hE := hB.ev
  have hO := hB.2.1
  have hN := hB.2.2.2.1
  have hr3 : r < 3000 := by omega
  have ok := hO.2.2 k w3
  have sw := fun t ht K => bn_sw (SL := SL) (xs := xs) (nx := nx) (F := F) (kn := kn) (tx := tx) (t := t) hC' ht K
  have hi : σ 26 0 26 = (r : Int) := hr
  obtain ⟨f, rfl, -⟩ := runB hrun
  have hf3 : ∀ σ', scF σ r (-1) σ' → runA E f (KS B ν n) = some (o, y) → F none (nx, σ', rX kn tx) := fun σ' hs hr => hF (20000000 * f + 4000 * r + 3999) σ' (by omega) (Or.inl (sim3 hC' hs hq hc hr (Nat.le_refl _)))
  have hf2 : ∀ σ' (p' : Nat) (C : List Ch), scF σ r (p' : Int) σ' → lfC E k p p' G B (qm Q) C → p ≤ p' → p' ≤ (esb E).length → runA E f (GS p' G C (qm Q) ν n) = some (o, y) → F none (nx, σ', rX kn tx) := fun σ' p' C hs hl h1 h2 hr => hF (20000000 * f + r) σ' (by omega) (Or.inl (sim2 hC' h40 h41 hs hl h1 h2 hq hc hr (Nat.le_refl _)))
  generalize hd : ekd E k = kd at sw ok
  by_cases hpl : kd ≤ 10 ∨ kd = 22
  · have hrun := aft_B hd hpl hrun
    refine sw 167 ?_ (bn_167 (Y := fun v s' => v = some (.inl (enc (plA E ν k p))) ∧ s' = (nx, σ, rX kn tx)) hr3 (tw_Model_plain hE hO hN w3 w4 (by rw [hd]; exact hpl) ⟨rfl, rfl⟩) ?_)
    · have hcase : kd = 0 ∨ kd = 1 ∨ kd = 2 ∨ kd = 3 ∨ kd = 4 ∨ kd = 5 ∨ kd = 6 ∨ kd = 7 ∨ kd = 8 ∨ kd = 9 ∨ kd = 10 ∨ kd = 22 := by omega
      rcases hcase with rfl | rfl | rfl | rfl | rfl | rfl | rfl | rfl | rfl | rfl | rfl | rfl <;> rfl
    · intro v s' hv
      obtain ⟨rfl, rfl⟩ := hv
      refine ⟨_, σ, rfl, rfl, hi, fun σ' hs => ?_⟩
      cases hpa : plA E ν k p with
      | none =>
        rw [hpa] at hrun hs
        exact hf3 σ' hs hrun
      | some p' =>
        have hb := plA_bd w4 hpa
        rw [hpa] at hrun hs
        exact hf2 σ' p' B hs (Or.inr (Or.inr (Or.inr (Or.inr ⟨by omega, rfl⟩)))) hb.1 hb.2 hrun
  have hcase : kd = 11 ∨ kd = 12 ∨ kd = 13 ∨ kd = 14 ∨ kd = 15 ∨ kd = 16 ∨ kd = 17 ∨ kd = 18 ∨ kd = 19 ∨ kd = 20 ∨ kd = 21 ∨ kd = 23 := by omega
  rw [runA_B] at hrun
  rcases hcase with rfl | rfl | rfl | rfl | rfl | rfl | rfl | rfl | rfl | rfl | rfl | rfl
  · simp only [stepB, hd] at hrun
    refine sw 167 rfl (bn_167 (Y := fun v s' => v = some (.inl (p : Int)) ∧ s' = (nx, σ, rX kn tx)) hr3 (tw_Model_plain11 hE hO hN w3 w4 (Or.inl hd) ⟨rfl, rfl⟩) ?_)
    intro v s' hv
    obtain ⟨rfl, rfl⟩ := hv
    exact ⟨_, σ, rfl, rfl, hi, fun σ' hs => hf2 σ' p _ hs (Or.inl ⟨hd, rfl⟩) (Nat.le_refl _) w4 hrun⟩
  · simp only [stepB, hd] at hrun
    refine sw 167 rfl (bn_167 (Y := fun v s' => v = some (.inl (enc (balN (esb E) p))) ∧ s' = (nx, σ, rX kn tx)) hr3 (tw_Model_plain12 hE hO hN w3 w4 hd ⟨rfl, rfl⟩) ?_)
    intro v s' hv
    obtain ⟨rfl, rfl⟩ := hv
    refine ⟨_, σ, rfl, rfl, hi, fun σ' hs => ?_⟩
    cases hpa : balN (esb E) p with
    | none =>
      rw [hpa] at hrun hs
      exact hf3 σ' hs hrun
    | some p' =>
      have hb := balN_bd w4 hpa
      rw [hpa] at hrun hs
      exact hf2 σ' p' _ hs (Or.inr (Or.inl ⟨hd, bfx.refl.next hpa w4, rfl⟩)) (by omega) hb.2 hrun
  · simp only [stepB, plA, hd] at hrun
    refine sw 167 rfl (bn_167 (Y := fun v s' => v = some (.inl (-1)) ∧ s' = (nx, σ, rX kn tx)) hr3 (tw_Model_plain13 hE hO hN w3 w4 hd ⟨rfl, rfl⟩) ?_)
    intro v s' hv
    obtain ⟨rfl, rfl⟩ := hv
    exact ⟨_, σ, rfl, rfl, hi, fun σ' hs => hf3 σ' hs hrun⟩
  · simp only [stepB, hd] at hrun
    refine sw 167 rfl (bn_167 (Y := fun v s' => v = some (.inl (p : Int)) ∧ s' = (nx, σ, rX kn tx)) hr3 (tw_Model_plain11 hE hO hN w3 w4 (Or.inr hd) ⟨rfl, rfl⟩) ?_)
    intro v s' hv
    obtain ⟨rfl, rfl⟩ := hv
    exact ⟨_, σ, rfl, rfl, hi, fun σ' hs => hf2 σ' p _ hs (Or.inr (Or.inr (Or.inl ⟨hd, rfl⟩))) (Nat.le_refl _) w4 hrun⟩
  · simp only [stepB, hd] at hrun
    cases hrun
    refine sw 80 rfl (run 10 ?_)
    exact And.intro (Or.inr rfl) (hF 0 (upS σ 26 0 28 1) (by omega) (Or.inr (Or.inl ⟨rfl, upS_same, hB.mv (fun a b j h1 h2 => by rw [upS_ne (by omega)]) (by rw [upS_ne (by omega)]; exact hB.2.2.2.2.1)⟩)))
  · simp only [stepB, hd] at hrun
    refine sw 88 rfl (run 10 ?_)
    refine call_any (call_succeeds hr hr3) ?_
    intro v s' hv
    obtain ⟨rfl, σ', rfl, hs⟩ := hv
    exact hf2 σ' p _ hs (Or.inr (Or.inr (Or.inr (Or.inl ⟨hd, rfl⟩)))) (Nat.le_refl _) w4 hrun
  · simp only [stepB, hd] at hrun
    refine sw 96 rfl (bn_96 (M := 20000000 * f + 1) hC' h41 h42 hq hc (ok.2.2.1 (by omega)) (Or.inr ⟨hd, by simp [sk, hd], rfl⟩) hrun (by omega) (fun M' σ' h1 h2 => hF M' σ' (by omega) h2) (Or.inl rfl))
  · simp only [stepB, hd] at hrun
    refine sw 96 rfl (bn_96 (M := 20000000 * f + 1) hC' h41 h42 hq hc (ok.2.2.1 (by omega)) (Or.inl (Or.inl ⟨hd, rfl, rfl, rfl, rfl⟩)) hrun (by omega) (fun M' σ' h1 h2 => hF M' σ' (by omega) h2) (Or.inl rfl))
  · simp only [stepB, hd] at hrun
    refine sw 96 rfl (bn_96 (M := 20000000 * f + 1) hC' h41 h42 hq hc (ok.2.2.1 (by omega)) (Or.inl (Or.inr (Or.inr (Or.inl ⟨hd, rfl, rfl, rfl⟩)))) hrun (by omega) (fun M' σ' h1 h2 => hF M' σ' (by omega) h2) (Or.inl rfl))
  · simp only [stepB, hd] at hrun
    refine sw 96 rfl (bn_96 (M := 20000000 * f + 1) hC' h41 h42 hq hc (ok.2.2.1 (by omega)) (Or.inl (Or.inr (Or.inr (Or.inr (Or.inl ⟨hd, rfl, rfl, rfl⟩))))) hrun (by omega) (fun M' σ' h1 h2 => hF M' σ' (by omega) h2) (Or.inl rfl))
  · simp only [stepB, hd] at hrun
    have hae : efa E k < 8 := ok.2.2.2.2.2 (Or.inl rfl)
    have hd64 : (dig p).length ≤ 64 := by unfold dig; split <;> simp
    refine sw 167 rfl (bn_167 (Y := fun v s' => v = some (.inl (p : Int)) ∧ ∃ σ1, s' = (nx, σ1, rX kn tx) ∧ setM σ (efa E k) (dig p) σ1) hr3 (tw_Model_plain21 hE hO hN w3 w4 hd (fun σ1 h => ⟨rfl, σ1, rfl, h⟩)) ?_)
    intro v s' hv
    obtain ⟨rfl, σ1, rfl, hset⟩ := hv
    have e := hset.2
    have hC1 : Cm E σ0 σ1 root (upN ν (efa E k) (dig p)) n r m k p G B Q := ⟨hB.set hae hd64 hset, by rw [e 26 0 26 (by omega) (by omega)]; exact hr, by rw [e 26 0 28 (by omega) (by omega)]; exact h28, by rw [e 26 0 29 (by omega) (by omega)]; exact h29, hrn, hn3, hP.frame (fun a i h1 h2 h3 => e a 0 i (by omega) (by omega)) (e 36 0 r (by omega) (by omega)) (e 37 0 r (by omega) (by omega)) (e 39 0 r (by omega) (by omega)), by rw [e 26 0 25 (by omega) (by omega)]; exact h25⟩
    refine ⟨_, σ1, rfl, rfl, hC1.2.1, fun σ' hs => hF (20000000 * f + r) σ' (by omega) (Or.inl (sim2 hC1 (by rw [e 40 0 r (by omega) (by omega)]; exact h40) (by rw [e 41 0 r (by omega) (by omega)]; exact h41) hs (Or.inr (Or.inr (Or.inr (Or.inr ⟨Or.inr (Or.inl hd), rfl⟩)))) (Nat.le_refl _) w4 (hq.frame (fun x _ => e 43 0 x.1 (by omega) (by omega)) (by rw [e 26 0 25 (by omega) (by omega)]; exact Int.le_refl _)) (by rw [e 26 0 25 (by omega) (by omega)]; exact hc) hrun (Nat.le_refl _)))⟩
  · simp only [stepB, hd] at hrun
    have hk64 : k < 64 := by have := hO.2.1; omega
    obtain ⟨k1, k2, -⟩ := hE.2.2 k w3
    have e31 : σ 31 0 (k : Int).toNat = (efa E k : Nat) := by rw [Int.toNat_natCast]; exact k2
    refine sw 121 rfl (run 7 ?_)
    refine And.intro ⟨show (0 : Int) ≤ (k : Int) by omega, show (k : Int) < 64 by omega⟩ ?_
    refine call_eq (fun F hF => tw_Model_isNode (x := σ 31 0 (k : Int).toNat) hF) ?_
    refine And.intro (fun h => ?_) (fun h => ?_)
    · have h : (if 0 ≤ σ 31 0 (k : Int).toNat ∧ σ 31 0 (k : Int).toNat < σ 26 0 5 then (1 : Int) else 0) = 0 := h
      have h := ite0.mp h
      rw [e31, hE.1] at h
      rw [if_neg (by omega)] at hrun
      have K : bnX SL xs F 159 k p r (nx, σ, rX kn tx) := by
        refine run 10 ?_
        refine call_any (call_succeeds hr hr3) ?_
        intro v s' hv
        obtain ⟨rfl, σ', rfl, hs⟩ := hv
        exact hf3 σ' hs hrun
      exact leaf K
    · have h : ¬ (if 0 ≤ σ 31 0 (k : Int).toNat ∧ σ 31 0 (k : Int).toNat < σ 26 0 5 then (1 : Int) else 0) = 0 := h
      have h := Classical.not_not.mp (fun z => h (ite0.mpr z))
      rw [e31, hE.1] at h
      rw [if_pos (by omega)] at hrun
      have K := bn_96 (SL := SL) (xs := xs) (nx := nx) (kn := kn) (tx := tx) (F := F) (pc := 134) (M := 20000000 * f + 1) hC' h41 h42 hq hc (by omega) (Or.inl (Or.inr (Or.inr (Or.inr (Or.inr ⟨hd, rfl, rfl, rfl⟩))))) hrun (by omega) (fun M' σ' h1 h2 => hF M' σ' (by omega) h2) (Or.inr rfl)
      exact leaf K
end
