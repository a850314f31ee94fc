/-! The model: the row at hand is gone back into -/
section
variable {SL : Nat} {xs : Nat → Int} {nx : Nat} {σ σ0 σ' σ1 : Sg} {kn : Nat → Option Nat} {tx : Nat → Bool} {F : Option Av → St → Prop} {E : Ev} {ν : Nu} {k p n r m f o M h p' : Nat} {root : Nat × Nat} {G : List Gl} {B C : List Ch} {Q Q' : Qw} {y : As}
def gbL : List (Int × Nat) := [(11, 88), (12, 126), (13, 242), (14, 155), (15, 242), (16, 163), (17, 216), (18, 229), (19, 229), (20, 229), (21, 242), (22, 242), (23, 229)]
abbrev gbX (SL : Nat) (xs : Nat → Int) (F : Option Av → St → Prop) (pc : Nat) (k r : Int) (s : St) : Prop := Xz SL xs (m_Model_goesBack SL xs) F (pc, [some (.inr (some (26, 0))), some (.inl k), some (.inl r)], [], s, 0, 0)
theorem gb_sw {t : Nat} (hC : Cm E σ0 σ root ν n r m k p G B Q) (ht : (lkI gbL (ekd E k : Nat)).getD 242 = t) (K : gbX SL xs F t k r (nx, σ, rX kn tx)) : T_Model_goesBack SL xs [.inr (some (26, 0))] (nx, σ, rX kn tx) F := by
  obtain ⟨hB, hr, -, -, hrn, hn3, hP, -⟩ := hC
  obtain ⟨w1, w2, w3, w4⟩ := hP.rw
  have hk64 : k < 64 := by have := hB.2.1.2.1; omega
  obtain ⟨k1, -⟩ := hB.ev.2.2 k w3
  have hix : 0 ≤ σ 26 0 26 ∧ σ 26 0 26 < 3000 := by rw [hr]; omega
  have e1 : σ 36 0 (σ 26 0 26).toNat = k := by rw [hr, Int.toNat_natCast]; exact w1
  have e3 : σ 30 0 (σ 36 0 (σ 26 0 26).toNat).toNat = (ekd E k : Nat) := by rw [e1, Int.toNat_natCast]; exact k1
  rw [← e1, ← hr] at K
  refine run 14 ?_
  refine And.intro hix ?_
  refine And.intro (by show 0 ≤ σ 36 0 (σ 26 0 26).toNat ∧ σ 36 0 (σ 26 0 26).toNat < 64; rw [e1]; omega) ?_
  cases hl : lkI gbL (ekd E k : Nat) with
  | some t' =>
    rw [hl] at ht
    have ht : t' = t := ht
    subst ht
    refine swt_in (t := t') (show lkI _ (σ 30 0 (σ 36 0 (σ 26 0 26).toNat).toNat) = some t' by rw [e3]; exact hl) ?_
    exact leaf K
  | none =>
    rw [hl] at ht
    have ht : 242 = t := ht
    subst ht
    refine swt_out (show lkI _ (σ 30 0 (σ 36 0 (σ 26 0 26).toNat).toNat) = none by rw [e3]; exact hl) ?_
    exact leaf K
/-- on to a row within -/
theorem simD {b mb kb pb : Nat} {Gb : List Gl} {Bb Cb : List Ch} {Qb Qb' : Qw} {m' : Nat} (hC : Cm E σ0 σ root ν n r m k p G B Q) (h27 : σ 26 0 27 = 1) (hb : r < b) (hP : Pt E σ root mb b kb pb Gb Bb Qb) (hD : Dn E σ m' h b kb pb p' Gb Bb Qb Cb Qb') (hh : h ≤ n) (hq : Srt σ Qb') (hc : σ 26 0 25 ≤ 3001 * n) (hrun : runA E f (KS Cb ν n) = some (o, y)) (hM : 20000000 * f + 4000 * h + 3000 ≤ M + r) : Sim E σ0 root (M + r - b) o y (upS σ 26 0 26 (b : Int)) := by
  obtain ⟨c1, c2, c3, c4, c5, c6, c7, c8⟩ := hC
  have hbh := hD.lt
  refine ⟨ν, n, b, f, mb, kb, pb, Gb, Bb, Qb, ⟨c1.mv (fun a b j h1 h2 => by rw [upS_ne (by omega)]) (by rw [upS_ne (by omega)]; exact c1.2.2.2.2.1), upS_same, by rw [upS_ne (by omega)]; exact c3, by rw [upS_ne (by omega)]; exact c4, by omega, c6, hP.frame (fun a i h1 h2 h3 => upS_ne (by omega)) (upS_ne (by omega)) (upS_ne (by omega)) (upS_ne (by omega)), by rw [upS_ne (by omega)]; exact c8⟩, Or.inr (Or.inr (Or.inl ⟨by rw [upS_ne (by omega)]; exact h27, m', h, p', Cb, Qb', hD.frame (fun a i h1 h2 h3 h4 => upS_ne (by omega)), hh, hq.frame (fun x _ => upS_ne (by omega)) (by rw [upS_ne (by omega)]; exact Int.le_refl _), by rw [upS_ne (by omega)]; exact hc, hrun, by omega⟩))⟩
theorem tw_Model_goesBack {m' : Nat} (hC : Cm E σ0 σ root ν n r m k p G B Q) (h27 : σ 26 0 27 = 1) (hD : Dn E σ m' h r k p p' G B Q C Q') (hh : h ≤ n) (hq : Srt σ Q') (hc : σ 26 0 25 ≤ 3001 * n) (hrun : runA E f (KS C ν n) = some (o, y)) (hM : 20000000 * f + 4000 * h + 3000 ≤ M + r) (hF : ∀ M' σ', M' < M → Aft E σ0 root M' o y σ' → F none (nx, σ', rX kn tx)) : T_Model_goesBack SL xs [.inr (some (26, 0))] (nx, σ, rX kn tx) F := by
  have hC' := hC
  obtain ⟨hB, hr, h28, h29, hrn, hn3, hP, h25⟩ := hC
  have hE := hB.ev
  have hO := hB.2.1
  have hr3 : r < 3000 := by omega
  have sw := fun t ht K => gb_sw (SL := SL) (xs := xs) (nx := nx) (F := F) (kn := kn) (tx := tx) (t := t) hC' ht K
  have hir : (0 : Int) ≤ (r : Int) ∧ (r : Int) < 3000 := by omega
  have hix : 0 ≤ σ 26 0 26 ∧ σ 26 0 26 < 3000 := by rw [hr]; omega
  have hri : (σ 26 0 26).toNat = r := by rw [hr, Int.toNat_natCast]
  cases m' with
  | zero => cases hD
  | succ m' =>
  obtain ⟨⟨w1, w2, w3, w4⟩, d1, d2, d3, d4, hD⟩ := hD
  have ok := hO.2.2 k w3
  have hk64 : k < 64 := by have := hO.2.1; omega
  have hS64 := hO.1
  have hn16 : σ 26 0 16 = (esb E).length := hE.2.1.1
  rcases hD with ⟨h40, h41, hQe, hl⟩ | ⟨a, b, p1, C1, Q1, q0, q1, q2, q3, q4, q5, q6, q7, q8⟩ | ⟨a, kc, Gc, Bc, Q1, q1, q2, q3, q4, q5, q6, q7⟩
  · rw [hQe] at hq
    have hf3 : ∀ σ', scF σ r (-1) σ' → runA E f (KS B ν n) = some (o, y) → F none (nx, σ', rX kn tx) := fun σ' hs hr => hF (20000000 * f + 4000 * r + 3999) σ' (by omega) (Or.inl (sim3 hC' hs hq hc hr (Nat.le_refl _)))
    rcases hl with ⟨hd, rfl⟩ | ⟨hd, hbf, rfl⟩ | ⟨hd, rfl⟩ | ⟨hd, rfl⟩ | ⟨hd, rfl⟩
    · refine sw 88 (by rw [hd]; rfl) (run 30 ?_)
      refine And.intro hix ?_
      refine And.intro (fun h => ?_) (fun h => ?_)
      · have h : σ 26 0 16 ≤ σ 38 0 (σ 26 0 26).toNat := h
        rw [hn16, hri, d1] at h
        rw [if_neg (by omega)] at hrun
        refine call_any (call_succeeds hr hr3) ?_
        intro v s' hv
        obtain ⟨rfl, σ', rfl, hs⟩ := hv
        exact hf3 σ' hs hrun
      · have h : ¬ σ 26 0 16 ≤ σ 38 0 (σ 26 0 26).toNat := h
        rw [hn16, hri, d1] at h
        rw [if_pos (by omega)] at hrun
        obtain ⟨f, rfl, hrun⟩ := runK hrun
        have hrun : runA E f (GS (p' + 1) G (if p' + 1 < (esb E).length then (1, p' + 1, G, qm Q) :: B else B) (qm Q) ν n) = some (o, y) := hrun
        refine And.intro hix ?_
        refine call_any (call_succeeds hr hr3) ?_
        intro v s' hv
        obtain ⟨rfl, σ', rfl, hs⟩ := hv
        have hw : wr (σ 38 0 (σ 26 0 26).toNat + 1) = ((p' + 1 : Nat) : Int) := by rw [hri, d1, wr_eq ⟨by omega, by omega⟩]; omega
        have hs : scF σ r (wr (σ 38 0 (σ 26 0 26).toNat + 1)) σ' := hs
        rw [hw] at hs
        exact hF (20000000 * f + r) σ' (by omega) (Or.inl (sim2 hC' h40 h41 hs (Or.inl ⟨hd, rfl⟩) (by omega) (by omega) hq hc hrun (Nat.le_refl _)))
    · obtain ⟨f, rfl, hrun⟩ := runK hrun
      have hrun : (match (match balN (esb E) p' with | some p2 => Sum.inl (GS p2 G ((2, p2, G, qm Q) :: B) (qm Q) ν n) | none => Sum.inl (KS B ν n) : As ⊕ (Nat × As)) with | .inl z => runA E f z | .inr z => some z) = some (o, y) := hrun
      refine sw 126 (by rw [hd]; rfl) (run 30 ?_)
      refine And.intro hix ?_
      refine And.intro hix ?_
      refine call_any (Y := fun v s' => v = some (.inl (enc (balN (esb E) p'))) ∧ s' = (nx, σ, rX kn tx)) ?_ ?_
      · show vT 7 (T_Model_balanced SL xs) [.inr (some (26, 0)), .inl (σ 37 0 (σ 26 0 26).toNat), .inl (σ 38 0 (σ 26 0 26).toNat)] (nx, σ, rX kn tx) _
        rw [hri, d1, w2]
        refine tw_Model_balanced hE.2.1 hS64 w4 ?_
        rw [hbf.val]
        exact ⟨rfl, rfl⟩
      · intro v s' hv
        obtain ⟨rfl, rfl⟩ := hv
        refine call_any (call_succeeds hr hr3) ?_
        intro v s' hv
        obtain ⟨rfl, σ', rfl, hs⟩ := hv
        cases hpa : balN (esb E) p' with
        | none =>
          rw [hpa] at hrun hs
          exact hF (20000000 * f + 4000 * r + 3999) σ' (by omega) (Or.inl (sim3 hC' hs hq hc hrun (Nat.le_refl _)))
        | some p2 =>
          have hb := balN_bd d3 hpa
          rw [hpa] at hrun hs
          exact hF (20000000 * f + r) σ' (by omega) (Or.inl (sim2 hC' h40 h41 hs (Or.inr (Or.inl ⟨hd, hbf.next hpa d3, rfl⟩)) (by omega) hb.2 hq hc hrun (Nat.le_refl _)))
    · obtain ⟨f, rfl, hrun⟩ := runK hrun
      cases hrun
      refine sw 155 (by rw [hd]; rfl) (run 10 ?_)
      exact And.intro (Or.inr rfl) (hF 0 (upS σ 26 0 28 1) (by omega) (Or.inr (Or.inl ⟨rfl, upS_same, hB.mv (fun a b j h1 h2 => by rw [upS_ne (by omega)]) (by rw [upS_ne (by omega)]; exact hB.2.2.2.2.1)⟩)))
    · obtain ⟨f, rfl, hrun⟩ := runK hrun
      have hrun : runA E f (GS p ((0, efa E k, 0) :: (0, k, 0) :: G) B (qm Q) ν n) = some (o, y) := hrun
      obtain ⟨k1, k2, -⟩ := hE.2.2 k w3
      have hik : (0 : Int) ≤ (k : Int) ∧ (k : Int) < 64 := by omega
      refine sw 163 (by rw [hd]; rfl) (run 30 ?_)
      refine And.intro hir ?_
      refine And.intro (fun h => absurd (show σ 40 0 (r : Int).toNat = -1 by rw [Int.toNat_natCast]; exact h40) h) (fun h => ?_)
      refine And.intro hik ?_
      refine And.intro hir ?_
      refine call_any (Y := fun v s' => v = none ∧ ∃ σ', s' = (nx, σ', rX kn tx) ∧ ((n = 3000 ∧ σ' = upS σ 26 0 29 1) ∨ (n < 3000 ∧ bgF σ n (efa E k) p r σ'))) ?_ ?_
      · show vT 7 (T_Model_begin SL xs) [.inr (some (26, 0)), .inl (σ 31 0 (k : Int).toNat), .inl (σ 37 0 (r : Int).toNat), .inl (r : Int)] (nx, σ, rX kn tx) _
        rw [Int.toNat_natCast, Int.toNat_natCast, k2, w2]
        exact call_begin hB.2.2.2.2.1 hn3
      · intro v s' hv
        obtain ⟨rfl, σ1, rfl, h1⟩ := hv
        refine And.intro hir ?_
        show F none (nx, upS σ1 40 0 (r : Int).toNat (σ1 26 0 26), rX kn tx)
        rw [Int.toNat_natCast]
        rcases h1 with ⟨hn, rfl⟩ | ⟨hn, hb⟩
        · exact hF 0 _ (by omega) (aftO hB h28 hn hrun (by omega))
        · rcases runG0 hrun with ⟨hn', -⟩ | ⟨-, f', rfl, hrun'⟩
          · omega
          have hqn := hP.q
          have ne := hb.2.2.2.2.2.2.2.2.2.2
          refine hF (20000000 * f') _ (by omega) (Or.inl (simB (σ' := upS σ1 40 0 r (σ1 26 0 26)) hB hn hP hrn hP.ge h28 h29 h25 hb (fun a b j hj => by rw [upS_ne (by omega)]) (ok.2.2.1 (by omega)) w4 (Or.inr (Or.inl ⟨Or.inl hd, ?_, ?_, rfl, rfl, by simp [sk, hd], rfl, rfl⟩)) hq (by omega) hrun' (Nat.le_refl _) (fun x hx => by have := hqn x hx; omega)))
          · rw [upS_same]; exact hb.2.2.2.2.2.2.2.1
          · rw [upS_ne (by omega), ne 41 0 r (by omega) (by omega)]; exact h41
    · have ht : (lkI gbL (ekd E k : Nat)).getD 242 = 242 := by
        generalize ekd E k = kd at hd
        have hcase : kd = 0 ∨ kd = 1 ∨ kd = 2 ∨ kd = 3 ∨ kd = 4 ∨ kd = 5 ∨ kd = 6 ∨ kd = 7 ∨ kd = 8 ∨ kd = 9 ∨ kd = 10 ∨ kd = 21 ∨ kd = 22 := by omega
        rcases hcase with rfl | rfl | rfl | rfl | rfl | rfl | rfl | rfl | rfl | rfl | rfl | rfl | rfl <;> rfl
      refine sw 242 ht (run 10 ?_)
      refine call_any (call_succeeds hr hr3) ?_
      intro v s' hv
      obtain ⟨rfl, σ', rfl, hs⟩ := hv
      exact hf3 σ' hs hrun
  · have hPb : Pt E σ root (m + 1) b (sk E k) p1 G C1 Q1 := ⟨q8.rw.1, Or.inr ⟨r, k, p, G, B, Q, q6, hP.ge, by omega, hP, Or.inr (Or.inr ⟨a, m', q0, q1, q2, rfl, q3, q4, q5, rfl, q7⟩)⟩⟩
    have hbn := q8.lt
    have K := hF (M + r - b) _ (by omega) (Or.inl (simD hC' h27 (by omega) hPb q8 hh hq hc hrun hM))
    rw [← q2, show r = (r : Int).toNat by rw [Int.toNat_natCast]] at K
    rcases q0 with hd | hd
    · refine sw 163 (by rw [hd]; rfl) (run 30 ?_)
      refine And.intro hir ?_
      refine And.intro (fun h => ?_) (fun h => ?_)
      · refine And.intro hir ?_
        exact K
      · have h : σ 40 0 (r : Int).toNat = -1 := Classical.not_not.mp h
        rw [Int.toNat_natCast, q1] at h
        omega
    · refine sw 216 (by rw [hd]; rfl) (run 30 ?_)
      refine And.intro hir ?_
      exact K
  · have hPa : Pt E σ root (m + 1) a kc p Gc Bc Q := ⟨q6.rw.1, Or.inr ⟨r, k, p, G, B, Q, q4, hP.ge, by omega, hP, Or.inl ⟨q1, q2, rfl, rfl, q5⟩⟩⟩
    have han := q6.lt
    rw [q7] at hq
    have K := hF (M + r - a) _ (by omega) (Or.inl (simD hC' h27 (by omega) hPa q6 hh hq.pre hc hrun hM))
    rw [← q1, show r = (r : Int).toNat by rw [Int.toNat_natCast]] at K
    have hd : ekd E k = 18 ∨ ekd E k = 19 ∨ ekd E k = 20 ∨ ekd E k = 23 := by
      rcases q5 with ⟨h, -⟩ | ⟨h, -⟩ | ⟨h, -⟩ | ⟨h, -⟩ | ⟨h, -⟩
      · exact Or.inl h
      · exact Or.inl h
      · exact Or.inr (Or.inl h)
      · exact Or.inr (Or.inr (Or.inl h))
      · exact Or.inr (Or.inr (Or.inr h))
    have ht : (lkI gbL (ekd E k : Nat)).getD 242 = 229 := by
      rcases hd with h | h | h | h <;> rw [h] <;> rfl
    refine sw 229 ht (run 30 ?_)
    refine And.intro hir ?_
    exact K
end
