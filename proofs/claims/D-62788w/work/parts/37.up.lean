/-! The model: a row within the one at hand has succeeded, has failed -/
/-- how a row hangs on the one from which it was begun -/
def Lk (E : Ev) (σ : Sg) (u ku pu : Nat) (Gu : List Gl) (Bu : List Ch) (Qu : Qw) (r k p : Nat) (G : List Gl) (B : List Ch) (Q : Qw) : Prop :=
  (σ 40 0 u = r ∧ σ 41 0 u = -1 ∧ p = pu ∧ Q = Qu ∧ oneC E (σ 42 0 u) ku pu k Gu Bu (qm Qu) G B) ∨
  ((ekd E ku = 16 ∨ ekd E ku = 17) ∧ σ 40 0 u = r ∧ σ 41 0 u = -1 ∧ k = efa E ku ∧ p = pu ∧ G = (0, sk E ku, 0) :: Gu ∧ B = Bu ∧ Q = Qu) ∨
  (∃ a m', (ekd E ku = 16 ∨ ekd E ku = 17) ∧ σ 40 0 u = (a : Nat) ∧ σ 41 0 u = r ∧ k = sk E ku ∧ u < a ∧ a < r ∧ σ 39 0 a = u ∧ G = Gu ∧ Dn E σ m' r a (efa E ku) pu p ((0, sk E ku, 0) :: Gu) Bu Qu B Q)
section
variable {SL : Nat} {xs : Nat → Int} {nx : Nat} {σ σ0 σ' σ1 : Sg} {kn : Nat → Option Nat} {tx : Nat → Bool} {F : Option Av → St → Prop} {E : Ev} {ν : Nu} {k p n r m f o M h p' u ku pu mu : Nat} {root : Nat × Nat} {G Gu : List Gl} {B Bu C : List Ch} {Q Q' Qu : Qw} {y : As}
theorem oneC.kd {s2 : Int} (h : oneC E s2 ku pu k Gu Bu (qm Qu) G B) : ekd E ku = 18 ∨ ekd E ku = 19 ∨ ekd E ku = 20 ∨ ekd E ku = 23 := by
  rcases h with ⟨h, -⟩ | ⟨h, -⟩ | ⟨h, -⟩ | ⟨h, -⟩ | ⟨h, -⟩
  · exact Or.inl h
  · exact Or.inl h
  · exact Or.inr (Or.inl h)
  · exact Or.inr (Or.inr (Or.inl h))
  · exact Or.inr (Or.inr (Or.inr h))
theorem dnU {m' : Nat} (hC : Cm E σ0 σ root ν n u mu ku pu Gu Bu Qu) (hl : Lk E σ u ku pu Gu Bu Qu r k p G B Q) (hnb : ¬ ((ekd E ku = 16 ∨ ekd E ku = 17) ∧ σ 40 0 u = r)) (hur : u < r) (h39 : σ 39 0 r = u) (hD : Dn E σ m' n r k p p' G B Q C Q') (hs : scF σ u (p' : Int) σ1) : ∃ m2, Dn E σ1 m2 n u ku pu p' Gu Bu Qu C (Q' ++ kpt E u ku pu p') := by
  have e := hs.2.2
  have hrd := hD.rw
  have hrn := hD.lt
  have w := (hC.sc hs).2.2.2.2.2.2.1.rw
  have fr := fun {m h r' k p p' G B Q C Q'} (hu : u < r') (hD : Dn E σ m h r' k p p' G B Q C Q') => hD.frame (σ' := σ1) (fun a i h1 h2 h3 h4 => e a 0 i (by omega) (by omega))
  rcases hl with ⟨l1, l2, rfl, rfl, l3⟩ | ⟨l0, l1, -⟩ | ⟨a, m2, l0, l1, l2, rfl, l3, l4, l5, rfl, l6⟩
  · refine ⟨m' + 1, w, hs.1, hrd.2.2.1, hrd.2.2.2, by omega, Or.inr (Or.inr ⟨r, k, G, B, Q', ?_, ?_, hur, ?_, ?_, fr hur hD, rfl⟩)⟩
    · rw [e 40 0 u (by omega) (by omega)]; exact l1
    · rw [e 41 0 u (by omega) (by omega)]; exact l2
    · rw [e 39 0 r (by omega) (by omega)]; exact h39
    · rw [e 42 0 u (by omega) (by omega)]; exact l3
  · exact absurd ⟨l0, l1⟩ hnb
  · have hra := l6.rw
    have hk : kpt E u ku pu p' = [] := by
      unfold kpt
      rw [if_neg (by omega)]
    rw [hk, List.append_nil]
    refine ⟨m' + m2 + 1, w, hs.1, by omega, hrd.2.2.2, by omega, Or.inr (Or.inl ⟨a, r, p, B, Q, l0, ?_, ?_, l3, l4, ?_, ?_, (fr l3 l6).mono (by omega) (Nat.le_refl _), (fr hur hD).mono (by omega) (Nat.le_refl _)⟩)⟩
    · rw [e 40 0 u (by omega) (by omega)]; exact l1
    · rw [e 41 0 u (by omega) (by omega)]; exact l2
    · rw [e 39 0 a (by omega) (by omega)]; exact l5
    · rw [e 39 0 r (by omega) (by omega)]; exact h39
theorem tw_Model_hasSucceeded {m' : Nat} (hC : Cm E σ0 σ root ν n u mu ku pu Gu Bu Qu) (hl : Lk E σ u ku pu Gu Bu Qu r k p G B Q) (hur : u < r) (h39 : σ 39 0 r = u) (hD : Dn E σ m' n r k p p' G B Q C Q') (hq : Srt σ Q') (hc : σ 26 0 25 + kcn G ≤ 3001 * n + 3000) (hrun : runA E f (GS p' G C (qm Q') ν n) = some (o, y)) (hM : 20000000 * f + r ≤ M) (hF : ∀ M' σ', M' < M → Aft E σ0 root M' o y σ' → F none (nx, σ', rX kn tx)) : T_Model_hasSucceeded SL xs [.inr (some (26, 0)), .inl r] (nx, σ, rX kn tx) F := by
  have hC' := hC
  obtain ⟨hB, hr, h28, h29, hun, hn3, hP, h25⟩ := hC
  obtain ⟨w1, w2, w3, w4⟩ := hP.rw
  have hE := hB.ev
  have hO := hB.2.1
  have hrn := hD.lt
  obtain ⟨-, d38, dpp, dpl⟩ := hD.rw
  have ok := hO.2.2 ku w3
  have hk64 : ku < 64 := by have := hO.2.1; omega
  obtain ⟨k1, k2, k3, -⟩ := hE.2.2 ku w3
  have hix : 0 ≤ σ 26 0 26 ∧ σ 26 0 26 < 3000 := by rw [hr]; omega
  have hri : (σ 26 0 26).toNat = u := by rw [hr, Int.toNat_natCast]
  have e1 : σ 36 0 (σ 26 0 26).toNat = ku := by rw [hri]; exact w1
  have e3 : σ 30 0 (σ 36 0 (σ 26 0 26).toNat).toNat = (ekd E ku : Nat) := by rw [e1, Int.toNat_natCast]; exact k1
  have hik : 0 ≤ σ 36 0 (σ 26 0 26).toNat ∧ σ 36 0 (σ 26 0 26).toNat < 64 := by rw [e1]; omega
  have hirr : (0 : Int) ≤ (r : Int) ∧ (r : Int) < 3000 := by omega
  have hiu : (0 : Int) ≤ (u : Int) ∧ (u : Int) < 3000 := by omega
  have hiku : (0 : Int) ≤ (ku : Int) ∧ (ku : Int) < 64 := by omega
  -- straight on: succeeds
  have K83 : ¬ ((ekd E ku = 16 ∨ ekd E ku = 17) ∧ σ 40 0 u = r) → Xz SL xs (m_Model_hasSucceeded SL xs) F (83, [some (.inr (some (26, 0))), some (.inl r), some (.inl (u : Int)), some (.inl (ku : Int)), some (.inl ((ekd E ku : Nat) : Int))], [], (nx, σ, rX kn tx), 0, 0) := by
    intro hnb
    refine run 12 ?_
    refine And.intro hirr ?_
    refine call_any (Y := fun v s' => v = none ∧ ∃ σ', s' = (nx, σ', rX kn tx) ∧ scF σ u (p' : Int) σ') ?_ ?_
    · show vT 7 (T_Model_succeeds SL xs) [.inr (some (26, 0)), .inl (σ 38 0 (r : Int).toNat)] (nx, σ, rX kn tx) _
      rw [Int.toNat_natCast, d38]
      exact call_succeeds hr (by omega)
    intro v s' hv
    obtain ⟨rfl, σ1, rfl, hs⟩ := hv
    have e := hs.2.2
    obtain ⟨m2, hD1⟩ := dnU hC' hl hnb hur h39 hD hs
    have hC1 := hC'.sc hs
    have hq1 := hq.sc hs
    have e25 : σ1 26 0 25 = σ 26 0 25 := e 26 0 25 (by omega) (by omega)
    have hm2 : σ1 26 0 27 = 2 := by rw [hs.2.1, if_neg (by omega)]
    have hsimp : ¬ ekd E ku = 19 → G = Gu → Aft E σ0 root (20000000 * f + u) o y σ1 := by
      intro h19 hG
      have hk : kpt E u ku pu p' = [] := by
        unfold kpt
        rw [if_neg h19]
      rw [hk, List.append_nil] at hD1
      rw [hG] at hrun hc
      exact Or.inl ⟨ν, n, u, f, mu, ku, pu, Gu, Bu, Qu, hC1, Or.inr (Or.inl ⟨hm2, m2, p', C, Q', hD1, hq1, by rw [e25]; exact hc, hrun, Nat.le_refl _⟩)⟩
    have hlt : 20000000 * f + u < M := by omega
    -- which kinds
    have hkind : (¬ ekd E ku = 19 ∧ ¬ ekd E ku = 20 ∧ G = Gu) ∨ (ekd E ku = 19 ∧ G = (1, efb E ku, pu) :: Gu ∧ Q = Qu ∧ p = pu) ∨ (ekd E ku = 20 ∧ G = (2, efb E ku, pu) :: Gu ∧ Q = Qu ∧ p = pu) := by
      rcases hl with ⟨l1, l2, lp, lq, l3⟩ | ⟨l0, l1, -⟩ | ⟨a, m2, l0, l1, l2, l7, l3, l4, l5, l8, l6⟩
      · rcases l3 with ⟨h, -, -, h1, -⟩ | ⟨h, -, -, h1, -⟩ | ⟨h, -, h1, -⟩ | ⟨h, -, h1, -⟩ | ⟨h, -, h1, -⟩
        · exact Or.inl ⟨by omega, by omega, h1⟩
        · exact Or.inl ⟨by omega, by omega, h1⟩
        · exact Or.inr (Or.inl ⟨h, h1, lq, lp⟩)
        · exact Or.inr (Or.inr ⟨h, h1, lq, lp⟩)
        · exact Or.inl ⟨by omega, by omega, h1⟩
      · exact absurd ⟨l0, l1⟩ hnb
      · exact Or.inl ⟨by omega, by omega, l8⟩
    rcases hkind with ⟨h19, h20, hG⟩ | ⟨h19, hG, hQ, hpe⟩ | ⟨h20, hG, hQ, hpe⟩
    · refine And.intro (fun h => ?_) (fun h => absurd (show ((ekd E ku : Nat) : Int) = 19 from Classical.not_not.mp h) (by omega))
      have K : Xz SL xs (m_Model_hasSucceeded SL xs) F (120, [some (.inr (some (26, 0))), some (.inl r), some (.inl (u : Int)), some (.inl (ku : Int)), some (.inl ((ekd E ku : Nat) : Int))], [], (nx, σ1, rX kn tx), 0, 0) := by
        refine run 12 ?_
        refine And.intro (fun h => ?_) (fun h => absurd (show ((ekd E ku : Nat) : Int) = 20 from Classical.not_not.mp h) (by omega))
        exact hF _ σ1 hlt (hsimp h19 hG)
      exact leaf K
    · refine And.intro (fun h => absurd (show ((ekd E ku : Nat) : Int) = 19 by omega) h) (fun h => ?_)
      subst hG
      obtain ⟨f, rfl, hrun⟩ := runG hrun
      have hrun : runA E f (GS p' Gu C (qm Q' ++ [(efb E ku, pu, p')]) ν n) = some (o, y) := hrun
      have hk : kpt E u ku pu p' = [(u, (efb E ku, pu, p'))] := by
        unfold kpt
        rw [if_pos h19]
      rw [hk] at hD1
      simp only [kcn, if_true] at hc
      have hw : wr (σ1 26 0 25 + 1) = σ 26 0 25 + 1 := by rw [e25, wr_eq ⟨by omega, by omega⟩]
      have hfin : Aft E σ0 root (20000000 * (f + 1) + u) o y (upS (upS σ1 26 0 25 (wr (σ1 26 0 25 + 1))) 43 0 u (wr (σ1 26 0 25 + 1))) := by
        rw [hw]
        have nu : ∀ x ∈ Q', ¬ x.1 = u := by
          intro x hx
          obtain ⟨L, rfl, hL⟩ := hD.q
          rcases List.mem_append.mp hx with hx | hx
          · rw [hQ] at hx
            have := hP.q x hx
            omega
          · have := hL x hx
            omega
        have ex : ∀ a b j, ¬ (a = 26 ∧ j = 25) → ¬ (a = 43 ∧ j = u) → upS (upS σ1 26 0 25 (σ 26 0 25 + 1)) 43 0 u (σ 26 0 25 + 1) a b j = σ1 a b j := fun a b j h1 h2 => by rw [upS_ne (by omega), upS_ne (by omega)]
        obtain ⟨c1, c2, c3, c4, c5, c6, c7, c8⟩ := hC1
        have x25 : upS (upS σ1 26 0 25 (σ 26 0 25 + 1)) 43 0 u (σ 26 0 25 + 1) 26 0 25 = σ 26 0 25 + 1 := by rw [upS_ne (by omega), upS_same]
        have x43 : upS (upS σ1 26 0 25 (σ 26 0 25 + 1)) 43 0 u (σ 26 0 25 + 1) 43 0 u = σ 26 0 25 + 1 := upS_same
        refine Or.inl ⟨ν, n, u, f, mu, ku, pu, Gu, Bu, Qu, ⟨c1.mv (fun a b j h1 h2 => ex a b j (by omega) (by omega)) (by rw [ex 26 0 14 (by omega) (by omega)]; exact c1.2.2.2.2.1), by rw [ex 26 0 26 (by omega) (by omega)]; exact c2, by rw [ex 26 0 28 (by omega) (by omega)]; exact c3, by rw [ex 26 0 29 (by omega) (by omega)]; exact c4, c5, c6, c7.frame (fun a i h1 h2 h3 => ex a 0 i (by omega) (by omega)) (ex 36 0 u (by omega) (by omega)) (ex 37 0 u (by omega) (by omega)) (ex 39 0 u (by omega) (by omega)), by rw [x25]; omega⟩, Or.inr (Or.inl ⟨by rw [ex 26 0 27 (by omega) (by omega)]; exact hm2, m2, p', C, Q' ++ [(u, (efb E ku, pu, p'))], hD1.frame (fun a i h1 h2 h3 h4 => ex a 0 i (by omega) (by omega)), ⟨?_, ?_⟩, by rw [x25]; omega, by rw [show qm (Q' ++ [(u, (efb E ku, pu, p'))]) = qm Q' ++ [(efb E ku, pu, p')] from List.map_append]; exact hrun, by omega⟩)⟩
        · rw [List.pairwise_append]
          refine ⟨(hq1.frame (σ' := upS (upS σ1 26 0 25 (σ 26 0 25 + 1)) 43 0 u (σ 26 0 25 + 1)) (fun x hx => ex 43 0 x.1 (by omega) (by have := nu x hx; omega)) (by rw [x25, e25]; omega)).1, List.pairwise_singleton _ _, fun x hx z hz => ?_⟩
          rw [List.mem_singleton] at hz
          subst hz
          show upS (upS σ1 26 0 25 (σ 26 0 25 + 1)) 43 0 u (σ 26 0 25 + 1) 43 0 x.1 < upS (upS σ1 26 0 25 (σ 26 0 25 + 1)) 43 0 u (σ 26 0 25 + 1) 43 0 u
          rw [x43, ex 43 0 x.1 (by omega) (by have := nu x hx; omega)]
          have := (hq1.2 x hx).2
          omega
        · intro x hx
          rcases List.mem_append.mp hx with hx | hx
          · rw [x25, ex 43 0 x.1 (by omega) (by have := nu x hx; omega)]
            have := hq1.2 x hx
            omega
          · rw [List.mem_singleton] at hx
            subst hx
            rw [x25]
            show 1 ≤ upS (upS σ1 26 0 25 (σ 26 0 25 + 1)) 43 0 u (σ 26 0 25 + 1) 43 0 u ∧ upS (upS σ1 26 0 25 (σ 26 0 25 + 1)) 43 0 u (σ 26 0 25 + 1) 43 0 u ≤ _
            rw [x43]
            omega
      have K : Xz SL xs (m_Model_hasSucceeded SL xs) F (100, [some (.inr (some (26, 0))), some (.inl r), some (.inl (u : Int)), some (.inl (ku : Int)), some (.inl ((ekd E ku : Nat) : Int))], [], (nx, σ1, rX kn tx), 0, 0) := by
        refine run 20 ?_
        refine And.intro hiu ?_
        refine And.intro (fun h => ?_) (fun h => absurd (show ((ekd E ku : Nat) : Int) = 20 from Classical.not_not.mp h) (by omega))
        exact hF _ _ hlt hfin
      exact leaf K
    · refine And.intro (fun h => ?_) (fun h => absurd (show ((ekd E ku : Nat) : Int) = 19 from Classical.not_not.mp h) (by omega))
      subst hG
      obtain ⟨f, rfl, hrun⟩ := runG hrun
      have hrun : runA E f (GS p' Gu C (qm Q') (upN ν (efb E ku) (((esb E).drop pu).take (p' - pu))) n) = some (o, y) := hrun
      have hk : kpt E u ku pu p' = [] := by
        unfold kpt
        rw [if_neg (by omega)]
      rw [hk, List.append_nil] at hD1
      have hbe : efb E ku < 8 := ok.2.2.2.2.1 (Or.inr h20)
      simp only [kcn] at hc
      rw [if_neg (by omega)] at hc
      have hS64 := hO.1
      obtain ⟨c1, c2, c3, c4, c5, c6, c7, c8⟩ := hC1
      have k3' : σ1 32 0 ku = (efb E ku : Nat) := by rw [e 32 0 ku (by omega) (by omega)]; exact k3
      have K : Xz SL xs (m_Model_hasSucceeded SL xs) F (120, [some (.inr (some (26, 0))), some (.inl r), some (.inl (u : Int)), some (.inl (ku : Int)), some (.inl ((ekd E ku : Nat) : Int))], [], (nx, σ1, rX kn tx), 0, 0) := by
        refine run 20 ?_
        refine And.intro (fun h => absurd (show ((ekd E ku : Nat) : Int) = 20 by omega) h) (fun h => ?_)
        refine And.intro hiku ?_
        refine call_any (Y := fun v s' => v = none ∧ ∃ σ', s' = (nx, σ', rX kn tx) ∧ setM σ1 (efb E ku) (((esb E).drop pu).take (p' - pu)) σ') ?_ ?_
        · show vT 7 (T_Model_becomes SL xs) [.inr (some (26, 0)), .inl (σ1 32 0 (ku : Int).toNat), .inl (u : Int)] (nx, σ1, rX kn tx) _
          rw [Int.toNat_natCast, k3']
          exact tw_Model_becomes c1.ev hO c1.2.2.2.2.2 hbe (by omega) (c7.rw.2.1) hs.1 (by omega) dpl (fun σ' h => ⟨rfl, σ', rfl, h⟩)
        · intro v s' hv
          obtain ⟨rfl, σ2, rfl, hset⟩ := hv
          have ex := hset.2
          refine hF (20000000 * f + u) σ2 (by omega) (Or.inl ⟨upN ν (efb E ku) (((esb E).drop pu).take (p' - pu)), n, u, f, mu, ku, pu, Gu, Bu, Qu, ⟨c1.set hbe (by simp; omega) hset, by rw [ex 26 0 26 (by omega) (by omega)]; exact c2, by rw [ex 26 0 28 (by omega) (by omega)]; exact c3, by rw [ex 26 0 29 (by omega) (by omega)]; exact c4, c5, c6, c7.frame (fun a i h1 h2 h3 => ex a 0 i (by omega) (by omega)) (ex 36 0 u (by omega) (by omega)) (ex 37 0 u (by omega) (by omega)) (ex 39 0 u (by omega) (by omega)), by rw [ex 26 0 25 (by omega) (by omega)]; exact c8⟩, Or.inr (Or.inl ⟨by rw [ex 26 0 27 (by omega) (by omega)]; exact hm2, m2, p', C, Q', hD1.frame (fun a i h1 h2 h3 h4 => ex a 0 i (by omega) (by omega)), hq1.frame (fun x _ => ex 43 0 x.1 (by omega) (by omega)) (by rw [ex 26 0 25 (by omega) (by omega)]; exact Int.le_refl _), by rw [ex 26 0 25 (by omega) (by omega), e25]; omega, hrun, Nat.le_refl _⟩)⟩)
      exact leaf K
  -- the next one begins
  have K44 : (ekd E ku = 16 ∨ ekd E ku = 17) → σ 40 0 u = r → Xz SL xs (m_Model_hasSucceeded SL xs) F (44, [some (.inr (some (26, 0))), some (.inl r), some (.inl (u : Int)), some (.inl (ku : Int)), some (.inl ((ekd E ku : Nat) : Int))], [], (nx, σ, rX kn tx), 0, 0) := by
    intro hkd h40
    have hb1 : σ 41 0 u = -1 ∧ k = efa E ku ∧ p = pu ∧ G = (0, sk E ku, 0) :: Gu ∧ B = Bu ∧ Q = Qu := by
      rcases hl with ⟨l1, l2, lp, lq, l3⟩ | ⟨l0, l1, l2⟩ | ⟨a, m2, l0, l1, l2, l7, l3, l4, l5, l8, l6⟩
      · have := l3.kd
        omega
      · exact l2
      · rw [h40] at l1
        omega
    obtain ⟨h41, rfl, rfl, rfl, rfl, rfl⟩ := hb1
    have hske : sk E ku < ect E := by
      unfold sk
      split
      · exact w3
      · exact ok.2.2.2.1 (by omega)
    have K62 : Xz SL xs (m_Model_hasSucceeded SL xs) F (62, [some (.inr (some (26, 0))), some (.inl r), some (.inl (u : Int)), some (.inl (ku : Int)), some (.inl ((ekd E ku : Nat) : Int))], [.inl (sk E ku : Nat), .inr (some (26, 0))], (nx, σ, rX kn tx), 0, 0) := by
      refine run 20 ?_
      refine And.intro hirr ?_
      refine call_any (Y := fun v s' => v = none ∧ ∃ σ', s' = (nx, σ', rX kn tx) ∧ ((n = 3000 ∧ σ' = upS σ 26 0 29 1) ∨ (n < 3000 ∧ bgF σ n (sk E ku) p' u σ'))) ?_ ?_
      · show vT 7 (T_Model_begin SL xs) [.inr (some (26, 0)), .inl (sk E ku : Nat), .inl (σ 38 0 (r : Int).toNat), .inl (u : Int)] (nx, σ, rX kn tx) _
        rw [Int.toNat_natCast, d38]
        exact call_begin hB.2.2.2.2.1 hn3
      · intro v s' hv
        obtain ⟨rfl, σ1, rfl, h1⟩ := hv
        refine And.intro hiu ?_
        show F none (nx, upS σ1 41 0 (u : Int).toNat (σ1 26 0 26), rX kn tx)
        rw [Int.toNat_natCast]
        have hf : ∃ f', f = f' + 1 := by
          obtain ⟨f', rfl, -⟩ := runG hrun
          exact ⟨f', rfl⟩
        rcases h1 with ⟨hn, rfl⟩ | ⟨hn, hb⟩
        · exact hF 0 _ (by omega) (aftO hB h28 hn hrun (by omega))
        · rcases runG0 hrun with ⟨hn', -⟩ | ⟨-, f', rfl, hrun'⟩
          · omega
          have ne := hb.2.2.2.2.2.2.2.2.2.2
          refine hF (20000000 * f') _ (by omega) (Or.inl (simB (σ' := upS σ1 41 0 u (σ1 26 0 26)) hB hn hP hun hP.ge h28 h29 h25 hb (fun a b j hj => by rw [upS_ne (by omega)]) hske dpl (Or.inr (Or.inr ⟨r, m', hkd, ?_, ?_, rfl, hur, hrn, h39, rfl, hD⟩)) hq (by omega) hrun' (Nat.le_refl _) (fun x hx => ?_)))
          · rw [upS_ne (by omega), ne 40 0 u (by omega) (by omega)]; exact h40
          · rw [upS_same]; exact hb.2.2.2.2.2.2.2.1
          · obtain ⟨L, rfl, hL⟩ := hD.q
            rcases List.mem_append.mp hx with hx | hx
            · have := hP.q x hx
              omega
            · exact (hL x hx).2
    refine run 8 ?_
    refine And.intro (fun h => ?_) (fun h => ?_)
    · have h : ¬ ((ekd E ku : Nat) : Int) = 16 := h
      refine And.intro hiku ?_
      have e32 : σ 32 0 (ku : Int).toNat = (sk E ku : Nat) := by
        rw [Int.toNat_natCast, k3]
        unfold sk
        rw [if_neg (by omega)]
      rw [← e32] at K62
      exact leaf K62
    · have h : ((ekd E ku : Nat) : Int) = 16 := Classical.not_not.mp h
      rw [show sk E ku = ku by unfold sk; rw [if_pos (by omega)]] at K62
      exact leaf (by first | exact run 1 K62 | exact run 2 K62)
  rw [← e3, ← e1, ← hr] at K83 K44
  have hiu' : 0 ≤ σ 26 0 26 ∧ σ 26 0 26 < 3000 := hix
  have K34 : (ekd E ku = 16 ∨ ekd E ku = 17) → Xz SL xs (m_Model_hasSucceeded SL xs) F (34, [some (.inr (some (26, 0))), some (.inl r), some (.inl (σ 26 0 26)), some (.inl (σ 36 0 (σ 26 0 26).toNat)), some (.inl (σ 30 0 (σ 36 0 (σ 26 0 26).toNat).toNat))], [], (nx, σ, rX kn tx), 0, 0) := by
    intro hkd
    refine run 6 ?_
    refine And.intro hix ?_
    refine And.intro (fun h => ?_) (fun h => ?_)
    · have h : ¬ (r : Int) = σ 40 0 (σ 26 0 26).toNat := h
      rw [hri] at h
      exact leaf (K83 (fun z => h z.2.symm))
    · have h : (r : Int) = σ 40 0 (σ 26 0 26).toNat := Classical.not_not.mp h
      rw [hri] at h
      exact leaf (K44 hkd h.symm)
  refine run 21 ?_
  refine And.intro hix ?_
  refine And.intro hik ?_
  refine And.intro (fun h => ?_) (fun h => ?_)
  · have h : σ 30 0 (σ 36 0 (σ 26 0 26).toNat).toNat = 16 := h
    rw [e3] at h
    exact leaf (K34 (Or.inl (by omega)))
  · have h : ¬ σ 30 0 (σ 36 0 (σ 26 0 26).toNat).toNat = 16 := h
    rw [e3] at h
    refine And.intro (fun h2 => ?_) (fun h2 => ?_)
    · have h2 : ¬ σ 30 0 (σ 36 0 (σ 26 0 26).toNat).toNat = 17 := h2
      rw [e3] at h2
      exact leaf (K83 (fun z => by omega))
    · have h2 : σ 30 0 (σ 36 0 (σ 26 0 26).toNat).toNat = 17 := Classical.not_not.mp h2
      rw [e3] at h2
      exact leaf (K34 (Or.inr (by omega)))
theorem tw_Model_hasFailed (hC : Cm E σ0 σ root ν n u mu ku pu Gu Bu Qu) (hl : Lk E σ u ku pu Gu Bu Qu r k p G B Q) (hur : u < r) (hrn : r < n) (hq : Srt σ Q) (hc : σ 26 0 25 ≤ 3001 * n) (hrun : runA E f (KS B ν n) = some (o, y)) (hM : 20000000 * f + 4000 * r + 3999 ≤ M) (hF : ∀ M' σ', M' < M → Aft E σ0 root M' o y σ' → F none (nx, σ', rX kn tx)) : T_Model_hasFailed SL xs [.inr (some (26, 0)), .inl r] (nx, σ, rX kn tx) F := by
  have hC' := hC
  obtain ⟨hB, hr, h28, h29, hun, hn3, hP, h25⟩ := hC
  obtain ⟨w1, w2, w3, w4⟩ := hP.rw
  have hE := hB.ev
  have hO := hB.2.1
  have ok := hO.2.2 ku w3
  have hk64 : ku < 64 := by have := hO.2.1; omega
  obtain ⟨k1, k2, k3, -⟩ := hE.2.2 ku w3
  have hix : 0 ≤ σ 26 0 26 ∧ σ 26 0 26 < 3000 := by rw [hr]; omega
  have hri : (σ 26 0 26).toNat = u := by rw [hr, Int.toNat_natCast]
  have e1 : σ 36 0 (σ 26 0 26).toNat = ku := by rw [hri]; exact w1
  have e3 : σ 30 0 (σ 36 0 (σ 26 0 26).toNat).toNat = (ekd E ku : Nat) := by rw [e1, Int.toNat_natCast]; exact k1
  have hik : 0 ≤ σ 36 0 (σ 26 0 26).toNat ∧ σ 36 0 (σ 26 0 26).toNat < 64 := by rw [e1]; omega
  have hiu : (0 : Int) ≤ (u : Int) ∧ (u : Int) < 3000 := by omega
  have hiku : (0 : Int) ≤ (ku : Int) ∧ (ku : Int) < 64 := by omega
  have K122 : B = Bu → Srt σ Qu → Xz SL xs (m_Model_hasFailed SL xs) F (122, [some (.inr (some (26, 0))), some (.inl r), some (.inl (u : Int)), some (.inl (ku : Int)), some (.inl ((ekd E ku : Nat) : Int))], [], (nx, σ, rX kn tx), 0, 0) := by
    intro hBe hqu
    rw [hBe] at hrun
    refine run 10 ?_
    refine call_any (call_succeeds hr (by omega)) ?_
    intro v s' hv
    obtain ⟨rfl, σ', rfl, hs⟩ := hv
    exact hF (20000000 * f + 4000 * u + 3999) σ' (by omega) (Or.inl (sim3 hC' hs hqu hc hrun (Nat.le_refl _)))
  have K85 : ekd E ku = 18 → σ 42 0 u = 0 → Xz SL xs (m_Model_hasFailed SL xs) F (85, [some (.inr (some (26, 0))), some (.inl r), some (.inl (u : Int)), some (.inl (ku : Int)), some (.inl ((ekd E ku : Nat) : Int))], [], (nx, σ, rX kn tx), 0, 0) := by
    intro hkd h42
    have hb : B = (0, pu, (0, efb E ku, 0) :: Gu, qm Qu) :: Bu ∧ Q = Qu ∧ σ 41 0 u = -1 := by
      rcases hl with ⟨l1, l2, lp, lq, l3⟩ | ⟨l0, l1, l2⟩ | ⟨a, m2, l0, l1, l2, l7, l3, l4, l5, l8, l6⟩
      · rcases l3 with ⟨h, -, -, -, h1⟩ | ⟨h, h1, -⟩ | ⟨h, -⟩ | ⟨h, -⟩ | ⟨h, -⟩
        · exact ⟨h1, lq, l2⟩
        · omega
        · omega
        · omega
        · omega
      · omega
      · omega
    obtain ⟨rfl, rfl, h41⟩ := hb
    obtain ⟨f, rfl, hrun⟩ := runK hrun
    have hrun : runA E f (GS pu ((0, efb E ku, 0) :: Gu) Bu (qm Q) ν n) = some (o, y) := hrun
    have hB2 : MB E σ0 (upS σ 42 0 u 1) ν n := hB.mv (fun a b j h1 h2 => by rw [upS_ne (by omega)]) (by rw [upS_ne (by omega)]; exact hB.2.2.2.2.1)
    have hP2 : Pt E (upS σ 42 0 u 1) root mu u ku pu Gu Bu Q := hP.frame (fun a i h1 h2 h3 => upS_ne (by omega)) (upS_ne (by omega)) (upS_ne (by omega)) (upS_ne (by omega))
    refine run 30 ?_
    refine And.intro hiu ?_
    refine And.intro (Or.inr rfl) ?_
    refine And.intro hiku ?_
    refine And.intro hiu ?_
    refine call_any (Y := fun v s' => v = none ∧ ∃ σ', s' = (nx, σ', rX kn tx) ∧ ((n = 3000 ∧ σ' = upS (upS σ 42 0 u 1) 26 0 29 1) ∨ (n < 3000 ∧ bgF (upS σ 42 0 u 1) n (efb E ku) pu u σ'))) ?_ ?_
    · show vT 7 (T_Model_begin SL xs) [.inr (some (26, 0)), .inl (upS σ 42 0 (u : Int).toNat 1 32 0 (ku : Int).toNat), .inl (upS σ 42 0 (u : Int).toNat 1 37 0 (u : Int).toNat), .inl (u : Int)] (nx, upS σ 42 0 (u : Int).toNat 1, rX kn tx) _
      rw [Int.toNat_natCast, Int.toNat_natCast, upS_ne (by omega), upS_ne (by omega), k3, w2]
      exact call_begin hB2.2.2.2.2.1 hn3
    · intro v s' hv
      obtain ⟨rfl, σ1, rfl, h1⟩ := hv
      refine And.intro hiu ?_
      show F none (nx, upS σ1 40 0 (u : Int).toNat (σ1 26 0 26), rX kn tx)
      rw [Int.toNat_natCast]
      rcases h1 with ⟨hn, rfl⟩ | ⟨hn, hb⟩
      · exact hF 0 _ (by omega) (aftO hB2 (by rw [upS_ne (by omega)]; exact h28) hn hrun (by omega))
      · rcases runG0 hrun with ⟨hn', -⟩ | ⟨-, f', rfl, hrun'⟩
        · omega
        have hqn := hP.q
        have ne := hb.2.2.2.2.2.2.2.2.2.2
        refine hF (20000000 * f') _ (by omega) (Or.inl (simB (σ' := upS σ1 40 0 u (σ1 26 0 26)) hB2 hn hP2 hun hP.ge (by rw [upS_ne (by omega)]; exact h28) (by rw [upS_ne (by omega)]; exact h29) (by rw [upS_ne (by omega)]; exact h25) hb (fun a b j hj => by rw [upS_ne (by omega)]) (ok.2.2.2.1 (Or.inr hkd)) w4 (Or.inl ⟨?_, ?_, rfl, rfl, Or.inr (Or.inl ⟨hkd, ?_, rfl, rfl, rfl⟩)⟩) (hq.frame (fun x _ => upS_ne (by omega)) (by rw [upS_ne (by omega)]; exact Int.le_refl _)) (by rw [upS_ne (by omega)]; omega) hrun' (Nat.le_refl _) (fun x hx => by have := hqn x hx; omega)))
        · rw [upS_same]; exact hb.2.2.2.2.2.2.2.1
        · rw [upS_ne (by omega), ne 41 0 u (by omega) (by omega), upS_ne (by omega)]; exact h41
        · rw [upS_ne (by omega), ne 42 0 u (by omega) (by omega), upS_same]
  have K69 : (B = Bu ∧ Srt σ Qu) ∨ (ekd E ku = 18 ∧ σ 42 0 u = 0) → (ekd E ku = 18 → σ 42 0 u = 0 ∨ σ 42 0 u = 1 ∧ B = Bu ∧ Srt σ Qu) → Xz SL xs (m_Model_hasFailed SL xs) F (69, [some (.inr (some (26, 0))), some (.inl r), some (.inl (u : Int)), some (.inl (ku : Int)), some (.inl ((ekd E ku : Nat) : Int))], [], (nx, σ, rX kn tx), 0, 0) := by
    intro hor h18
    refine run 8 ?_
    refine And.intro (fun h => ?_) (fun h => ?_)
    · have h : ¬ ((ekd E ku : Nat) : Int) = 18 := h
      rcases hor with h1 | h1
      · exact leaf (K122 h1.1 h1.2)
      · omega
    · have h : ((ekd E ku : Nat) : Int) = 18 := Classical.not_not.mp h
      refine And.intro hiu ?_
      refine And.intro (fun h2 => ?_) (fun h2 => ?_)
      · have h2 : ¬ σ 42 0 (u : Int).toNat = 0 := h2
        rw [Int.toNat_natCast] at h2
        rcases h18 (by omega) with h3 | h3
        · exact absurd h3 h2
        · exact leaf (K122 h3.2.1 h3.2.2)
      · have h2 : σ 42 0 (u : Int).toNat = 0 := Classical.not_not.mp h2
        rw [Int.toNat_natCast] at h2
        exact leaf (K85 (by omega) h2)
  have K69' : ¬ ((ekd E ku = 16 ∨ ekd E ku = 17) ∧ σ 41 0 u = r) → Xz SL xs (m_Model_hasFailed SL xs) F (69, [some (.inr (some (26, 0))), some (.inl r), some (.inl (u : Int)), some (.inl (ku : Int)), some (.inl ((ekd E ku : Nat) : Int))], [], (nx, σ, rX kn tx), 0, 0) := by
    intro hnb
    rcases hl with ⟨l1, l2, lp, lq, l3⟩ | ⟨l0, l1, l2, -, -, -, l3, l4⟩ | ⟨a, m2, l0, l1, l2, l7, l3, l4, l5, l8, l6⟩
    · rw [lq] at hq
      rcases l3 with ⟨h, h1, -⟩ | ⟨h, h1, -, -, h2⟩ | ⟨h, -, -, h2⟩ | ⟨h, -, -, h2⟩ | ⟨h, -, -, h2⟩
      · exact K69 (Or.inr ⟨h, h1⟩) (fun _ => Or.inl h1)
      · exact K69 (Or.inl ⟨h2, hq⟩) (fun _ => Or.inr ⟨h1, h2, hq⟩)
      · exact K69 (Or.inl ⟨h2, hq⟩) (fun z => by omega)
      · exact K69 (Or.inl ⟨h2, hq⟩) (fun z => by omega)
      · exact K69 (Or.inl ⟨h2, hq⟩) (fun z => by omega)
    · rw [l4] at hq
      exact K69 (Or.inl ⟨l3, hq⟩) (fun z => by omega)
    · exact absurd ⟨l0, l2⟩ hnb
  have K44 : (ekd E ku = 16 ∨ ekd E ku = 17) → σ 41 0 u = r → Xz SL xs (m_Model_hasFailed SL xs) F (44, [some (.inr (some (26, 0))), some (.inl r), some (.inl (u : Int)), some (.inl (ku : Int)), some (.inl ((ekd E ku : Nat) : Int))], [], (nx, σ, rX kn tx), 0, 0) := by
    intro hkd h41
    have hb : ∃ a m', σ 40 0 u = (a : Nat) ∧ u < a ∧ a < r ∧ σ 39 0 a = u ∧ Dn E σ m' r a (efa E ku) pu p ((0, sk E ku, 0) :: Gu) Bu Qu B Q := by
      rcases hl with ⟨l1, l2, lp, lq, l3⟩ | ⟨l0, l1, l2, -⟩ | ⟨a, m2, l0, l1, l2, l7, l3, l4, l5, l8, l6⟩
      · rw [h41] at l2
        omega
      · rw [h41] at l2
        omega
      · exact ⟨a, m2, l1, l3, l4, l5, l6⟩
    obtain ⟨a, m', h40, hua, har, h39, hD⟩ := hb
    have ex : ∀ a' b' j', ¬ (a' = 41 ∧ j' = u) → ¬ (a' = 26 ∧ (j' = 26 ∨ j' = 27)) → upS (upS (upS σ 41 0 u (-1)) 26 0 26 (a : Int)) 26 0 27 1 a' b' j' = σ a' b' j' := fun a' b' j' h1 h2 => by rw [upS_ne (by omega), upS_ne (by omega), upS_ne (by omega)]
    have hPu : Pt E (upS (upS (upS σ 41 0 u (-1)) 26 0 26 (a : Int)) 26 0 27 1) root mu u ku pu Gu Bu Qu := hP.frame (fun a i h1 h2 h3 => ex a 0 i (by omega) (by omega)) (ex 36 0 u (by omega) (by omega)) (ex 37 0 u (by omega) (by omega)) (ex 39 0 u (by omega) (by omega))
    have hD2 : Dn E (upS (upS (upS σ 41 0 u (-1)) 26 0 26 (a : Int)) 26 0 27 1) m' r a (efa E ku) pu p ((0, sk E ku, 0) :: Gu) Bu Qu B Q := hD.frame (fun a i h1 h2 h3 h4 => ex a 0 i (by omega) (by omega))
    have hfin : Aft E σ0 root (20000000 * f + 4000 * r + 3000) o y (upS (upS (upS σ 41 0 u (-1)) 26 0 26 (a : Int)) 26 0 27 1) := by
      refine Or.inl ⟨ν, n, a, f, mu + 1, efa E ku, pu, (0, sk E ku, 0) :: Gu, Bu, Qu, ⟨hB.mv (fun a b j h1 h2 => ex a b j (by omega) (by omega)) (by rw [ex 26 0 14 (by omega) (by omega)]; exact hB.2.2.2.2.1), by rw [upS_ne (by omega), upS_same], by rw [ex 26 0 28 (by omega) (by omega)]; exact h28, by rw [ex 26 0 29 (by omega) (by omega)]; exact h29, by omega, hn3, ⟨hD2.rw.1, Or.inr ⟨u, ku, pu, Gu, Bu, Qu, by rw [ex 39 0 a (by omega) (by omega)]; exact h39, hP.ge, hua, hPu, Or.inr (Or.inl ⟨hkd, by rw [ex 40 0 u (by omega) (by omega)]; exact h40, by rw [upS_ne (by omega), upS_ne (by omega), upS_same], rfl, rfl, rfl, rfl, rfl⟩)⟩⟩, by rw [ex 26 0 25 (by omega) (by omega)]; exact h25⟩, Or.inr (Or.inr (Or.inl ⟨upS_same, m', r, p, B, Q, hD2, by omega, hq.frame (fun x _ => ex 43 0 x.1 (by omega) (by omega)) (by rw [ex 26 0 25 (by omega) (by omega)]; exact Int.le_refl _), by rw [ex 26 0 25 (by omega) (by omega)]; exact hc, hrun, by omega⟩))⟩
    have K := hF _ _ (by omega) hfin
    have e40 : upS σ 41 0 (u : Int).toNat (-1) 40 0 (u : Int).toNat = (a : Int) := by rw [Int.toNat_natCast, upS_ne (by omega)]; exact h40
    rw [← e40, show upS σ 41 0 u (-1) = upS σ 41 0 (u : Int).toNat (-1) by rw [Int.toNat_natCast]] at K
    refine run 20 ?_
    refine And.intro hiu ?_
    refine And.intro hiu ?_
    exact K
  rw [← e3, ← e1, ← hr] at K69' K44
  have K34 : (ekd E ku = 16 ∨ ekd E ku = 17) → Xz SL xs (m_Model_hasFailed SL xs) F (34, [some (.inr (some (26, 0))), some (.inl r), some (.inl (σ 26 0 26)), some (.inl (σ 36 0 (σ 26 0 26).toNat)), some (.inl (σ 30 0 (σ 36 0 (σ 26 0 26).toNat).toNat))], [], (nx, σ, rX kn tx), 0, 0) := by
    intro hkd
    refine run 6 ?_
    refine And.intro hix ?_
    refine And.intro (fun h => ?_) (fun h => ?_)
    · have h : ¬ (r : Int) = σ 41 0 (σ 26 0 26).toNat := h
      rw [hri] at h
      exact leaf (K69' (fun z => h z.2.symm))
    · have h : (r : Int) = σ 41 0 (σ 26 0 26).toNat := Classical.not_not.mp h
      rw [hri] at h
      exact leaf (K44 hkd h.symm)
  refine run 21 ?_
  refine And.intro hix ?_
  refine And.intro hik ?_
  refine And.intro (fun h => ?_) (fun h => ?_)
  · have h : σ 30 0 (σ 36 0 (σ 26 0 26).toNat).toNat = 16 := h
    rw [e3] at h
    exact leaf (K34 (Or.inl (by omega)))
  · have h : ¬ σ 30 0 (σ 36 0 (σ 26 0 26).toNat).toNat = 16 := h
    rw [e3] at h
    refine And.intro (fun h2 => ?_) (fun h2 => ?_)
    · have h2 : ¬ σ 30 0 (σ 36 0 (σ 26 0 26).toNat).toNat = 17 := h2
      rw [e3] at h2
      exact leaf (K69' (fun z => by omega))
    · have h2 : σ 30 0 (σ 36 0 (σ 26 0 26).toNat).toNat = 17 := Classical.not_not.mp h2
      rw [e3] at h2
      exact leaf (K34 (Or.inr (by omega)))
end
