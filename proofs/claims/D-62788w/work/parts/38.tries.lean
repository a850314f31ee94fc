/-! The model: a try -/
def TrE (E : Ev) (σ0 : Sg) (root : Nat × Nat) (o : Nat) (y : As) (res : Int) (σ' : Sg) : Prop :=
  (o = 1 ∧ res = root.1 ∧ ∃ ν n m k p' C Q', y = GS p' [] C (qm Q') ν n ∧ MB E σ0 σ' ν n ∧ n ≤ 3000 ∧ Dn E σ' m n root.1 k root.2 p' [] [] [] C Q' ∧ Srt σ' Q' ∧ σ' 26 0 28 = 0 ∧ σ' 26 0 29 = 0 ∧ 0 ≤ σ' 26 0 25 ∧ σ' 26 0 25 ≤ 3001 * n + 3000) ∨
  (o = 0 ∧ res = -1 ∧ σ' 26 0 28 = 0 ∧ σ' 26 0 29 = 0 ∧ MB E σ0 σ' (yν y) (yn y) ∧ yn y ≤ 3000 ∧ 0 ≤ σ' 26 0 25 ∧ σ' 26 0 25 ≤ 3001 * yn y) ∨
  (o = 2 ∧ res = -1 ∧ σ' 26 0 28 = 1 ∧ MB E σ0 σ' (yν y) (yn y)) ∨ (o = 3 ∧ res = -1 ∧ σ' 26 0 28 = 0 ∧ σ' 26 0 29 = 1 ∧ MB E σ0 σ' (yν y) (yn y))
section
variable {SL : Nat} {xs : Nat → Int} {nx : Nat} {σ σ0 σ' σ1 : Sg} {kn : Nat → Option Nat} {tx : Nat → Bool} {F : Option Av → St → Prop} {E : Ev} {ν : Nu} {k p n r m f o M h p' u ku pu mu : Nat} {root : Nat × Nat} {G Gu : List Gl} {B Bu C : List Ch} {Q Q' Qu : Qw} {y : As}
theorem Cm.upR {m1 : Nat} (hC : Cm E σ0 σ root ν n r m1 k p G B Q) (hr : ¬ r = root.1) : ∃ u mu ku pu Gu Bu Qu, u < r ∧ σ 39 0 r = (u : Nat) ∧ Cm E σ0 (upS σ 26 0 26 (u : Int)) root ν n u mu ku pu Gu Bu Qu ∧ Lk E (upS σ 26 0 26 (u : Int)) u ku pu Gu Bu Qu r k p G B Q := by
  obtain ⟨c1, c2, c3, c4, c5, c6, c7, c8⟩ := hC
  cases m1 with
  | zero => cases c7
  | succ m1 =>
  obtain ⟨w, hd | ⟨u, ku, pu, Gu, Bu, Qu, u1, u2, u3, u4, hd⟩⟩ := c7
  · exact absurd hd.1 hr
  · have ex : ∀ a b j, ¬ (a = 26 ∧ j = 26) → upS σ 26 0 26 (u : Int) a b j = σ a b j := fun a b j h1 => upS_ne (by omega)
    refine ⟨u, m1, ku, pu, Gu, Bu, Qu, u3, u1, ⟨c1.mv (fun a b j h1 h2 => ex a b j (by omega)) (by rw [ex 26 0 14 (by omega)]; exact c1.2.2.2.2.1), upS_same, by rw [ex 26 0 28 (by omega)]; exact c3, by rw [ex 26 0 29 (by omega)]; exact c4, by omega, c6, u4.frame (fun a i h1 h2 h3 => ex a 0 i (by omega)) (ex 36 0 u (by omega)) (ex 37 0 u (by omega)) (ex 39 0 u (by omega)), by rw [ex 26 0 25 (by omega)]; exact c8⟩, ?_⟩
    unfold Lk
    rw [ex 40 0 u (by omega), ex 41 0 u (by omega), ex 42 0 u (by omega)]
    rcases hd with hd | hd | ⟨a, m', q1, q2, q3, q4, q5, q6, q7, q8, q9⟩
    · exact Or.inl hd
    · exact Or.inr (Or.inl hd)
    · exact Or.inr (Or.inr ⟨a, m', q1, q2, q3, q4, q5, q6, by rw [ex 39 0 a (by omega)]; exact q7, q8, q9.frame (fun a' i h1 h2 h3 h4 => ex a' 0 i (by omega))⟩)
theorem lp_tries {k0 c0 : Int} (hF : ∀ res σ', TrE E σ0 root o y res σ' → F (some (.inl res)) (nx, σ', rX kn tx)) : ∀ (M : Nat) (σ : Sg) (l4 : Option Av), Aft E σ0 root M o y σ → Xz SL xs (m_Model_tries SL xs) F (12, [some (.inr (some (26, 0))), some (.inl k0), some (.inl c0), some (.inl (root.1 : Int)), l4], [], (nx, σ, rX kn tx), 0, 0) := by
  intro M
  induction M using Nat.strongRecOn with
  | _ M ih =>
    intro σ l4 hA
    rcases hA with hS | ⟨ho, h28, hB⟩ | ⟨ho, h28, h29, hB⟩
    · obtain ⟨ν, n, r, f, m, k, p, G, B, Q, hC, hS⟩ := hS
      have hC' := hC
      obtain ⟨hB, hr, h28, h29, hrn, hn3, hP, h25⟩ := hC
      have hri : (σ 26 0 26).toNat = r := by rw [hr, Int.toNat_natCast]
      have hix : 0 ≤ σ 26 0 26 ∧ σ 26 0 26 < 3000 := by rw [hr]; omega
      rcases hS with ⟨h27, s1, s2, s3, s4, s5, s6, s7, s8, s9⟩ | ⟨h27, m', p', C, Q', s1, s2, s3, s4, s5⟩ | ⟨h27, m', h, p', C, Q', s1, s2, s3, s4, s5, s6⟩ | ⟨h27, s1, s2, s3, s4⟩
      · refine run 20 ?_
        refine And.intro (fun h => absurd (show σ 26 0 28 = 0 from h28) h) (fun h => ?_)
        refine And.intro (fun h => absurd (show σ 26 0 29 = 0 from h29) h) (fun h => ?_)
        refine And.intro (fun h => absurd (show σ 26 0 27 = 0 from h27) h) (fun h => ?_)
        refine call_any (Y := fun v s' => v = none ∧ ∃ M' σ', s' = (nx, σ', rX kn tx) ∧ M' < M ∧ Aft E σ0 root M' o y σ') (tw_Model_begins hC' s3 s4 s5 s6 s7 s8 s9 (fun M' σ' h1 h2 => ⟨rfl, M', σ', rfl, h1, h2⟩)) ?_
        intro v s' hv
        obtain ⟨rfl, M', σ', rfl, h1, h2⟩ := hv
        have K := ih M' h1 σ' l4 h2
        exact leaf (by first | exact run 1 K | exact run 2 K)
      · refine run 24 ?_
        refine And.intro (fun h => absurd (show σ 26 0 28 = 0 from h28) h) (fun h => ?_)
        refine And.intro (fun h => absurd (show σ 26 0 29 = 0 from h29) h) (fun h => ?_)
        refine And.intro (fun h => ?_) (fun h => absurd (show ¬ σ 26 0 27 = 0 by rw [h27]; omega) h)
        refine And.intro (fun h => ?_) (fun h => absurd (show ¬ σ 26 0 27 = 1 by rw [h27]; omega) h)
        refine And.intro (fun h => ?_) (fun h => ?_)
        · have h : ¬ σ 26 0 26 = (root.1 : Int) := h
          rw [hr] at h
          obtain ⟨u, mu, ku, pu, Gu, Bu, Qu, hur, h39, hCu, hL⟩ := hC'.upR (by omega)
          have K : Xz SL xs (m_Model_tries SL xs) F (77, [some (.inr (some (26, 0))), some (.inl k0), some (.inl c0), some (.inl (root.1 : Int)), l4], [], (nx, σ, rX kn tx), 0, 0) := by
            refine run 20 ?_
            refine And.intro hix ?_
            refine And.intro (fun h => absurd (show σ 26 0 27 = 2 from h27) h) (fun h => ?_)
            refine call_any (Y := fun v s' => v = none ∧ ∃ M' σ', s' = (nx, σ', rX kn tx) ∧ M' < M ∧ Aft E σ0 root M' o y σ') ?_ ?_
            · show vT 7 (T_Model_hasSucceeded SL xs) [.inr (some (26, 0)), .inl (σ 26 0 26)] (nx, upS σ 26 0 26 (σ 39 0 (σ 26 0 26).toNat), rX kn tx) _
              rw [hri, h39, hr]
              exact tw_Model_hasSucceeded hCu hL hur (by rw [upS_ne (by omega)]; exact h39) (s1.frame (fun a i h1 h2 h3 h4 => upS_ne (by omega))) (s2.frame (fun x _ => upS_ne (by omega)) (by rw [upS_ne (by omega)]; exact Int.le_refl _)) (by rw [upS_ne (by omega)]; exact s3) s4 s5 (fun M' σ' h1 h2 => ⟨rfl, M', σ', rfl, h1, h2⟩)
            · intro v s' hv
              obtain ⟨rfl, M', σ', rfl, h1, h2⟩ := hv
              have K := ih M' h1 σ' (some (.inl (σ 26 0 26))) h2
              exact leaf (by first | exact run 1 K | exact run 2 K | exact run 3 K)
          exact leaf K
        · have h : σ 26 0 26 = (root.1 : Int) := Classical.not_not.mp h
          rw [hr] at h
          have hrr : r = root.1 := by omega
          have hG : p = root.2 ∧ G = [] ∧ B = [] ∧ Q = [] := by
            cases m with
            | zero => cases hP
            | succ m =>
            obtain ⟨w, hd | ⟨u, ku, pu, Gu, Bu, Qu, u1, u2, u3, u4, hd⟩⟩ := hP
            · exact hd.2
            · omega
          obtain ⟨rfl, rfl, rfl, rfl⟩ := hG
          obtain ⟨f, rfl, hrun⟩ := runG s4
          cases hrun
          rw [hrr] at s1
          have K := hF root.1 σ (Or.inl ⟨rfl, rfl, ν, n, m', k, p', C, Q', rfl, hB, hn3, s1, s2, h28, h29, h25, by simp only [kcn] at s3; omega⟩)
          refine And.intro (fun h => absurd (show σ 26 0 27 = 2 from h27) h) (fun h => ?_)
          have K2 : Xz SL xs (m_Model_tries SL xs) F (71, [some (.inr (some (26, 0))), some (.inl k0), some (.inl c0), some (.inl (root.1 : Int)), l4], [], (nx, σ, rX kn tx), 0, 0) := run 5 K
          exact leaf K2
      · refine run 20 ?_
        refine And.intro (fun h => absurd (show σ 26 0 28 = 0 from h28) h) (fun h => ?_)
        refine And.intro (fun h => absurd (show σ 26 0 29 = 0 from h29) h) (fun h => ?_)
        refine And.intro (fun h => ?_) (fun h => absurd (show ¬ σ 26 0 27 = 0 by rw [h27]; omega) h)
        refine And.intro (fun h => absurd (show σ 26 0 27 = 1 from h27) h) (fun h => ?_)
        refine call_any (Y := fun v s' => v = none ∧ ∃ M' σ', s' = (nx, σ', rX kn tx) ∧ M' < M ∧ Aft E σ0 root M' o y σ') (tw_Model_goesBack hC' h27 s1 s2 s3 s4 s5 s6 (fun M' σ' h1 h2 => ⟨rfl, M', σ', rfl, h1, h2⟩)) ?_
        intro v s' hv
        obtain ⟨rfl, M', σ', rfl, h1, h2⟩ := hv
        have K := ih M' h1 σ' l4 h2
        exact leaf (by first | exact run 1 K | exact run 2 K)
      · refine run 24 ?_
        refine And.intro (fun h => absurd (show σ 26 0 28 = 0 from h28) h) (fun h => ?_)
        refine And.intro (fun h => absurd (show σ 26 0 29 = 0 from h29) h) (fun h => ?_)
        refine And.intro (fun h => ?_) (fun h => absurd (show ¬ σ 26 0 27 = 0 by rw [h27]; omega) h)
        refine And.intro (fun h => ?_) (fun h => absurd (show ¬ σ 26 0 27 = 1 by rw [h27]; omega) h)
        refine And.intro (fun h => ?_) (fun h => ?_)
        · have h : ¬ σ 26 0 26 = (root.1 : Int) := h
          rw [hr] at h
          obtain ⟨u, mu, ku, pu, Gu, Bu, Qu, hur, h39, hCu, hL⟩ := hC'.upR (by omega)
          have K : Xz SL xs (m_Model_tries SL xs) F (77, [some (.inr (some (26, 0))), some (.inl k0), some (.inl c0), some (.inl (root.1 : Int)), l4], [], (nx, σ, rX kn tx), 0, 0) := by
            refine run 20 ?_
            refine And.intro hix ?_
            refine And.intro (fun h => ?_) (fun h => absurd (show ¬ σ 26 0 27 = 2 by rw [h27]; omega) h)
            refine call_any (Y := fun v s' => v = none ∧ ∃ M' σ', s' = (nx, σ', rX kn tx) ∧ M' < M ∧ Aft E σ0 root M' o y σ') ?_ ?_
            · show vT 7 (T_Model_hasFailed SL xs) [.inr (some (26, 0)), .inl (σ 26 0 26)] (nx, upS σ 26 0 26 (σ 39 0 (σ 26 0 26).toNat), rX kn tx) _
              rw [hri, h39, hr]
              exact tw_Model_hasFailed hCu hL hur hrn (s1.frame (fun x _ => upS_ne (by omega)) (by rw [upS_ne (by omega)]; exact Int.le_refl _)) (by rw [upS_ne (by omega)]; exact s2) s3 s4 (fun M' σ' h1 h2 => ⟨rfl, M', σ', rfl, h1, h2⟩)
            · intro v s' hv
              obtain ⟨rfl, M', σ', rfl, h1, h2⟩ := hv
              have K := ih M' h1 σ' (some (.inl (σ 26 0 26))) h2
              exact leaf (by first | exact run 1 K | exact run 2 K | exact run 3 K)
          exact leaf K
        · have h : σ 26 0 26 = (root.1 : Int) := Classical.not_not.mp h
          rw [hr] at h
          have hrr : r = root.1 := by omega
          have hG : p = root.2 ∧ G = [] ∧ B = [] ∧ Q = [] := by
            cases m with
            | zero => cases hP
            | succ m =>
            obtain ⟨w, hd | ⟨u, ku, pu, Gu, Bu, Qu, u1, u2, u3, u4, hd⟩⟩ := hP
            · exact hd.2
            · omega
          obtain ⟨rfl, rfl, rfl, rfl⟩ := hG
          obtain ⟨f, rfl, hrun⟩ := runK s3
          cases hrun
          have K := hF (-1) σ (Or.inr (Or.inl ⟨rfl, rfl, h28, h29, hB, hn3, h25, s2⟩))
          refine And.intro (fun h => ?_) (fun h => absurd (show ¬ σ 26 0 27 = 2 by rw [h27]; omega) h)
          have K2 : Xz SL xs (m_Model_tries SL xs) F (75, [some (.inr (some (26, 0))), some (.inl k0), some (.inl c0), some (.inl (root.1 : Int)), l4], [], (nx, σ, rX kn tx), 0, 0) := run 5 K
          exact leaf K2
    · have K := hF (-1) σ (Or.inr (Or.inr (Or.inl ⟨ho, rfl, h28, hB⟩)))
      refine run 10 ?_
      refine And.intro (fun h => K) (fun h => absurd (show ¬ σ 26 0 28 = 0 by rw [h28]; omega) h)
    · have K := hF (-1) σ (Or.inr (Or.inr (Or.inr ⟨ho, rfl, h28, h29, hB⟩)))
      refine run 10 ?_
      refine And.intro (fun h => K) (fun h => ?_)
      refine And.intro (fun h => K) (fun h => absurd (show ¬ σ 26 0 29 = 0 by rw [h29]; omega) h)
theorem tw_Model_tries {c : Nat} (hB : MB E σ0 σ ν n) (hn3 : n ≤ 3000) (h28 : σ 26 0 28 = 0) (h29 : σ 26 0 29 = 0) (h25 : 0 ≤ σ 26 0 25 ∧ σ 26 0 25 ≤ 3001 * n) (hk : k < ect E) (hc : c ≤ (esb E).length) (hrun : runA E f (GS c [(0, k, 0)] [] [] ν n) = some (o, y)) (hF : ∀ res σ', TrE E σ0 (n, c) o y res σ' → F (some (.inl res)) (nx, σ', rX kn tx)) : T_Model_tries SL xs [.inr (some (26, 0)), .inl k, .inl c] (nx, σ, rX kn tx) F := by
  refine run 8 ?_
  refine call_any (call_begin hB.2.2.2.2.1 hn3) ?_
  intro v s' hv
  obtain ⟨rfl, σ1, rfl, h1⟩ := hv
  rcases h1 with ⟨hn, rfl⟩ | ⟨hn, hb⟩
  · rcases runG0 hrun with ⟨-, rfl, rfl⟩ | ⟨hn', -⟩
    · have K := hF (-1) (upS σ 26 0 29 1) (Or.inr (Or.inr (Or.inr ⟨rfl, rfl, by rw [upS_ne (by omega)]; exact h28, upS_same, hB.mv (fun a b j h1 h2 => by rw [upS_ne (by omega)]) (by rw [upS_ne (by omega)]; exact hB.2.2.2.2.1)⟩)))
      have K2 : Xz SL xs (m_Model_tries SL xs) F (12, [some (.inr (some (26, 0))), some (.inl (k : Int)), some (.inl (c : Int)), some (.inl (upS σ 26 0 29 1 26 0 26)), none], [], (nx, upS σ 26 0 29 1, rX kn tx), 0, 0) := by
        refine run 10 ?_
        refine And.intro (fun h => K) (fun h => ?_)
        refine And.intro (fun h => K) (fun h => absurd (show ¬ upS σ 26 0 29 1 26 0 29 = 0 by rw [upS_same]; omega) h)
      exact leaf (by first | exact run 1 K2 | exact run 2 K2 | exact run 3 K2)
    · omega
  · rcases runG0 hrun with ⟨hn', -⟩ | ⟨-, f', rfl, hrun'⟩
    · omega
    obtain ⟨b1, b2, b3, b4, b5, b6, b7, b8', b9, b10, b11⟩ := hb
    have e25 : σ1 26 0 25 = σ 26 0 25 := b11 26 0 25 (by omega) (by omega)
    have K := lp_tries (SL := SL) (xs := xs) (nx := nx) (kn := kn) (tx := tx) (k0 := k) (c0 := c) (root := (n, c)) hF (20000000 * f') σ1 none (Or.inl ⟨ν, n + 1, n, f', 1, k, c, [], [], [], ⟨hB.mv (fun a b j h1 h2 => b11 a b j (by omega) (by omega)) b9, b8', by rw [b11 26 0 28 (by omega) (by omega)]; exact h28, by rw [b11 26 0 29 (by omega) (by omega)]; exact h29, by omega, by omega, ⟨⟨b1, b2, hk, hc⟩, Or.inl ⟨rfl, rfl, rfl, rfl, rfl⟩⟩, by rw [e25]; exact h25.1⟩, Or.inl ⟨b10, rfl, b3, b5, b6, b7, ⟨List.Pairwise.nil, fun x hx => by cases hx⟩, by rw [e25]; omega, hrun', Nat.le_refl _⟩⟩)
    have e26 : σ1 26 0 26 = ((n, c).1 : Int) := b8'
    rw [← e26] at K
    exact leaf (by first | exact run 1 K | exact run 2 K | exact run 3 K)
end
