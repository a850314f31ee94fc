/-! The model's loop against the states of matching -/
def Srt (σ : Sg) (Q : Qw) : Prop := Q.Pairwise (fun x y => σ 43 0 x.1 < σ 43 0 y.1) ∧ ∀ x ∈ Q, 1 ≤ σ 43 0 x.1 ∧ σ 43 0 x.1 ≤ σ 26 0 25
def Cm (E : Ev) (σ0 σ : Sg) (root : Nat × Nat) (ν : Nu) (n r m k p : Nat) (G : List Gl) (B : List Ch) (Q : Qw) : Prop := MB E σ0 σ ν n ∧ σ 26 0 26 = r ∧ σ 26 0 28 = 0 ∧ σ 26 0 29 = 0 ∧ r < n ∧ n ≤ 3000 ∧ Pt E σ root m r k p G B Q ∧ 0 ≤ σ 26 0 25
def Sim (E : Ev) (σ0 : Sg) (root : Nat × Nat) (M o : Nat) (y : As) (σ : Sg) : Prop := ∃ ν n r f m k p G B Q, Cm E σ0 σ root ν n r m k p G B Q ∧
  ((σ 26 0 27 = 0 ∧ r + 1 = n ∧ σ 38 0 r = p ∧ σ 40 0 r = -1 ∧ σ 41 0 r = -1 ∧ σ 42 0 r = 0 ∧ Srt σ Q ∧ σ 26 0 25 ≤ 3001 * n ∧ runA E f (BS k p G B (qm Q) ν n) = some (o, y) ∧ 20000000 * f ≤ M) ∨
   (σ 26 0 27 = 2 ∧ ∃ m' p' C Q', Dn E σ m' n r k p p' G B Q C Q' ∧ Srt σ Q' ∧ σ 26 0 25 + kcn G ≤ 3001 * n + 3000 ∧ runA E f (GS p' G C (qm Q') ν n) = some (o, y) ∧ 20000000 * f + r ≤ M) ∨
   (σ 26 0 27 = 1 ∧ ∃ m' h p' C Q', Dn E σ m' h r k p p' G B Q C Q' ∧ h ≤ n ∧ Srt σ Q' ∧ σ 26 0 25 ≤ 3001 * n ∧ runA E f (KS C ν n) = some (o, y) ∧ 20000000 * f + 4000 * h + 3000 ≤ M + r) ∨
   (σ 26 0 27 = 3 ∧ Srt σ Q ∧ σ 26 0 25 ≤ 3001 * n ∧ runA E f (KS B ν n) = some (o, y) ∧ 20000000 * f + 4000 * r + 3999 ≤ M))
def Aft (E : Ev) (σ0 : Sg) (root : Nat × Nat) (M o : Nat) (y : As) (σ : Sg) : Prop := Sim E σ0 root M o y σ ∨ (o = 2 ∧ σ 26 0 28 = 1 ∧ MB E σ0 σ (yν y) (yn y)) ∨ (o = 3 ∧ σ 26 0 28 = 0 ∧ σ 26 0 29 = 1 ∧ MB E σ0 σ (yν y) (yn y))
section
variable {SL : Nat} {xs : Nat → Int} {nx : Nat} {σ σ0 σ' σ1 : Sg} {kn : Nat → Option Nat} {tx : Nat → Bool} {F : Option Av → St → Prop} {E : Ev} {ν : Nu} {k p n r m f o M h p' : Nat} {root : Nat × Nat} {G : List Gl} {B C : List Ch} {Q Q' : Qw} {y : As}
theorem Srt.frame (h : Srt σ Q) (h1 : ∀ x ∈ Q, σ' 43 0 x.1 = σ 43 0 x.1) (h2 : σ 26 0 25 ≤ σ' 26 0 25) : Srt σ' Q := by
  refine ⟨?_, fun x hx => by rw [h1 x hx]; have := h.2 x hx; omega⟩
  exact List.Pairwise.imp_of_mem (fun {a b} ha hb hab => by rw [h1 a ha, h1 b hb]; exact hab) h.1
theorem Srt.pre {L : Qw} (h : Srt σ (Q ++ L)) : Srt σ Q := ⟨(List.pairwise_append.mp h.1).1, fun x hx => h.2 x (List.mem_append.mpr (Or.inl hx))⟩
theorem scF.frr {x : Int} (h : scF σ r x σ') : frr σ σ' := fun a b j h1 h2 => h.2.2 a b j (by omega) (by omega)
theorem Cm.sc {x : Int} (hC : Cm E σ0 σ root ν n r m k p G B Q) (hs : scF σ r x σ') : Cm E σ0 σ' root ν n r m k p G B Q := by
  obtain ⟨c1, c2, c3, c4, c5, c6, c7, c8⟩ := hC
  have e := hs.2.2
  refine ⟨c1.mv hs.frr (by rw [e 26 0 14 (by omega) (by omega)]; exact c1.2.2.2.2.1), by rw [e 26 0 26 (by omega) (by omega)]; exact c2, by rw [e 26 0 28 (by omega) (by omega)]; exact c3, by rw [e 26 0 29 (by omega) (by omega)]; exact c4, c5, c6, c7.frame (fun a i h1 h2 h3 => e a 0 i (by omega) (by omega)) (e 36 0 r (by omega) (by omega)) (e 37 0 r (by omega) (by omega)) (e 39 0 r (by omega) (by omega)), by rw [e 26 0 25 (by omega) (by omega)]; exact c8⟩
theorem Srt.sc {x : Int} (h : Srt σ Q) (hs : scF σ r x σ') : Srt σ' Q := h.frame (fun x _ => hs.2.2 43 0 x.1 (by omega) (by omega)) (by rw [hs.2.2 26 0 25 (by omega) (by omega)]; exact Int.le_refl _)
/-- a row without others within succeeds -/
theorem sim2 (hC : Cm E σ0 σ root ν n r m k p G B Q) (h40 : σ 40 0 r = -1) (h41 : σ 41 0 r = -1) (hs : scF σ r (p' : Int) σ') (hl : lfC E k p p' G B (qm Q) C) (hp : p ≤ p') (hp' : p' ≤ (esb E).length) (hq : Srt σ Q) (hc : σ 26 0 25 ≤ 3001 * n) (hrun : runA E f (GS p' G C (qm Q) ν n) = some (o, y)) (hM : 20000000 * f + r ≤ M) : Sim E σ0 root M o y σ' := by
  have e := hs.2.2
  have hC' := hC.sc hs
  have hk := hC'.2.2.2.2.2.2.1.kc
  refine ⟨ν, n, r, f, m, k, p, G, B, Q, hC', Or.inr (Or.inl ⟨by rw [hs.2.1, if_neg (by omega)], 1, p', C, Q, ⟨hC'.2.2.2.2.2.2.1.rw, hs.1, hp, hp', hC.2.2.2.2.1, Or.inl ⟨by rw [e 40 0 r (by omega) (by omega)]; exact h40, by rw [e 41 0 r (by omega) (by omega)]; exact h41, rfl, hl⟩⟩, hq.sc hs, ?_, hrun, hM⟩)⟩
  rw [e 26 0 25 (by omega) (by omega)]
  have := hC.2.2.2.2.1
  have := hC.2.2.2.2.2.1
  omega
/-- a row fails -/
theorem sim3 (hC : Cm E σ0 σ root ν n r m k p G B Q) (hs : scF σ r (-1) σ') (hq : Srt σ Q) (hc : σ 26 0 25 ≤ 3001 * n) (hrun : runA E f (KS B ν n) = some (o, y)) (hM : 20000000 * f + 4000 * r + 3999 ≤ M) : Sim E σ0 root M o y σ' := by
  refine ⟨ν, n, r, f, m, k, p, G, B, Q, hC.sc hs, Or.inr (Or.inr (Or.inr ⟨by rw [hs.2.1, if_pos rfl], hq.sc hs, by rw [hs.2.2 26 0 25 (by omega) (by omega)]; exact hc, hrun, hM⟩))⟩
/-- a row begins within another -/
theorem simB {u ku pu kc pc mu : Nat} {Gu Gc : List Gl} {Bu Bc : List Ch} {Qu Qc : Qw} (hB : MB E σ0 σ ν n) (hn : n < 3000) (hP : Pt E σ root mu u ku pu Gu Bu Qu) (hu : u < n) (hru : root.1 ≤ u) (h28 : σ 26 0 28 = 0) (h29 : σ 26 0 29 = 0) (h25 : 0 ≤ σ 26 0 25) (hb : bgF σ n kc pc (u : Int) σ1) (hrow : ∀ a b j, ¬ (40 ≤ a ∧ a ≤ 42 ∧ b = 0 ∧ j = u) → σ' a b j = σ1 a b j) (hkc : kc < ect E) (hpc : pc ≤ (esb E).length)
    (hl : (σ' 40 0 u = n ∧ σ' 41 0 u = -1 ∧ pc = pu ∧ Qc = Qu ∧ oneC E (σ' 42 0 u) ku pu kc Gu Bu (qm Qu) Gc Bc) ∨
       ((ekd E ku = 16 ∨ ekd E ku = 17) ∧ σ' 40 0 u = n ∧ σ' 41 0 u = -1 ∧ kc = efa E ku ∧ pc = pu ∧ Gc = (0, sk E ku, 0) :: Gu ∧ Bc = Bu ∧ Qc = Qu) ∨
       (∃ a m', (ekd E ku = 16 ∨ ekd E ku = 17) ∧ σ' 40 0 u = (a : Nat) ∧ σ' 41 0 u = n ∧ kc = sk E ku ∧ u < a ∧ a < n ∧ σ 39 0 a = u ∧ Gc = Gu ∧ Dn E σ m' n a (efa E ku) pu pc ((0, sk E ku, 0) :: Gu) Bu Qu Bc Qc))
    (hq : Srt σ Qc) (hc : σ 26 0 25 ≤ 3001 * n + 3000) (hrun : runA E f (BS kc pc Gc Bc (qm Qc) ν (n + 1)) = some (o, y)) (hM : 20000000 * f ≤ M) (hqn : ∀ x ∈ Qc, x.1 < n) : Sim E σ0 root M o y σ' := by
  obtain ⟨b1, b2, b3, b4, b5, b6, b7, b8', b9, b10, b11⟩ := hb
  have fr0 : frr σ σ' := fun a b j h1 h2 => by rw [hrow a b j (by omega), b11 a b j (by omega) (by omega)]
  have fld : ∀ a i, 36 ≤ a → a ≤ 42 → i < n → ¬ i = u → σ' a 0 i = σ a 0 i := fun a i h1 h2 h3 h4 => by rw [hrow a 0 i (by omega), b11 a 0 i (by omega) (by omega)]
  have fldu : ∀ a, 36 ≤ a → a ≤ 39 → σ' a 0 u = σ a 0 u := fun a h1 h2 => by rw [hrow a 0 u (by omega), b11 a 0 u (by omega) (by omega)]
  have e25 : σ' 26 0 25 = σ 26 0 25 := by rw [hrow 26 0 25 (by omega), b11 26 0 25 (by omega) (by omega)]
  have e43 : ∀ j, σ' 43 0 j = σ 43 0 j := fun j => by rw [hrow 43 0 j (by omega), b11 43 0 j (by omega) (by omega)]
  have hPu : Pt E σ' root mu u ku pu Gu Bu Qu := hP.frame (fun a i h1 h2 h3 => fld a i h1 h2 (by omega) (by omega)) (fldu 36 (by omega) (by omega)) (fldu 37 (by omega) (by omega)) (fldu 39 (by omega) (by omega))
  have hPn : Pt E σ' root (mu + 1) n kc pc Gc Bc Qc := by
    refine ⟨⟨by rw [hrow 36 0 n (by omega)]; exact b1, by rw [hrow 37 0 n (by omega)]; exact b2, hkc, hpc⟩, Or.inr ⟨u, ku, pu, Gu, Bu, Qu, by rw [hrow 39 0 n (by omega)]; exact b4, hru, hu, hPu, ?_⟩⟩
    rcases hl with hl | hl | ⟨a, m', q1, q2, q3, q4, q5, q6, q7, q8, q9⟩
    · exact Or.inl hl
    · exact Or.inr (Or.inl hl)
    · exact Or.inr (Or.inr ⟨a, m', q1, q2, q3, q4, q5, q6, by rw [fld 39 a (by omega) (by omega) q6 (by omega)]; exact q7, q8, q9.frame (fun a' i h1 h2 h3 h4 => fld a' i h1 h2 h4 (by omega))⟩)
  refine ⟨ν, n + 1, n, f, mu + 1, kc, pc, Gc, Bc, Qc, ⟨hB.mv fr0 (by rw [hrow 26 0 14 (by omega)]; exact b9), by rw [hrow 26 0 26 (by omega)]; exact b8', by rw [hrow 26 0 28 (by omega), b11 26 0 28 (by omega) (by omega)]; exact h28, by rw [hrow 26 0 29 (by omega), b11 26 0 29 (by omega) (by omega)]; exact h29, by omega, by omega, hPn, by rw [e25]; exact h25⟩, Or.inl ⟨by rw [hrow 26 0 27 (by omega)]; exact b10, rfl, by rw [hrow 38 0 n (by omega)]; exact b3, by rw [hrow 40 0 n (by omega)]; exact b5, by rw [hrow 41 0 n (by omega)]; exact b6, by rw [hrow 42 0 n (by omega)]; exact b7, hq.frame (fun x hx => e43 x.1) (by rw [e25]; exact Int.le_refl _), by rw [e25]; omega, hrun, hM⟩⟩
theorem runG0 {z : Nat} {g : List Gl} {c : List Ch} {q : List Kp} (hrun : runA E f (GS p ((0, k, z) :: g) c q ν n) = some (o, y)) : (n = 3000 ∧ o = 3 ∧ y = KS c ν n) ∨ (¬ n = 3000 ∧ ∃ f', f = f' + 1 ∧ runA E f' (BS k p g c q ν (n + 1)) = some (o, y)) := by
  obtain ⟨f, rfl, hrun⟩ := runG hrun
  have hrun : (match (if n = 3000 then Sum.inr (3, KS c ν n) else Sum.inl (BS k p g c q ν (n + 1)) : As ⊕ (Nat × As)) with | .inl z => runA E f z | .inr z => some z) = some (o, y) := hrun
  by_cases hn : n = 3000
  · rw [if_pos hn] at hrun
    cases hrun
    exact Or.inl ⟨hn, rfl, rfl⟩
  · rw [if_neg hn] at hrun
    exact Or.inr ⟨hn, f, rfl, hrun⟩
theorem call_begin {c : Nat} {u : Int} (hn : σ 26 0 14 = n) (hn3 : n ≤ 3000) : vT 7 (T_Model_begin SL xs) [.inr (some (26, 0)), .inl k, .inl c, .inl u] (nx, σ, rX kn tx) (fun v s' => v = none ∧ ∃ σ', s' = (nx, σ', rX kn tx) ∧ ((n = 3000 ∧ σ' = upS σ 26 0 29 1) ∨ (n < 3000 ∧ bgF σ n k c u σ'))) :=
  tw_Model_begin hn hn3 (fun h => ⟨rfl, _, rfl, Or.inl ⟨h, rfl⟩⟩) (fun h σ' hb => ⟨rfl, σ', rfl, Or.inr ⟨h, hb⟩⟩)
theorem call_succeeds {x : Int} (hr : σ 26 0 26 = r) (hr3 : r < 3000) : vT 7 (T_Model_succeeds SL xs) [.inr (some (26, 0)), .inl x] (nx, σ, rX kn tx) (fun v s' => v = none ∧ ∃ σ', s' = (nx, σ', rX kn tx) ∧ scF σ r x σ') :=
  tw_Model_succeeds hr hr3 (fun σ' hb => ⟨rfl, σ', rfl, hb⟩)
/-- all is over -/
theorem aftO {c : List Ch} {q : List Kp} {z pp kk a : Nat} {g : List Gl} {x : Int} (hB : MB E σ0 σ ν n) (h28 : σ 26 0 28 = 0) (hn : n = 3000) (hrun : runA E f (GS pp ((0, kk, z) :: g) c q ν n) = some (o, y)) (ha : 36 ≤ a ∧ a ≤ 43) {u : Nat} : Aft E σ0 root M o y (upS (upS σ 26 0 29 1) a 0 u x) := by
  rcases runG0 hrun with ⟨-, rfl, rfl⟩ | ⟨h, -⟩
  · refine Or.inr (Or.inr ⟨rfl, by rw [upS_ne (by omega), upS_ne (by omega)]; exact h28, by rw [upS_ne (by omega), upS_same], hB.mv (fun a' b' j' h1 h2 => by rw [upS_ne (by omega), upS_ne (by omega)]) (by rw [upS_ne (by omega), upS_ne (by omega)]; exact hB.2.2.2.2.1)⟩)
  · exact absurd hn h
end
