/-! The component: one goal, a match from one place on, a match -/
section
variable {SL : Nat} {xs : Nat → Int} {nx : Nat} {σ σ0 : Sg} {kn : Nat → Option Nat} {tx : Nat → Bool} {F : Option Av → St → Prop} {E : Ev} {ν : Nu} {n o k p tp f : Nat} {g : List Gl} {c : List Ch} {q : List Kp} {y : As}
theorem part_set {S : List Int} {a u : Nat} {v : Nat} (hS : tl (σ 2 2) (σ 1 2 1) S) (hau : a ≤ u) (hu : u ≤ S.length) : setT σ (3 + v) ((S.drop a).take (u - a)) (cpS (upS σ 1 (3 + v) 1 ((u : Int) - a)) 2 2 (a : Int).toNat 2 (3 + v) 0 ((u : Int) - a).toNat) := by
  have hlen : ((S.drop a).take (u - a)).length = u - a := by simp; omega
  refine ⟨⟨?_, fun i hi => ?_⟩, fun a' b' j' h1 h2 => ?_⟩
  · rw [hlen]
    simp [cpS, upS]
    omega
  · rw [hlen] at hi
    have h1 : ((S.drop a).take (u - a)).getD i 0 = S.getD (a + i) 0 := by
      rw [List.getD_eq_getElem?_getD, List.getD_eq_getElem?_getD, List.getElem?_take, if_pos hi, List.getElem?_drop]
    rw [h1, ← hS.2 (a + i) (by omega)]
    have e : cpS (upS σ 1 (3 + v) 1 ((u : Int) - a)) 2 2 (a : Int).toNat 2 (3 + v) 0 ((u : Int) - a).toNat 2 (3 + v) i = upS σ 1 (3 + v) 1 ((u : Int) - a) 2 2 ((a : Int).toNat + (i - 0)) := if_pos ⟨rfl, rfl, by omega, by omega⟩
    rw [e, upS_ne (by omega)]
    rfl
  · simp only [cpS]
    rw [if_neg (fun z => h2 ⟨z.1, z.2.1⟩), upS_ne h1]
theorem tw_works {x : Gl} (hR : RG E kn tx σ0 σ tp p (x :: g) c q ν n) (hI : IG E p (x :: g) c q n) (hrun : runA E f (GS p (x :: g) c q ν n) = some (o, y)) (hF : ∀ r σ', Gon E kn tx σ0 f o y r σ' → F (some (.inl r)) (nx, σ', rX kn tx)) : T_Matcher_works SL xs [.inr (some (9, 0))] (nx, σ, rX kn tx) F := by
  obtain ⟨i, hg, hi, x1, x2, x3, x4⟩ := hR.2.2.1
  have hn3 : n ≤ 3000 := hI.2.2.2.2.2.2.1
  have htp := hR.2.2.2.2.1
  have hti : tp ≤ 8192 := by omega
  have hp : σ 9 0 7 = p := hR.2.1
  have hix : 0 ≤ σ 9 0 8 ∧ σ 9 0 8 < 8192 := by rw [hg]; omega
  have hit : (σ 9 0 8).toNat = i := by rw [hg]; simp
  have hR2 : RG E kn tx σ0 (upS σ 9 0 8 (σ 14 0 i)) tp p g c q ν n := hR.goal (x4.mono (by omega))
  obtain ⟨w, v, z⟩ := x
  rw [← hit] at hR2 x1 x2 x3
  have x1 : σ 11 0 (σ 9 0 8).toNat = w := x1
  have x2 : σ 12 0 (σ 9 0 8).toNat = v := x2
  have x3 : σ 13 0 (σ 9 0 8).toNat = z := x3
  refine run 50 ?_
  refine And.intro hix ?_
  refine And.intro hix ?_
  refine And.intro hix ?_
  rcases w with _ | _ | w
  · refine swt_out (show lkI _ (σ 11 0 (σ 9 0 8).toNat) = none by rw [x1]; rfl) ?_
    refine call_any (Y := fun v s' => ∃ r0 σ', (r0 = 0 ∨ r0 = 1) ∧ v = some (.inl r0) ∧ s' = (nx, σ', rX kn tx) ∧ Gon E kn tx σ0 f o y r0 σ') ?_ ?_
    · show vT 3 (T_Matcher_begins SL xs) [.inr (some (9, 0)), .inl (σ 12 0 (σ 9 0 8).toNat)] (nx, upS σ 9 0 8 (σ 14 0 (σ 9 0 8).toNat), rX kn tx) _
      rw [x2]
      refine tw_begins hR2 hI hrun (fun r0 σ' hg => ⟨r0, σ', ?_, rfl, rfl, hg⟩)
      rcases hg with h | h
      · exact Or.inr h.1
      · exact Or.inl h.1
    · intro v s' hv
      obtain ⟨r0, σ', hr, rfl, rfl, hg⟩ := hv
      exact And.intro hr (hF r0 σ' hg)
  · refine swt_in (t := 64) (show lkI _ (σ 11 0 (σ 9 0 8).toNat) = some 64 by rw [x1]; rfl) ?_
    obtain ⟨f, rfl, hrun⟩ := runG hrun
    have hrun : runA E f (GS p g c (q ++ [(v, z, p)]) ν n) = some (o, y) := hrun
    obtain ⟨hv, hz, hql, hI2⟩ := hI.kept
    have hks : σ 22 0 3 = q.length := hR.2.2.2.2.2.2.2.1
    refine And.intro hix ?_
    have hR3 : RG E kn tx σ0 (kad (upS σ 9 0 8 (σ 14 0 (σ 9 0 8).toNat)) (σ 12 0 (σ 9 0 8).toNat) (σ 13 0 (σ 9 0 8).toNat) (σ 9 0 7)) tp p g c (q ++ [(v, z, p)]) ν n := by
      rw [x2, x3, hp]
      exact hR2.addK
    refine call_eq (fun F hF => tw_Kept_add (σ := upS σ 9 0 8 (σ 14 0 (σ 9 0 8).toNat)) (v := σ 12 0 (σ 9 0 8).toNat) (f := σ 13 0 (σ 9 0 8).toNat) (u := σ 9 0 7) (by rw [hR2.2.2.2.2.2.2.2.1]; omega) hF) ?_
    exact And.intro (Or.inr rfl) (hF 1 _ (Or.inl ⟨rfl, f, tp, p, g, c, _, ν, n, by omega, hrun, hR3, hI2⟩))
  · have hI2 := hI.told (by omega) (by omega)
    obtain ⟨hw2, hv, hz, hI2⟩ := hI2
    have hw : w = 0 := by omega
    subst hw
    refine swt_in (t := 87) (show lkI _ (σ 11 0 (σ 9 0 8).toNat) = some 87 by rw [x1]; rfl) ?_
    obtain ⟨f, rfl, hrun⟩ := runG hrun
    have hrun : runA E f (GS p g c q (upN ν v (((esb E).drop z).take (p - z))) n) = some (o, y) := hrun
    have hS := hR2.1.sub
    have hpl : p ≤ (esb E).length := hI.1
    have hS64 := hS.2
    have e : (if (σ 12 0 (σ 9 0 8).toNat).toNat < 8 then some (1, 3 + (σ 12 0 (σ 9 0 8).toNat).toNat) else none) = some (1, 3 + v) := by rw [x2, Int.toNat_natCast, if_pos hv]
    refine And.intro (by show 0 ≤ σ 12 0 (σ 9 0 8).toNat ∧ σ 12 0 (σ 9 0 8).toNat < 8; rw [x2]; omega) ?_
    refine And.intro hix ?_
    have hset := part_set (v := v) hS.1 hz hpl
    have hR3 := hR2.set hv (by simp; omega) hset
    refine call_any (Y := fun v0 s' => v0 = none ∧ ∃ σ', s' = (nx, σ', rX kn tx) ∧ RG E kn tx σ0 σ' tp p g c q (upN ν v (((esb E).drop z).take (p - z))) n) ?_ ?_
    · show vT 1 (T_Text_part SL xs) [.inr (if (σ 12 0 (σ 9 0 8).toNat).toNat < 8 then some (1, 3 + (σ 12 0 (σ 9 0 8).toNat).toNat) else none), .inr (some (2, 2)), .inl (σ 13 0 (σ 9 0 8).toNat), .inl (σ 9 0 7)] (nx, upS σ 9 0 8 (σ 14 0 (σ 9 0 8).toNat), rX kn tx) _
      rw [e, x3, hp]
      exact tw_Text_part (t := 3 + v) (b0 := 2) (f := (z : Int)) (u := (p : Int)) ⟨by omega, by omega, by omega⟩ ⟨rfl, _, rfl, hR3⟩
    · intro v0 s' hv0
      obtain ⟨rfl, σ', rfl, hg⟩ := hv0
      exact And.intro (Or.inr rfl) (hF 1 _ (Or.inl ⟨rfl, f, tp, p, g, c, q, _, n, by omega, hrun, hg, hI2⟩))
/-- how a match from one place on ends -/
def Fend (E : Ev) (kn : Nat → Option Nat) (tx : Nat → Bool) (σ0 : Sg) (o : Nat) (y : As) (σ' : Sg) : Prop :=
  (o = 1 ∧ ∃ tp p c q ν n, y = GS p [] c q ν n ∧ RG E kn tx σ0 σ' tp p [] c q ν n ∧ IG E p [] c q n) ∨ (¬ o = 1 ∧ RB E kn tx σ0 σ' (yν y) (yn y))
theorem lp_from {at_ nd : Int} (hF : ∀ σ', Fend E kn tx σ0 o y σ' → F (some (.inl o)) (nx, σ', rX kn tx)) : ∀ (f : Nat) (σ : Sg) (tp p : Nat) (g : List Gl) (c : List Ch) (q : List Kp) (ν : Nu) (n : Nat), RG E kn tx σ0 σ tp p g c q ν n → IG E p g c q n → runA E f (GS p g c q ν n) = some (o, y) → σ 9 0 9 = 1 →
    Xz SL xs (m_Matcher_from SL xs) F (49, [some (.inr (some (9, 0))), some (.inl at_), some (.inl nd)], [], (nx, σ, rX kn tx), 0, 0) := by
  intro f
  induction f using Nat.strongRecOn with
  | _ f ih =>
    intro σ tp p g c q ν n hR hI hrun h1
    cases g with
    | nil =>
      have hg : σ 9 0 8 = -1 := hR.2.2.1
      obtain ⟨f, rfl, hrun⟩ := runG hrun
      cases hrun
      refine run 20 ?_
      refine And.intro (fun h => ?_) (fun h => absurd (show σ 9 0 8 = -1 from hg) h)
      have K := hF σ (Or.inl ⟨rfl, tp, p, c, q, ν, n, rfl, hR, hI⟩)
      rw [show ((1 : Nat) : Int) = σ 9 0 9 from h1.symm] at K
      exact K
    | cons x g =>
      obtain ⟨i, hg, hi, -⟩ := hR.2.2.1
      refine run 20 ?_
      refine And.intro (fun h => absurd (show σ 9 0 8 = -1 from h) (by rw [hg]; omega)) (fun h => ?_)
      refine call_any (Y := fun v s' => ∃ r0 σ', v = some (.inl r0) ∧ s' = (nx, σ', rX kn tx) ∧ Gon E kn tx σ0 f o y r0 σ') (tw_works hR hI hrun (fun r0 σ' hg => ⟨r0, σ', rfl, rfl, hg⟩)) ?_
      intro v s' hv
      obtain ⟨r0, σ', rfl, rfl, hg⟩ := hv
      rcases hg with ⟨rfl, f', tp', p', g', c', q', ν', n', hf', hrun', hR', hI'⟩ | ⟨rfl, ho, h9, hB⟩
      · refine And.intro (fun h => absurd (show (1 : Int) = 0 from h) (by omega)) (fun h => ?_)
        have K := ih f' hf' (upS σ' 9 0 9 1) tp' p' g' c' q' ν' n' hR'.res hI' hrun' upS_same
        exact leaf (by first | exact run 1 K | exact run 2 K | exact run 3 K | exact run 4 K)
      · refine And.intro (fun h => ?_) (fun h => absurd (show (0 : Int) = 0 from rfl) h)
        have K := hF σ' (Or.inr ⟨ho, hB⟩)
        rw [← h9] at K
        exact K
theorem upS_comm {f : Sg} {a b j a' b' j' : Nat} {v w : Int} (h : ¬ (a = a' ∧ b = b' ∧ j = j')) : upS (upS f a b j v) a' b' j' w = upS (upS f a' b' j' w) a b j v := by
  funext x1 x2 x3
  by_cases h1 : x1 = a ∧ x2 = b ∧ x3 = j
  · obtain ⟨rfl, rfl, rfl⟩ := h1
    rw [upS_ne h, upS_same, upS_same]
  · rw [upS_ne h1]
    by_cases h2 : x1 = a' ∧ x2 = b' ∧ x3 = j'
    · obtain ⟨rfl, rfl, rfl⟩ := h2
      rw [upS_same, upS_same]
    · rw [upS_ne h2, upS_ne h2, upS_ne h1]
theorem gad_comm {w a f x z : Int} : gad (upS σ 9 0 8 z) w a f x = upS (gad σ w a f x) 9 0 8 z := by
  simp only [gad, gadW]
  rw [upS_ne (f := σ) (by omega)]
  rw [upS_comm (a := 9) (by omega), upS_comm (a := 9) (by omega), upS_comm (a := 9) (by omega), upS_comm (a := 9) (by omega), upS_comm (a := 9) (by omega)]
theorem runA_n : ∀ (f : Nat) (x y : As) (o : Nat), yn x ≤ 3000 → runA E f x = some (o, y) → yn y ≤ 3000
  | 0, x, y, o, _, h => by cases h
  | f + 1, x, y, o, hx, h => by
    have key : (∀ z, astep E x = .inl z → yn z ≤ 3000) ∧ (∀ o z, astep E x = .inr (o, z) → yn z ≤ 3000) := by
      obtain ⟨m, k, p, g, c, q, ν, n⟩ := x
      have hx : n ≤ 3000 := hx
      rcases m with _ | _ | m
      · show (∀ z, stepB E k p g c q ν n = .inl z → yn z ≤ 3000) ∧ (∀ o z, stepB E k p g c q ν n = .inr (o, z) → yn z ≤ 3000)
        unfold stepB
        constructor
        · intro z hz
          split at hz
          all_goals first
            | (cases hz; exact hx)
            | (cases hz; done)
            | (split at hz <;> first | (cases hz; exact hx) | (cases hz; done))
        · intro o z hz
          split at hz
          all_goals first
            | (cases hz; exact hx)
            | (cases hz; done)
            | (split at hz <;> first | (cases hz; done) | (cases hz; exact hx))
      · show (∀ z, stepK E c ν n = .inl z → yn z ≤ 3000) ∧ (∀ o z, stepK E c ν n = .inr (o, z) → yn z ≤ 3000)
        unfold stepK
        constructor
        · intro z hz
          split at hz
          all_goals first
            | (cases hz; exact hx)
            | (cases hz; done)
            | (split at hz <;> first | (cases hz; exact hx) | (cases hz; done))
        · intro o z hz
          split at hz
          all_goals first
            | (cases hz; exact hx)
            | (cases hz; done)
            | (split at hz <;> first | (cases hz; done) | (cases hz; exact hx))
      · show (∀ z, stepG E p g c q ν n = .inl z → yn z ≤ 3000) ∧ (∀ o z, stepG E p g c q ν n = .inr (o, z) → yn z ≤ 3000)
        unfold stepG
        constructor
        · intro z hz
          split at hz
          all_goals first
            | (cases hz; exact hx)
            | (cases hz; done)
            | (split at hz <;> first | (cases hz; done) | (cases hz; show n + 1 ≤ 3000; omega))
        · intro o z hz
          split at hz
          all_goals first
            | (cases hz; exact hx)
            | (cases hz; done)
            | (split at hz <;> first | (cases hz; exact hx) | (cases hz; done))
    simp only [runA] at h
    split at h
    · rename_i z hz
      exact runA_n f z y o (key.1 z hz) h
    · rename_i z hz
      cases h
      exact key.2 o y hz
theorem RB.begin (hB : RB E kn tx σ0 σ ν n) (hp : p ≤ (esb E).length) (hk : k < ect E) (hn : n ≤ 3000) : RG E kn tx σ0 (upS (upS (gad (upS (upS (upS (upS σ 10 0 4 0) 15 0 6 0) 22 0 3 0) 9 0 7 p) (0 : Nat) k (0 : Nat) (-1)) 9 0 8 0) 9 0 9 1) 1 p [(0, k, 0)] [] [] ν n ∧ IG E p [(0, k, 0)] [] [] n := by
  have hB2 := ((((hB.up (a := 10) (j := 4) (v := 0) (by omega) (by omega) (by omega)).up (a := 15) (j := 6) (v := 0) (by omega) (by omega) (by omega)).up (a := 22) (j := 3) (v := 0) (by omega) (by omega) (by omega)).up (a := 9) (j := 7) (v := p) (by omega) (by omega) (by omega)).up (a := 9) (j := 8) (v := -1) (by omega) (by omega) (by omega)
  have hR : RG E kn tx σ0 (upS (upS (upS (upS (upS σ 10 0 4 0) 15 0 6 0) 22 0 3 0) 9 0 7 p) 9 0 8 (-1)) 0 p [] [] [] ν n := by
    refine ⟨hB2, ?_, ?_, ?_, by omega, ?_, trivial, ?_, fun i hi => by simp at hi⟩
    · rw [upS_ne (by omega), upS_same]
    · rw [upS_same]; rfl
    · rw [upS_ne (by omega), upS_ne (by omega), upS_ne (by omega), upS_ne (by omega), upS_same]; rfl
    · rw [upS_ne (by omega), upS_ne (by omega), upS_ne (by omega), upS_same]; rfl
    · rw [upS_ne (by omega), upS_ne (by omega), upS_same]; rfl
  obtain ⟨hR1, hx⟩ := hR.addG (w := 0) (a := k) (f := 0) (x := -1) (g' := []) rfl (by omega)
  have hR2 := (hR1.goal hx).res (x := 1)
  rw [gad_comm, upS_upS] at hR2
  refine ⟨hR2, hp, Nat.zero_le _, fun x hx => ?_, trivial, Nat.zero_le _, by simp [kcn], hn, fun x hx => by cases hx⟩
  rw [List.mem_singleton] at hx
  subst hx
  exact Or.inl ⟨rfl, hk⟩
theorem tw_from (hB : RB E kn tx σ0 σ ν n) (hp : p ≤ (esb E).length) (hk : k < ect E) (hn : n ≤ 3000) (hrun : runA E f (GS p [(0, k, 0)] [] [] ν n) = some (o, y)) (hF : ∀ σ', Fend E kn tx σ0 o y σ' → F (some (.inl o)) (nx, σ', rX kn tx)) : T_Matcher_from SL xs [.inr (some (9, 0)), .inl p, .inl k] (nx, σ, rX kn tx) F := by
  obtain ⟨hR, hI⟩ := hB.begin hp hk hn
  have K := lp_from (SL := SL) (xs := xs) (nx := nx) (F := F) (at_ := p) (nd := k) hF f _ _ _ _ _ _ _ _ hR hI hrun upS_same
  have et : upS (upS (upS (upS σ 10 0 4 0) 15 0 6 0) 22 0 3 0) 9 0 7 p 10 0 4 = 0 := by rw [upS_ne (by omega), upS_ne (by omega), upS_ne (by omega), upS_same]
  refine run 40 ?_
  refine call_eq (v0 := some (.inl 0)) (s0 := (nx, gad (upS (upS (upS (upS σ 10 0 4 0) 15 0 6 0) 22 0 3 0) 9 0 7 p) (0 : Nat) k (0 : Nat) (-1), rX kn tx)) (fun F hF => tw_Goals_add (w := 0) (σ := upS (upS (upS (upS σ 10 0 4 0) 15 0 6 0) 22 0 3 0) 9 0 7 p) (a := (k : Int)) (f := 0) (g := -1) (by rw [et]; omega) (by omega) (by rw [et]; exact hF)) ?_
  exact leaf (by first | exact run 1 K | exact run 2 K | exact run 3 K | exact run 4 K | exact run 5 K)
end
