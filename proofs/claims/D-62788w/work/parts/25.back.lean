/-! The component goes back, goes on -/
def lkI : List (Int × Nat) → Int → Option Nat
  | [], _ => none
  | q :: r, x => if x = q.1 then some q.2 else lkI r x
theorem swt_in {x : Int} {P : Nat → Prop} {d t : Nat} : ∀ {l : List (Int × Nat)}, lkI l x = some t → P t → swt x P d l
  | [], h, _ => by cases h
  | q :: r, h, hP => by
    simp only [lkI] at h
    refine ⟨fun e => ?_, fun e => ?_⟩
    · rw [if_pos e] at h
      cases h
      exact hP
    · rw [if_neg e] at h
      exact swt_in h hP
theorem swt_out {x : Int} {P : Nat → Prop} {d : Nat} : ∀ {l : List (Int × Nat)}, lkI l x = none → P d → swt x P d l
  | [], _, hP => hP
  | q :: r, h, hP => by
    simp only [lkI] at h
    refine ⟨fun e => ?_, fun e => ?_⟩
    · rw [if_pos e] at h
      cases h
    · rw [if_neg e] at h
      exact swt_out h hP
def yν (y : As) : Nu := y.2.2.2.2.2.2.1
def yn (y : As) : Nat := y.2.2.2.2.2.2.2
/-- behind a step: on, or at an end -/
def Gon (E : Ev) (kn : Nat → Option Nat) (tx : Nat → Bool) (σ0 : Sg) (f o : Nat) (y : As) (r : Int) (σ' : Sg) : Prop :=
  (r = 1 ∧ ∃ f' tp p g c q ν n, f' < f ∧ runA E f' (GS p g c q ν n) = some (o, y) ∧ RG E kn tx σ0 σ' tp p g c q ν n ∧ IG E p g c q n) ∨ (r = 0 ∧ ¬ o = 1 ∧ σ' 9 0 9 = o ∧ RB E kn tx σ0 σ' (yν y) (yn y))
section
variable {SL : Nat} {xs : Nat → Int} {nx : Nat} {σ σ0 : Sg} {kn : Nat → Option Nat} {tx : Nat → Bool} {F : Option Av → St → Prop} {E : Ev} {ν : Nu} {n o : Nat} {y : As}
theorem Gon.mono {f f' : Nat} {r : Int} {σ' : Sg} (h : f ≤ f') (hg : Gon E kn tx σ0 f o y r σ') : Gon E kn tx σ0 f' o y r σ' := by
  rcases hg with ⟨h1, f2, tp, p, g, c, q, ν, n, h2, h3⟩ | h1
  · exact Or.inl ⟨h1, f2, tp, p, g, c, q, ν, n, by omega, h3⟩
  · exact Or.inr h1
theorem runK {E : Ev} {f o : Nat} {c : List Ch} {ν : Nu} {n : Nat} {y : As} (h : runA E f (KS c ν n) = some (o, y)) : ∃ f', f = f' + 1 ∧ (match stepK E c ν n with | .inl z => runA E f' z | .inr z => some z) = some (o, y) := by
  cases f with
  | zero => cases h
  | succ f' => exact ⟨f', rfl, h⟩
theorem runB {E : Ev} {f o k p : Nat} {g : List Gl} {c : List Ch} {q : List Kp} {ν : Nu} {n : Nat} {y : As} (h : runA E f (BS k p g c q ν n) = some (o, y)) : ∃ f', f = f' + 1 ∧ (match stepB E k p g c q ν n with | .inl z => runA E f' z | .inr z => some z) = some (o, y) := by
  cases f with
  | zero => cases h
  | succ f' => exact ⟨f', rfl, h⟩
theorem runG {E : Ev} {f o p : Nat} {g : List Gl} {c : List Ch} {q : List Kp} {ν : Nu} {n : Nat} {y : As} (h : runA E f (GS p g c q ν n) = some (o, y)) : ∃ f', f = f' + 1 ∧ (match stepG E p g c q ν n with | .inl z => runA E f' z | .inr z => some z) = some (o, y) := by
  cases f with
  | zero => cases h
  | succ f' => exact ⟨f', rfl, h⟩
theorem tw_back : ∀ (c : List Ch) (d : Nat) (σ : Sg) (f : Nat) (F : Option Av → St → Prop), bcn c < d → RK E kn tx σ0 σ c ν n → IK E c n → runA E f (KS c ν n) = some (o, y) → (∀ r σ', Gon E kn tx σ0 f o y r σ' → F (some (.inl r)) (nx, σ', rX kn tx)) → T_Matcher_back SL xs d [.inr (some (9, 0))] (nx, σ, rX kn tx) F
  | [], d, σ, f, F, hd, hR, hI, hrun, hF => by
    obtain ⟨f', rfl, hrun⟩ := runK hrun
    cases hrun
    obtain ⟨d, rfl⟩ : ∃ d', d = d' + 1 := ⟨d - 1, by omega⟩
    refine run 20 ?_
    refine And.intro (fun h => absurd (show σ 15 0 6 = 0 from hR.2.1) h) (fun h => ?_)
    exact And.intro (Or.inl rfl) (hF 0 (upS σ 9 0 9 0) (Or.inr ⟨rfl, by omega, upS_same, hR.1.up (by omega) (by omega) (by omega)⟩))
  | x :: r, d, σ, f, F, hd, hR, hI, hrun, hF => by
    obtain ⟨f', rfl, hrun⟩ := runK hrun
    obtain ⟨d, rfl⟩ : ∃ d', d = d' + 1 := ⟨d - 1, by omega⟩
    have hlen : σ 15 0 6 = ((r.length + 1 : Nat) : Int) := hR.2.1
    have hcl : r.length + 1 ≤ 3000 := by
      have := hI.2.1
      have := hI.2.2
      simp at *
      omega
    have ew : wr (σ 15 0 6 - 1) = (r.length : Int) := by rw [hlen, wr_eq ⟨by omega, by omega⟩]; omega
    have hidx : 0 ≤ wr (σ 15 0 6 - 1) ∧ wr (σ 15 0 6 - 1) < 4096 := by rw [ew]; omega
    obtain ⟨tp, hG⟩ := hR.pop
    obtain ⟨hIG, hIr⟩ := hI.pop
    obtain ⟨hw3, -⟩ := hI.1
    have hkind : σ 16 0 (wr (σ 15 0 6 - 1)).toNat = x.1 := by
      rw [ew, Int.toNat_natCast]
      obtain ⟨tp', kl, -, q1, -⟩ := hR.2.2
      exact q1
    have hdep : σ 21 0 (wr (σ 15 0 6 - 1)).toNat = 0 := by
      rw [ew, Int.toNat_natCast]
      obtain ⟨tp', kl, -, -, -, q1, -⟩ := hR.2.2
      exact q1
    have hS := hG.1.sub
    have hct : 0 ≤ bkS σ (wr (σ 15 0 6 - 1)) 15 0 6 ∧ bkS σ (wr (σ 15 0 6 - 1)) 15 0 6 < 4096 := by
      rw [ew, hG.2.2.2.2.2.1]
      omega
    rw [← ew] at hG
    refine run 60 ?_
    refine And.intro (fun h => ?_) (fun h => absurd (Classical.not_not.mp h) (show ¬ σ 15 0 6 = 0 by rw [hlen]; omega))
    refine And.intro hidx ?_
    refine And.intro hidx ?_
    refine And.intro hidx ?_
    refine And.intro hidx ?_
    refine And.intro hidx ?_
    obtain ⟨w, p, g, q⟩ := x
    simp only at hw3 hkind hG hIG
    rcases w with _ | _ | _ | w
    · refine swt_out (show lkI _ (σ 16 0 (wr (σ 15 0 6 - 1)).toNat) = none by rw [hkind]; rfl) ?_
      exact And.intro (Or.inr rfl) (hF 1 (bkS σ (wr (σ 15 0 6 - 1))) (Or.inl ⟨rfl, f', tp, p, g, r, q, ν, n, by omega, hrun, hG, hIG⟩))
    · refine swt_in (t := 123) (show lkI _ (σ 16 0 (wr (σ 15 0 6 - 1)).toNat) = some 123 by rw [hkind]; rfl) ?_
      refine call_any (Y := fun v s' => v = none ∧ ∃ σ', s' = (nx, σ', rX kn tx) ∧ Gon E kn tx σ0 (f' + 1) o y 1 σ') (tw_Matcher_further (σ := bkS σ (wr (σ 15 0 6 - 1))) hG.2.1 hS.1.1 hS.2 (by have := hIG.1; have := hS.2; omega) hct (fun h => ⟨rfl, _, rfl, ?_⟩) (fun h => ⟨rfl, _, rfl, ?_⟩)) ?_
      · have hlt : p < (esb E).length := hI.1.2.2.1 rfl
        have hrun : runA E f' (GS (p + 1) g (if p + 1 < (esb E).length then (1, p + 1, g, q) :: r else r) q ν n) = some (o, y) := hrun
        rw [if_pos h] at hrun
        have hG2 := (hG.place (p' := p + 1)).addC (w := 1) (pc := p + 1) (hG.place (p' := p + 1)).2.2.1
        rw [upS_ne (by omega)] at hG2
        exact Or.inl ⟨rfl, f', tp, p + 1, g, _, q, ν, n, by omega, hrun, hG2, (hI.put (w := 1) (p' := p + 1) (by omega) (by simp) (by omega) (fun _ => h)).1⟩
      · have hlt : p < (esb E).length := hI.1.2.2.1 rfl
        have hrun : runA E f' (GS (p + 1) g (if p + 1 < (esb E).length then (1, p + 1, g, q) :: r else r) q ν n) = some (o, y) := hrun
        rw [if_neg h] at hrun
        exact Or.inl ⟨rfl, f', tp, p + 1, g, _, q, ν, n, by omega, hrun, hG.place, (hI.put (w := 0) (p' := p + 1) (by omega) (by simp) (by omega) (fun h => by cases h)).2⟩
      · intro v s' hv
        obtain ⟨rfl, σ', rfl, hg⟩ := hv
        exact And.intro (Or.inr rfl) (hF 1 σ' hg)
    · refine swt_in (t := 129) (show lkI _ (σ 16 0 (wr (σ 15 0 6 - 1)).toNat) = some 129 by rw [hkind]; rfl) ?_
      refine And.intro hidx ?_
      have hbp : p ≤ (esb E).length := hIG.1
      have hrun : (match (match balN (esb E) p with | some p' => Sum.inl (GS p' g ((2, p', g, q) :: r) q ν n) | none => Sum.inl (KS r ν n) : As ⊕ (Nat × As)) with | .inl z => runA E f' z | .inr z => some z) = some (o, y) := hrun
      refine call_any (Y := fun v s' => (v = some (.inl 1) ∧ ∃ σ', s' = (nx, σ', rX kn tx) ∧ Gon E kn tx σ0 (f' + 1) o y 1 σ') ∨ (v = some (.inl 0) ∧ ∃ σ', s' = (nx, σ', rX kn tx) ∧ RK E kn tx σ0 σ' r ν n ∧ runA E f' (KS r ν n) = some (o, y))) ?_ ?_
      · have K := tw_Matcher_balances (SL := SL) (xs := xs) (nx := nx) (σ := bkS σ (wr (σ 15 0 6 - 1))) (kn := kn) (tx := tx) (F := fun v s' => (v = some (.inl 1) ∧ ∃ σ', s' = (nx, σ', rX kn tx) ∧ Gon E kn tx σ0 (f' + 1) o y 1 σ') ∨ (v = some (.inl 0) ∧ ∃ σ', s' = (nx, σ', rX kn tx) ∧ RK E kn tx σ0 σ' r ν n ∧ runA E f' (KS r ν n) = some (o, y))) hS.1 hS.2 hct hG.2.1 hbp (fun p' hp' => Or.inl ⟨rfl, _, rfl, ?_⟩) (fun h p' => Or.inr ⟨rfl, _, rfl, ?_, ?_⟩)
        · have e0 : (bkS σ (wr (σ 15 0 6 - 1))) 21 0 (wr (σ 15 0 6 - 1)).toNat = 0 := hdep
          have K2 : T_Matcher_balances SL xs [.inr (some (9, 0)), .inl ((bkS σ (wr (σ 15 0 6 - 1))) 21 0 (wr (σ 15 0 6 - 1)).toNat)] (nx, bkS σ (wr (σ 15 0 6 - 1)), rX kn tx) (fun v s' => (v = some (.inl 1) ∧ ∃ σ', s' = (nx, σ', rX kn tx) ∧ Gon E kn tx σ0 (f' + 1) o y 1 σ') ∨ (v = some (.inl 0) ∧ ∃ σ', s' = (nx, σ', rX kn tx) ∧ RK E kn tx σ0 σ' r ν n ∧ runA E f' (KS r ν n) = some (o, y))) := by
            rw [e0]
            exact K
          exact K2
        · have hb := balN_bd hbp hp'
          rw [hp'] at hrun
          have hG2 := (hG.place (p' := p')).addC (w := 2) (pc := p') (hG.place (p' := p')).2.2.1
          rw [upS_ne (by omega)] at hG2
          exact Or.inl ⟨rfl, f', tp, p', g, _, q, ν, n, by omega, hrun, hG2, (hI.put (w := 2) (p' := p') (by omega) (by simp only; omega) hb.2 (fun h => by cases h)).1⟩
        · exact hG.back.up (Or.inl rfl) (by omega)
        · rw [h] at hrun
          exact hrun
      · intro v s' hv
        rcases hv with ⟨rfl, σ', rfl, hg⟩ | ⟨rfl, σ', rfl, hRr, hr2⟩
        · refine And.intro (fun h => ?_) (fun h => absurd (show ¬ (1 : Int) = 0 by omega) h)
          exact And.intro (Or.inr rfl) (hF 1 σ' hg)
        · refine And.intro (fun h => absurd (show (0 : Int) = 0 from rfl) h) (fun h => ?_)
          have hd2 : bcn r < d := by
            simp only [bcn] at hd
            simp at hd
            omega
          refine call_any (Y := fun v s' => ∃ r0 σ', v = some (.inl r0) ∧ s' = (nx, σ', rX kn tx) ∧ Gon E kn tx σ0 (f' + 1) o y r0 σ') (tw_back r d σ' f' _ hd2 hRr hIr hr2 (fun r0 σ'' hg => ⟨r0, σ'', rfl, rfl, hg.mono (by omega)⟩)) ?_
          intro v s' hv
          obtain ⟨r0, σ'', rfl, rfl, hg⟩ := hv
          have hr01 : r0 = 1 ∨ r0 = 0 := by
            rcases hg with h | h
            · exact Or.inl h.1
            · exact Or.inr h.1
          rcases hr01 with rfl | rfl
          · refine And.intro (fun h => absurd (show (1 : Int) = 0 from h) (by omega)) (fun h => ?_)
            exact And.intro (Or.inr rfl) (hF 1 σ'' hg)
          · refine And.intro (fun h => ?_) (fun h => absurd (show (0 : Int) = 0 from rfl) h)
            exact And.intro (Or.inl rfl) (hF 0 σ'' hg)
    · have hw : w = 0 := by omega
      subst hw
      refine swt_in (t := 116) (show lkI _ (σ 16 0 (wr (σ 15 0 6 - 1)).toNat) = some 116 by rw [hkind]; rfl) ?_
      cases hrun
      exact And.intro (Or.inl rfl) (hF 0 (upS (bkS σ (wr (σ 15 0 6 - 1))) 9 0 9 2) (Or.inr ⟨rfl, by omega, upS_same, hG.1.up (by omega) (by omega) (by omega)⟩))
end
