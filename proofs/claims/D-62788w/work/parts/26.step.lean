/-! The component: one node, one goal, a match from one place on -/
section
variable {SL : Nat} {xs : Nat → Int} {nx : Nat} {σ σ0 : Sg} {kn : Nat → Option Nat} {tx : Nat → Bool} {F : Option Av → St → Prop} {E : Ev} {ν : Nu} {n o k p tp f : Nat} {g : List Gl} {c : List Ch} {q : List Kp} {y : As}
theorem IB.len (h : IB E k p g c q n) (hE : (esb E).length ≤ 64) : p ≤ 64 ∧ bcn c < 70 := by
  obtain ⟨h0, h1, h2, -⟩ := h
  omega
def aft (E : Ev) (f : Nat) (g : List Gl) (c : List Ch) (q : List Kp) (ν : Nu) (n : Nat) : Option Nat → Option (Nat × As)
  | some p' => runA E f (GS p' g c q ν n)
  | none => runA E f (KS c ν n)
theorem tw_goes {w to : Int} {r : Option Nat} (hR : RG E kn tx σ0 σ tp p g c q ν n) (hI : IB E k p g c q n) (hr : ∀ p', r = some p' → p ≤ p' ∧ p' ≤ (esb E).length ∧ to = p' ∧ w = 1) (hw : r = none → w = 0)
    (hrun : aft E f g c q ν n r = some (o, y)) (hF : ∀ r σ', Gon E kn tx σ0 (f + 1) o y r σ' → F (some (.inl r)) (nx, σ', rX kn tx)) :
    T_Matcher_goes SL xs [.inr (some (9, 0)), .inl w, .inl to] (nx, σ, rX kn tx) F := by
  have hb := hI.len hR.1.sub.2
  cases r with
  | some p' =>
    obtain ⟨h1, h2, rfl, rfl⟩ := hr p' rfl
    refine run 20 ?_
    refine And.intro (fun h => ?_) (fun h => absurd (show ¬ (1 : Int) = 0 by omega) h)
    exact And.intro (Or.inr rfl) (hF 1 _ (Or.inl ⟨rfl, f, tp, p', g, c, q, ν, n, by omega, hrun, hR.place, hI.go h1 h2 (fun x hx => Or.inl hx) (by omega)⟩))
  | none =>
    have hw := hw rfl
    subst hw
    refine run 20 ?_
    refine And.intro (fun h => absurd (show (0 : Int) = 0 from rfl) h) (fun h => ?_)
    refine call_any (Y := fun v s' => ∃ r0 σ', v = some (.inl r0) ∧ s' = (nx, σ', rX kn tx) ∧ Gon E kn tx σ0 (f + 1) o y r0 σ') (tw_back c 70 σ f _ hb.2 hR.back hI.back hrun (fun r0 σ'' hg => ⟨r0, σ'', rfl, rfl, hg.mono (by omega)⟩)) ?_
    intro v s' hv
    obtain ⟨r0, σ'', rfl, rfl, hg⟩ := hv
    have hr01 : r0 = 0 ∨ r0 = 1 := by
      rcases hg with h | h
      · exact Or.inr h.1
      · exact Or.inl h.1
    exact And.intro hr01 (hF r0 σ'' hg)
def cmL : List (Int × Nat) := [(11, 80), (12, 110), (13, 375), (14, 131), (15, 147), (16, 154), (17, 194), (18, 224), (19, 272), (20, 272), (21, 324), (22, 375), (23, 339)]
abbrev cmX (SL : Nat) (xs : Nat → Int) (F : Option Av → St → Prop) (pc : Nat) (k a b : Int) (s : St) : Prop := Xz SL xs (m_Matcher_composes SL xs) F (pc, [some (.inr (some (9, 0))), some (.inl k), some (.inl a), some (.inl b), none], [], s, 0, 0)
theorem cm_sw {t kd : Nat} {a b : Int} (hk : k < 64) (hn : kn k = some kd) (h : lkI cmL (kd : Int) = some t) (K : cmX SL xs F t k a b (nx, σ, rX kn tx)) : T_Matcher_composes SL xs [.inr (some (9, 0)), .inl k, .inl a, .inl b] (nx, σ, rX kn tx) F := by
  refine run 7 ?_
  refine And.intro ⟨show (0 : Int) ≤ (k : Int) by omega, show (k : Int) < 64 by omega⟩ ?_
  refine call_eq (v0 := some (.inl (kd : Int))) (s0 := (nx, σ, rX kn tx)) (fun F hF => ?_) ?_
  · show vT 8 (T_Enum_ordinal SL xs) [.inr ((kn (k : Int).toNat).map (fun k => (45, k)))] (nx, σ, rX kn tx) F
    rw [Int.toNat_natCast, hn]
    exact tw_Enum_ordinal hF
  · refine swt_in (t := t) (show lkI _ (kd : Int) = some t from h) ?_
    exact K
theorem cm_11 {a b : Int} (hk : ekd E k = 11) (hR : RG E kn tx σ0 σ tp p g c q ν n) (hI : IB E k p g c q n) (hrun : runA E (f + 1) (BS k p g c q ν n) = some (o, y)) (hF : ∀ r σ', Gon E kn tx σ0 (f + 1) o y r σ' → F (some (.inl r)) (nx, σ', rX kn tx)) : cmX SL xs F 80 k a b (nx, σ, rX kn tx) := by
  have hrun : runA E f (GS p g (if p < (esb E).length then (1, p, g, q) :: c else c) q ν n) = some (o, y) := by
    rw [runA_B] at hrun
    simp only [stepB, hk] at hrun
    exact hrun
  have hS := hR.1.sub
  have hl : σ 1 2 1 = (esb E).length := hS.1.1
  have hp : σ 9 0 7 = p := hR.2.1
  have hc : σ 15 0 6 = c.length := hR.2.2.2.2.2.1
  have hcl := hI.back.2
  refine run 40 ?_
  refine And.intro (fun h => ?_) (fun h => ?_)
  · have h : σ 1 2 1 ≤ σ 9 0 7 := h
    rw [hl, hp] at h
    rw [if_neg (by omega)] at hrun
    exact And.intro (Or.inr rfl) (hF 1 _ (Or.inl ⟨rfl, f, tp, p, g, c, q, ν, n, by omega, hrun, hR, hI.go (Nat.le_refl _) hI.2.1 (fun x hx => Or.inl hx) (by omega)⟩))
  · have h : ¬ σ 1 2 1 ≤ σ 9 0 7 := h
    rw [hl, hp] at h
    rw [if_pos (by omega)] at hrun
    refine call_eq (fun F hF => tw_Matcher_choose (k := 1) (by rw [hc]; omega) (by omega) hF) ?_
    have hR2 : RG E kn tx σ0 (cad σ (1 : Nat) (σ 9 0 7) (σ 9 0 8)) tp p g ((1, p, g, q) :: c) q ν n := by
      rw [hp]
      exact hR.addC (w := 1) (pc := p) hR.2.2.1
    have hch := hI.ch (w := 1) (p' := p) (g' := g) (by omega) (Nat.le_refl _) hI.2.1 (fun _ => by omega) (fun h => by cases h) (fun x hx => Or.inl hx) (by omega)
    have hgo := hI.go (p' := p) (g' := g) (Nat.le_refl _) hI.2.1 (fun x hx => Or.inl hx) (by omega)
    exact And.intro (Or.inr rfl) (hF 1 _ (Or.inl ⟨rfl, f, tp, _, g, _, q, ν, n, by omega, hrun, hR2, ⟨hgo.1, hch.2.2, hgo.2.2.1, hch.1, hch.2.1, hgo.2.2.2.2.2⟩⟩))
theorem IB.gc {g1 g2 : List Gl} {w : Nat} (h : IB E k p g c q n) (hw : w = 0 ∨ w = 3) (h1 : ∀ x ∈ g1, x ∈ g ∨ wfg E p x) (h2 : kcn g1 ≤ kcn g + 1) (h3 : ∀ x ∈ g2, x ∈ g ∨ wfg E p x) (h4 : kcn g2 ≤ kcn g + 1) : IG E p g1 ((w, p, g2, q) :: c) q n := by
  have hch := h.ch (w := w) (p' := p) (g' := g2) (by omega) (Nat.le_refl _) h.2.1 (fun e => by omega) (fun e => by omega) h3 h4
  have hgo := h.go (p' := p) (g' := g1) (Nat.le_refl _) h.2.1 h1 h2
  exact ⟨hgo.1, hch.2.2, hgo.2.2.1, hch.1, hch.2.1, hgo.2.2.2.2.2⟩
/-- going back out of a node, at the end of a method -/
theorem cm_back (hR : RG E kn tx σ0 σ tp p g c q ν n) (hI : IB E k p g c q n) (hrun : runA E f (KS c ν n) = some (o, y)) (hF : ∀ r σ', Gon E kn tx σ0 (f + 1) o y r σ' → F (some (.inl r)) (nx, σ', rX kn tx)) : vT 3 (T_Matcher_back SL xs 70) [.inr (some (9, 0))] (nx, σ, rX kn tx) (fun v s' => ∃ r0 σ', (r0 = 0 ∨ r0 = 1) ∧ v = some (.inl r0) ∧ s' = (nx, σ', rX kn tx) ∧ Gon E kn tx σ0 (f + 1) o y r0 σ') := by
  refine tw_back c 70 σ f _ (hI.len hR.1.sub.2).2 hR.back hI.back hrun (fun r0 σ'' hg => ⟨r0, σ'', ?_, rfl, rfl, hg.mono (by omega)⟩)
  rcases hg with h | h
  · exact Or.inr h.1
  · exact Or.inl h.1
theorem cm_12 {a b : Int} (hk : ekd E k = 12) (hR : RG E kn tx σ0 σ tp p g c q ν n) (hI : IB E k p g c q n) (hrun : runA E (f + 1) (BS k p g c q ν n) = some (o, y)) (hF : ∀ r σ', Gon E kn tx σ0 (f + 1) o y r σ' → F (some (.inl r)) (nx, σ', rX kn tx)) : cmX SL xs F 110 k a b (nx, σ, rX kn tx) := by
  have hrun : (match balN (esb E) p with | some p' => runA E f (GS p' g ((2, p', g, q) :: c) q ν n) | none => runA E f (KS c ν n)) = some (o, y) := by
    rw [runA_B] at hrun
    simp only [stepB, hk] at hrun
    cases hb : balN (esb E) p with
    | some p' => rw [hb] at hrun; exact hrun
    | none => rw [hb] at hrun; exact hrun
  have hS := hR.1.sub
  have hp : σ 9 0 7 = p := hR.2.1
  have hc : σ 15 0 6 = c.length := hR.2.2.2.2.2.1
  have hcl := hI.back.2
  have hbp : p ≤ (esb E).length := hI.2.1
  refine run 40 ?_
  refine call_any (Y := fun v s' => (v = some (.inl 1) ∧ ∃ σ', s' = (nx, σ', rX kn tx) ∧ Gon E kn tx σ0 (f + 1) o y 1 σ') ∨ (v = some (.inl 0) ∧ ∃ σ', s' = (nx, σ', rX kn tx) ∧ RK E kn tx σ0 σ' c ν n ∧ runA E f (KS c ν n) = some (o, y))) (tw_Matcher_balances (S := esb E) (p := p) hS.1 hS.2 (by rw [hc]; omega) hp hbp (fun p' hp' => Or.inl ⟨rfl, _, rfl, ?_⟩) (fun h p' => Or.inr ⟨rfl, _, rfl, ?_, ?_⟩)) ?_
  · have hb := balN_bd hbp hp'
    rw [hp'] at hrun
    have hG2 := (hR.place (p' := p')).addC (w := 2) (pc := p') (hR.place (p' := p')).2.2.1
    rw [upS_ne (by omega)] at hG2
    have hch := hI.ch (w := 2) (p' := p') (g' := g) (by omega) (by omega) hb.2 (fun e => by omega) (fun e => by omega) (fun x hx => Or.inl hx) (by omega)
    have hgo := hI.go (p' := p') (g' := g) (by omega) hb.2 (fun x hx => Or.inl hx) (by omega)
    exact Or.inl ⟨rfl, f, tp, p', g, _, q, ν, n, by omega, hrun, hG2, ⟨hgo.1, hch.2.2, hgo.2.2.1, hch.1, hch.2.1, hgo.2.2.2.2.2⟩⟩
  · exact hR.back.up (Or.inl rfl) (by omega)
  · rw [h] at hrun
    exact hrun
  · intro v s' hv
    rcases hv with ⟨rfl, σ', rfl, hg⟩ | ⟨rfl, σ', rfl, hRr, hr2⟩
    · refine And.intro (fun h => ?_) (fun h => absurd (show ¬ (1 : Int) = 0 by omega) h)
      exact And.intro (Or.inr rfl) (hF 1 σ' hg)
    · refine And.intro (fun h => absurd (show (0 : Int) = 0 from rfl) h) (fun h => ?_)
      refine call_any (Y := fun v s' => ∃ r0 σ', v = some (.inl r0) ∧ s' = (nx, σ', rX kn tx) ∧ Gon E kn tx σ0 (f + 1) o y r0 σ') (tw_back c 70 σ' f _ (hI.len hS.2).2 hRr hI.back hr2 (fun r0 σ'' hg => ⟨r0, σ'', rfl, rfl, hg.mono (by omega)⟩)) ?_
      intro v s' hv
      obtain ⟨r0, σ'', rfl, rfl, hg⟩ := hv
      have hr01 : r0 = 1 ∨ r0 = 0 := by
        rcases hg with h | h
        · exact Or.inl h.1
        · exact Or.inr h.1
      rcases hr01 with rfl | rfl
      · refine And.intro (fun h => absurd (show (1 : Int) = 0 from h) (by omega)) (fun h => ?_)
        exact And.intro (Or.inr rfl) (hF 1 σ'' hg)
      · refine And.intro (fun h => ?_) (fun h => absurd (show (0 : Int) = 0 from rfl) h)
        exact And.intro (Or.inl rfl) (hF 0 σ'' hg)
theorem cm_14 {a b : Int} (hk : ekd E k = 14) (hR : RG E kn tx σ0 σ tp p g c q ν n) (hI : IB E k p g c q n) (hrun : runA E (f + 1) (BS k p g c q ν n) = some (o, y)) (hF : ∀ r σ', Gon E kn tx σ0 (f + 1) o y r σ' → F (some (.inl r)) (nx, σ', rX kn tx)) : cmX SL xs F 131 k a b (nx, σ, rX kn tx) := by
  have hrun : runA E f (GS p g ((3, p, g, q) :: c) q ν n) = some (o, y) := by
    rw [runA_B] at hrun
    simp only [stepB, hk] at hrun
    exact hrun
  have hp : σ 9 0 7 = p := hR.2.1
  have hc : σ 15 0 6 = c.length := hR.2.2.2.2.2.1
  have hcl := hI.back.2
  refine run 40 ?_
  refine call_eq (fun F hF => tw_Matcher_choose (k := 3) (by rw [hc]; omega) (by omega) hF) ?_
  have hR2 : RG E kn tx σ0 (cad σ (3 : Nat) (σ 9 0 7) (σ 9 0 8)) tp p g ((3, p, g, q) :: c) q ν n := by
    rw [hp]
    exact hR.addC (w := 3) (pc := p) hR.2.2.1
  exact And.intro (Or.inr rfl) (hF 1 _ (Or.inl ⟨rfl, f, tp, _, g, _, q, ν, n, by omega, hrun, hR2, hI.gc (Or.inr rfl) (fun x hx => Or.inl hx) (by omega) (fun x hx => Or.inl hx) (by omega)⟩))
theorem cm_15 {a b : Int} (hk : ekd E k = 15) (hR : RG E kn tx σ0 σ tp p g c q ν n) (hI : IB E k p g c q n) (hrun : runA E (f + 1) (BS k p g c q ν n) = some (o, y)) (hF : ∀ r σ', Gon E kn tx σ0 (f + 1) o y r σ' → F (some (.inl r)) (nx, σ', rX kn tx)) : cmX SL xs F 147 k a b (nx, σ, rX kn tx) := by
  rw [runA_B] at hrun
  simp only [stepB, hk] at hrun
  cases hrun
  refine run 40 ?_
  exact And.intro (Or.inl rfl) (hF 0 (upS σ 9 0 9 2) (Or.inr ⟨rfl, by omega, upS_same, hR.1.up (by omega) (by omega) (by omega)⟩))
theorem cm_16 {a : Nat} {b : Int} (hk : ekd E k = 16) (ha : efa E k = a) (ht : tp + 1 ≤ 2 * n) (hR : RG E kn tx σ0 σ tp p g c q ν n) (hI : IB E k p g c q n) (hrun : runA E (f + 1) (BS k p g c q ν n) = some (o, y)) (hF : ∀ r σ', Gon E kn tx σ0 (f + 1) o y r σ' → F (some (.inl r)) (nx, σ', rX kn tx)) : cmX SL xs F 154 k a b (nx, σ, rX kn tx) := by
  have hrun : runA E f (GS p g ((0, p, (0, a, 0) :: (0, k, 0) :: g, q) :: c) q ν n) = some (o, y) := by
    rw [runA_B] at hrun
    simp only [stepB, hk, ha] at hrun
    exact hrun
  have hae : a < ect E := by
    have := (hR.1.2.1.2.2 k hI.1).2.2.1 (by omega)
    omega
  have hp : σ 9 0 7 = p := hR.2.1
  have hcl := hI.back.2
  have htp : σ 10 0 4 = tp := hR.2.2.2.1
  have hn : n ≤ 3000 := hcl.2
  obtain ⟨hR1, hx1⟩ := hR.addG (w := 0) (a := k) (f := 0) hR.2.2.1 (by omega)
  have h1 : gad σ (0 : Nat) (k : Int) (0 : Nat) (σ 9 0 8) 10 0 4 = ((tp + 1 : Nat) : Int) := hR1.2.2.2.1
  rw [← htp] at hx1
  obtain ⟨hR2, hx2⟩ := hR1.addG (w := 0) (a := a) (f := 0) hx1 (by omega)
  have h3 : σ 15 0 6 = c.length := hR.2.2.2.2.2.1
  rw [← h1] at hx2
  have hR3 := hR2.addC (w := 0) (pc := p) hx2
  rw [← hp] at hR3
  refine run 40 ?_
  refine call_eq (fun F hF => tw_Goals_add (w := 0) (by rw [htp]; omega) (by omega) hF) ?_
  refine call_eq (fun F hF => tw_Goals_add (w := 0) (σ := gad σ (0 : Nat) (k : Int) (0 : Nat) (σ 9 0 8)) (a := (a : Int)) (f := 0) (g := σ 10 0 4) (by rw [h1]; omega) (by omega) hF) ?_
  refine call_eq (fun F hF => tw_Matcher_choose (k := 0) (σ := gad (gad σ (0 : Nat) (k : Int) (0 : Nat) (σ 9 0 8)) (0 : Nat) (a : Int) (0 : Nat) (σ 10 0 4)) (p := σ 9 0 7) (g := gad σ (0 : Nat) (k : Int) (0 : Nat) (σ 9 0 8) 10 0 4) (by rw [hR2.2.2.2.2.2.1]; omega) (by omega) hF) ?_
  exact And.intro (Or.inr rfl) (hF 1 _ (Or.inl ⟨rfl, f, tp + 1 + 1, _, g, _, q, ν, n, by omega, hrun, hR3, hI.gc (Or.inl rfl) (fun x hx => Or.inl hx) (by omega) (fun x hx => by
    rcases List.mem_cons.mp hx with rfl | hx
    · exact Or.inr (Or.inl ⟨rfl, hae⟩)
    · rcases List.mem_cons.mp hx with rfl | hx
      · exact Or.inr (Or.inl ⟨rfl, hI.1⟩)
      · exact Or.inl hx) (by simp [kcn])⟩))
theorem cm_17 {a b : Nat} (hk : ekd E k = 17) (ha : efa E k = a) (hb : efb E k = b) (ht : tp + 1 ≤ 2 * n) (hR : RG E kn tx σ0 σ tp p g c q ν n) (hI : IB E k p g c q n) (hrun : runA E (f + 1) (BS k p g c q ν n) = some (o, y)) (hF : ∀ r σ', Gon E kn tx σ0 (f + 1) o y r σ' → F (some (.inl r)) (nx, σ', rX kn tx)) : cmX SL xs F 194 k a b (nx, σ, rX kn tx) := by
  have hrun : runA E f (GS p ((0, a, 0) :: (0, b, 0) :: g) c q ν n) = some (o, y) := by
    rw [runA_B] at hrun
    simp only [stepB, hk, ha, hb] at hrun
    exact hrun
  have hae : a < ect E := by
    have := (hR.1.2.1.2.2 k hI.1).2.2.1 (by omega)
    omega
  have hbe : b < ect E := by
    have := (hR.1.2.1.2.2 k hI.1).2.2.2.1 (by omega)
    omega
  have hcl := hI.back.2
  have htp : σ 10 0 4 = tp := hR.2.2.2.1
  have hn : n ≤ 3000 := hcl.2
  obtain ⟨hR1, hx1⟩ := hR.addG (w := 0) (a := b) (f := 0) hR.2.2.1 (by omega)
  have h1 : gad σ (0 : Nat) (b : Int) (0 : Nat) (σ 9 0 8) 10 0 4 = ((tp + 1 : Nat) : Int) := hR1.2.2.2.1
  rw [← htp] at hx1
  obtain ⟨hR2, hx2⟩ := hR1.addG (w := 0) (a := a) (f := 0) hx1 (by omega)
  rw [← h1] at hx2
  have hR3 := hR2.goal hx2
  refine run 40 ?_
  refine call_eq (fun F hF => tw_Goals_add (w := 0) (by rw [htp]; omega) (by omega) hF) ?_
  refine call_eq (fun F hF => tw_Goals_add (w := 0) (σ := gad σ (0 : Nat) (b : Int) (0 : Nat) (σ 9 0 8)) (a := (a : Int)) (f := 0) (g := σ 10 0 4) (by rw [h1]; omega) (by omega) hF) ?_
  exact And.intro (Or.inr rfl) (hF 1 _ (Or.inl ⟨rfl, f, tp + 1 + 1, _, _, _, q, ν, n, by omega, hrun, hR3, hI.go (Nat.le_refl _) hI.2.1 (fun x hx => by
    rcases List.mem_cons.mp hx with rfl | hx
    · exact Or.inr (Or.inl ⟨rfl, hae⟩)
    · rcases List.mem_cons.mp hx with rfl | hx
      · exact Or.inr (Or.inl ⟨rfl, hbe⟩)
      · exact Or.inl hx) (by simp [kcn])⟩))
theorem cm_18 {a b : Nat} (hk : ekd E k = 18) (ha : efa E k = a) (hb : efb E k = b) (ht : tp + 1 ≤ 2 * n) (hR : RG E kn tx σ0 σ tp p g c q ν n) (hI : IB E k p g c q n) (hrun : runA E (f + 1) (BS k p g c q ν n) = some (o, y)) (hF : ∀ r σ', Gon E kn tx σ0 (f + 1) o y r σ' → F (some (.inl r)) (nx, σ', rX kn tx)) : cmX SL xs F 224 k a b (nx, σ, rX kn tx) := by
  have hrun : runA E f (GS p ((0, a, 0) :: g) ((0, p, (0, b, 0) :: g, q) :: c) q ν n) = some (o, y) := by
    rw [runA_B] at hrun
    simp only [stepB, hk, ha, hb] at hrun
    exact hrun
  have hae : a < ect E := by
    have := (hR.1.2.1.2.2 k hI.1).2.2.1 (by omega)
    omega
  have hbe : b < ect E := by
    have := (hR.1.2.1.2.2 k hI.1).2.2.2.1 (by omega)
    omega
  have hcl := hI.back.2
  have hp : σ 9 0 7 = p := hR.2.1
  have htp : σ 10 0 4 = tp := hR.2.2.2.1
  have hn : n ≤ 3000 := hcl.2
  obtain ⟨hR1, hx1⟩ := hR.addG (w := 0) (a := b) (f := 0) hR.2.2.1 (by omega)
  rw [← htp] at hx1
  have hR2 := hR1.addC (w := 0) (pc := p) hx1
  rw [← hp] at hR2
  have h1 : cad (gad σ (0 : Nat) (b : Int) (0 : Nat) (σ 9 0 8)) (0 : Nat) (σ 9 0 7) (σ 10 0 4) 10 0 4 = ((tp + 1 : Nat) : Int) := hR2.2.2.2.1
  obtain ⟨hR3, hx3⟩ := hR2.addG (w := 0) (a := a) (f := 0) hR2.2.2.1 (by omega)
  rw [← h1] at hx3
  have hR4 := hR3.goal hx3
  refine run 40 ?_
  refine call_eq (fun F hF => tw_Goals_add (w := 0) (by rw [htp]; omega) (by omega) hF) ?_
  refine call_eq (fun F hF => tw_Matcher_choose (k := 0) (σ := gad σ (0 : Nat) (b : Int) (0 : Nat) (σ 9 0 8)) (p := σ 9 0 7) (g := σ 10 0 4) (by rw [hR1.2.2.2.2.2.1]; omega) (by omega) hF) ?_
  refine call_eq (fun F hF => tw_Goals_add (w := 0) (σ := cad (gad σ (0 : Nat) (b : Int) (0 : Nat) (σ 9 0 8)) (0 : Nat) (σ 9 0 7) (σ 10 0 4)) (a := (a : Int)) (f := 0) (g := cad (gad σ (0 : Nat) (b : Int) (0 : Nat) (σ 9 0 8)) (0 : Nat) (σ 9 0 7) (σ 10 0 4) 9 0 8) (by rw [h1]; omega) (by omega) hF) ?_
  exact And.intro (Or.inr rfl) (hF 1 _ (Or.inl ⟨rfl, f, tp + 1 + 1, _, _, _, q, ν, n, by omega, hrun, hR4, hI.gc (Or.inl rfl) (fun x hx => by
    rcases List.mem_cons.mp hx with rfl | hx
    · exact Or.inr (Or.inl ⟨rfl, hae⟩)
    · exact Or.inl hx) (by simp [kcn]) (fun x hx => by
    rcases List.mem_cons.mp hx with rfl | hx
    · exact Or.inr (Or.inl ⟨rfl, hbe⟩)
    · exact Or.inl hx) (by simp [kcn])⟩))
theorem cm_19 {a b w kd : Nat} (hk : ekd E k = kd) (hkd : (kd = 19 ∧ w = 1) ∨ (kd = 20 ∧ w = 2)) (ha : efa E k = a) (hb : efb E k = b) (ht : tp + 1 ≤ 2 * n) (hR : RG E kn tx σ0 σ tp p g c q ν n) (hI : IB E k p g c q n) (hrun : runA E (f + 1) (BS k p g c q ν n) = some (o, y)) (hF : ∀ r σ', Gon E kn tx σ0 (f + 1) o y r σ' → F (some (.inl r)) (nx, σ', rX kn tx)) : cmX SL xs F 272 k a b (nx, σ, rX kn tx) := by
  have hrun : runA E f (GS p ((0, a, 0) :: (w, b, p) :: g) c q ν n) = some (o, y) := by
    rw [runA_B] at hrun
    rcases hkd with ⟨rfl, rfl⟩ | ⟨rfl, rfl⟩
    · simp only [stepB, hk, ha, hb] at hrun
      exact hrun
    · simp only [stepB, hk, ha, hb] at hrun
      exact hrun
  have hae : a < ect E := by
    have := (hR.1.2.1.2.2 k hI.1).2.2.1 (by omega)
    omega
  have hbe : b < 8 := by
    have := (hR.1.2.1.2.2 k hI.1).2.2.2.2.1 (by omega)
    omega
  have hcl := hI.back.2
  have hk64 : k < 64 := by
    have := hI.1
    have := hR.1.2.1.2.1
    omega
  have hkn : kn k = some kd := by rw [(hR.1.node hI.1).1, hk]
  have hp : σ 9 0 7 = p := hR.2.1
  have htp : σ 10 0 4 = tp := hR.2.2.2.1
  have hn : n ≤ 3000 := hcl.2
  obtain ⟨hR1, hx1⟩ := hR.addG (w := w) (a := b) (f := p) hR.2.2.1 (by omega)
  rw [← hp] at hR1 hx1
  have h1 : gad σ (w : Int) (b : Int) (σ 9 0 7) (σ 9 0 8) 10 0 4 = ((tp + 1 : Nat) : Int) := hR1.2.2.2.1
  rw [← htp] at hx1
  obtain ⟨hR2, hx2⟩ := hR1.addG (w := 0) (a := a) (f := 0) hx1 (by omega)
  rw [← h1] at hx2
  have hR3 := hR2.goal hx2
  have K : Xz SL xs (m_Matcher_composes SL xs) F (304, [some (.inr (some (9, 0))), some (.inl k), some (.inl a), some (.inl b), none], [.inl w, .inr (some (10, 0)), .inl 0, .inl a, .inl 0, .inr (some (10, 0)), .inr (some (9, 0))], (nx, σ, rX kn tx), 0, 0) := by
    refine run 40 ?_
    refine call_eq (fun F hF => tw_Goals_add (w := w) (by rw [htp]; omega) (by omega) hF) ?_
    refine call_eq (fun F hF => tw_Goals_add (w := 0) (σ := gad σ (w : Int) (b : Int) (σ 9 0 7) (σ 9 0 8)) (a := (a : Int)) (f := 0) (g := σ 10 0 4) (by rw [h1]; omega) (by omega) hF) ?_
    exact And.intro (Or.inr rfl) (hF 1 _ (Or.inl ⟨rfl, f, tp + 1 + 1, _, _, _, q, ν, n, by omega, hrun, hR3, hI.go (Nat.le_refl _) hI.2.1 (fun x hx => by
      rcases List.mem_cons.mp hx with rfl | hx
      · exact Or.inr (Or.inl ⟨rfl, hae⟩)
      · rcases List.mem_cons.mp hx with rfl | hx
        · exact Or.inr (Or.inr ⟨by simp only; omega, hbe, Nat.le_refl _⟩)
        · exact Or.inl hx) (by simp only [kcn]; split <;> split <;> omega)⟩))
  have e : (kn (k : Int).toNat).map (fun k => (45, k)) = some (45, kd) := by rw [Int.toNat_natCast, hkn]; rfl
  have K2 : Xz SL xs (m_Matcher_composes SL xs) F (293, [some (.inr (some (9, 0))), some (.inl k), some (.inl a), some (.inl b), none], [.inr (some (45, kd)), .inr (some (10, 0)), .inl 0, .inl a, .inl 0, .inr (some (10, 0)), .inr (some (9, 0))], (nx, σ, rX kn tx), 0, 0) := by
    refine run 2 ?_
    refine And.intro (fun h => ?_) (fun h => ?_)
    · have h : ¬ kd = 19 := h
      have hw : w = 2 := by omega
      subst hw
      exact leaf (by first | exact run 1 K | exact run 2 K | exact run 3 K)
    · have h : kd = 19 := h
      have hw : w = 1 := by omega
      subst hw
      exact leaf (by first | exact run 1 K | exact run 2 K | exact run 3 K)
  rw [← e] at K2
  refine run 13 ?_
  refine And.intro ⟨show (0 : Int) ≤ (k : Int) by omega, show (k : Int) < 64 by omega⟩ ?_
  exact leaf K2
theorem cm_21 {a : Nat} {b : Int} (hk : ekd E k = 21) (ha : efa E k = a) (hR : RG E kn tx σ0 σ tp p g c q ν n) (hI : IB E k p g c q n) (hrun : runA E (f + 1) (BS k p g c q ν n) = some (o, y)) (hF : ∀ r σ', Gon E kn tx σ0 (f + 1) o y r σ' → F (some (.inl r)) (nx, σ', rX kn tx)) : cmX SL xs F 324 k a b (nx, σ, rX kn tx) := by
  have hrun : runA E f (GS p g c q (upN ν a (dig p)) n) = some (o, y) := by
    rw [runA_B] at hrun
    simp only [stepB, hk, ha] at hrun
    exact hrun
  have hae : a < 8 := by
    have := (hR.1.2.1.2.2 k hI.1).2.2.2.2.2 (by omega)
    omega
  have hp : σ 9 0 7 = p := hR.2.1
  have hpl := (hI.len hR.1.sub.2).1
  have e : (if (a : Int).toNat < 8 then some (1, 3 + (a : Int).toNat) else none) = some (1, 3 + a) := by rw [Int.toNat_natCast, if_pos hae]
  have hd : (dig p).length ≤ 64 := by unfold dig; split <;> simp
  refine run 40 ?_
  refine And.intro ⟨show (0 : Int) ≤ (a : Int) by omega, show (a : Int) < 8 by omega⟩ ?_
  refine call_any (Y := fun v s' => v = none ∧ ∃ σ', s' = (nx, σ', rX kn tx) ∧ setT σ (3 + a) (dig p) σ') ?_ ?_
  · show vT 1 (T_Text_digits SL xs) [.inr (if (a : Int).toNat < 8 then some (1, 3 + (a : Int).toNat) else none), .inl (σ 9 0 7)] (nx, σ, rX kn tx) _
    rw [e, hp]
    exact tw_Text_digits (n := p) (t := 3 + a) (by omega) (fun σ' h => ⟨rfl, σ', rfl, h⟩)
  · intro v s' hv
    obtain ⟨rfl, σ', rfl, hs⟩ := hv
    exact And.intro (Or.inr rfl) (hF 1 _ (Or.inl ⟨rfl, f, tp, _, _, _, q, _, n, by omega, hrun, hR.set hae hd hs, hI.go (Nat.le_refl _) hI.2.1 (fun x hx => Or.inl hx) (by omega)⟩))
theorem cm_def {a b : Int} (hR : RG E kn tx σ0 σ tp p g c q ν n) (hI : IB E k p g c q n) (hrun : runA E f (KS c ν n) = some (o, y)) (hF : ∀ r σ', Gon E kn tx σ0 (f + 1) o y r σ' → F (some (.inl r)) (nx, σ', rX kn tx)) : cmX SL xs F 375 k a b (nx, σ, rX kn tx) := by
  refine run 40 ?_
  refine call_any (cm_back hR hI hrun hF) ?_
  intro v s' hv
  obtain ⟨r0, σ', hr, rfl, rfl, hg⟩ := hv
  exact And.intro hr (hF r0 σ' hg)
theorem cm_23 {a : Nat} {b : Int} (hk : ekd E k = 23) (ha : efa E k = a) (ht : tp + 1 ≤ 2 * n) (hR : RG E kn tx σ0 σ tp p g c q ν n) (hI : IB E k p g c q n) (hrun : runA E (f + 1) (BS k p g c q ν n) = some (o, y)) (hF : ∀ r σ', Gon E kn tx σ0 (f + 1) o y r σ' → F (some (.inl r)) (nx, σ', rX kn tx)) : cmX SL xs F 339 k a b (nx, σ, rX kn tx) := by
  have hrun : (if a < ect E then runA E f (GS p ((0, a, 0) :: g) c q ν n) else runA E f (KS c ν n)) = some (o, y) := by
    rw [runA_B] at hrun
    simp only [stepB, hk, ha] at hrun
    by_cases h : a < ect E
    · rw [if_pos h] at hrun ⊢
      exact hrun
    · rw [if_neg h] at hrun ⊢
      exact hrun
  have hct := hR.1.cnt
  have hcl := hI.back.2
  have htp : σ 10 0 4 = tp := hR.2.2.2.1
  have hn : n ≤ 3000 := hcl.2
  refine run 40 ?_
  refine call_eq (fun F hF => tw_Nodes_is hF) ?_
  refine And.intro (fun h => ?_) (fun h => ?_)
  · have h : ¬ (if 0 ≤ (a : Int) ∧ (a : Int) < σ 4 0 4 then (1 : Int) else 0) = 0 := h
    have hlt : a < ect E := by
      rw [hct] at h
      split at h
      · omega
      · exact absurd rfl h
    rw [if_pos hlt] at hrun
    obtain ⟨hR1, hx1⟩ := hR.addG (w := 0) (a := a) (f := 0) hR.2.2.1 (by omega)
    rw [← htp] at hx1
    refine call_eq (fun F hF => tw_Goals_add (w := 0) (by rw [htp]; omega) (by omega) hF) ?_
    exact And.intro (Or.inr rfl) (hF 1 _ (Or.inl ⟨rfl, f, tp + 1, _, _, _, q, ν, n, by omega, hrun, hR1.goal hx1, hI.go (Nat.le_refl _) hI.2.1 (fun x hx => by
      rcases List.mem_cons.mp hx with rfl | hx
      · exact Or.inr (Or.inl ⟨rfl, hlt⟩)
      · exact Or.inl hx) (by simp [kcn])⟩))
  · have h : (if 0 ≤ (a : Int) ∧ (a : Int) < σ 4 0 4 then (1 : Int) else 0) = 0 := Classical.not_not.mp h
    have hlt : ¬ a < ect E := by
      rw [hct] at h
      split at h
      · omega
      · omega
    rw [if_neg hlt] at hrun
    refine call_any (cm_back hR hI hrun hF) ?_
    intro v s' hv
    obtain ⟨r0, σ', hr, rfl, rfl, hg⟩ := hv
    exact And.intro hr (hF r0 σ' hg)
theorem tw_composes {kd : Nat} (hk : ekd E k = kd) (hkd : 11 ≤ kd ∧ kd < 24 ∧ ¬ kd = 22) (ht : tp + 1 ≤ 2 * n) (hR : RG E kn tx σ0 σ tp p g c q ν n) (hI : IB E k p g c q n) (hrun : runA E (f + 1) (BS k p g c q ν n) = some (o, y)) (hF : ∀ r σ', Gon E kn tx σ0 (f + 1) o y r σ' → F (some (.inl r)) (nx, σ', rX kn tx)) : T_Matcher_composes SL xs [.inr (some (9, 0)), .inl k, .inl (efa E k : Nat), .inl (efb E k : Nat)] (nx, σ, rX kn tx) F := by
  have hk64 : k < 64 := by
    have := hI.1
    have := hR.1.2.1.2.1
    omega
  have hkn : kn k = some kd := by rw [(hR.1.node hI.1).1, hk]
  have hcase : kd = 11 ∨ kd = 12 ∨ kd = 13 ∨ kd = 14 ∨ kd = 15 ∨ kd = 16 ∨ kd = 17 ∨ kd = 18 ∨ kd = 19 ∨ kd = 20 ∨ kd = 21 ∨ kd = 23 := by omega
  rcases hcase with rfl | rfl | rfl | rfl | rfl | rfl | rfl | rfl | rfl | rfl | rfl | rfl
  · exact cm_sw hk64 hkn rfl (cm_11 hk hR hI hrun hF)
  · exact cm_sw hk64 hkn rfl (cm_12 hk hR hI hrun hF)
  · refine cm_sw hk64 hkn rfl (cm_def hR hI ?_ hF)
    rw [runA_B] at hrun
    simp only [stepB, plA, hk] at hrun
    exact hrun
  · exact cm_sw hk64 hkn rfl (cm_14 hk hR hI hrun hF)
  · exact cm_sw hk64 hkn rfl (cm_15 hk hR hI hrun hF)
  · exact cm_sw hk64 hkn rfl (cm_16 hk rfl ht hR hI hrun hF)
  · exact cm_sw hk64 hkn rfl (cm_17 hk rfl rfl ht hR hI hrun hF)
  · exact cm_sw hk64 hkn rfl (cm_18 hk rfl rfl ht hR hI hrun hF)
  · exact cm_sw hk64 hkn rfl (cm_19 hk (Or.inl ⟨rfl, rfl⟩) rfl rfl ht hR hI hrun hF)
  · exact cm_sw hk64 hkn rfl (cm_19 hk (Or.inr ⟨rfl, rfl⟩) rfl rfl ht hR hI hrun hF)
  · exact cm_sw hk64 hkn rfl (cm_21 hk rfl hR hI hrun hF)
  · exact cm_sw hk64 hkn rfl (cm_23 hk rfl ht hR hI hrun hF)
end
