/-! The component: a node begins -/
section
variable {SL : Nat} {xs : Nat → Int} {nx : Nat} {σ σ0 : Sg} {kn : Nat → Option Nat} {tx : Nat → Bool} {F : Option Av → St → Prop} {E : Ev} {ν : Nu} {n o k p tp f : Nat} {g : List Gl} {c : List Ch} {q : List Kp} {y : As}
def bgL : List (Int × Nat) := [(0, 176), (1, 202), (2, 219), (3, 236), (4, 252), (5, 277), (6, 304), (7, 326), (8, 351), (9, 376), (10, 401), (11, 445), (12, 445), (13, 445), (14, 445), (15, 445), (16, 445), (17, 445), (18, 445), (19, 445), (20, 445), (21, 445), (22, 409)]
abbrev bgX (SL : Nat) (xs : Nat → Int) (F : Option Av → St → Prop) (pc : Nat) (k a : Int) (t : Nat) (e : Int) (s : St) : Prop := Xz SL xs (m_Matcher_begins SL xs) F (pc, [some (.inr (some (9, 0))), some (.inl k), some (.inl a), some (.inr (some (1, t))), some (.inl e)], [], s, 0, 0)
theorem bg_sw {t kd : Nat} {σ' : Sg} (hk : k < 64) (hn : kn k = some kd) (htx : tx k = true) (h : (lkI bgL (kd : Int)).getD 445 = t) (hs : ¬ σ 9 0 6 = 3000) (hσ : σ' = upS σ 9 0 6 (wr (σ 9 0 6 + 1))) (K : bgX SL xs F t k (σ' 6 0 k) (11 + k) (σ' 1 2 1) (nx, σ', rX kn tx)) : T_Matcher_begins SL xs [.inr (some (9, 0)), .inl k] (nx, σ, rX kn tx) F := by
  subst hσ
  have e : (if tx (k : Int).toNat = true then some (1, 11 + (k : Int).toNat) else none) = some (1, 11 + k) := by rw [Int.toNat_natCast, if_pos htx]
  have K1 : Xz SL xs (m_Matcher_begins SL xs) F (46, [some (.inr (some (9, 0))), some (.inl k), some (.inl (upS σ 9 0 6 (wr (σ 9 0 6 + 1)) 6 0 (k : Int).toNat)), none, none], [.inr (some (1, 11 + k))], (nx, upS σ 9 0 6 (wr (σ 9 0 6 + 1)), rX kn tx), 0, 0) := by
    refine run 12 ?_
    refine And.intro ⟨show (0 : Int) ≤ (k : Int) by omega, show (k : Int) < 64 by omega⟩ ?_
    refine call_eq (v0 := some (.inl (kd : Int))) (s0 := (nx, upS σ 9 0 6 (wr (σ 9 0 6 + 1)), rX kn tx)) (fun F hF => ?_) ?_
    · show vT 8 (T_Enum_ordinal SL xs) [.inr ((kn (k : Int).toNat).map (fun k => (45, k)))] (nx, upS σ 9 0 6 (wr (σ 9 0 6 + 1)), rX kn tx) F
      rw [Int.toNat_natCast, hn]
      exact tw_Enum_ordinal hF
    · cases hl : lkI bgL (kd : Int) with
      | some t' =>
        rw [hl] at h
        have h : t' = t := h
        subst h
        refine swt_in (t := t') (show lkI _ (kd : Int) = some t' from hl) ?_
        exact K
      | none =>
        rw [hl] at h
        have h : 445 = t := h
        subst h
        refine swt_out (show lkI _ (kd : Int) = none from hl) ?_
        exact K
  rw [← e] at K1
  refine run 21 ?_
  refine And.intro (fun h => ?_) (fun h => absurd (Classical.not_not.mp h) hs)
  refine And.intro ⟨show (0 : Int) ≤ (k : Int) by omega, show (k : Int) < 64 by omega⟩ ?_
  refine And.intro ⟨show (0 : Int) ≤ (k : Int) by omega, show (k : Int) < 64 by omega⟩ ?_
  exact leaf K1
theorem bg_go {w to : Int} {r : Option Nat} (hR : RG E kn tx σ0 σ tp p g c q ν n) (hI : IB E k p g c q n) (hr : ∀ p', r = some p' → p ≤ p' ∧ p' ≤ (esb E).length ∧ to = p' ∧ w = 1) (hw : r = none → w = 0)
    (hrun : aft E f g c q ν n r = some (o, y)) :
    vT 3 (T_Matcher_goes SL xs) [.inr (some (9, 0)), .inl w, .inl to] (nx, σ, rX kn tx) (fun v s' => ∃ r0 σ', (r0 = 0 ∨ r0 = 1) ∧ v = some (.inl r0) ∧ s' = (nx, σ', rX kn tx) ∧ Gon E kn tx σ0 (f + 1) o y r0 σ') := by
  refine tw_goes hR hI hr hw hrun (fun r0 σ' hg => ⟨r0, σ', ?_, rfl, rfl, hg⟩)
  rcases hg with h | h
  · exact Or.inr h.1
  · exact Or.inl h.1
theorem bg_0 {a : Int} (hk : ekd E k = 0) (hR : RG E kn tx σ0 σ tp p g c q ν n) (hI : IB E k p g c q n) (hrun : aft E f g c q ν n (plA E ν k p) = some (o, y)) (hF : ∀ r σ', Gon E kn tx σ0 (f + 1) o y r σ' → F (some (.inl r)) (nx, σ', rX kn tx)) : bgX SL xs F 176 k a (11 + k) (esb E).length (nx, σ, rX kn tx) := by
  have hS := hR.1.sub
  have hp : σ 9 0 7 = p := hR.2.1
  have hpl := (hI.len hS.2).1
  obtain ⟨-, -, -, -, hw, hw64⟩ := hR.1.node hI.1
  have hwl : σ 1 (11 + k) 1 = (ewd E k).length := hw.1
  have hpd := fun p' => plA_bd (E := E) (ν := ν) (k := k) (pl := p') hI.2.1
  have ewr : wr (σ 9 0 7 + σ 1 (11 + k) 1) = ((p + (ewd E k).length : Nat) : Int) := by rw [hp, hwl, wr_eq ⟨by omega, by omega⟩]; omega
  refine run 40 ?_
  refine call_any (Y := fun v s' => s' = (nx, σ, rX kn tx) ∧ ((v = some (.inl 1) ∧ atT (ewd E k) (esb E) p) ∨ (v = some (.inl 0) ∧ ¬ atT (ewd E k) (esb E) p))) ?_ ?_
  · show vT 1 (T_Text_isAt SL xs) [.inr (some (1, 11 + k)), .inr (some (1, 2)), .inl (σ 9 0 7)] (nx, σ, rX kn tx) _
    rw [hp]
    exact tw_Text_isAt hw hw64 hS.1 hS.2 hI.2.1 (fun h => ⟨rfl, Or.inl ⟨rfl, h⟩⟩) (fun h => ⟨rfl, Or.inr ⟨rfl, h⟩⟩)
  · intro v s' hv
    obtain ⟨rfl, ⟨rfl, hat⟩ | ⟨rfl, hat⟩⟩ := hv
    · have hpl : plA E ν k p = some (p + (ewd E k).length) := by
        simp only [plA, hk]
        exact if_pos hat
      refine call_any (bg_go (w := 1) (to := wr (σ 9 0 7 + σ 1 (11 + k) 1)) hR hI (fun p' e => ?_) (fun e => ?_) hrun) ?_
      · have := hpd p' e
        rw [hpl] at e
        cases e
        exact ⟨this.1, this.2, ewr, rfl⟩
      · rw [hpl] at e
        cases e
      · intro v s' hv
        obtain ⟨r0, σ', hr, rfl, rfl, hg⟩ := hv
        exact And.intro hr (hF r0 σ' hg)
    · have hpl : plA E ν k p = none := by
        simp only [plA, hk]
        exact if_neg hat
      refine call_any (bg_go (w := 0) (to := wr (σ 9 0 7 + σ 1 (11 + k) 1)) hR hI (fun p' e => ?_) (fun e => rfl) hrun) ?_
      · rw [hpl] at e
        cases e
      · intro v s' hv
        obtain ⟨r0, σ', hr, rfl, rfl, hg⟩ := hv
        exact And.intro hr (hF r0 σ' hg)
theorem bg_fin {w to : Int} {P : Option Av → St → Prop} (hR : RG E kn tx σ0 σ tp p g c q ν n) (hI : IB E k p g c q n) (hrun : aft E f g c q ν n (plA E ν k p) = some (o, y)) (hF : ∀ r σ', Gon E kn tx σ0 (f + 1) o y r σ' → F (some (.inl r)) (nx, σ', rX kn tx)) (h1 : ∀ p', plA E ν k p = some p' → to = p' ∧ w = 1) (h0 : plA E ν k p = none → w = 0) (hP : ∀ r0 σ', (r0 = 0 ∨ r0 = 1) → F (some (.inl r0)) (nx, σ', rX kn tx) → P (some (.inl r0)) (nx, σ', rX kn tx)) : ∃ Y : Option Av → St → Prop, vT 3 (T_Matcher_goes SL xs) [.inr (some (9, 0)), .inl w, .inl to] (nx, σ, rX kn tx) Y ∧ ∀ v s', Y v s' → P v s' := by
  refine call_any (bg_go (w := w) (to := to) hR hI (fun p' e => ?_) h0 hrun) ?_
  · have := plA_bd (E := E) (ν := ν) (k := k) (pl := p') hI.2.1 e
    exact ⟨this.1, this.2, h1 p' e⟩
  · intro v s' hv
    obtain ⟨r0, σ', hr, rfl, rfl, hg⟩ := hv
    exact hP r0 σ' hr (hF r0 σ' hg)
theorem ite1 {C : Prop} [Decidable C] : ((if C then (1 : Int) else 0) = 1) ↔ C := by
  by_cases h : C
  · rw [if_pos h]; exact ⟨fun _ => h, fun _ => rfl⟩
  · rw [if_neg h]; exact ⟨fun e => by omega, fun e => absurd e h⟩
theorem ite0 {C : Prop} [Decidable C] : ((if C then (1 : Int) else 0) = 0) ↔ ¬ C := by
  by_cases h : C
  · rw [if_pos h]; exact ⟨fun e => by omega, fun e => absurd h e⟩
  · rw [if_neg h]; exact ⟨fun _ => h, fun _ => rfl⟩
theorem some_of_if {C : Prop} [Decidable C] {x x' : Nat} (h : (if C then some x else none) = some x') : C ∧ x = x' := by
  split at h
  · cases h
    exact ⟨‹_›, rfl⟩
  · cases h
theorem none_of_if {C : Prop} [Decidable C] {x : Nat} (h : (if C then some x else none) = none) : ¬ C := by
  split at h
  · cases h
  · assumption
theorem bg_1 {a : Int} (hk : ekd E k = 1) (hR : RG E kn tx σ0 σ tp p g c q ν n) (hI : IB E k p g c q n) (hrun : aft E f g c q ν n (plA E ν k p) = some (o, y)) (hF : ∀ r σ', Gon E kn tx σ0 (f + 1) o y r σ' → F (some (.inl r)) (nx, σ', rX kn tx)) : bgX SL xs F 202 k a (11 + k) (esb E).length (nx, σ, rX kn tx) := by
  have hS := hR.1.sub
  have hp : σ 9 0 7 = p := hR.2.1
  have hpl := (hI.len hS.2).1
  have hS64 := hS.2
  have hpn : p ≤ (esb E).length := hI.2.1
  obtain ⟨-, -, -, -, hw, hw64⟩ := hR.1.node hI.1
  have ewr : wr (σ 9 0 7 + 1) = ((p + 1 : Nat) : Int) := by rw [hp, wr_eq ⟨by omega, by omega⟩]; omega
  have hq : plA E ν k p = if p < (esb E).length ∧ (esb E).getD p 0 ∈ ewd E k then some (p + 1) else none := by simp only [plA, hk]
  have hbi : ((if (esb E).getD p 0 ∈ ewd E k then (1 : Int) else 0) = 1) ↔ (esb E).getD p 0 ∈ ewd E k := ite1
  refine run 40 ?_
  refine call_eq (fun F hF => tw_Matcher_isSign (b := 1) hw hw64 hS.1 hS.2 hp hpn hF) ?_
  refine bg_fin (to := wr (σ 9 0 7 + 1)) hR hI hrun hF (fun p' e => ?_) (fun e => ?_) (fun r0 σ' hr hf => And.intro hr hf)
  · rw [hq] at e
    obtain ⟨h1, rfl⟩ := some_of_if e
    exact ⟨ewr, if_pos ⟨h1.1, hbi.mpr h1.2⟩⟩
  · rw [hq] at e
    have h1 := none_of_if e
    exact if_neg (fun z => h1 ⟨z.1, hbi.mp z.2⟩)
theorem bg_2 {a : Int} (hk : ekd E k = 2) (hR : RG E kn tx σ0 σ tp p g c q ν n) (hI : IB E k p g c q n) (hrun : aft E f g c q ν n (plA E ν k p) = some (o, y)) (hF : ∀ r σ', Gon E kn tx σ0 (f + 1) o y r σ' → F (some (.inl r)) (nx, σ', rX kn tx)) : bgX SL xs F 219 k a (11 + k) (esb E).length (nx, σ, rX kn tx) := by
  have hS := hR.1.sub
  have hp : σ 9 0 7 = p := hR.2.1
  have hpl := (hI.len hS.2).1
  have hS64 := hS.2
  have hpn : p ≤ (esb E).length := hI.2.1
  obtain ⟨-, -, -, -, hw, hw64⟩ := hR.1.node hI.1
  have ewr : wr (σ 9 0 7 + 1) = ((p + 1 : Nat) : Int) := by rw [hp, wr_eq ⟨by omega, by omega⟩]; omega
  have hq : plA E ν k p = if p < (esb E).length ∧ ¬ (esb E).getD p 0 ∈ ewd E k then some (p + 1) else none := by simp only [plA, hk]
  have hbi : ((if (esb E).getD p 0 ∈ ewd E k then (1 : Int) else 0) = 0) ↔ ¬ (esb E).getD p 0 ∈ ewd E k := ite0
  refine run 40 ?_
  refine call_eq (fun F hF => tw_Matcher_isSign (b := 0) hw hw64 hS.1 hS.2 hp hpn hF) ?_
  refine bg_fin (to := wr (σ 9 0 7 + 1)) hR hI hrun hF (fun p' e => ?_) (fun e => ?_) (fun r0 σ' hr hf => And.intro hr hf)
  · rw [hq] at e
    obtain ⟨h1, rfl⟩ := some_of_if e
    exact ⟨ewr, if_pos ⟨h1.1, hbi.mpr h1.2⟩⟩
  · rw [hq] at e
    have h1 := none_of_if e
    exact if_neg (fun z => h1 ⟨z.1, hbi.mp z.2⟩)
theorem bg_3 {a : Int} (hk : ekd E k = 3) (hR : RG E kn tx σ0 σ tp p g c q ν n) (hI : IB E k p g c q n) (hrun : aft E f g c q ν n (plA E ν k p) = some (o, y)) (hF : ∀ r σ', Gon E kn tx σ0 (f + 1) o y r σ' → F (some (.inl r)) (nx, σ', rX kn tx)) : bgX SL xs F 236 k a (11 + k) (esb E).length (nx, σ, rX kn tx) := by
  have hS := hR.1.sub
  have hp : σ 9 0 7 = p := hR.2.1
  have hpl := (hI.len hS.2).1
  have hS64 := hS.2
  have hpn : p ≤ (esb E).length := hI.2.1
  obtain ⟨-, -, -, -, hw, hw64⟩ := hR.1.node hI.1
  have hq : plA E ν k p = if p < (esb E).length ∧ (esb E).getD p 0 ∈ ewd E k then some (spn (ewd E k) (esb E) p) else none := by simp only [plA, hk]
  have hbi : ((if (esb E).getD p 0 ∈ ewd E k then (1 : Int) else 0) = 1) ↔ (esb E).getD p 0 ∈ ewd E k := ite1
  refine run 40 ?_
  refine call_eq (fun F hF => tw_Matcher_isSign (b := 1) hw hw64 hS.1 hS.2 hp hpn hF) ?_
  refine call_eq (fun F hF => tw_Matcher_run hw hw64 hS.1 hS.2 hp hpn hF) ?_
  refine bg_fin hR hI hrun hF (fun p' e => ?_) (fun e => ?_) (fun r0 σ' hr hf => And.intro hr hf)
  · rw [hq] at e
    obtain ⟨h1, rfl⟩ := some_of_if e
    exact ⟨rfl, if_pos ⟨h1.1, hbi.mpr h1.2⟩⟩
  · rw [hq] at e
    have h1 := none_of_if e
    exact if_neg (fun z => h1 ⟨z.1, hbi.mp z.2⟩)
theorem bg_4 {a : Int} (hk : ekd E k = 4) (hR : RG E kn tx σ0 σ tp p g c q ν n) (hI : IB E k p g c q n) (hrun : aft E f g c q ν n (plA E ν k p) = some (o, y)) (hF : ∀ r σ', Gon E kn tx σ0 (f + 1) o y r σ' → F (some (.inl r)) (nx, σ', rX kn tx)) : bgX SL xs F 252 k a (11 + k) (esb E).length (nx, σ, rX kn tx) := by
  have hS := hR.1.sub
  have hp : σ 9 0 7 = p := hR.2.1
  have hpl := (hI.len hS.2).1
  have hS64 := hS.2
  have hpn : p ≤ (esb E).length := hI.2.1
  obtain ⟨-, -, -, -, hw, hw64⟩ := hR.1.node hI.1
  have hq : plA E ν k p = if brk (ewd E k) (esb E) p < (esb E).length then some (brk (ewd E k) (esb E) p) else none := by simp only [plA, hk]
  refine run 40 ?_
  refine call_eq (fun F hF => tw_Matcher_breaks hw hw64 hS.1 hS.2 hp hpn hF) ?_
  refine And.intro (fun h => ?_) (fun h => ?_)
  · have h : ((esb E).length : Int) ≤ (brk (ewd E k) (esb E) p : Nat) := h
    refine call_eq (fun F hF => tw_Matcher_breaks hw hw64 hS.1 hS.2 hp hpn hF) ?_
    refine bg_fin (w := 0) hR hI hrun hF (fun p' e => ?_) (fun e => rfl) (fun r0 σ' hr hf => And.intro hr hf)
    rw [hq] at e
    obtain ⟨h1, rfl⟩ := some_of_if e
    omega
  · have h : ¬ ((esb E).length : Int) ≤ (brk (ewd E k) (esb E) p : Nat) := h
    refine call_eq (fun F hF => tw_Matcher_breaks hw hw64 hS.1 hS.2 hp hpn hF) ?_
    refine bg_fin (w := 1) hR hI hrun hF (fun p' e => ?_) (fun e => ?_) (fun r0 σ' hr hf => And.intro hr hf)
    · rw [hq] at e
      obtain ⟨h1, rfl⟩ := some_of_if e
      exact ⟨rfl, rfl⟩
    · rw [hq] at e
      have h1 := none_of_if e
      omega
theorem bg_5 (hk : ekd E k = 5) (hR : RG E kn tx σ0 σ tp p g c q ν n) (hI : IB E k p g c q n) (hrun : aft E f g c q ν n (plA E ν k p) = some (o, y)) (hF : ∀ r σ', Gon E kn tx σ0 (f + 1) o y r σ' → F (some (.inl r)) (nx, σ', rX kn tx)) : bgX SL xs F 277 k (efa E k : Nat) (11 + k) (esb E).length (nx, σ, rX kn tx) := by
  have hS := hR.1.sub
  have hp : σ 9 0 7 = p := hR.2.1
  have hpl := (hI.len hS.2).1
  have hS64 := hS.2
  have hpn : p ≤ (esb E).length := hI.2.1
  obtain ⟨-, -, -, -, hw, hw64⟩ := hR.1.node hI.1
  have ha : efa E k < 2147483648 := (hR.1.2.1.2.2 k hI.1).2.1
  have hq : plA E ν k p = if p + efa E k ≤ (esb E).length then some (p + efa E k) else none := by simp only [plA, hk]
  refine run 40 ?_
  refine And.intro (fun h => ?_) (fun h => ?_)
  · have h : wr (((esb E).length : Int) - σ 9 0 7) < (efa E k : Nat) := h
    rw [hp] at h
    rw [wr_eq ⟨by omega, by omega⟩] at h
    refine bg_fin (w := 0) (to := wr (σ 9 0 7 + (efa E k : Nat))) hR hI hrun hF (fun p' e => ?_) (fun e => rfl) (fun r0 σ' hr hf => And.intro hr hf)
    rw [hq] at e
    obtain ⟨h1, rfl⟩ := some_of_if e
    omega
  · have h : ¬ (wr (((esb E).length : Int) - σ 9 0 7) < (efa E k : Nat)) := h
    rw [hp] at h
    rw [wr_eq ⟨by omega, by omega⟩] at h
    refine bg_fin (w := 1) (to := wr (σ 9 0 7 + (efa E k : Nat))) hR hI hrun hF (fun p' e => ?_) (fun e => ?_) (fun r0 σ' hr hf => And.intro hr hf)
    · rw [hq] at e
      obtain ⟨h1, rfl⟩ := some_of_if e
      exact ⟨by rw [hp, wr_eq ⟨by omega, by omega⟩]; omega, rfl⟩
    · rw [hq] at e
      have h1 := none_of_if e
      omega
theorem bg_6 (hk : ekd E k = 6) (hR : RG E kn tx σ0 σ tp p g c q ν n) (hI : IB E k p g c q n) (hrun : aft E f g c q ν n (plA E ν k p) = some (o, y)) (hF : ∀ r σ', Gon E kn tx σ0 (f + 1) o y r σ' → F (some (.inl r)) (nx, σ', rX kn tx)) : bgX SL xs F 304 k (efa E k : Nat) (11 + k) (esb E).length (nx, σ, rX kn tx) := by
  have hS := hR.1.sub
  have hp : σ 9 0 7 = p := hR.2.1
  have hpl := (hI.len hS.2).1
  have hS64 := hS.2
  have hpn : p ≤ (esb E).length := hI.2.1
  obtain ⟨-, -, -, -, hw, hw64⟩ := hR.1.node hI.1
  have ha : efa E k < 2147483648 := (hR.1.2.1.2.2 k hI.1).2.1
  have hq : plA E ν k p = if p = efa E k then some (p) else none := by simp only [plA, hk]
  refine run 40 ?_
  refine And.intro (fun h => ?_) (fun h => ?_)
  · have h : ¬ σ 9 0 7 = (efa E k : Nat) := h
    rw [hp] at h
    refine bg_fin (w := 0) (to := σ 9 0 7) hR hI hrun hF (fun p' e => ?_) (fun e => rfl) (fun r0 σ' hr hf => And.intro hr hf)
    rw [hq] at e
    obtain ⟨h1, rfl⟩ := some_of_if e
    omega
  · have h : ¬ (¬ σ 9 0 7 = (efa E k : Nat)) := h
    rw [hp] at h
    refine bg_fin (w := 1) (to := σ 9 0 7) hR hI hrun hF (fun p' e => ?_) (fun e => ?_) (fun r0 σ' hr hf => And.intro hr hf)
    · rw [hq] at e
      obtain ⟨h1, rfl⟩ := some_of_if e
      exact ⟨hp, rfl⟩
    · rw [hq] at e
      have h1 := none_of_if e
      omega
theorem bg_7 (hk : ekd E k = 7) (hR : RG E kn tx σ0 σ tp p g c q ν n) (hI : IB E k p g c q n) (hrun : aft E f g c q ν n (plA E ν k p) = some (o, y)) (hF : ∀ r σ', Gon E kn tx σ0 (f + 1) o y r σ' → F (some (.inl r)) (nx, σ', rX kn tx)) : bgX SL xs F 326 k (efa E k : Nat) (11 + k) (esb E).length (nx, σ, rX kn tx) := by
  have hS := hR.1.sub
  have hp : σ 9 0 7 = p := hR.2.1
  have hpl := (hI.len hS.2).1
  have hS64 := hS.2
  have hpn : p ≤ (esb E).length := hI.2.1
  obtain ⟨-, -, -, -, hw, hw64⟩ := hR.1.node hI.1
  have ha : efa E k < 2147483648 := (hR.1.2.1.2.2 k hI.1).2.1
  have hq : plA E ν k p = if p + efa E k = (esb E).length then some (p) else none := by simp only [plA, hk]
  refine run 40 ?_
  refine And.intro (fun h => ?_) (fun h => ?_)
  · have h : ¬ σ 9 0 7 = wr (((esb E).length : Int) - (efa E k : Nat)) := h
    rw [hp] at h
    rw [wr_eq ⟨by omega, by omega⟩] at h
    refine bg_fin (w := 0) (to := σ 9 0 7) hR hI hrun hF (fun p' e => ?_) (fun e => rfl) (fun r0 σ' hr hf => And.intro hr hf)
    rw [hq] at e
    obtain ⟨h1, rfl⟩ := some_of_if e
    omega
  · have h : ¬ (¬ σ 9 0 7 = wr (((esb E).length : Int) - (efa E k : Nat))) := h
    rw [hp] at h
    rw [wr_eq ⟨by omega, by omega⟩] at h
    refine bg_fin (w := 1) (to := σ 9 0 7) hR hI hrun hF (fun p' e => ?_) (fun e => ?_) (fun r0 σ' hr hf => And.intro hr hf)
    · rw [hq] at e
      obtain ⟨h1, rfl⟩ := some_of_if e
      exact ⟨hp, rfl⟩
    · rw [hq] at e
      have h1 := none_of_if e
      omega
theorem bg_9 (hk : ekd E k = 9) (hR : RG E kn tx σ0 σ tp p g c q ν n) (hI : IB E k p g c q n) (hrun : aft E f g c q ν n (plA E ν k p) = some (o, y)) (hF : ∀ r σ', Gon E kn tx σ0 (f + 1) o y r σ' → F (some (.inl r)) (nx, σ', rX kn tx)) : bgX SL xs F 376 k (efa E k : Nat) (11 + k) (esb E).length (nx, σ, rX kn tx) := by
  have hS := hR.1.sub
  have hp : σ 9 0 7 = p := hR.2.1
  have hpl := (hI.len hS.2).1
  have hS64 := hS.2
  have hpn : p ≤ (esb E).length := hI.2.1
  obtain ⟨-, -, -, -, hw, hw64⟩ := hR.1.node hI.1
  have ha : efa E k < 2147483648 := (hR.1.2.1.2.2 k hI.1).2.1
  have hq : plA E ν k p = if p + efa E k ≤ (esb E).length then some ((esb E).length - efa E k) else none := by simp only [plA, hk]
  refine run 40 ?_
  refine And.intro (fun h => ?_) (fun h => ?_)
  · have h : wr (((esb E).length : Int) - (efa E k : Nat)) < σ 9 0 7 := h
    rw [hp] at h
    rw [wr_eq ⟨by omega, by omega⟩] at h
    refine bg_fin (w := 0) (to := wr (((esb E).length : Int) - (efa E k : Nat))) hR hI hrun hF (fun p' e => ?_) (fun e => rfl) (fun r0 σ' hr hf => And.intro hr hf)
    rw [hq] at e
    obtain ⟨h1, rfl⟩ := some_of_if e
    omega
  · have h : ¬ (wr (((esb E).length : Int) - (efa E k : Nat)) < σ 9 0 7) := h
    rw [hp] at h
    rw [wr_eq ⟨by omega, by omega⟩] at h
    refine bg_fin (w := 1) (to := wr (((esb E).length : Int) - (efa E k : Nat))) hR hI hrun hF (fun p' e => ?_) (fun e => ?_) (fun r0 σ' hr hf => And.intro hr hf)
    · rw [hq] at e
      obtain ⟨h1, rfl⟩ := some_of_if e
      exact ⟨by rw [wr_eq ⟨by omega, by omega⟩]; omega, rfl⟩
    · rw [hq] at e
      have h1 := none_of_if e
      omega
theorem bg_8 (hk : ekd E k = 8) (hR : RG E kn tx σ0 σ tp p g c q ν n) (hI : IB E k p g c q n) (hrun : aft E f g c q ν n (plA E ν k p) = some (o, y)) (hF : ∀ r σ', Gon E kn tx σ0 (f + 1) o y r σ' → F (some (.inl r)) (nx, σ', rX kn tx)) : bgX SL xs F 351 k (efa E k : Nat) (11 + k) (esb E).length (nx, σ, rX kn tx) := by
  have hS := hR.1.sub
  have hp : σ 9 0 7 = p := hR.2.1
  have hpl := (hI.len hS.2).1
  have hS64 := hS.2
  have hpn : p ≤ (esb E).length := hI.2.1
  obtain ⟨-, -, -, -, hw, hw64⟩ := hR.1.node hI.1
  have hq : plA E ν k p = if p ≤ efa E k ∧ efa E k ≤ (esb E).length then some (efa E k) else none := by simp only [plA, hk]
  refine run 40 ?_
  refine And.intro (fun h => ?_) (fun h => ?_)
  · have h : ((efa E k : Nat) : Int) < σ 9 0 7 := h
    rw [hp] at h
    refine bg_fin (w := 0) (to := (efa E k : Nat)) hR hI hrun hF (fun p' e => ?_) (fun e => rfl) (fun r0 σ' hr hf => And.intro hr hf)
    rw [hq] at e
    obtain ⟨h1, rfl⟩ := some_of_if e
    omega
  · have h : ¬ ((efa E k : Nat) : Int) < σ 9 0 7 := h
    rw [hp] at h
    refine And.intro (fun h2 => ?_) (fun h2 => ?_)
    · have h2 : ((esb E).length : Int) < (efa E k : Nat) := h2
      refine bg_fin (w := 0) (to := (efa E k : Nat)) hR hI hrun hF (fun p' e => ?_) (fun e => rfl) (fun r0 σ' hr hf => And.intro hr hf)
      rw [hq] at e
      obtain ⟨h1, rfl⟩ := some_of_if e
      omega
    · have h2 : ¬ ((esb E).length : Int) < (efa E k : Nat) := h2
      refine bg_fin (w := 1) (to := (efa E k : Nat)) hR hI hrun hF (fun p' e => ?_) (fun e => ?_) (fun r0 σ' hr hf => And.intro hr hf)
      · rw [hq] at e
        obtain ⟨h1, rfl⟩ := some_of_if e
        exact ⟨rfl, rfl⟩
      · rw [hq] at e
        have h1 := none_of_if e
        omega
theorem bg_10 {a : Int} (hk : ekd E k = 10) (hR : RG E kn tx σ0 σ tp p g c q ν n) (hI : IB E k p g c q n) (hrun : aft E f g c q ν n (plA E ν k p) = some (o, y)) (hF : ∀ r σ', Gon E kn tx σ0 (f + 1) o y r σ' → F (some (.inl r)) (nx, σ', rX kn tx)) : bgX SL xs F 401 k a (11 + k) (esb E).length (nx, σ, rX kn tx) := by
  have hq : plA E ν k p = some (esb E).length := by simp only [plA, hk]
  refine run 40 ?_
  refine bg_fin (w := 1) (to := (esb E).length) hR hI hrun hF (fun p' e => ?_) (fun e => ?_) (fun r0 σ' hr hf => And.intro hr hf)
  · rw [hq] at e
    cases e
    exact ⟨rfl, rfl⟩
  · rw [hq] at e
    cases e
theorem bg_22 (hk : ekd E k = 22) (hR : RG E kn tx σ0 σ tp p g c q ν n) (hI : IB E k p g c q n) (hrun : aft E f g c q ν n (plA E ν k p) = some (o, y)) (hF : ∀ r σ', Gon E kn tx σ0 (f + 1) o y r σ' → F (some (.inl r)) (nx, σ', rX kn tx)) : bgX SL xs F 409 k (efa E k : Nat) (11 + k) (esb E).length (nx, σ, rX kn tx) := by
  have hS := hR.1.sub
  have hp : σ 9 0 7 = p := hR.2.1
  have hpl := (hI.len hS.2).1
  have hS64 := hS.2
  have hpn : p ≤ (esb E).length := hI.2.1
  obtain ⟨-, -, -, -, hw, hw64⟩ := hR.1.node hI.1
  have hae : efa E k < 8 := (hR.1.2.1.2.2 k hI.1).2.2.2.2.2 (Or.inr hk)
  obtain ⟨hv, hv64⟩ := hR.1.2.2.2.1 (efa E k) hae
  have hvl : σ 1 (3 + efa E k) 1 = (ν (efa E k)).length := hv.1
  have e : (if ((efa E k : Nat) : Int).toNat < 8 then some (1, 3 + ((efa E k : Nat) : Int).toNat) else none) = some (1, 3 + efa E k) := by rw [Int.toNat_natCast, if_pos hae]
  have ewr : wr (σ 9 0 7 + σ 1 (3 + efa E k) 1) = ((p + (ν (efa E k)).length : Nat) : Int) := by rw [hp, hvl, wr_eq ⟨by omega, by omega⟩]; omega
  have hix : 0 ≤ ((efa E k : Nat) : Int) ∧ ((efa E k : Nat) : Int) < 8 := by omega
  have K : ∀ w : Int, (w = 1 ∧ atT (ν (efa E k)) (esb E) p) ∨ (w = 0 ∧ ¬ atT (ν (efa E k)) (esb E) p) → Xz SL xs (m_Matcher_begins SL xs) F (437, [some (.inr (some (9, 0))), some (.inl (k : Int)), some (.inl ((efa E k : Nat) : Int)), some (.inr (some (1, 11 + k))), some (.inl ((esb E).length : Int))], [.inr (some (1, 3 + efa E k)), .inl (σ 9 0 7), .inl w, .inr (some (9, 0))], (nx, σ, rX kn tx), 0, 0) := by
    intro w hw
    refine run 4 ?_
    refine bg_fin (w := w) (to := wr (σ 9 0 7 + σ 1 (3 + efa E k) 1)) hR hI hrun hF (fun p' e => ?_) (fun e => ?_) (fun r0 σ' hr hf => And.intro hr hf)
    · rcases hw with ⟨hw, hat⟩ | ⟨hw, hat⟩
      · have hpl : plA E ν k p = some (p + (ν (efa E k)).length) := by
          simp only [plA, hk]
          exact if_pos hat
        rw [hpl] at e
        cases e
        exact ⟨ewr, hw⟩
      · have hpl : plA E ν k p = none := by
          simp only [plA, hk]
          exact if_neg hat
        rw [hpl] at e
        cases e
    · rcases hw with ⟨hw, hat⟩ | ⟨hw, hat⟩
      · have hpl : plA E ν k p = some (p + (ν (efa E k)).length) := by
          simp only [plA, hk]
          exact if_pos hat
        rw [hpl] at e
        cases e
      · exact hw
  refine run 17 ?_
  refine And.intro hix ?_
  refine call_any (Y := fun v s' => s' = (nx, σ, rX kn tx) ∧ ∃ w : Int, v = some (.inl w) ∧ ((w = 1 ∧ atT (ν (efa E k)) (esb E) p) ∨ (w = 0 ∧ ¬ atT (ν (efa E k)) (esb E) p))) ?_ ?_
  · show vT 1 (T_Text_isAt SL xs) [.inr (if ((efa E k : Nat) : Int).toNat < 8 then some (1, 3 + ((efa E k : Nat) : Int).toNat) else none), .inr (some (1, 2)), .inl (σ 9 0 7)] (nx, σ, rX kn tx) _
    rw [hp, e]
    exact tw_Text_isAt hv hv64 hS.1 hS.2 hI.2.1 (fun h => ⟨rfl, 1, rfl, Or.inl ⟨rfl, h⟩⟩) (fun h => ⟨rfl, 0, rfl, Or.inr ⟨rfl, h⟩⟩)
  · intro v s' hv
    obtain ⟨rfl, w, rfl, hw⟩ := hv
    have K := K w hw
    rw [← e] at K
    refine And.intro hix ?_
    exact leaf K
theorem aft_B {kd : Nat} (hk : ekd E k = kd) (hkd : kd ≤ 10 ∨ kd = 22) (hrun : runA E (f + 1) (BS k p g c q ν n) = some (o, y)) : aft E f g c q ν n (plA E ν k p) = some (o, y) := by
  have hs : stepB E k p g c q ν n = match plA E ν k p with | some p' => .inl (GS p' g c q ν n) | none => .inl (KS c ν n) := by
    have hcase : kd = 0 ∨ kd = 1 ∨ kd = 2 ∨ kd = 3 ∨ kd = 4 ∨ kd = 5 ∨ kd = 6 ∨ kd = 7 ∨ kd = 8 ∨ kd = 9 ∨ kd = 10 ∨ kd = 22 := by omega
    rcases hcase with rfl | rfl | rfl | rfl | rfl | rfl | rfl | rfl | rfl | rfl | rfl | rfl <;> simp only [stepB, hk] <;> rfl
  rw [runA_B, hs] at hrun
  cases hb : plA E ν k p with
  | some p' => rw [hb] at hrun; exact hrun
  | none => rw [hb] at hrun; exact hrun
theorem RG.count (h : RG E kn tx σ0 σ tp p g c q ν n) : RG E kn tx σ0 (upS σ 9 0 6 ((n + 1 : Nat) : Int)) tp p g c q ν (n + 1) := by
  obtain ⟨⟨f, eo, e, nu, hn⟩, h1, h2, h3, h4, h5, h6, h7, h8⟩ := h
  refine ⟨⟨f.up (by omega) (by omega) (by omega), eo, e, fun v hv => ?_, upS_same⟩, by rw [upS_ne (by omega)]; exact h1, ?_, by rw [upS_ne (by omega)]; exact h3, by omega, by rw [upS_ne (by omega)]; exact h5, ?_, by rw [upS_ne (by omega)]; exact h7, ?_⟩
  · obtain ⟨⟨h4, h5⟩, h6⟩ := nu v hv
    exact ⟨⟨by rw [upS_ne (by omega)]; exact h4, fun i hi => by rw [upS_ne (by omega)]; exact h5 i hi⟩, h6⟩
  · rw [upS_ne (by omega)]
    exact h2.frame (fun a i ha hb hi => upS_ne (by omega))
  · exact h6.frame (fun a i ha hb hi => upS_ne (by omega)) (fun a i ha hb hi => upS_ne (by omega)) (fun a i ha hb hi => upS_ne (by omega))
  · exact h8.frame (fun a i ha hb hi => upS_ne (by omega))
theorem tw_begins {z : Nat} (hR : RG E kn tx σ0 σ tp p g c q ν n) (hI : IG E p ((0, k, z) :: g) c q n) (hrun : runA E f (GS p ((0, k, z) :: g) c q ν n) = some (o, y)) (hF : ∀ r σ', Gon E kn tx σ0 f o y r σ' → F (some (.inl r)) (nx, σ', rX kn tx)) : T_Matcher_begins SL xs [.inr (some (9, 0)), .inl k] (nx, σ, rX kn tx) F := by
  obtain ⟨f, rfl, hrun⟩ := runG hrun
  have hst : σ 9 0 6 = n := hR.1.2.2.2.2
  by_cases hn : n = 3000
  · simp only [stepG, hn, if_true] at hrun
    cases hrun
    refine run 30 ?_
    refine And.intro (fun h => absurd (show σ 9 0 6 = 3000 by rw [hst, hn]; rfl) h) (fun h => ?_)
    exact And.intro (Or.inl rfl) (hF 0 (upS σ 9 0 9 3) (Or.inr ⟨rfl, by omega, upS_same, by subst hn; exact hR.1.up (by omega) (by omega) (by omega)⟩))
  · have hI2 := hI.begin hn
    have hrun : runA E f (BS k p g c q ν (n + 1)) = some (o, y) := by
      have hrun : (match (if n = 3000 then Sum.inr (3, KS c ν n) else Sum.inl (BS k p g c q ν (n + 1)) : As ⊕ (Nat × As)) with | .inl z => runA E f z | .inr z => some z) = some (o, y) := hrun
      rw [if_neg hn] at hrun
      exact hrun
    have hF := fun r σ' (h : Gon E kn tx σ0 f o y r σ') => hF r σ' (h.mono (by omega))
    obtain ⟨f, rfl, -⟩ := runB hrun
    have hn3 := hI2.back.2.2
    have hw : wr (σ 9 0 6 + 1) = ((n + 1 : Nat) : Int) := by rw [hst, wr_eq ⟨by omega, by omega⟩]; omega
    have hR2 := hR.count
    rw [← hw] at hR2
    have ht : tp + 1 ≤ 2 * (n + 1) := by
      have := hR.2.2.2.2.1
      omega
    have hs : ¬ σ 9 0 6 = 3000 := by rw [hst]; omega
    have hk64 : k < 64 := by
      have := hI2.1
      have := hR.1.2.1.2.1
      omega
    obtain ⟨k1, k2, k3, k4, -, -⟩ := hR2.1.node hI2.1
    have hl : (upS σ 9 0 6 (wr (σ 9 0 6 + 1))) 1 2 1 = (esb E).length := hR2.1.sub.1.1
    have hk24 := (hR.1.2.1.2.2 k hI2.1).1
    have fin : ∀ t, (lkI bgL (ekd E k : Nat)).getD 445 = t → bgX SL xs F t k (efa E k : Nat) (11 + k) (esb E).length (nx, upS σ 9 0 6 (wr (σ 9 0 6 + 1)), rX kn tx) → T_Matcher_begins SL xs [.inr (some (9, 0)), .inl k] (nx, σ, rX kn tx) F := fun t h K => bg_sw hk64 k1 k4 h hs rfl (by rw [k2, hl]; exact K)
    generalize hkd : ekd E k = kd at fin hk24
    have cmp : 11 ≤ kd → ¬ kd = 22 → bgX SL xs F 445 k (efa E k : Nat) (11 + k) (esb E).length (nx, upS σ 9 0 6 (wr (σ 9 0 6 + 1)), rX kn tx) := by
      intro h1 h2
      refine run 30 ?_
      refine And.intro ⟨show (0 : Int) ≤ (k : Int) by omega, show (k : Int) < 64 by omega⟩ ?_
      refine call_any (Y := fun v s' => ∃ r0 σ', (r0 = 0 ∨ r0 = 1) ∧ v = some (.inl r0) ∧ s' = (nx, σ', rX kn tx) ∧ Gon E kn tx σ0 (f + 1) o y r0 σ') ?_ ?_
      · show vT 3 (T_Matcher_composes SL xs) [.inr (some (9, 0)), .inl (k : Int), .inl (efa E k : Nat), .inl (upS σ 9 0 6 (wr (σ 9 0 6 + 1)) 7 0 (k : Int).toNat)] (nx, upS σ 9 0 6 (wr (σ 9 0 6 + 1)), rX kn tx) _
        rw [Int.toNat_natCast, k3]
        refine tw_composes hkd ⟨h1, hk24, h2⟩ ht hR2 hI2 hrun (fun r0 σ' hg => ⟨r0, σ', ?_, rfl, rfl, hg⟩)
        rcases hg with h | h
        · exact Or.inr h.1
        · exact Or.inl h.1
      · intro v s' hv
        obtain ⟨r0, σ', hr, rfl, rfl, hg⟩ := hv
        exact And.intro hr (hF r0 σ' hg)
    by_cases hpl : kd ≤ 10 ∨ kd = 22
    · have hrun := aft_B hkd hpl hrun
      have hcase : kd = 0 ∨ kd = 1 ∨ kd = 2 ∨ kd = 3 ∨ kd = 4 ∨ kd = 5 ∨ kd = 6 ∨ kd = 7 ∨ kd = 8 ∨ kd = 9 ∨ kd = 10 ∨ kd = 22 := by omega
      rcases hcase with rfl | rfl | rfl | rfl | rfl | rfl | rfl | rfl | rfl | rfl | rfl | rfl
      · exact fin _ rfl (bg_0 hkd hR2 hI2 hrun hF)
      · exact fin _ rfl (bg_1 hkd hR2 hI2 hrun hF)
      · exact fin _ rfl (bg_2 hkd hR2 hI2 hrun hF)
      · exact fin _ rfl (bg_3 hkd hR2 hI2 hrun hF)
      · exact fin _ rfl (bg_4 hkd hR2 hI2 hrun hF)
      · exact fin _ rfl (bg_5 hkd hR2 hI2 hrun hF)
      · exact fin _ rfl (bg_6 hkd hR2 hI2 hrun hF)
      · exact fin _ rfl (bg_7 hkd hR2 hI2 hrun hF)
      · exact fin _ rfl (bg_8 hkd hR2 hI2 hrun hF)
      · exact fin _ rfl (bg_9 hkd hR2 hI2 hrun hF)
      · exact fin _ rfl (bg_10 hkd hR2 hI2 hrun hF)
      · exact fin _ rfl (bg_22 hkd hR2 hI2 hrun hF)
    · have cmp2 := cmp (by omega) (by omega)
      have hcase : kd = 11 ∨ kd = 12 ∨ kd = 13 ∨ kd = 14 ∨ kd = 15 ∨ kd = 16 ∨ kd = 17 ∨ kd = 18 ∨ kd = 19 ∨ kd = 20 ∨ kd = 21 ∨ kd = 23 := by omega
      rcases hcase with rfl | rfl | rfl | rfl | rfl | rfl | rfl | rfl | rfl | rfl | rfl | rfl <;> exact fin _ rfl cmp2
end
