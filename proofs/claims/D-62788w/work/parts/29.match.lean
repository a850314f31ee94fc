/-! The component: a match -/
def Mt (E : Ev) (k : Nat) : Nat → Nat → Nu → Nat → Nat → Nat → As → Prop
  | 0, b, ν, n, o, bf, y => o = 0 ∧ bf = b ∧ y = KS [] ν n
  | m + 1, b, ν, n, o, bf, y => ∃ f o' y', runA E f (GS b [(0, k, 0)] [] [] ν n) = some (o', y') ∧ ((o' = 0 ∧ Mt E k m (b + 1) (yν y') (yn y') o bf y) ∨ (¬ o' = 0 ∧ o = o' ∧ bf = b + 1 ∧ y = y'))
theorem Mt.ex (E : Ev) (k : Nat) : ∀ (m b : Nat) (ν : Nu) (n : Nat), n ≤ 3000 → ∃ o bf y, Mt E k m b ν n o bf y
  | 0, b, ν, n, hn => ⟨0, b, _, rfl, rfl, rfl⟩
  | m + 1, b, ν, n, hn => by
    obtain ⟨f, ⟨o, y⟩, hr⟩ := (totA E (3000 - n)).2 b [(0, k, 0)] [] [] ν n (by omega)
    by_cases ho : o = 0
    · subst ho
      obtain ⟨o, bf, z, hm⟩ := Mt.ex E k m (b + 1) (yν y) (yn y) (runA_n f (GS b [(0, k, 0)] [] [] ν n) _ _ hn hr)
      exact ⟨o, bf, z, f, 0, y, hr, Or.inl ⟨rfl, hm⟩⟩
    · exact ⟨o, b + 1, y, f, o, y, hr, Or.inr ⟨ho, rfl, rfl, rfl⟩⟩
def keepA (E : Ev) (q : List Kp) (ν : Nu) : Nu := q.foldl (fun ν x => upN ν x.1 (((esb E).drop x.2.1).take (x.2.2 - x.2.1))) ν
/-- what stays during a match -/
def frm (σ0 σ : Sg) : Prop := ∀ a b j, ¬ (9 ≤ a ∧ a ≤ 25) → ¬ ((a = 1 ∨ a = 2) ∧ 2 ≤ b ∧ b < 11) → σ a b j = σ0 a b j
def RB0 (E : Ev) (kn : Nat → Option Nat) (tx : Nat → Bool) (σ : Sg) (ν : Nu) (n : Nat) : Prop := EvOK E ∧ EvC E σ kn tx ∧ NuC ν σ ∧ σ 9 0 6 = n
/-- behind the loop over the places -/
def Mend (E : Ev) (kn : Nat → Option Nat) (tx : Nat → Bool) (σ0 : Sg) (o bf : Nat) (y : As) (σ' : Sg) : Prop :=
  frm σ0 σ' ∧ σ' 9 0 11 = o ∧ σ' 9 0 10 = bf ∧ 1 ≤ bf ∧ bf ≤ 66 ∧ ((o = 1 ∧ ∃ p c q ν n, y = GS p [] c q ν n ∧ p ≤ (esb E).length ∧ RB0 E kn tx σ' ν n ∧ σ' 9 0 7 = p ∧ σ' 22 0 3 = q.length ∧ kpR σ' q ∧ (∀ x ∈ q, wfk E x) ∧ q.length ≤ 3000) ∨ (¬ o = 1 ∧ RB0 E kn tx σ' (yν y) (yn y)))
section
variable {SL : Nat} {xs : Nat → Int} {nx : Nat} {σ σ0 : Sg} {kn : Nat → Option Nat} {tx : Nat → Bool} {F : Option Av → St → Prop} {E : Ev} {ν : Nu} {n o k p tp f : Nat} {g : List Gl} {c : List Ch} {q : List Kp} {y : As}
theorem RB0.rb (h : RB0 E kn tx σ ν n) : RB E kn tx σ σ ν n := ⟨fun _ _ _ _ _ => rfl, h⟩
theorem RB.rb0 (h : RB E kn tx σ0 σ ν n) : RB0 E kn tx σ ν n := ⟨h.2.1, ⟨h.cnt, h.sub.1, fun k hk => h.node hk⟩, h.2.2.2⟩
theorem RB0.up {j : Nat} {v : Int} (h : RB0 E kn tx σ ν n) (hj : ¬ j = 6) : RB0 E kn tx (upS σ 9 0 j v) ν n := by
  obtain ⟨eo, ⟨e1, e2, e3⟩, nu, hn⟩ := h
  refine ⟨eo, ⟨by rw [upS_ne (by omega)]; exact e1, ⟨by rw [upS_ne (by omega)]; exact e2.1, fun i hi => by rw [upS_ne (by omega)]; exact e2.2 i hi⟩, fun k hk => ?_⟩, fun v hv => ?_, by rw [upS_ne (by omega)]; exact hn⟩
  · obtain ⟨h1, h2, h3, h4, h5, h6⟩ := e3 k hk
    exact ⟨h1, by rw [upS_ne (by omega)]; exact h2, by rw [upS_ne (by omega)]; exact h3, h4, ⟨by rw [upS_ne (by omega)]; exact h5.1, fun i hi => by rw [upS_ne (by omega)]; exact h5.2 i hi⟩, h6⟩
  · obtain ⟨h5, h6⟩ := nu v hv
    exact ⟨⟨by rw [upS_ne (by omega)]; exact h5.1, fun i hi => by rw [upS_ne (by omega)]; exact h5.2 i hi⟩, h6⟩
theorem frm.fr {σ1 : Sg} (h : frm σ0 σ) (h2 : fr σ σ1) : frm σ0 σ1 := fun a b j h3 h4 => by rw [h2 a b j (by omega) (by omega), h a b j h3 h4]
theorem frm.up {j : Nat} {v : Int} (h : frm σ0 σ) : frm σ0 (upS σ 9 0 j v) := fun a b j h3 h4 => by rw [upS_ne (by omega), h a b j h3 h4]
theorem Fend.rb (h : Fend E kn tx σ0 o y σ) : RB E kn tx σ0 σ (yν y) (yn y) := by
  rcases h with ⟨-, tp, p, c, q, ν, n, rfl, h, -⟩ | h
  · exact h.1
  · exact h.2
theorem lp_match {last : Nat} {of : Rf} {an : Int} {l5 : Option Av} (hlast : last ≤ (esb E).length) (hk : k < ect E) : ∀ (m b : Nat) (ν : Nu) (n : Nat) (o bf : Nat) (y : As) (σ : Sg), b + m = last + 1 → n ≤ 3000 → Mt E k m b ν n o bf y → RB0 E kn tx σ ν n → frm σ0 σ → σ 9 0 10 = b → σ 9 0 11 = 0 → 1 ≤ b ∨ b ≤ last →
    (∀ σ', Mend E kn tx σ0 o bf y σ' → Xz SL xs (m_Matcher_match SL xs) F (82, [some (.inr (some (9, 0))), some (.inr of), some (.inl k), some (.inl an), some (.inl last), l5], [], (nx, σ', rX kn tx), 0, 0)) →
    Xz SL xs (m_Matcher_match SL xs) F (40, [some (.inr (some (9, 0))), some (.inr of), some (.inl k), some (.inl an), some (.inl last), l5], [], (nx, σ, rX kn tx), 0, 0) := by
  intro m
  induction m with
  | zero =>
    intro b ν n o bf y σ hb hn hm hB hfr h10 h11 hb1 hK
    have hE64 := hB.1.1
    obtain ⟨rfl, rfl, rfl⟩ := hm
    have K := hK σ ⟨hfr, h11, h10, by omega, by omega, Or.inr ⟨by omega, hB⟩⟩
    refine run 4 ?_
    refine And.intro (fun h => leaf K) (fun h => absurd (show (last : Int) < σ 9 0 10 by rw [h10]; omega) h)
  | succ m ih =>
    intro b ν n o bf y σ hb hn hm hB hfr h10 h11 hb1 hK
    have hE64 := hB.1.1
    obtain ⟨f, o', y', hr, hm⟩ := hm
    refine run 20 ?_
    refine And.intro (fun h => ?_) (fun h => ?_)
    · have h : (last : Int) < σ 9 0 10 := h
      rw [h10] at h
      omega
    refine And.intro (fun h => absurd (show σ 9 0 11 = 0 from h11) h) (fun h => ?_)
    refine call_any (Y := fun v s' => v = some (.inl (o' : Int)) ∧ ∃ σ', s' = (nx, σ', rX kn tx) ∧ Fend E kn tx σ o' y' σ') ?_ ?_
    · show vT 3 (T_Matcher_from SL xs) [.inr (some (9, 0)), .inl (σ 9 0 10), .inl (k : Int)] (nx, σ, rX kn tx) _
      rw [h10]
      exact tw_from hB.rb (by omega) hk hn hr (fun σ' hf => ⟨rfl, σ', rfl, hf⟩)
    · intro v s' hv
      obtain ⟨rfl, σ', rfl, hf⟩ := hv
      have h10' : σ' 9 0 10 = b := by rw [hf.rb.1 9 0 10 (by omega) (by omega)]; exact h10
      have hw : wr (σ' 9 0 10 + 1) = ((b + 1 : Nat) : Int) := by rw [h10', wr_eq ⟨by omega, by omega⟩]; omega
      have hfr2 : frm σ0 (upS (upS σ' 9 0 11 o') 9 0 10 (wr (σ' 9 0 10 + 1))) := ((hfr.fr hf.rb.1).up).up
      have e11 : upS (upS σ' 9 0 11 o') 9 0 10 (wr (σ' 9 0 10 + 1)) 9 0 11 = o' := by rw [upS_ne (by omega), upS_same]
      have e10 : upS (upS σ' 9 0 11 o') 9 0 10 (wr (σ' 9 0 10 + 1)) 9 0 10 = ((b + 1 : Nat) : Int) := by rw [upS_same, hw]
      have hB2 : RB0 E kn tx (upS (upS σ' 9 0 11 o') 9 0 10 (wr (σ' 9 0 10 + 1))) (yν y') (yn y') := (hf.rb.rb0.up (by omega)).up (by omega)
      rcases hm with ⟨rfl, hm⟩ | ⟨ho, rfl, rfl, rfl⟩
      · have K := ih (b + 1) (yν y') (yn y') o bf y _ (by omega) (runA_n f (GS b [(0, k, 0)] [] [] ν n) _ _ hn hr) hm hB2 hfr2 e10 e11 (by omega) hK
        exact leaf (by first | exact run 1 K | exact run 2 K | exact run 3 K | exact run 4 K | exact run 5 K | exact run 6 K | exact run 7 K | exact run 8 K)
      · have hM : Mend E kn tx σ0 o (b + 1) y (upS (upS σ' 9 0 11 o) 9 0 10 (wr (σ' 9 0 10 + 1))) := by
          refine ⟨hfr2, e11, e10, by omega, by omega, ?_⟩
          rcases hf with ⟨rfl, tp, p, c, q, ν, n, rfl, hR, hI⟩ | ⟨h1, -⟩
          · refine Or.inl ⟨rfl, p, c, q, ν, n, rfl, hI.1, hB2, ?_, ?_, ?_, hI.2.2.2.2.2.2.2, ?_⟩
            · rw [upS_ne (by omega), upS_ne (by omega)]; exact hR.2.1
            · rw [upS_ne (by omega), upS_ne (by omega)]; exact hR.2.2.2.2.2.2.2.1
            · exact hR.2.2.2.2.2.2.2.2.frame (fun a i _ _ _ => by rw [upS_ne (by omega), upS_ne (by omega)])
            · have := hI.2.2.2.2.2
              omega
          · exact Or.inr ⟨h1, hB2⟩
        have K0 := hK _ hM
        have K : Xz SL xs (m_Matcher_match SL xs) F (40, [some (.inr (some (9, 0))), some (.inr of), some (.inl k), some (.inl an), some (.inl last), l5], [], (nx, upS (upS σ' 9 0 11 o) 9 0 10 (wr (σ' 9 0 10 + 1)), rX kn tx), 0, 0) := by
          refine run 7 ?_
          refine And.intro (fun h => leaf K0) (fun h => ?_)
          refine And.intro (fun h => leaf K0) (fun h => absurd (Classical.not_not.mp h) (show ¬ upS (upS σ' 9 0 11 o) 9 0 10 (wr (σ' 9 0 10 + 1)) 9 0 11 = 0 by rw [e11]; omega))
        exact leaf (by first | exact run 1 K | exact run 2 K | exact run 3 K | exact run 4 K | exact run 5 K | exact run 6 K | exact run 7 K | exact run 8 K)
theorem RB0.set {v : Nat} {l : List Int} {σ' : Sg} (h : RB0 E kn tx σ ν n) (hv : v < 8) (hl : l.length ≤ 64) (hs : setT σ (3 + v) l σ') : RB0 E kn tx σ' (upN ν v l) n := (h.rb.set hv hl hs).rb0
theorem lp_keep {last : Nat} {of : Rf} {an : Int} {q : List Kp} (hq : ∀ x ∈ q, wfk E x) (hq3 : q.length ≤ 3000) (hE64 : (esb E).length ≤ 64) (hF : ∀ σ', frm σ0 σ' → RB0 E kn tx σ' (keepA E q ν) n → (∀ j, σ' 9 0 j = σ 9 0 j) → F (some (.inl (σ' 9 0 11))) (nx, σ', rX kn tx)) : ∀ (m i : Nat) (σ1 : Sg), i + m = q.length → frm σ0 σ1 → RB0 E kn tx σ1 (keepA E (q.take i) ν) n → (∀ j, σ1 9 0 j = σ 9 0 j) → σ1 22 0 3 = q.length → kpR σ1 q →
    Xz SL xs (m_Matcher_match SL xs) F (103, [some (.inr (some (9, 0))), some (.inr of), some (.inl k), some (.inl an), some (.inl last), some (.inl i)], [], (nx, σ1, rX kn tx), 0, 0) := by
  intro m
  induction m with
  | zero =>
    intro i σ1 hi hfr hB h9 h22 hkp
    have hi : i = q.length := by omega
    subst hi
    rw [List.take_length] at hB
    refine run 20 ?_
    refine And.intro (fun h => hF σ1 hfr hB h9) (fun h => absurd (show σ1 22 0 3 ≤ (q.length : Int) by rw [h22]; exact Int.le_refl _) h)
  | succ m ih =>
    intro i σ1 hi hfr hB h9 h22 hkp
    obtain ⟨k1, k2, k3⟩ := hkp i (by omega)
    have hmem : q.getD i (0, 0, 0) ∈ q := by
      rw [List.getD_eq_getElem?_getD, List.getElem?_eq_getElem (by omega)]
      exact List.getElem_mem _
    obtain ⟨w1, w2, w3⟩ := hq _ hmem
    have htk : q.take (i + 1) = q.take i ++ [q.getD i (0, 0, 0)] := by
      rw [List.take_add_one, List.getD_eq_getElem?_getD, List.getElem?_eq_getElem (show i < q.length by omega)]
      rfl
    generalize q.getD i (0, 0, 0) = x at *
    obtain ⟨v, a, u⟩ := x
    simp only at k1 k2 k3 w1 w2 w3
    have hix : (0 : Int) ≤ (i : Int) ∧ (i : Int) < 8192 := by omega
    have e : (if (σ1 23 0 (i : Int).toNat).toNat < 8 then some (1, 3 + (σ1 23 0 (i : Int).toNat).toNat) else none) = some (1, 3 + v) := by rw [Int.toNat_natCast, k1, Int.toNat_natCast, if_pos w1]
    have hS := hB.rb.sub
    have hset := part_set (v := v) hS.1 w2 w3
    have hB2 := hB.set w1 (by simp; omega) hset
    have hw : wr ((i : Int) + 1) = ((i + 1 : Nat) : Int) := by rw [wr_eq ⟨by omega, by omega⟩]; omega
    have K := fun σ' f1 f2 f3 f4 f5 => ih (i + 1) σ' (by omega) f1 f2 f3 f4 f5
    rw [← hw] at K
    refine run 30 ?_
    refine And.intro (fun h => ?_) (fun h => ?_)
    · have h : σ1 22 0 3 ≤ (i : Int) := h
      rw [h22] at h
      omega
    refine And.intro hix ?_
    refine And.intro (by show 0 ≤ σ1 23 0 (i : Int).toNat ∧ σ1 23 0 (i : Int).toNat < 8; rw [Int.toNat_natCast, k1]; omega) ?_
    refine And.intro hix ?_
    refine And.intro hix ?_
    refine call_any (Y := fun v0 s' => v0 = none ∧ ∃ σ', s' = (nx, σ', rX kn tx) ∧ setT σ1 (3 + v) (((esb E).drop a).take (u - a)) σ' ∧ RB0 E kn tx σ' (upN (keepA E (q.take i) ν) v (((esb E).drop a).take (u - a))) n) ?_ ?_
    · show vT 1 (T_Text_part SL xs) [.inr (if (σ1 23 0 (i : Int).toNat).toNat < 8 then some (1, 3 + (σ1 23 0 (i : Int).toNat).toNat) else none), .inr (some (2, 2)), .inl (σ1 24 0 (i : Int).toNat), .inl (σ1 25 0 (i : Int).toNat)] (nx, σ1, rX kn tx) _
      rw [e, Int.toNat_natCast, k2, k3]
      exact tw_Text_part (t := 3 + v) (b0 := 2) (f := (a : Int)) (u := (u : Int)) ⟨by omega, by omega, by omega⟩ ⟨rfl, _, rfl, hset, hB2⟩
    · intro v0 s' hv0
      obtain ⟨rfl, σ', rfl, hs, hB3⟩ := hv0
      have ne : ∀ a b j, 9 ≤ a → σ' a b j = σ1 a b j := fun a b j ha => hs.2 a b j (by omega) (by omega)
      have K := K σ' (fun a' b' j' h3 h4 => by rw [hs.2 a' b' j' (by omega) (by omega)]; exact hfr a' b' j' h3 h4) (by rw [htk]; simp only [keepA, List.foldl_append, List.foldl_cons, List.foldl_nil]; exact hB3) (fun j => by rw [ne 9 0 j (by omega)]; exact h9 j) (by rw [ne 22 0 3 (by omega)]; exact h22) (hkp.frame (fun a' i' _ _ _ => ne a' 0 i' (by omega)))
      exact leaf (by first | exact run 1 K | exact run 2 K | exact run 3 K)
def RM (E : Ev) (kn : Nat → Option Nat) (tx : Nat → Bool) (σ : Sg) (ν : Nu) : Prop := EvOK E ∧ σ 4 0 4 = ect E ∧ (∀ k, k < ect E → kn k = some (ekd E k) ∧ σ 6 0 k = efa E k ∧ σ 7 0 k = efb E k ∧ tx k = true ∧ tl (σ 2 (11 + k)) (σ 1 (11 + k) 1) (ewd E k) ∧ (ewd E k).length ≤ 64) ∧ NuC ν σ
/-- how a match ends -/
def Mfin (E : Ev) (kn : Nat → Option Nat) (tx : Nat → Bool) (σ0 : Sg) (o bf : Nat) (y : As) (σ' : Sg) : Prop :=
  frm σ0 σ' ∧ σ' 9 0 11 = o ∧ ((o = 1 ∧ ∃ p c q ν n, y = GS p [] c q ν n ∧ p ≤ (esb E).length ∧ RB0 E kn tx σ' (keepA E q ν) n ∧ σ' 9 0 7 = p ∧ 1 ≤ bf ∧ bf ≤ 66 ∧ σ' 9 0 10 = (bf : Int) - 1) ∨ (¬ o = 1 ∧ RB0 E kn tx σ' (yν y) (yn y)))
def bcS (σ : Sg) (v : Nat) : Sg := upS (cpS (upS σ 1 2 1 (σ 1 (3 + v) 1)) 2 (3 + v) 0 2 2 0 (σ 1 (3 + v) 1).toNat) 9 0 6 0
theorem bc_ne {v a b j : Nat} (h1 : ¬ (a = 9 ∧ j = 6)) (h2 : ¬ ((a = 1 ∨ a = 2) ∧ b = 2)) : bcS σ v a b j = σ a b j := by
  unfold bcS
  rw [upS_ne (by omega)]
  have e : cpS (upS σ 1 2 1 (σ 1 (3 + v) 1)) 2 (3 + v) 0 2 2 0 (σ 1 (3 + v) 1).toNat a b j = upS σ 1 2 1 (σ 1 (3 + v) 1) a b j := if_neg (by omega)
  rw [e, upS_ne (by omega)]
theorem RM.start {v : Nat} (h : RM E kn tx σ ν) (hv : v < 8) (hE : esb E = ν v) : RB0 E kn tx (bcS σ v) ν 0 := by
  obtain ⟨eo, h1, h2, h3⟩ := h
  obtain ⟨t1, t2⟩ := h3 v hv
  have hlen : σ 1 (3 + v) 1 = (ν v).length := t1.1
  refine ⟨eo, ⟨by rw [bc_ne (by omega) (by omega)]; exact h1, ⟨?_, fun i hi => ?_⟩, fun k hk => ?_⟩, fun w hw => ?_, upS_same⟩
  · rw [hE, ← hlen]
    unfold bcS
    rw [upS_ne (by omega)]
    have e : cpS (upS σ 1 2 1 (σ 1 (3 + v) 1)) 2 (3 + v) 0 2 2 0 (σ 1 (3 + v) 1).toNat 1 2 1 = upS σ 1 2 1 (σ 1 (3 + v) 1) 1 2 1 := if_neg (by omega)
    rw [e, upS_same]
  · rw [hE] at hi ⊢
    unfold bcS
    rw [upS_ne (by omega)]
    have e : cpS (upS σ 1 2 1 (σ 1 (3 + v) 1)) 2 (3 + v) 0 2 2 0 (σ 1 (3 + v) 1).toNat 2 2 i = upS σ 1 2 1 (σ 1 (3 + v) 1) 2 (3 + v) (0 + (i - 0)) := if_pos ⟨rfl, rfl, by omega, by omega⟩
    rw [e, upS_ne (by omega), Nat.zero_add]
    exact t1.2 i hi
  · obtain ⟨k1, k2, k3, k4, k5, k6⟩ := h2 k hk
    exact ⟨k1, by rw [bc_ne (by omega) (by omega)]; exact k2, by rw [bc_ne (by omega) (by omega)]; exact k3, k4, ⟨by rw [bc_ne (by omega) (by omega)]; exact k5.1, fun i hi => by rw [bc_ne (by omega) (by omega)]; exact k5.2 i hi⟩, k6⟩
  · obtain ⟨k5, k6⟩ := h3 w hw
    exact ⟨⟨by rw [bc_ne (by omega) (by omega)]; exact k5.1, fun i hi => by rw [bc_ne (by omega) (by omega)]; exact k5.2 i hi⟩, k6⟩
theorem tw_Matcher_match {v : Nat} {an : Int} {bf : Nat} (h : RM E kn tx σ ν) (hv : v < 8) (hE : esb E = ν v) (hk : k < ect E) (hm : Mt E k ((if an = 0 then (esb E).length else 0) + 1) 0 ν 0 o bf y) (hF : ∀ σ', Mfin E kn tx σ o bf y σ' → F (some (.inl o)) (nx, σ', rX kn tx)) : T_Matcher_match SL xs [.inr (some (9, 0)), .inr (some (1, 3 + v)), .inl k, .inl an] (nx, σ, rX kn tx) F := by
  have hB := h.start hv hE
  obtain ⟨eo, h1, h2, h3⟩ := h
  obtain ⟨t1, t2⟩ := h3 v hv
  have hlen : σ 1 (3 + v) 1 = (ν v).length := t1.1
  have hE64 := eo.1
  have hfr : frm σ (bcS σ v) := fun a b j h3 h4 => bc_ne (by omega) (by omega)
  have hsz : bcS σ v 1 2 1 = (esb E).length := hB.rb.sub.1.1
  have tail : ∀ (last : Nat) (σ1 : Sg), Mend E kn tx σ o bf y σ1 → Xz SL xs (m_Matcher_match SL xs) F (82, [some (.inr (some (9, 0))), some (.inr (some (1, 3 + v))), some (.inl k), some (.inl an), some (.inl last), none], [], (nx, σ1, rX kn tx), 0, 0) := by
    intro last σ1 hM
    obtain ⟨f1, m11, m10, mb1, mb2, hM⟩ := hM
    have ew : wr (σ1 9 0 10 - 1) = (bf : Int) - 1 := by rw [m10, wr_eq ⟨by omega, by omega⟩]
    refine run 12 ?_
    rcases hM with ⟨rfl, p, c, q, ν', n', rfl, hp, hB1, m7, m22, mk, mq, mq3⟩ | ⟨ho, hB1⟩
    · refine And.intro (fun h => absurd (show upS σ1 9 0 10 (wr (σ1 9 0 10 - 1)) 9 0 11 = 1 by rw [upS_ne (by omega)]; exact m11) h) (fun h => ?_)
      have K := lp_keep (SL := SL) (xs := xs) (nx := nx) (F := F) (k := k) (last := last) (of := some (1, 3 + v)) (an := an) (σ0 := σ) (σ := upS σ1 9 0 10 (wr (σ1 9 0 10 - 1))) (kn := kn) (tx := tx) (E := E) (ν := ν') (n := n') (q := q) mq mq3 hE64 (fun σ' q1 q2 q3 => ?_) q.length 0 (upS σ1 9 0 10 (wr (σ1 9 0 10 - 1))) (by omega) f1.up (by exact hB1.up (by omega)) (fun j => rfl) (by rw [upS_ne (by omega)]; exact m22) (mk.frame (fun a i _ _ _ => by rw [upS_ne (by omega)]))
      · exact leaf (by first | exact run 1 K | exact run 2 K | exact run 3 K)
      · have e11 : σ' 9 0 11 = (1 : Nat) := by rw [q3 11, upS_ne (by omega)]; exact m11
        rw [e11]
        exact hF σ' ⟨q1, e11, Or.inl ⟨rfl, p, c, q, ν', n', rfl, hp, q2, by rw [q3 7, upS_ne (by omega)]; exact m7, mb1, mb2, by rw [q3 10, upS_same]; exact ew⟩⟩
    · refine And.intro (fun h => ?_) (fun h => ?_)
      · have e11 : upS σ1 9 0 10 (wr (σ1 9 0 10 - 1)) 9 0 11 = o := by rw [upS_ne (by omega)]; exact m11
        have K := hF (upS σ1 9 0 10 (wr (σ1 9 0 10 - 1))) ⟨f1.up, e11, Or.inr ⟨ho, hB1.up (by omega)⟩⟩
        rw [← e11] at K
        have K2 : Xz SL xs (m_Matcher_match SL xs) F (166, [some (.inr (some (9, 0))), some (.inr (some (1, 3 + v))), some (.inl k), some (.inl an), some (.inl last), none], [], (nx, upS σ1 9 0 10 (wr (σ1 9 0 10 - 1)), rX kn tx), 0, 0) := run 10 K
        exact leaf K2
      · have h : upS σ1 9 0 10 (wr (σ1 9 0 10 - 1)) 9 0 11 = 1 := Classical.not_not.mp h
        rw [upS_ne (by omega), m11] at h
        omega
  refine run 20 ?_
  refine call_eq (fun F hF => tw_Text_become (t := 2) (o := 3 + v) (by rw [hlen]; omega) hF) ?_
  refine And.intro (fun h => ?_) (fun h => ?_)
  · have h : an = 0 := h
    rw [if_pos h] at hm
    have K := lp_match (SL := SL) (xs := xs) (nx := nx) (F := F) (σ0 := σ) (last := (esb E).length) (of := some (1, 3 + v)) (an := an) (l5 := none) (Nat.le_refl _) hk _ _ _ _ _ _ _ (upS (upS (bcS σ v) 9 0 11 0) 9 0 10 0) (by omega) (by omega) hm ((hB.up (by omega)).up (by omega)) ((hfr.up).up) upS_same (by rw [upS_ne (by omega), upS_same]) (by omega) (tail _)
    rw [← hsz] at K
    exact leaf (by first | exact run 1 K | exact run 2 K | exact run 3 K | exact run 4 K | exact run 5 K | exact run 6 K | exact run 7 K | exact run 8 K | exact run 9 K | exact run 10 K | exact run 11 K | exact run 12 K)
  · have h : ¬ an = 0 := h
    rw [if_neg h] at hm
    have K := lp_match (SL := SL) (xs := xs) (nx := nx) (F := F) (σ0 := σ) (last := 0) (of := some (1, 3 + v)) (an := an) (l5 := none) (Nat.zero_le _) hk _ _ _ _ _ _ _ (upS (upS (bcS σ v) 9 0 11 0) 9 0 10 0) (by omega) (by omega) hm ((hB.up (by omega)).up (by omega)) ((hfr.up).up) upS_same (by rw [upS_ne (by omega), upS_same]) (by omega) (tail _)
    exact leaf (by first | exact run 1 K | exact run 2 K | exact run 3 K | exact run 4 K | exact run 5 K | exact run 6 K | exact run 7 K | exact run 8 K | exact run 9 K | exact run 10 K | exact run 11 K | exact run 12 K)
end
