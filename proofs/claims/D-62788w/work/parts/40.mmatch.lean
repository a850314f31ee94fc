/-! The model: a match -/
/-- what stays during a match of the model -/
def frmM (σ0 σ : Sg) : Prop := ∀ a b j, ¬ (a = 28 ∨ a = 29 ∨ (35 ≤ a ∧ a ≤ 44)) → ¬ (a = 26 ∧ (j = 0 ∨ (11 ≤ j ∧ j ≤ 14) ∨ j = 16 ∨ (25 ≤ j ∧ j ≤ 29))) → σ a b j = σ0 a b j
def MMf (E : Ev) (σ0 : Sg) (o bf : Nat) (y : As) (σ' : Sg) : Prop := frmM σ0 σ' ∧ σ' 26 0 11 = 1 ∧
  ((o = 1 ∧ ∃ p c q ν n, y = GS p [] c q ν n ∧ (bf : Int) - 1 ≤ p ∧ p ≤ (esb E).length ∧ NuM (keepA E q ν) σ' ∧ σ' 26 0 12 = (bf : Int) - 1 ∧ σ' 26 0 13 = p ∧ σ' 26 0 14 = n) ∨ (¬ o = 1 ∧ NuM (yν y) σ' ∧ σ' 26 0 12 = -1 ∧ σ' 26 0 13 = -1 ∧ σ' 26 0 14 = (yn y : Nat)))
section
variable {SL : Nat} {xs : Nat → Int} {nx : Nat} {σ σ0 σ' σ1 σ9 : Sg} {kn : Nat → Option Nat} {tx : Nat → Bool} {F : Option Av → St → Prop} {E : Ev} {ν : Nu} {k p n r m f o M h p' u ku pu mu v bf : Nat} {root : Nat × Nat} {y : As}
theorem frmM.frt (h : frmM σ9 σ0) (h2 : frt σ0 σ) : frmM σ9 σ := fun a b j h3 h4 => by rw [h2 a b j (by omega) (by omega), h a b j h3 h4]
/-- at the end, by the row of the match -/
theorem mm_166 {last c : Int} {an : Int} {res : Int} (hfr : frmM σ9 σ0) (h11 : σ0 26 0 11 = 1) (h12 : σ0 26 0 12 = -1) (h13 : σ0 26 0 13 = -1) (hT : TrE E σ0 (n, bf) o y res σ) (hF : ∀ σ', MMf E σ9 o (bf + 1) y σ' → F (some (.inl o)) (nx, σ', rX kn tx)) : Xz SL xs (m_Model_match SL xs) F (166, [some (.inr (some (26, 0))), some (.inl v), some (.inl k), some (.inl an), some (.inl last), some (.inl res), some (.inl c)], [], (nx, σ, rX kn tx), 0, 0) := by
  have hno : ∀ (hB : MB E σ0 σ (yν y) (yn y)), ¬ o = 1 → MMf E σ9 o (bf + 1) y σ := fun hB ho => ⟨hfr.frt hB.1, by rw [hB.1 26 0 11 (by omega) (by omega)]; exact h11, Or.inr ⟨ho, hB.2.2.2.1, by rw [hB.1 26 0 12 (by omega) (by omega)]; exact h12, by rw [hB.1 26 0 13 (by omega) (by omega)]; exact h13, hB.2.2.2.2.1⟩⟩
  rcases hT with ⟨rfl, rfl, ν', n', m, k', p', C, Q', rfl, hB, hn3, hD, hs, h28, h29, h25a, h25b⟩ | ⟨rfl, rfl, h28, h29, hB, -⟩ | ⟨rfl, rfl, h28, hB⟩ | ⟨rfl, rfl, h28, h29, hB⟩
  · have hrn : n < n' := hD.lt
    obtain ⟨⟨-, w2, -, -⟩, d1, d2, d3⟩ := hD.rw
    have d2 : bf ≤ p' := d2
    have w2 : σ 37 0 n = bf := w2
    have d1 : σ 38 0 n = p' := d1
    have hin : (0 : Int) ≤ (n : Int) ∧ (n : Int) < 3000 := by omega
    have ex : ∀ a b j, ¬ (a = 26 ∧ (j = 12 ∨ j = 13)) → upS (upS σ 26 0 12 (bf : Int)) 26 0 13 (p' : Int) a b j = σ a b j := fun a b j h => by rw [upS_ne (by omega), upS_ne (by omega)]
    have hB2 : MB E (upS (upS σ 26 0 12 (bf : Int)) 26 0 13 (p' : Int)) (upS (upS σ 26 0 12 (bf : Int)) 26 0 13 (p' : Int)) ν' n' := by
      have hE := hB.ev
      obtain ⟨e1, e2, e3⟩ := hE
      refine ⟨fun _ _ _ _ _ => rfl, hB.2.1, ⟨by rw [ex 26 0 5 (by omega)]; exact e1, ⟨by rw [ex 26 0 16 (by omega)]; exact e2.1, fun i hi => by rw [ex 35 0 i (by omega)]; exact e2.2 i hi⟩, fun k hk => ?_⟩, fun w hw => ?_, by rw [ex 26 0 14 (by omega)]; exact hB.2.2.2.2.1, hB.2.2.2.2.2⟩
      · obtain ⟨k1, k2, k3, k4, k5⟩ := e3 k hk
        exact ⟨by rw [ex 30 0 k (by omega)]; exact k1, by rw [ex 31 0 k (by omega)]; exact k2, by rw [ex 32 0 k (by omega)]; exact k3, ⟨by rw [ex 34 0 k (by omega)]; exact k4.1, fun i hi => by show upS (upS σ 26 0 12 (bf : Int)) 26 0 13 (p' : Int) 33 0 (64 * k + i) = _; rw [ex 33 0 _ (by omega)]; exact k4.2 i hi⟩, k5⟩
      · obtain ⟨h5, h6⟩ := hB.2.2.2.1 w hw
        exact ⟨⟨by rw [ex 29 0 w (by omega)]; exact h5.1, fun i hi => by show upS (upS σ 26 0 12 (bf : Int)) 26 0 13 (p' : Int) 28 0 (64 * w + i) = _; rw [ex 28 0 _ (by omega)]; exact h5.2 i hi⟩, h6⟩
    have hD2 : Dn E (upS (upS σ 26 0 12 (bf : Int)) 26 0 13 (p' : Int)) m n' n k' bf p' [] [] [] C Q' := hD.frame (fun a i h1 h2 h3 h4 => ex a 0 i (by omega))
    have hs2 : Srt (upS (upS σ 26 0 12 (bf : Int)) 26 0 13 (p' : Int)) Q' := hs.frame (fun x _ => ex 43 0 x.1 (by omega)) (by rw [ex 26 0 25 (by omega)]; exact Int.le_refl _)
    have Kk := tw_Model_keep (SL := SL) (xs := xs) (nx := nx) (kn := kn) (tx := tx) (F := fun v s' => v = none ∧ ∃ σ', s' = (nx, σ', rX kn tx) ∧ MMf E σ9 1 (bf + 1) (GS p' [] C (qm Q') ν' n') σ') hB2 hn3 hD2 hs2 (by rw [ex 26 0 25 (by omega)]; exact ⟨h25a, h25b⟩) (fun σ' f1 hB3 => ⟨rfl, σ', rfl, ?_⟩)
    · have es : upS (upS σ 26 0 12 (bf : Int)) 26 0 13 (p' : Int) = upS (upS σ 26 0 12 (σ 37 0 (n : Int).toNat)) 26 0 13 (upS σ 26 0 12 (σ 37 0 (n : Int).toNat) 38 0 (n : Int).toNat) := by
        rw [Int.toNat_natCast, upS_ne (f := σ) (by omega), w2, d1]
      rw [es] at Kk
      refine run 30 ?_
      refine And.intro (fun h => absurd (show (n : Int) = -1 from h) (by omega)) (fun h => ?_)
      refine And.intro hin ?_
      refine And.intro hin ?_
      refine call_any (Y := fun v s' => v = none ∧ ∃ σ', s' = (nx, σ', rX kn tx) ∧ MMf E σ9 1 (bf + 1) (GS p' [] C (qm Q') ν' n') σ') Kk ?_
      intro v s' hv
      obtain ⟨rfl, σ', rfl, hM⟩ := hv
      exact hF σ' hM
    · refine ⟨fun a b j h3 h4 => ?_, ?_, Or.inl ⟨rfl, p', C, qm Q', ν', n', rfl, by omega, d3, hB3.2.2.2.1, ?_, ?_, hB3.2.2.2.2.1⟩⟩
      · rw [f1 a b j (by omega), ex a b j (by omega)]
        exact (hfr.frt hB.1) a b j h3 h4
      · rw [f1 26 0 11 (by omega), ex 26 0 11 (by omega), hB.1 26 0 11 (by omega) (by omega)]; exact h11
      · rw [f1 26 0 12 (by omega), upS_ne (by omega), upS_same]; omega
      · rw [f1 26 0 13 (by omega), upS_same]
  · have K := hF σ (hno hB (by omega))
    refine run 20 ?_
    refine And.intro (fun h => ?_) (fun h => absurd rfl h)
    refine And.intro (fun h => ?_) (fun h => absurd (show σ 26 0 28 = 0 from h28) h)
    refine And.intro (fun h => K) (fun h => absurd (show σ 26 0 29 = 0 from h29) h)
  · have K := hF σ (hno hB (by omega))
    refine run 20 ?_
    refine And.intro (fun h => ?_) (fun h => absurd rfl h)
    refine And.intro (fun h => absurd (show σ 26 0 28 = 0 from h) (by rw [h28]; omega)) (fun h => K)
  · have K := hF σ (hno hB (by omega))
    refine run 20 ?_
    refine And.intro (fun h => ?_) (fun h => absurd rfl h)
    refine And.intro (fun h => ?_) (fun h => absurd (show σ 26 0 28 = 0 from h28) h)
    refine And.intro (fun h => absurd (show σ 26 0 29 = 0 from h) (by rw [h29]; omega)) (fun h => K)
theorem lp_mm {last : Nat} {an : Int} (hlast : last ≤ (esb E).length) (hk : k < ect E) (hfr : frmM σ9 σ0) (h11 : σ0 26 0 11 = 1) (h12 : σ0 26 0 12 = -1) (h13 : σ0 26 0 13 = -1) : ∀ (m b : Nat) (ν : Nu) (n o bf : Nat) (y : As) (σ : Sg), b + m = last + 1 → n ≤ 3000 → Mt E k m b ν n o bf y → MB E σ0 σ ν n → σ 26 0 28 = 0 → σ 26 0 29 = 0 → 0 ≤ σ 26 0 25 ∧ σ 26 0 25 ≤ 3001 * n →
    (∀ σ', MMf E σ9 o bf y σ' → F (some (.inl o)) (nx, σ', rX kn tx)) → Xz SL xs (m_Model_match SL xs) F (124, [some (.inr (some (26, 0))), some (.inl v), some (.inl k), some (.inl an), some (.inl last), some (.inl (-1)), some (.inl b)], [], (nx, σ, rX kn tx), 0, 0) := by
  intro m
  induction m with
  | zero =>
    intro b ν n o bf y σ hb hn hm hB h28 h29 h25 hF
    have hE64 := hB.2.1.1
    obtain ⟨rfl, rfl, rfl⟩ := hm
    have K := hF σ ⟨hfr.frt hB.1, by rw [hB.1 26 0 11 (by omega) (by omega)]; exact h11, Or.inr ⟨by omega, hB.2.2.2.1, by rw [hB.1 26 0 12 (by omega) (by omega)]; exact h12, by rw [hB.1 26 0 13 (by omega) (by omega)]; exact h13, hB.2.2.2.2.1⟩⟩
    refine run 20 ?_
    refine And.intro (fun h => ?_) (fun h => absurd (show (last : Int) < (bf : Int) by omega) h)
    refine And.intro (fun h => ?_) (fun h => absurd rfl h)
    refine And.intro (fun h => ?_) (fun h => absurd (show σ 26 0 28 = 0 from h28) h)
    refine And.intro (fun h => K) (fun h => absurd (show σ 26 0 29 = 0 from h29) h)
  | succ m ih =>
    intro b ν n o bf y σ hb hn hm hB h28 h29 h25 hF
    have hE64 := hB.2.1.1
    obtain ⟨f, o', y', hr, hm⟩ := hm
    have hw : wr ((b : Int) + 1) = ((b + 1 : Nat) : Int) := by rw [wr_eq ⟨by omega, by omega⟩]; omega
    refine run 24 ?_
    refine And.intro (fun h => absurd (show (last : Int) < (b : Int) from h) (by omega)) (fun h => ?_)
    refine And.intro (fun h => absurd rfl h) (fun h => ?_)
    refine And.intro (fun h => absurd (show σ 26 0 28 = 0 from h28) h) (fun h => ?_)
    refine And.intro (fun h => absurd (show σ 26 0 29 = 0 from h29) h) (fun h => ?_)
    refine call_any (Y := fun v s' => ∃ res σ', v = some (.inl res) ∧ s' = (nx, σ', rX kn tx) ∧ TrE E σ0 (n, b) o' y' res σ') (tw_Model_tries hB hn h28 h29 h25 hk (by omega) hr (fun res σ' h => ⟨res, σ', rfl, rfl, h⟩)) ?_
    intro v0 s' hv
    obtain ⟨res, σ', rfl, rfl, hT⟩ := hv
    rcases hm with ⟨rfl, hm⟩ | ⟨ho, rfl, rfl, rfl⟩
    · have hT2 := hT
      rcases hT with ⟨h, -⟩ | ⟨-, rfl, g28, g29, gB, gn, g25a, g25b⟩ | ⟨h, -⟩ | ⟨h, -⟩
      · omega
      · have K := ih (b + 1) (yν y') (yn y') o bf y σ' (by omega) gn hm gB g28 g29 ⟨g25a, g25b⟩ hF
        rw [← hw] at K
        exact leaf (by first | exact run 1 K | exact run 2 K | exact run 3 K)
      · omega
      · omega
    · have K166 := mm_166 (SL := SL) (xs := xs) (nx := nx) (kn := kn) (tx := tx) (F := F) (v := v) (k := k) (an := an) (last := (last : Int)) (c := ((b + 1 : Nat) : Int)) hfr h11 h12 h13 hT hF
      have K : Xz SL xs (m_Model_match SL xs) F (124, [some (.inr (some (26, 0))), some (.inl v), some (.inl k), some (.inl an), some (.inl last), some (.inl res), some (.inl ((b + 1 : Nat) : Int))], [], (nx, σ', rX kn tx), 0, 0) := by
        refine run 12 ?_
        refine And.intro (fun h => leaf K166) (fun h => ?_)
        refine And.intro (fun h => leaf K166) (fun h => ?_)
        have hres : res = -1 := Classical.not_not.mp h
        refine And.intro (fun h => leaf K166) (fun h => ?_)
        have g28 : σ' 26 0 28 = 0 := Classical.not_not.mp h
        refine And.intro (fun h => leaf K166) (fun h => ?_)
        have g29 : σ' 26 0 29 = 0 := Classical.not_not.mp h
        exfalso
        rcases hT with ⟨-, h1, -⟩ | ⟨h1, -⟩ | ⟨-, -, h1, -⟩ | ⟨-, -, -, h1, -⟩
        · rw [hres] at h1
          omega
        · exact ho h1
        · omega
        · omega
      rw [← hw] at K
      exact leaf (by first | exact run 1 K | exact run 2 K | exact run 3 K)
def RMm (E : Ev) (σ : Sg) (ν : Nu) : Prop := EvOK E ∧ σ 26 0 5 = ect E ∧ (∀ k, k < ect E → σ 30 0 k = ekd E k ∧ σ 31 0 k = efa E k ∧ σ 32 0 k = efb E k ∧ tl (fun i => σ 33 0 (64 * k + i)) (σ 34 0 k) (ewd E k) ∧ (ewd E k).length ≤ 64) ∧ NuM ν σ ∧ byt (esb E)
theorem lp_mcopy {l : List Int} {an : Int} {kk : Int} (hl : tl (fun i => σ 28 0 (64 * v + i)) l.length l) (h64 : l.length ≤ 64) (hv : v < 8) (hb : byt l) (hK : ∀ σ1, (∀ j, j < l.length → σ1 35 0 j = l.getD j 0) → (∀ a b j, ¬ a = 35 → σ1 a b j = σ a b j) → Xz SL xs (m_Model_match SL xs) F (69, [some (.inr (some (26, 0))), some (.inl v), some (.inl kk), some (.inl an), some (.inl l.length), none, none], [], (nx, σ1, rX kn tx), 0, 0)) (h16 : σ 26 0 16 = l.length) : ∀ (m i : Nat) (σ1 : Sg), i + m = l.length → (∀ j, j < i → σ1 35 0 j = l.getD j 0) → (∀ a b j, ¬ a = 35 → σ1 a b j = σ a b j) → Xz SL xs (m_Model_match SL xs) F (35, [some (.inr (some (26, 0))), some (.inl v), some (.inl kk), some (.inl an), some (.inl i), none, none], [], (nx, σ1, rX kn tx), 0, 0) := by
  intro m
  induction m with
  | zero =>
    intro i σ1 hi h1 h2
    have hi : i = l.length := by omega
    subst hi
    refine run 4 ?_
    refine And.intro (fun h => leaf (hK σ1 h1 h2)) (fun h => absurd (show σ1 26 0 16 ≤ (l.length : Int) by rw [h2 26 0 16 (by omega), h16]; exact Int.le_refl _) h)
  | succ m ih =>
    intro i σ1 hi h1 h2
    have hw6 := w64 (k := v) (i := i) (by omega) (by omega)
    have hwi : wr ((i : Int) + 1) = ((i + 1 : Nat) : Int) := by rw [wr_eq ⟨by omega, by omega⟩]; omega
    have hsg : σ1 28 0 (wr (wr (64 * (v : Int)) + (i : Int))).toNat = l.getD i 0 := by rw [hw6, Int.toNat_natCast, h2 28 0 _ (by omega)]; exact hl.2 i (by omega)
    have hb8 : b8 (l.getD i 0) = l.getD i 0 := by
      refine hb _ ?_
      rw [List.getD_eq_getElem?_getD, List.getElem?_eq_getElem (by omega)]
      exact List.getElem_mem _
    have K := ih (i + 1) (upS σ1 35 0 i (l.getD i 0)) (by omega) (fun j hj => by
      by_cases hji : j = i
      · subst hji
        exact upS_same
      · rw [upS_ne (by omega)]
        exact h1 j (by omega)) (fun a b j h => by rw [upS_ne (by omega)]; exact h2 a b j h)
    rw [← hb8, ← hsg, ← hwi, show i = (i : Int).toNat by rw [Int.toNat_natCast]] at K
    rw [Int.toNat_natCast] at K
    refine run 24 ?_
    refine And.intro (fun h => ?_) (fun h => ?_)
    · have h : σ1 26 0 16 ≤ (i : Int) := h
      rw [h2 26 0 16 (by omega), h16] at h
      omega
    refine And.intro (by show 0 ≤ wr (wr (64 * (v : Int)) + (i : Int)) ∧ wr (wr (64 * (v : Int)) + (i : Int)) < 512; rw [hw6]; omega) ?_
    refine And.intro ⟨show (0 : Int) ≤ (i : Int) by omega, show (i : Int) < 64 by omega⟩ ?_
    exact leaf (by first | exact run 1 K | exact run 2 K | exact run 3 K)
theorem tw_Model_match {an : Int} (h : RMm E σ ν) (hv : v < 8) (hE : esb E = ν v) (hk : k < ect E) (hm : Mt E k ((if an = 0 then (esb E).length else 0) + 1) 0 ν 0 o bf y) (hF : ∀ σ', MMf E σ o bf y σ' → F (some (.inl o)) (nx, σ', rX kn tx)) : T_Model_match SL xs [.inr (some (26, 0)), .inl v, .inl k, .inl an] (nx, σ, rX kn tx) F := by
  obtain ⟨eo, g5, gk, gN, gb⟩ := h
  obtain ⟨hvt, hv64⟩ := gN v hv
  have hvl : σ 29 0 v = (ν v).length := hvt.1
  have hiv : (0 : Int) ≤ (v : Int) ∧ (v : Int) < 8 := by omega
  have K69 : ∀ σ1, (∀ j, j < (ν v).length → σ1 35 0 j = (ν v).getD j 0) → (∀ a b j, ¬ a = 35 → σ1 a b j = upS (upS σ 26 0 0 0) 26 0 16 ((ν v).length : Int) a b j) → Xz SL xs (m_Model_match SL xs) F (69, [some (.inr (some (26, 0))), some (.inl v), some (.inl (k : Int)), some (.inl an), some (.inl (ν v).length), none, none], [], (nx, σ1, rX kn tx), 0, 0) := by
    intro σ1 h1 h2
    have ex : ∀ a b j, ¬ a = 35 → ¬ (a = 26 ∧ (j = 0 ∨ (11 ≤ j ∧ j ≤ 14) ∨ j = 16 ∨ (25 ≤ j ∧ j ≤ 29))) → upS (upS (upS (upS (upS (upS (upS σ1 26 0 11 1) 26 0 12 (-1)) 26 0 13 (-1)) 26 0 14 0) 26 0 25 0) 26 0 28 0) 26 0 29 0 a b j = σ a b j := by
      intro a b j h3 h4
      rw [upS_ne (by omega), upS_ne (by omega), upS_ne (by omega), upS_ne (by omega), upS_ne (by omega), upS_ne (by omega), upS_ne (by omega), h2 a b j h3, upS_ne (by omega), upS_ne (by omega)]
    have x16 : upS (upS (upS (upS (upS (upS (upS σ1 26 0 11 1) 26 0 12 (-1)) 26 0 13 (-1)) 26 0 14 0) 26 0 25 0) 26 0 28 0) 26 0 29 0 26 0 16 = (ν v).length := by
      rw [upS_ne (by omega), upS_ne (by omega), upS_ne (by omega), upS_ne (by omega), upS_ne (by omega), upS_ne (by omega), upS_ne (by omega), h2 26 0 16 (by omega), upS_same]
    have x35 : ∀ j, upS (upS (upS (upS (upS (upS (upS σ1 26 0 11 1) 26 0 12 (-1)) 26 0 13 (-1)) 26 0 14 0) 26 0 25 0) 26 0 28 0) 26 0 29 0 35 0 j = σ1 35 0 j := fun j => by
      rw [upS_ne (by omega), upS_ne (by omega), upS_ne (by omega), upS_ne (by omega), upS_ne (by omega), upS_ne (by omega), upS_ne (by omega)]
    have x11 : upS (upS (upS (upS (upS (upS (upS σ1 26 0 11 1) 26 0 12 (-1)) 26 0 13 (-1)) 26 0 14 0) 26 0 25 0) 26 0 28 0) 26 0 29 0 26 0 11 = 1 := by
      rw [upS_ne (by omega), upS_ne (by omega), upS_ne (by omega), upS_ne (by omega), upS_ne (by omega), upS_ne (by omega), upS_same]
    have x12 : upS (upS (upS (upS (upS (upS (upS σ1 26 0 11 1) 26 0 12 (-1)) 26 0 13 (-1)) 26 0 14 0) 26 0 25 0) 26 0 28 0) 26 0 29 0 26 0 12 = -1 := by
      rw [upS_ne (by omega), upS_ne (by omega), upS_ne (by omega), upS_ne (by omega), upS_ne (by omega), upS_same]
    have x13 : upS (upS (upS (upS (upS (upS (upS σ1 26 0 11 1) 26 0 12 (-1)) 26 0 13 (-1)) 26 0 14 0) 26 0 25 0) 26 0 28 0) 26 0 29 0 26 0 13 = -1 := by
      rw [upS_ne (by omega), upS_ne (by omega), upS_ne (by omega), upS_ne (by omega), upS_same]
    have x14 : upS (upS (upS (upS (upS (upS (upS σ1 26 0 11 1) 26 0 12 (-1)) 26 0 13 (-1)) 26 0 14 0) 26 0 25 0) 26 0 28 0) 26 0 29 0 26 0 14 = ((0 : Nat) : Int) := by
      rw [upS_ne (by omega), upS_ne (by omega), upS_ne (by omega), upS_same]; rfl
    have x25 : upS (upS (upS (upS (upS (upS (upS σ1 26 0 11 1) 26 0 12 (-1)) 26 0 13 (-1)) 26 0 14 0) 26 0 25 0) 26 0 28 0) 26 0 29 0 26 0 25 = 0 := by
      rw [upS_ne (by omega), upS_ne (by omega), upS_same]
    have x28 : upS (upS (upS (upS (upS (upS (upS σ1 26 0 11 1) 26 0 12 (-1)) 26 0 13 (-1)) 26 0 14 0) 26 0 25 0) 26 0 28 0) 26 0 29 0 26 0 28 = 0 := by
      rw [upS_ne (by omega), upS_same]
    have hMB : MB E (upS (upS (upS (upS (upS (upS (upS σ1 26 0 11 1) 26 0 12 (-1)) 26 0 13 (-1)) 26 0 14 0) 26 0 25 0) 26 0 28 0) 26 0 29 0) (upS (upS (upS (upS (upS (upS (upS σ1 26 0 11 1) 26 0 12 (-1)) 26 0 13 (-1)) 26 0 14 0) 26 0 25 0) 26 0 28 0) 26 0 29 0) ν 0 := by
      refine ⟨fun _ _ _ _ _ => rfl, eo, ⟨by rw [ex 26 0 5 (by omega) (by omega)]; exact g5, ⟨by rw [hE]; exact x16, fun i hi => by rw [x35, hE]; rw [hE] at hi; exact h1 i hi⟩, fun k hk => ?_⟩, fun w hw => ?_, x14, gb⟩
      · obtain ⟨k1, k2, k3, k4, k5⟩ := gk k hk
        exact ⟨by rw [ex 30 0 k (by omega) (by omega)]; exact k1, by rw [ex 31 0 k (by omega) (by omega)]; exact k2, by rw [ex 32 0 k (by omega) (by omega)]; exact k3, ⟨by rw [ex 34 0 k (by omega) (by omega)]; exact k4.1, fun i hi => by
          have := k4.2 i hi
          show upS (upS (upS (upS (upS (upS (upS σ1 26 0 11 1) 26 0 12 (-1)) 26 0 13 (-1)) 26 0 14 0) 26 0 25 0) 26 0 28 0) 26 0 29 0 33 0 (64 * k + i) = _
          rw [ex 33 0 _ (by omega) (by omega)]
          exact this⟩, k5⟩
      · obtain ⟨h5, h6⟩ := gN w hw
        exact ⟨⟨by rw [ex 29 0 w (by omega) (by omega)]; exact h5.1, fun i hi => by
          have := h5.2 i hi
          show upS (upS (upS (upS (upS (upS (upS σ1 26 0 11 1) 26 0 12 (-1)) 26 0 13 (-1)) 26 0 14 0) 26 0 25 0) 26 0 28 0) 26 0 29 0 28 0 (64 * w + i) = _
          rw [ex 28 0 _ (by omega) (by omega)]
          exact this⟩, h6⟩
    have hfr : frmM σ (upS (upS (upS (upS (upS (upS (upS σ1 26 0 11 1) 26 0 12 (-1)) 26 0 13 (-1)) 26 0 14 0) 26 0 25 0) 26 0 28 0) 26 0 29 0) := fun a b j h3 h4 => ex a b j (by omega) h4
    have KL := fun (last : Nat) (hl : last ≤ (esb E).length) (hm : Mt E k (last + 1) 0 ν 0 o bf y) => lp_mm (SL := SL) (xs := xs) (nx := nx) (kn := kn) (tx := tx) (F := F) (v := v) (an := an) (last := last) hl hk hfr x11 x12 x13 (last + 1) 0 ν 0 o bf y _ (by omega) (by omega) hm hMB x28 upS_same ⟨by rw [x25]; exact Int.le_refl _, by rw [x25]; omega⟩ hF
    refine run 24 ?_
    refine And.intro (Or.inr rfl) ?_
    refine And.intro (Or.inl rfl) ?_
    refine And.intro (Or.inl rfl) ?_
    refine And.intro (fun h => ?_) (fun h => ?_)
    · have h : an = 0 := h
      rw [if_pos h] at hm
      have K := KL (esb E).length (Nat.le_refl _) hm
      rw [hE, ← x16] at K
      exact leaf (by first | exact run 1 K | exact run 2 K | exact run 3 K | exact run 4 K | exact run 5 K | exact run 6 K | exact run 7 K)
    · have h : ¬ an = 0 := h
      rw [if_neg h] at hm
      have K := KL 0 (Nat.zero_le _) hm
      exact leaf (by first | exact run 1 K | exact run 2 K | exact run 3 K | exact run 4 K | exact run 5 K | exact run 6 K | exact run 7 K)
  have K35 := lp_mcopy (SL := SL) (xs := xs) (nx := nx) (kn := kn) (tx := tx) (F := F) (an := an) (kk := (k : Int)) (σ := upS (upS σ 26 0 0 0) 26 0 16 ((ν v).length : Int)) (l := ν v) ⟨rfl, fun i hi => by show upS (upS σ 26 0 0 0) 26 0 16 ((ν v).length : Int) 28 0 (64 * v + i) = _; rw [upS_ne (by omega), upS_ne (by omega)]; exact hvt.2 i hi⟩ hv64 hv (by rw [← hE]; exact gb) K69 upS_same (ν v).length 0 _ (Nat.zero_add _) (fun j hj => by omega) (fun a b j h => rfl)
  have e29 : upS σ 26 0 0 0 29 0 (v : Int).toNat = (ν v).length := by rw [Int.toNat_natCast, upS_ne (by omega)]; exact hvl
  rw [← e29] at K35
  refine run 30 ?_
  refine call_eq (fun F hF => tw_Model_isVariable hF) ?_
  refine And.intro (fun h => absurd (show (if 0 ≤ (v : Int) ∧ (v : Int) < 8 then (1 : Int) else 0) = 0 from h) (by rw [if_pos hiv]; omega)) (fun h => ?_)
  refine call_eq (fun F hF => tw_Model_isNode (x := (k : Int)) hF) ?_
  refine And.intro (fun h => ?_) (fun h => absurd (show ¬ (if 0 ≤ (k : Int) ∧ (k : Int) < upS σ 26 0 0 0 26 0 5 then (1 : Int) else 0) = 0 by rw [upS_ne (by omega), g5, if_pos (by omega)]; omega) h)
  refine And.intro hiv ?_
  exact leaf (by first | exact run 1 K35 | exact run 2 K35 | exact run 3 K35 | exact run 4 K35)
theorem tw_Model_match_no {v k : Int} {an : Int} (h : ¬ ((0 ≤ v ∧ v < 8) ∧ 0 ≤ k ∧ k < σ 26 0 5)) (hF : F (some (.inl (-1))) (nx, upS σ 26 0 0 0, rX kn tx)) : T_Model_match SL xs [.inr (some (26, 0)), .inl v, .inl k, .inl an] (nx, σ, rX kn tx) F := by
  refine run 24 ?_
  refine call_eq (fun F hF => tw_Model_isVariable hF) ?_
  refine And.intro (fun h1 => hF) (fun h1 => ?_)
  have h1 : ¬ (if 0 ≤ v ∧ v < 8 then (1 : Int) else 0) = 0 := h1
  have h1 := Classical.not_not.mp (fun z => h1 (ite0.mpr z))
  refine call_eq (fun F hF => tw_Model_isNode (x := k) hF) ?_
  refine And.intro (fun h2 => ?_) (fun h2 => hF)
  have h2 : ¬ (if 0 ≤ k ∧ k < upS σ 26 0 0 0 26 0 5 then (1 : Int) else 0) = 0 := h2
  have h2 := Classical.not_not.mp (fun z => h2 (ite0.mpr z))
  rw [upS_ne (by omega)] at h2
  exact absurd ⟨h1, h2⟩ h
end
