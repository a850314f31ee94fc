/-! Both faces: replace -/
section
variable {SL : Nat} {xs : Nat → Int} {nx hi : Nat} {σ σ' : Sg} {kn : Nat → Option Nat} {tx : Nat → Bool} {F : Option Av → St → Prop} {E : Ev} {ν : Nu} {sl : List Int}
/-- a sign is added to the text that is made -/
theorem add_F {l : List Int} {x : Int} (hl : tl (σ 2 1) (σ 1 1 1) l) (h64 : l.length < 64) (hx : b8 x = x) (hF : ∀ σ1, setT σ 1 (l ++ [x]) σ1 → F none (nx, σ1, rX kn tx)) : T_Text_add SL xs [.inr (some (1, 1)), .inl x] (nx, σ, rX kn tx) F := by
  have hlen : σ 1 1 1 = l.length := hl.1
  have hw : wr (σ 1 1 1 + 1) = ((l.length + 1 : Nat) : Int) := by rw [hlen, wr_eq ⟨by omega, by omega⟩]; omega
  have ht : (σ 1 1 1).toNat = l.length := by rw [hlen, Int.toNat_natCast]
  refine tw_Text_add (by rw [hlen]; omega) (hF _ ⟨tl_snoc hl (fun i hi => ?_) ?_ ?_, fun a b j q1 q2 => ?_⟩)
  · rw [upS_ne (by omega), upS_ne (by omega)]
  · rw [upS_ne (by omega), ht, upS_same, hx, hx]
  · rw [upS_same, hw]
  · rw [upS_ne q1, upS_ne (by omega)]
abbrev rpL (v : Int) (t : Nat) (d k : Int) : List (Option Av) := [some (.inr (some (0, 0))), some (.inl v), some (.inr (some (1, t))), some (.inl d), some (.inl k)]
/-- only the text that is made has changed -/
def frd (σ σ1 : Sg) : Prop := ∀ a b j, ¬ ((a = 1 ∨ a = 2) ∧ b = 1) → σ1 a b j = σ a b j
theorem lp_rep1 {v d : Int} {t : Nat} {l0 : List Int} (hb : byt sl) (hs : tl (σ 2 0) (σ 1 0 1) sl) (h64 : l0.length + sl.length ≤ 64) (hK : ∀ σ1, frd σ σ1 → tl (σ1 2 1) (σ1 1 1 1) (l0 ++ sl) → Xz SL xs (m_Mill_replace SL xs) F (121, rpL v t d sl.length, [], (nx, σ1, rX kn tx), 0, 0)) : ∀ (m i : Nat) (σ1 : Sg), i + m = sl.length → frd σ σ1 → tl (σ1 2 1) (σ1 1 1 1) (l0 ++ sl.take i) → Xz SL xs (m_Mill_replace SL xs) F (86, rpL v t d i, [], (nx, σ1, rX kn tx), 0, 0) := by
  have hl : σ 1 0 1 = sl.length := hs.1
  intro m
  induction m with
  | zero =>
    intro i σ1 hi h1 h2
    have hi : i = sl.length := by omega
    subst hi
    rw [List.take_length] at h2
    refine run 5 ?_
    refine And.intro (fun h => leaf (hK σ1 h1 h2)) (fun h => absurd (show σ1 1 0 1 ≤ (sl.length : Int) by rw [h1 1 0 1 (by omega), hl]; exact Int.le_refl _) h)
  | succ m ih =>
    intro i σ1 hi h1 h2
    have hwi : wr ((i : Int) + 1) = ((i + 1 : Nat) : Int) := by rw [wr_eq ⟨by omega, by omega⟩]; omega
    have hsg : σ1 2 0 (i : Int).toNat = sl.getD i 0 := by rw [Int.toNat_natCast, h1 2 0 _ (by omega)]; exact hs.2 i (by omega)
    have hb8 : b8 (sl.getD i 0) = sl.getD i 0 := by
      refine hb _ ?_
      rw [List.getD_eq_getElem?_getD, List.getElem?_eq_getElem (by omega)]
      exact List.getElem_mem _
    have htk := take_s (l := sl) (i := i) (by omega)
    refine run 24 ?_
    refine And.intro (fun h => ?_) (fun h => ?_)
    · have h : σ1 1 0 1 ≤ (i : Int) := h
      rw [h1 1 0 1 (by omega), hl] at h
      omega
    refine And.intro ⟨show (0 : Int) ≤ (i : Int) by omega, show (i : Int) < 64 by omega⟩ ?_
    refine call_any (Y := fun v0 s => v0 = none ∧ ∃ σ2, s = (nx, σ2, rX kn tx) ∧ setT σ1 1 (l0 ++ sl.take (i + 1)) σ2) ?_ ?_
    · show vT 1 (T_Text_add SL xs) [.inr (some (1, 1)), .inl (σ1 2 0 (i : Int).toNat)] (nx, σ1, rX kn tx) _
      rw [hsg]
      refine add_F h2 (by simp; omega) hb8 (fun σ2 h => ⟨rfl, σ2, rfl, ?_⟩)
      rw [htk, ← List.append_assoc]
      exact h
    · intro v0 s hv
      obtain ⟨rfl, σ2, rfl, h⟩ := hv
      have K := ih (i + 1) σ2 (by omega) (fun a b j g => by rw [h.2 a b j (by omega) (by omega)]; exact h1 a b j g) h.1
      rw [← hwi] at K
      exact leaf (by first | exact run 1 K | exact run 2 K | exact run 3 K)
theorem lp_rep2 {v d : Int} {t p : Nat} {l0 T : List Int} (ht1 : ¬ t = 1) (hb : byt T) (hs : tl (σ 2 t) (σ 1 t 1) T) (hT64 : T.length ≤ 64) (hpT : p ≤ T.length) (h64 : l0.length + (T.length - p) ≤ 64) (hK : ∀ σ1, frd σ σ1 → tl (σ1 2 1) (σ1 1 1 1) (l0 ++ T.drop p) → Xz SL xs (m_Mill_replace SL xs) F (159, rpL v t d T.length, [], (nx, σ1, rX kn tx), 0, 0)) : ∀ (m i : Nat) (σ1 : Sg), i + m = T.length → p ≤ i → frd σ σ1 → tl (σ1 2 1) (σ1 1 1 1) (l0 ++ (T.drop p).take (i - p)) → Xz SL xs (m_Mill_replace SL xs) F (130, rpL v t d i, [], (nx, σ1, rX kn tx), 0, 0) := by
  have hl : σ 1 t 1 = T.length := hs.1
  intro m
  induction m with
  | zero =>
    intro i σ1 hi hpi h1 h2
    have hi : i = T.length := by omega
    subst hi
    rw [List.take_of_length_le (by simp)] at h2
    refine run 4 ?_
    refine And.intro (fun h => leaf (hK σ1 h1 h2)) (fun h => absurd (show σ1 1 t 1 ≤ (T.length : Int) by rw [h1 1 t 1 (by omega), hl]; exact Int.le_refl _) h)
  | succ m ih =>
    intro i σ1 hi hpi h1 h2
    have hwi : wr ((i : Int) + 1) = ((i + 1 : Nat) : Int) := by rw [wr_eq ⟨by omega, by omega⟩]; omega
    have hsg : σ1 2 t (i : Int).toNat = T.getD i 0 := by rw [Int.toNat_natCast, h1 2 t _ (by omega)]; exact hs.2 i (by omega)
    have hb8 : b8 (T.getD i 0) = T.getD i 0 := by
      refine hb _ ?_
      rw [List.getD_eq_getElem?_getD, List.getElem?_eq_getElem (by omega)]
      exact List.getElem_mem _
    have htk : (T.drop p).take (i + 1 - p) = (T.drop p).take (i - p) ++ [T.getD i 0] := by
      rw [show i + 1 - p = (i - p) + 1 by omega, take_s (l := T.drop p) (i := i - p) (by simp; omega), List.getD_eq_getElem?_getD, List.getElem?_drop, List.getD_eq_getElem?_getD, show p + (i - p) = i by omega]
    refine run 24 ?_
    refine And.intro (fun h => ?_) (fun h => ?_)
    · have h : σ1 1 t 1 ≤ (i : Int) := h
      rw [h1 1 t 1 (by omega), hl] at h
      omega
    refine And.intro ⟨show (0 : Int) ≤ (i : Int) by omega, show (i : Int) < 64 by omega⟩ ?_
    refine call_any (Y := fun v0 s => v0 = none ∧ ∃ σ2, s = (nx, σ2, rX kn tx) ∧ setT σ1 1 (l0 ++ (T.drop p).take (i + 1 - p)) σ2) ?_ ?_
    · show vT 1 (T_Text_add SL xs) [.inr (some (1, 1)), .inl (σ1 2 t (i : Int).toNat)] (nx, σ1, rX kn tx) _
      rw [hsg]
      refine add_F h2 (by simp; omega) hb8 (fun σ2 h => ⟨rfl, σ2, rfl, ?_⟩)
      rw [htk, ← List.append_assoc]
      exact h
    · intro v0 s hv
      obtain ⟨rfl, σ2, rfl, h⟩ := hv
      have K := ih (i + 1) σ2 (by omega) (by omega) (fun a b j g => by rw [h.2 a b j (by omega) (by omega)]; exact h1 a b j g) h.1
      rw [← hwi] at K
      exact leaf (by first | exact run 1 K | exact run 2 K | exact run 3 K)
def rpF (σ : Sg) (t : Nat) (l : List Int) (σ1 : Sg) : Prop := tl (σ1 2 t) (σ1 1 t 1) l ∧ σ1 1 0 1 = 0 ∧ ∀ a b j, ¬ (a = 1 ∧ b = 0 ∧ j = 1) → ¬ ((a = 1 ∨ a = 2) ∧ (b = 1 ∨ b = t)) → σ1 a b j = σ a b j
theorem tw_Mill_replace {v : Int} {b p : Nat} {T : List Int} (hv : 0 ≤ v ∧ v < 8) (hm : ¬ σ 0 0 5 = 0) (hw : σ 9 0 11 = 1) (hb : σ 9 0 10 = b) (hp : σ 9 0 7 = p) (hbp : b ≤ p) (hT : tl (σ 2 (3 + v.toNat)) (σ 1 (3 + v.toNat) 1) T) (hT64 : T.length ≤ 64) (hTb : byt T) (hpT : p ≤ T.length) (hs : tl (σ 2 0) (σ 1 0 1) sl) (hsb : byt sl) (h64 : b + sl.length + (T.length - p) ≤ 64) (hs64 : sl.length ≤ 64)
    (hF : ∀ σ1, rpF σ (3 + v.toNat) (T.take b ++ sl ++ T.drop p) σ1 → F (some (.inl 1)) (nx, σ1, rX kn tx)) : T_Mill_replace SL xs [.inr (some (0, 0)), .inl v] (nx, σ, rX kn tx) F := by
  have lT : σ 1 (3 + v.toNat) 1 = T.length := hT.1
  have ls : σ 1 0 1 = sl.length := hs.1
  have htb : (T.take b).length = b := by simp; omega
  have K159 : ∀ σ1 : Sg, frd σ σ1 → tl (σ1 2 1) (σ1 1 1 1) (T.take b ++ sl ++ T.drop p) → ∀ d : Int, Xz SL xs (m_Mill_replace SL xs) F (159, rpL v (3 + v.toNat) d T.length, [], (nx, σ1, rX kn tx), 0, 0) := by
    intro σ1 h1 h2 d
    have hlen : (T.take b ++ sl ++ T.drop p).length ≤ 64 := by simp; omega
    have l1 : upS σ1 1 0 1 0 1 1 1 = (T.take b ++ sl ++ T.drop p).length := by rw [upS_ne (by omega)]; exact h2.1
    refine run 12 ?_
    refine call_any (Y := fun v0 s => v0 = none ∧ ∃ σ2, s = (nx, σ2, rX kn tx) ∧ rpF σ (3 + v.toNat) (T.take b ++ sl ++ T.drop p) σ2) (tw_Text_become (t := 3 + v.toNat) (o := 1) (σ := upS σ1 1 0 1 0) (by rw [l1]; omega) ⟨rfl, _, rfl, ⟨?_, fun i hi => ?_⟩, ?_, fun a' b' j' g1 g2 => ?_⟩) ?_
    · have e : cpS (upS (upS σ1 1 0 1 0) 1 (3 + v.toNat) 1 (upS σ1 1 0 1 0 1 1 1)) 2 1 0 2 (3 + v.toNat) 0 (upS σ1 1 0 1 0 1 1 1).toNat 1 (3 + v.toNat) 1 = upS (upS σ1 1 0 1 0) 1 (3 + v.toNat) 1 (upS σ1 1 0 1 0 1 1 1) 1 (3 + v.toNat) 1 := if_neg (by omega)
      rw [e, upS_same]
      exact l1
    · have e : cpS (upS (upS σ1 1 0 1 0) 1 (3 + v.toNat) 1 (upS σ1 1 0 1 0 1 1 1)) 2 1 0 2 (3 + v.toNat) 0 (upS σ1 1 0 1 0 1 1 1).toNat 2 (3 + v.toNat) i = upS (upS σ1 1 0 1 0) 1 (3 + v.toNat) 1 (upS σ1 1 0 1 0 1 1 1) 2 1 (0 + (i - 0)) := if_pos ⟨rfl, rfl, by omega, by omega⟩
      rw [e, upS_ne (by omega), upS_ne (by omega), Nat.zero_add]
      exact h2.2 i hi
    · have e : cpS (upS (upS σ1 1 0 1 0) 1 (3 + v.toNat) 1 (upS σ1 1 0 1 0 1 1 1)) 2 1 0 2 (3 + v.toNat) 0 (upS σ1 1 0 1 0 1 1 1).toNat 1 0 1 = upS (upS σ1 1 0 1 0) 1 (3 + v.toNat) 1 (upS σ1 1 0 1 0 1 1 1) 1 0 1 := if_neg (by omega)
      rw [e, upS_ne (by omega), upS_same]
    · have e : cpS (upS (upS σ1 1 0 1 0) 1 (3 + v.toNat) 1 (upS σ1 1 0 1 0 1 1 1)) 2 1 0 2 (3 + v.toNat) 0 (upS σ1 1 0 1 0 1 1 1).toNat a' b' j' = upS (upS σ1 1 0 1 0) 1 (3 + v.toNat) 1 (upS σ1 1 0 1 0 1 1 1) a' b' j' := if_neg (by omega)
      rw [e, upS_ne (by omega), upS_ne (by omega)]
      exact h1 a' b' j' (by omega)
    · intro v0 s h
      obtain ⟨rfl, σ2, rfl, h⟩ := h
      exact And.intro (Or.inr rfl) (hF σ2 h)
  have K121 : ∀ d : Int, ∀ σ1 : Sg, frd σ σ1 → tl (σ1 2 1) (σ1 1 1 1) (T.take b ++ sl) → Xz SL xs (m_Mill_replace SL xs) F (121, rpL v (3 + v.toNat) d sl.length, [], (nx, σ1, rX kn tx), 0, 0) := by
    intro d σ1 h1 h2
    have e7 : σ1 9 0 7 = p := by rw [h1 9 0 7 (by omega)]; exact hp
    have K := lp_rep2 (SL := SL) (xs := xs) (nx := nx) (kn := kn) (tx := tx) (F := F) (v := v) (d := d) (t := 3 + v.toNat) (p := p) (σ := σ) (l0 := T.take b ++ sl) (T := T) (by omega) hTb hT hT64 hpT (by simp; omega) (fun σ2 g1 g2 => K159 σ2 g1 g2 d) (T.length - p) p σ1 (by omega) (Nat.le_refl _) h1 (by rw [Nat.sub_self, List.take_zero, List.append_nil]; exact h2)
    rw [← e7] at K
    exact run 4 K
  have K64 : ∀ d : Int, Xz SL xs (m_Mill_replace SL xs) F (64, [some (.inr (some (0, 0))), some (.inl v), some (.inr (some (1, 3 + v.toNat))), some (.inl d), none], [], (nx, σ, rX kn tx), 0, 0) := by
    intro d
    refine run 11 ?_
    refine call_any (Y := fun v0 s => v0 = none ∧ ∃ σ2, s = (nx, σ2, rX kn tx) ∧ frd σ σ2 ∧ tl (σ2 2 1) (σ2 1 1 1) (T.take b)) ?_ ?_
    · show vT 1 (T_Text_part SL xs) [.inr (some (1, 1)), .inr (some (2, 3 + v.toNat)), .inl 0, .inl (σ 9 0 10)] (nx, σ, rX kn tx) _
      rw [hb]
      refine tw_Text_part (t := 1) (b0 := 3 + v.toNat) (f := 0) (u := (b : Int)) ⟨by omega, by omega, by omega⟩ ⟨rfl, _, rfl, fun a' b' j' g => ?_, ?_, fun i hi => ?_⟩
      · have e : cpS (upS σ 1 1 1 ((b : Int) - 0)) 2 (3 + v.toNat) (0 : Int).toNat 2 1 0 ((b : Int) - 0).toNat a' b' j' = upS σ 1 1 1 ((b : Int) - 0) a' b' j' := if_neg (by omega)
        rw [e, upS_ne (by omega)]
      · have e : cpS (upS σ 1 1 1 ((b : Int) - 0)) 2 (3 + v.toNat) (0 : Int).toNat 2 1 0 ((b : Int) - 0).toNat 1 1 1 = upS σ 1 1 1 ((b : Int) - 0) 1 1 1 := if_neg (by omega)
        rw [e, upS_same, htb]
        omega
      · rw [htb] at hi
        have e : cpS (upS σ 1 1 1 ((b : Int) - 0)) 2 (3 + v.toNat) (0 : Int).toNat 2 1 0 ((b : Int) - 0).toNat 2 1 i = upS σ 1 1 1 ((b : Int) - 0) 2 (3 + v.toNat) ((0 : Int).toNat + (i - 0)) := if_pos ⟨rfl, rfl, by omega, by omega⟩
        rw [e, upS_ne (by omega), show (0 : Int).toNat + (i - 0) = i from Nat.zero_add _, hT.2 i (by omega), List.getD_eq_getElem?_getD, List.getD_eq_getElem?_getD, List.getElem?_take, if_pos hi]
    · intro v0 s h
      obtain ⟨rfl, σ2, rfl, h1, h2⟩ := h
      have K := lp_rep1 (SL := SL) (xs := xs) (nx := nx) (kn := kn) (tx := tx) (F := F) (v := v) (d := d) (t := 3 + v.toNat) (σ := σ) (sl := sl) (l0 := T.take b) hsb hs (by rw [htb]; omega) (K121 d) sl.length 0 σ2 (Nat.zero_add _) h1 (by rw [List.take_zero, List.append_nil]; exact h2)
      exact leaf (by first | exact run 1 K | exact run 2 K | exact run 3 K)
  have hwd : wr (σ 1 (3 + v.toNat) 1 - σ 9 0 7) = ((T.length - p : Nat) : Int) := by rw [lT, hp, wr_eq ⟨by omega, by omega⟩]; omega
  have K22 : Xz SL xs (m_Mill_replace SL xs) F (22, [some (.inr (some (0, 0))), some (.inl v), none, none, none], [.inr (some (1, 3 + v.toNat))], (nx, σ, rX kn tx), 0, 0) := by
    refine run 22 ?_
    refine And.intro (fun h => ?_) (fun h => ?_)
    · have h : wr (σ 1 (3 + v.toNat) 1 - σ 9 0 7) < 0 := h
      rw [hwd] at h
      omega
    · refine And.intro (fun h => leaf (K64 _)) (fun h => ?_)
      exfalso
      have h : ¬ wr (wr (σ 9 0 10 + σ 1 0 1) + wr (σ 1 (3 + v.toNat) 1 - σ 9 0 7)) ≤ 64 := h
      rw [hwd, hb, ls, wr_eq (x := (b : Int) + sl.length) ⟨by omega, by omega⟩, wr_eq ⟨by omega, by omega⟩] at h
      omega
  rw [← vref hv] at K22
  refine run 14 ?_
  refine call_eq (fun F hF => tw_Mill_isVariable hF) ?_
  refine And.intro (fun h => absurd (show (if 0 ≤ v ∧ v < 8 then (1 : Int) else 0) = 0 from h) (by rw [if_pos hv]; omega)) (fun h => ?_)
  refine call_eq (fun F hF => tw_Mill_isWell hF) ?_
  refine And.intro (fun h => ?_) (fun h => absurd (show ¬ (if ¬ σ 0 0 5 = 0 ∧ σ 9 0 11 = 1 then (1 : Int) else 0) = 0 by rw [if_pos ⟨hm, hw⟩]; omega) h)
  refine And.intro hv ?_
  exact leaf K22
end
