/-! Both faces: replace -/
section
variable {SL : Nat} {xs : Nat → Int} {nx hi : Nat} {σ σ' : Sg} {kn : Nat → Option Nat} {tx : Nat → Bool} {F : Option Av → St → Prop} {E : Ev} {ν : Nu} {sl : List Int}
theorem byt_app {l l' : List Int} (h : byt l) (h' : byt l') : byt (l ++ l') := fun x hx => (List.mem_append.mp hx).elim (h x) (h' x)
theorem bth_replace {v : Int} (hR : RR nx σ kn tx hi sl ν E) : Bth SL xs (T_Mill_replace SL xs) (T_Model_replace SL xs) [.inl v] nx σ kn tx := by
  have hR0 := hR
  obtain ⟨h1, ⟨s1, s2, s3, s4⟩, ⟨n1, n2, n3⟩, h4, h5⟩ := hR
  by_cases hv : 0 ≤ v ∧ v < 8
  · have hvc : ((v.toNat : Nat) : Int) = v := by omega
    have hv8 : v.toNat < 8 := by omega
    obtain ⟨t1, t64⟩ := n1 v.toNat hv8
    obtain ⟨t2, -⟩ := n2 v.toNat hv8
    have tb := n3 v.toNat hv8
    have lT : σ 1 (3 + v.toNat) 1 = (ν v.toNat).length := t1.1
    have lM : σ 29 0 v.toNat = (ν v.toNat).length := t2.1
    rcases h5 with ⟨m1, m2⟩ | ⟨m1, m2, m3, ⟨w1, b, p, w2, w3', w4', w5, w6, w7⟩ | ⟨w1, w2, w3'⟩⟩
    · refine bth_no (x := 0) hR0 ?_ ?_
      · refine run 14 ?_
        refine call_eq (fun F hF => tw_Mill_isVariable hF) ?_
        refine And.intro (fun h => And.intro (Or.inl rfl) ⟨rfl, rfl⟩) (fun h => ?_)
        refine call_eq (fun F hF => tw_Mill_isWell hF) ?_
        exact And.intro (fun h => absurd (show (if ¬ σ 0 0 5 = 0 ∧ σ 9 0 11 = 1 then (1 : Int) else 0) = 0 by rw [if_neg (fun z => z.1 m1)]) h) (fun h => And.intro (Or.inl rfl) ⟨rfl, rfl⟩)
      · refine run 36 ?_
        refine call_eq (fun F hF => tw_Model_isVariable hF) ?_
        refine And.intro (fun h => And.intro (Or.inl rfl) ⟨rfl, rfl⟩) (fun h => ?_)
        exact And.intro (fun h => And.intro (Or.inl rfl) ⟨rfl, rfl⟩) (fun h => absurd (show σ 26 0 11 = 0 from m2) h)
    · have hm : ¬ σ 0 0 5 = 0 := by rw [m1]; omega
      have hm2 : ¬ σ 26 0 11 = 0 := by rw [m2]; omega
      by_cases hok : p ≤ (ν v.toNat).length ∧ b + sl.length + ((ν v.toNat).length - p) ≤ 64
      · have hL : (((ν v.toNat).take b ++ sl ++ (ν v.toNat).drop p).length ≤ 64) := by simp; omega
        have hLb : byt ((ν v.toNat).take b ++ sl ++ (ν v.toNat).drop p) := byt_app (byt_app (fun x hx => tb x (List.mem_of_mem_take hx)) s4) (fun x hx => tb x (List.mem_of_mem_drop hx))
        refine bth_p (x := 1) (PA := fun σ1 => rpF σ (3 + v.toNat) ((ν v.toNat).take b ++ sl ++ (ν v.toNat).drop p) σ1) (PC := fun σ1 σ2 => mrF σ1 v.toNat ((ν v.toNat).take b ++ sl ++ (ν v.toNat).drop p) σ2) ?_ (fun σ1 hs => ?_) (fun σ1 σ2 hs hl => ?_)
        · exact tw_Mill_replace hv hm w1 w2 w4' w6 t1 t64 tb hok.1 s1 s4 hok.2 s3 (fun σ1 h => ⟨rfl, σ1, rfl, h⟩)
        · have fr : ∀ a b j, 3 ≤ a → σ1 a b j = σ a b j := fun a b j h => hs.2.2 a b j (by omega) (by omega)
          have K := tw_Model_replace (SL := SL) (xs := xs) (nx := nx) (kn := kn) (tx := tx) (σ := σ1) (v := v.toNat) (b := b) (p := p) (T := ν v.toNat) (sl := sl) (F := fun v_1 s => v_1 = some (.inl 1) ∧ ∃ σ2, s = (nx, σ2, rX kn tx) ∧ mrF σ1 v.toNat ((ν v.toNat).take b ++ sl ++ (ν v.toNat).drop p) σ2) hv8 (by rw [fr 26 0 11 (by omega)]; exact hm2) (by rw [fr 26 0 12 (by omega)]; exact w3') (by rw [fr 26 0 13 (by omega)]; exact w5) w6 (t2.fr (fun i _ => fr 28 0 _ (by omega)) (fr 29 0 _ (by omega))) t64 tb hok.1 (s2.fr (fun i _ => fr 27 0 i (by omega)) (fr 26 0 2 (by omega))) s4 hok.2 (fun σ2 h => ⟨rfl, σ2, rfl, h⟩)
          rw [hvc] at K
          exact K
        · obtain ⟨q1, q2, q3⟩ := hs
          obtain ⟨g1, g2, g3⟩ := hl
          refine ⟨hi, [], upN ν v.toNat ((ν v.toNat).take b ++ sl ++ (ν v.toNat).drop p), E, hR0.mk (fun a b' j z1 z2 z3 z4 => by rw [g3 a b' j z2 z4 (by omega) (by omega), q3 a b' j (by omega) (by omega)]) ⟨tl_nil (by rw [g3 1 0 1 (by omega) (by omega) (by omega) (by omega)]; exact q2), tl_nil g2, by simp, byt_nil⟩ ⟨fun w hw => ?_, fun w hw => ?_, fun w hw => ?_⟩⟩
          · by_cases hwv : w = v.toNat
            · subst hwv
              simp only [upN, if_true]
              exact ⟨q1.fr (fun i _ => g3 2 _ i (by omega) (by omega) (by omega) (by omega)) (g3 1 _ 1 (by omega) (by omega) (by omega) (by omega)), hL⟩
            · simp only [upN, if_neg hwv]
              exact ⟨(n1 w hw).1.fr (fun i _ => by rw [g3 2 _ i (by omega) (by omega) (by omega) (by omega), q3 2 _ i (by omega) (by omega)]) (by rw [g3 1 _ 1 (by omega) (by omega) (by omega) (by omega), q3 1 _ 1 (by omega) (by omega)]), (n1 w hw).2⟩
          · by_cases hwv : w = v.toNat
            · subst hwv
              simp only [upN, if_true]
              exact ⟨g1, hL⟩
            · simp only [upN, if_neg hwv]
              exact ⟨(n2 w hw).1.fr (fun i hi => by
                have := (n2 w hw).2
                rw [g3 28 0 _ (by omega) (by omega) (by omega) (by omega), q3 28 0 _ (by omega) (by omega)]) (by rw [g3 29 0 w (by omega) (by omega) (by omega) (by omega), q3 29 0 w (by omega) (by omega)]), (n2 w hw).2⟩
          · unfold upN
            split
            · exact hLb
            · exact n3 w hw
      · refine bth_no (x := 0) hR0 ?_ ?_
        · have lS : σ 1 0 1 = sl.length := s1.1
          have K22 : Xz SL xs (m_Mill_replace SL xs) (fun v_1 s => v_1 = some (.inl 0) ∧ s = (nx, σ, rX kn tx)) (22, [some (.inr (some (0, 0))), some (.inl v), none, none, none], [.inr (some (1, 3 + v.toNat))], (nx, σ, rX kn tx), 0, 0) := by
            refine run 26 ?_
            refine And.intro (fun h => And.intro (Or.inl rfl) ⟨rfl, rfl⟩) (fun h => ?_)
            have h : ¬ wr (σ 1 (3 + v.toNat) 1 - σ 9 0 7) < 0 := h
            rw [lT, w4', wr_eq ⟨by omega, by omega⟩] at h
            refine And.intro (fun h2 => ?_) (fun h2 => And.intro (Or.inl rfl) ⟨rfl, rfl⟩)
            exfalso
            have h2 : wr (wr (σ 9 0 10 + σ 1 0 1) + wr (σ 1 (3 + v.toNat) 1 - σ 9 0 7)) ≤ 64 := h2
            rw [lT, w4', w2, lS, wr_eq (x := ((ν v.toNat).length : Int) - p) ⟨by omega, by omega⟩, wr_eq (x := (b : Int) + sl.length) ⟨by omega, by omega⟩, wr_eq ⟨by omega, by omega⟩] at h2
            omega
          rw [← vref hv] at K22
          refine run 14 ?_
          refine call_eq (fun F hF => tw_Mill_isVariable hF) ?_
          refine And.intro (fun h => And.intro (Or.inl rfl) ⟨rfl, rfl⟩) (fun h => ?_)
          refine call_eq (fun F hF => tw_Mill_isWell hF) ?_
          refine And.intro (fun h => ?_) (fun h => And.intro (Or.inl rfl) ⟨rfl, rfl⟩)
          refine And.intro hv ?_
          exact leaf K22
        · have lS : σ 26 0 2 = sl.length := s2.1
          refine run 40 ?_
          refine call_eq (fun F hF => tw_Model_isVariable hF) ?_
          refine And.intro (fun h => And.intro (Or.inl rfl) ⟨rfl, rfl⟩) (fun h => ?_)
          refine And.intro (fun h => And.intro (Or.inl rfl) ⟨rfl, rfl⟩) (fun h => ?_)
          refine And.intro (fun h => And.intro (Or.inl rfl) ⟨rfl, rfl⟩) (fun h => ?_)
          refine And.intro hv ?_
          refine And.intro (fun h => And.intro (Or.inl rfl) ⟨rfl, rfl⟩) (fun h => ?_)
          have h : ¬ σ 29 0 v.toNat < σ 26 0 13 := h
          rw [lM, w5] at h
          refine And.intro hv ?_
          refine And.intro (fun h2 => ?_) (fun h2 => And.intro (Or.inl rfl) ⟨rfl, rfl⟩)
          exfalso
          have h2 : wr (wr (σ 29 0 v.toNat - wr (σ 26 0 13 - σ 26 0 12)) + σ 26 0 2) ≤ 64 := h2
          rw [lM, w5, w3', lS, wr_eq (x := (p : Int) - b) ⟨by omega, by omega⟩, wr_eq (x := ((ν v.toNat).length : Int) - ((p : Int) - b)) ⟨by omega, by omega⟩, wr_eq ⟨by omega, by omega⟩] at h2
          omega
    · refine bth_no (x := 0) hR0 ?_ ?_
      · refine run 14 ?_
        refine call_eq (fun F hF => tw_Mill_isVariable hF) ?_
        refine And.intro (fun h => And.intro (Or.inl rfl) ⟨rfl, rfl⟩) (fun h => ?_)
        refine call_eq (fun F hF => tw_Mill_isWell hF) ?_
        exact And.intro (fun h => absurd (show (if ¬ σ 0 0 5 = 0 ∧ σ 9 0 11 = 1 then (1 : Int) else 0) = 0 by rw [if_neg (fun z => w1 z.2)]) h) (fun h => And.intro (Or.inl rfl) ⟨rfl, rfl⟩)
      · refine run 36 ?_
        refine call_eq (fun F hF => tw_Model_isVariable hF) ?_
        refine And.intro (fun h => And.intro (Or.inl rfl) ⟨rfl, rfl⟩) (fun h => ?_)
        refine And.intro (fun h => And.intro (Or.inl rfl) ⟨rfl, rfl⟩) (fun h => ?_)
        exact And.intro (fun h => And.intro (Or.inl rfl) ⟨rfl, rfl⟩) (fun h => absurd (show upS σ 26 0 0 0 26 0 13 = -1 by rw [upS_ne (by omega)]; exact w3') h)
  · refine bth_no (x := 0) hR0 ?_ ?_
    · refine run 14 ?_
      refine call_eq (fun F hF => tw_Mill_isVariable hF) ?_
      exact And.intro (fun h => And.intro (Or.inl rfl) ⟨rfl, rfl⟩) (fun h => absurd (show (if 0 ≤ v ∧ v < 8 then (1 : Int) else 0) = 0 by rw [if_neg hv]) h)
    · refine run 14 ?_
      refine call_eq (fun F hF => tw_Model_isVariable hF) ?_
      exact And.intro (fun h => And.intro (Or.inl rfl) ⟨rfl, rfl⟩) (fun h => absurd (show (if 0 ≤ v ∧ v < 8 then (1 : Int) else 0) = 0 by rw [if_neg hv]) h)
end
