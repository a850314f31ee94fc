/-! The model: what is kept in the end -/
theorem nd_len : ∀ (n : Nat) (L : List Nat), L.Nodup → (∀ x ∈ L, x < n) → L.length ≤ n
  | 0, L, _, h => by
    cases L with
    | nil => simp
    | cons x r => exact absurd (h x List.mem_cons_self) (by omega)
  | n + 1, L, hd, h => by
    have h1 : ∀ L : List Nat, L.Nodup → L.length ≤ (L.filter (fun x => decide (x ≠ n))).length + 1 := by
      intro L
      induction L with
      | nil => simp
      | cons x r ih =>
        intro hd
        rw [List.nodup_cons] at hd
        by_cases hx : x = n
        · have e : r.filter (fun x => decide (x ≠ n)) = r := by
            rw [List.filter_eq_self]
            intro z hz
            simp only [decide_eq_true_eq]
            intro e
            exact hd.1 (by rw [hx, ← e]; exact hz)
          rw [List.filter_cons_of_neg (by simp [hx]), e]
          simp
        · rw [List.filter_cons_of_pos (by simp [hx])]
          have := ih hd.2
          simp only [List.length_cons]
          omega
    have h2 := nd_len n (L.filter (fun x => decide (x ≠ n))) (List.Nodup.sublist List.filter_sublist hd) (fun x hx => by
      rw [List.mem_filter] at hx
      have := h x hx.1
      have h3 := hx.2
      simp only [decide_eq_true_eq] at h3
      omega)
    have := h1 L hd
    omega
def PB (E : Ev) (σ : Sg) (n : Nat) (Q : Qw) (y : Nat) : Prop := ∃ m h k p p' G B Q1 C Q2, Dn E σ m h y k p p' G B Q1 C Q2 ∧ h ≤ n ∧ ∀ x ∈ Q2, x ∈ Q
section
variable {SL : Nat} {xs : Nat → Int} {nx : Nat} {σ σ0 σ' σ1 : Sg} {kn : Nat → Option Nat} {tx : Nat → Bool} {F : Option Av → St → Prop} {E : Ev} {ν : Nu} {k p n r m f o M h p' u ku pu mu root y : Nat} {G Gu : List Gl} {B Bu C : List Ch} {Q Q' Qu : Qw} {L : List Nat}
theorem PB.kids (hp : PB E σ n Q y) : (σ 40 0 y = -1 ∧ σ 41 0 y = -1) ∨ (∃ a : Nat, σ 40 0 y = a ∧ σ 41 0 y = -1 ∧ y < a ∧ a < n ∧ σ 39 0 a = y ∧ PB E σ n Q a) ∨ (∃ a b : Nat, σ 40 0 y = a ∧ σ 41 0 y = b ∧ y < a ∧ a < b ∧ b < n ∧ σ 39 0 a = y ∧ σ 39 0 b = y ∧ PB E σ n Q a ∧ PB E σ n Q b) := by
  obtain ⟨m, h, k, p, p', G, B, Q1, C, Q2, hD, hh, hq⟩ := hp
  cases m with
  | zero => cases hD
  | succ m =>
  obtain ⟨w, d1, d2, d3, d4, hD⟩ := hD
  rcases hD with ⟨h40, h41, -⟩ | ⟨a, b, p1, C1, Q3, q0, q1, q2, q3, q4, q5, q6, q7, q8⟩ | ⟨a, kc, Gc, Bc, Q3, q1, q2, q3, q4, q5, q6, q7⟩
  · exact Or.inl ⟨h40, h41⟩
  · have hb := q8.lt
    refine Or.inr (Or.inr ⟨a, b, q1, q2, q3, q4, by omega, q5, q6, ⟨m, b, _, _, _, _, _, _, _, _, q7, by omega, fun x hx => ?_⟩, ⟨m, h, _, _, _, _, _, _, _, _, q8, hh, hq⟩⟩)
    obtain ⟨L, rfl, -⟩ := q8.q
    exact hq x (List.mem_append.mpr (Or.inl hx))
  · have ha := q6.lt
    refine Or.inr (Or.inl ⟨a, q1, q2, q3, by omega, q4, ⟨m, h, _, _, _, _, _, _, _, _, q6, hh, fun x hx => hq x ?_⟩⟩)
    rw [q7]
    exact List.mem_append.mpr (Or.inl hx)
theorem PB.row (hp : PB E σ n Q y) : ∃ k p p', rwE E σ y k p ∧ σ 38 0 y = (p' : Nat) ∧ p ≤ p' ∧ p' ≤ (esb E).length ∧ y < n ∧ (ekd E k = 19 → (y, (efb E k, p, p')) ∈ Q) := by
  obtain ⟨m, h, k, p, p', G, B, Q1, C, Q2, hD, hh, hq⟩ := hp
  cases m with
  | zero => cases hD
  | succ m =>
  obtain ⟨w, d1, d2, d3, d4, hD⟩ := hD
  refine ⟨k, p, p', w, d1, d2, d3, by omega, fun h19 => ?_⟩
  rcases hD with ⟨h40, h41, -, hl⟩ | ⟨a, b, p1, C1, Q3, q0, -⟩ | ⟨a, kc, Gc, Bc, Q3, q1, q2, q3, q4, q5, q6, q7⟩
  · rcases hl with ⟨h, -⟩ | ⟨h, -⟩ | ⟨h, -⟩ | ⟨h, -⟩ | ⟨h, -⟩ <;> omega
  · omega
  · refine hq _ ?_
    rw [q7]
    unfold kpt
    rw [if_pos h19]
    exact List.mem_append.mpr (Or.inr (List.mem_singleton.mpr rfl))
/-- rows that have a part are found -/
theorem Dn.reach (P : Nat → Prop) (hP : ∀ x, P x → ∀ a : Nat, (σ 40 0 x = a ∨ σ 41 0 x = a) → P a) : ∀ {m h r k p p' G B Q C Q'}, Dn E σ m h r k p p' G B Q C Q' → P r → ∀ x ∈ Q', x ∈ Q ∨ P x.1
  | 0, h, r, k, p, p', G, B, Q, C, Q', hd => by cases hd
  | m + 1, h, r, k, p, p', G, B, Q, C, Q', ⟨w, d1, d2, d3, d4, hd⟩ => by
    intro hr x hx
    rcases hd with hd | ⟨a, b, p1, C1, Q1, q0, q1, q2, q3, q4, q5, q6, q7, q8⟩ | ⟨a, kc, Gc, Bc, Q1, q1, q2, q3, q4, q5, q6, q7⟩
    · rw [hd.2.2.1] at hx
      exact Or.inl hx
    · rcases Dn.reach P hP q8 (hP r hr b (Or.inr q2)) x hx with h1 | h1
      · exact Dn.reach P hP q7 (hP r hr a (Or.inl q1)) x h1
      · exact Or.inr h1
    · rw [q7] at hx
      rcases List.mem_append.mp hx with hx | hx
      · exact Dn.reach P hP q6 (hP r hr a (Or.inl q1)) x hx
      · unfold kpt at hx
        split at hx
        · rw [List.mem_singleton] at hx
          subst hx
          exact Or.inr hr
        · cases hx
/-- the search so far -/
def BI (E : Ev) (σ : Sg) (n : Nat) (Q : Qw) (root : Nat) (L : List Nat) (i : Nat) : Prop := L.Nodup ∧ (∀ x ∈ L, PB E σ n Q x ∧ x < n ∧ root ≤ x) ∧ root ∈ L ∧ i ≤ L.length ∧ (∀ x ∈ L, ¬ x = root → ∃ j, j < i ∧ σ 39 0 x = (L.getD j 0 : Nat)) ∧ (∀ j, j < i → ∀ a : Nat, (σ 40 0 (L.getD j 0) = a ∨ σ 41 0 (L.getD j 0) = a) → a ∈ L)
theorem getD_mem {i : Nat} (hi : i < L.length) : L.getD i 0 ∈ L := by
  rw [List.getD_eq_getElem?_getD, List.getElem?_eq_getElem hi]
  exact List.getElem_mem _
theorem nd_inj (hd : L.Nodup) {i j : Nat} (hi : i < L.length) (hj : j < L.length) (h : L.getD i 0 = L.getD j 0) : i = j := by
  rw [List.getD_eq_getElem?_getD, List.getD_eq_getElem?_getD, List.getElem?_eq_getElem hi, List.getElem?_eq_getElem hj] at h
  simp only [Option.getD_some] at h
  have hp := List.pairwise_iff_getElem.mp hd
  rcases Nat.lt_trichotomy i j with h1 | h1 | h1
  · exact absurd h (hp i j hi hj h1)
  · exact h1
  · exact absurd h.symm (hp j i hj hi h1)
theorem getD_app {N : List Nat} {j : Nat} (hj : j < L.length) : (L ++ N).getD j 0 = L.getD j 0 := by
  rw [List.getD_eq_getElem?_getD, List.getD_eq_getElem?_getD, List.getElem?_append_left hj]
/-- the search goes on -/
theorem BI.step {i : Nat} {N : List Nat} (h : BI E σ n Q root L i) (hi : i < L.length) (hN : ∀ x ∈ N, PB E σ n Q x ∧ x < n ∧ L.getD i 0 < x ∧ σ 39 0 x = (L.getD i 0 : Nat)) (hd : N.Nodup) (hk : ∀ a : Nat, (σ 40 0 (L.getD i 0) = a ∨ σ 41 0 (L.getD i 0) = a) → a ∈ N) : BI E σ n Q root (L ++ N) (i + 1) := by
  obtain ⟨h1, h2, h3, h4, h5, h6⟩ := h
  have hri := (h2 _ (getD_mem hi)).2.2
  have hnew : ∀ x ∈ N, ¬ x ∈ L := by
    intro x hx hxL
    obtain ⟨q1, q2, q3, q4⟩ := hN x hx
    obtain ⟨j, hj, hju⟩ := h5 x hxL (by omega)
    rw [q4] at hju
    have := nd_inj h1 hi (by omega : j < L.length) (by omega)
    omega
  refine ⟨?_, fun x hx => ?_, List.mem_append.mpr (Or.inl h3), by simp; omega, fun x hx hxr => ?_, fun j hj a ha => ?_⟩
  · rw [List.nodup_append]
    exact ⟨h1, hd, fun a ha b hb e => hnew b hb (by rw [← e]; exact ha)⟩
  · rcases List.mem_append.mp hx with hx | hx
    · exact h2 x hx
    · obtain ⟨q1, q2, q3, q4⟩ := hN x hx
      exact ⟨q1, q2, by omega⟩
  · rcases List.mem_append.mp hx with hx | hx
    · obtain ⟨j, hj, hju⟩ := h5 x hx hxr
      exact ⟨j, by omega, by rw [getD_app (by omega)]; exact hju⟩
    · exact ⟨i, by omega, by rw [getD_app hi]; exact (hN x hx).2.2.2⟩
  · by_cases hji : j = i
    · subst hji
      rw [getD_app hi] at ha
      exact List.mem_append.mpr (Or.inr (hk a ha))
    · rw [getD_app (by omega)] at ha
      exact List.mem_append.mpr (Or.inl (h6 j (by omega) a ha))
/-- parts hold a list -/
def pR (σ : Sg) (L : List Nat) (σ1 : Sg) : Prop := (∀ j, j < L.length → σ1 44 0 j = (L.getD j 0 : Nat)) ∧ ∀ a b j, ¬ a = 44 → σ1 a b j = σ a b j
theorem pR.add {a : Nat} (h : pR σ L σ1) : pR σ (L ++ [a]) (upS σ1 44 0 L.length (a : Int)) := by
  refine ⟨fun j hj => ?_, fun a' b' j' h1 => by rw [upS_ne (by omega)]; exact h.2 a' b' j' h1⟩
  by_cases hji : j = L.length
  · subst hji
    rw [upS_same, List.getD_eq_getElem?_getD, List.getElem?_append_right (Nat.le_refl _), Nat.sub_self]
    rfl
  · have hj2 : j < L.length := by simp at hj; omega
    rw [upS_ne (by omega), getD_app hj2]
    exact h.1 j hj2
theorem lp_keep1 {l5 : Option Av} (hn3 : n ≤ 3000) (hK : ∀ L σ1 l4, BI E σ n Q root L L.length → pR σ L σ1 → Xz SL xs (m_Model_keep SL xs) F (84, [some (.inr (some (26, 0))), some (.inl root), some (.inl L.length), some (.inl L.length), l4, l5], [], (nx, σ1, rX kn tx), 0, 0)) : ∀ (d i : Nat) (L : List Nat) (σ1 : Sg) (l4 : Option Av), i + d = n → BI E σ n Q root L i → pR σ L σ1 → Xz SL xs (m_Model_keep SL xs) F (11, [some (.inr (some (26, 0))), some (.inl root), some (.inl L.length), some (.inl i), l4, l5], [], (nx, σ1, rX kn tx), 0, 0) := by
  intro d
  induction d with
  | zero =>
    intro i L σ1 l4 hi hI hp
    have hlen := nd_len n L hI.1 (fun x hx => (hI.2.1 x hx).2.1)
    have hil := hI.2.2.2.1
    have he : i = L.length := by omega
    subst he
    refine run 4 ?_
    refine And.intro (fun h => leaf (hK L σ1 l4 hI hp)) (fun h => absurd (show (L.length : Int) ≤ (L.length : Int) from Int.le_refl _) h)
  | succ d ih =>
    intro i L σ1 l4 hi hI hp
    have hlen := nd_len n L hI.1 (fun x hx => (hI.2.1 x hx).2.1)
    have hil := hI.2.2.2.1
    by_cases he : i = L.length
    · subst he
      refine run 4 ?_
      refine And.intro (fun h => leaf (hK L σ1 l4 hI hp)) (fun h => absurd (show (L.length : Int) ≤ (L.length : Int) from Int.le_refl _) h)
    have hlt : i < L.length := by omega
    have hy := getD_mem hlt
    have e44 : σ1 44 0 (i : Int).toNat = (L.getD i 0 : Nat) := by rw [Int.toNat_natCast]; exact hp.1 i hlt
    have hstep := fun N => hI.step (N := N) hlt
    obtain ⟨hpb, hyn, hyr⟩ := hI.2.1 _ hy
    generalize L.getD i 0 = z at *
    have hwi : wr ((i : Int) + 1) = ((i + 1 : Nat) : Int) := by rw [wr_eq ⟨by omega, by omega⟩]; omega
    have hiz : (0 : Int) ≤ (z : Int) ∧ (z : Int) < 3000 := by omega
    have K78 : ∀ (N : List Nat) (σ2 : Sg), BI E σ n Q root (L ++ N) (i + 1) → pR σ (L ++ N) σ2 → Xz SL xs (m_Model_keep SL xs) F (78, [some (.inr (some (26, 0))), some (.inl root), some (.inl ((L ++ N).length : Int)), some (.inl i), some (.inl z), l5], [], (nx, σ2, rX kn tx), 0, 0) := by
      intro N σ2 h1 h2
      have K := ih (i + 1) (L ++ N) σ2 (some (.inl z)) (by omega) h1 h2
      rw [← hwi] at K
      exact run 2 K
    have K24 : Xz SL xs (m_Model_keep SL xs) F (24, [some (.inr (some (26, 0))), some (.inl root), some (.inl L.length), some (.inl i), some (.inl z), l5], [], (nx, σ1, rX kn tx), 0, 0) := by
      have f40 : σ1 40 0 (z : Int).toNat = σ 40 0 z := by rw [Int.toNat_natCast]; exact hp.2 40 0 z (by omega)
      have f41 : σ1 41 0 (z : Int).toNat = σ 41 0 z := by rw [Int.toNat_natCast]; exact hp.2 41 0 z (by omega)
      rcases hpb.kids with ⟨k1, k2⟩ | ⟨a, k1, k2, k3, k4, k5, k6⟩ | ⟨a, b, k1, k2, k3, k4, k5, k6, k7, k8, k9⟩
      · have K := K78 [] σ1 (hstep [] (fun x hx => by cases hx) List.nodup_nil (fun a ha => by omega)) (by rw [List.append_nil]; exact hp)
        rw [List.append_nil] at K
        refine run 12 ?_
        refine And.intro hiz ?_
        refine And.intro (fun h => ?_) (fun h => absurd (show σ1 40 0 (z : Int).toNat = -1 by rw [f40]; exact k1) h)
        refine And.intro hiz ?_
        refine And.intro (fun h => ?_) (fun h => absurd (show σ1 41 0 (z : Int).toNat = -1 by rw [f41]; exact k2) h)
        exact leaf K
      · have hB1 := hstep [a] (fun x hx => by rw [List.mem_singleton] at hx; subst hx; exact ⟨k6, k4, k3, k5⟩) (by simp) (fun a' ha' => by rw [List.mem_singleton]; omega)
        have hl1 := nd_len n (L ++ [a]) hB1.1 (fun x hx => (hB1.2.1 x hx).2.1)
        simp only [List.length_append, List.length_singleton] at hl1
        have hw : wr ((L.length : Int) + 1) = ((L ++ [a]).length : Int) := by rw [wr_eq ⟨by omega, by omega⟩]; simp
        have K := K78 [a] (upS σ1 44 0 L.length (a : Int)) hB1 hp.add
        rw [← hw, ← k1, ← f40, show L.length = (L.length : Int).toNat by rw [Int.toNat_natCast]] at K
        rw [Int.toNat_natCast] at K
        refine run 24 ?_
        refine And.intro hiz ?_
        refine And.intro (fun h => absurd (show σ1 40 0 (z : Int).toNat = -1 from h) (by rw [f40, k1]; omega)) (fun h => ?_)
        refine And.intro hiz ?_
        refine And.intro ⟨show (0 : Int) ≤ (L.length : Int) by omega, show (L.length : Int) < 3000 by omega⟩ ?_
        refine And.intro hiz ?_
        refine And.intro (fun h => ?_) (fun h => absurd (show upS σ1 44 0 (L.length : Int).toNat (σ1 40 0 (z : Int).toNat) 41 0 (z : Int).toNat = -1 by rw [upS_ne (by omega), f41]; exact k2) h)
        exact leaf K
      · have hB1 := hstep [a, b] (fun x hx => by
          rcases List.mem_cons.mp hx with rfl | hx
          · exact ⟨k8, by omega, k3, k6⟩
          · rw [List.mem_singleton] at hx
            subst hx
            exact ⟨k9, k5, by omega, k7⟩) (by simp; omega) (fun a' ha' => by
          rcases ha' with h | h
          · exact List.mem_cons.mpr (Or.inl (by omega))
          · exact List.mem_cons.mpr (Or.inr (List.mem_singleton.mpr (by omega))))
        have hl1 := nd_len n (L ++ [a, b]) hB1.1 (fun x hx => (hB1.2.1 x hx).2.1)
        simp only [List.length_append, List.length_cons, List.length_nil] at hl1
        have hw1 : wr ((L.length : Int) + 1) = ((L.length + 1 : Nat) : Int) := by rw [wr_eq ⟨by omega, by omega⟩]; omega
        have hw : wr (wr ((L.length : Int) + 1) + 1) = ((L ++ [a, b]).length : Int) := by rw [hw1, wr_eq ⟨by omega, by omega⟩]; simp; omega
        have hp2 : pR σ (L ++ [a, b]) (upS (upS σ1 44 0 L.length (a : Int)) 44 0 (L.length + 1) (b : Int)) := by
          have h := (hp.add (a := a)).add (a := b)
          rw [List.append_assoc, show (L ++ [a]).length = L.length + 1 by simp] at h
          exact h
        have K := K78 [a, b] _ hB1 hp2
        have es : upS (upS σ1 44 0 L.length (a : Int)) 44 0 (L.length + 1) (b : Int) = upS (upS σ1 44 0 (L.length : Int).toNat (σ1 40 0 (z : Int).toNat)) 44 0 (wr ((L.length : Int) + 1)).toNat (upS σ1 44 0 (L.length : Int).toNat (σ1 40 0 (z : Int).toNat) 41 0 (z : Int).toNat) := by
          rw [hw1, f40, k1, upS_ne (f := σ1) (by omega), f41, k2, Int.toNat_natCast, Int.toNat_natCast]
        rw [es, ← hw] at K
        have e41 : upS σ1 44 0 (L.length : Int).toNat (σ1 40 0 (z : Int).toNat) 41 0 (z : Int).toNat = b := by rw [upS_ne (by omega), f41]; exact k2
        refine run 40 ?_
        refine And.intro hiz ?_
        refine And.intro (fun h => absurd (show σ1 40 0 (z : Int).toNat = -1 from h) (by rw [f40, k1]; omega)) (fun h => ?_)
        refine And.intro hiz ?_
        refine And.intro ⟨show (0 : Int) ≤ (L.length : Int) by omega, show (L.length : Int) < 3000 by omega⟩ ?_
        refine And.intro hiz ?_
        refine And.intro (fun h => absurd (show upS σ1 44 0 (L.length : Int).toNat (σ1 40 0 (z : Int).toNat) 41 0 (z : Int).toNat = -1 from h) (by rw [e41]; omega)) (fun h => ?_)
        refine And.intro hiz ?_
        refine And.intro (by show 0 ≤ wr ((L.length : Int) + 1) ∧ wr ((L.length : Int) + 1) < 3000; rw [hw1]; omega) ?_
        exact leaf (by first | exact run 1 K | exact K)
    rw [← e44] at K24
    refine run 8 ?_
    refine And.intro (fun h => absurd (show (L.length : Int) ≤ (i : Int) from h) (by omega)) (fun h => ?_)
    refine And.intro ⟨show (0 : Int) ≤ (i : Int) by omega, show (i : Int) < 3000 by omega⟩ ?_
    exact leaf (by first | exact run 1 K24 | exact run 2 K24)
theorem Dn.k19 : ∀ {m h r k p p' G B Q C Q'}, Dn E σ m h r k p p' G B Q C Q' → ∀ x ∈ Q', x ∈ Q ∨ ∃ k : Nat, σ 36 0 x.1 = k ∧ ekd E k = 19
  | 0, h, r, k, p, p', G, B, Q, C, Q', hd => by cases hd
  | m + 1, h, r, k, p, p', G, B, Q, C, Q', ⟨w, d1, d2, d3, d4, hd⟩ => by
    intro x hx
    rcases hd with hd | ⟨a, b, p1, C1, Q1, q0, q1, q2, q3, q4, q5, q6, q7, q8⟩ | ⟨a, kc, Gc, Bc, Q1, q1, q2, q3, q4, q5, q6, q7⟩
    · rw [hd.2.2.1] at hx
      exact Or.inl hx
    · rcases Dn.k19 q8 x hx with h1 | h1
      · exact Dn.k19 q7 x h1
      · exact Or.inr h1
    · rw [q7] at hx
      rcases List.mem_append.mp hx with hx | hx
      · exact Dn.k19 q6 x hx
      · unfold kpt at hx
        split at hx
        · rename_i h19
          rw [List.mem_singleton] at hx
          subst hx
          exact Or.inr ⟨k, w.1, h19⟩
        · cases hx
def fl (σ : Sg) (Q : Qw) (t : Nat) : Qw := Q.filter (fun x => decide (σ 43 0 x.1 < (t : Int)))
theorem fl_none {t : Nat} (h : ∀ x ∈ Q, ¬ σ 43 0 x.1 = t) : fl σ Q (t + 1) = fl σ Q t := by
  unfold fl
  refine List.filter_congr (fun x hx => ?_)
  have := h x hx
  by_cases h1 : σ 43 0 x.1 < (t : Int)
  · rw [decide_eq_true h1, decide_eq_true (by omega)]
  · rw [decide_eq_false h1, decide_eq_false (by omega)]
theorem fl_some {t : Nat} {e : Nat × Kp} (hs : Q.Pairwise (fun x y => σ 43 0 x.1 < σ 43 0 y.1)) (he : e ∈ Q) (ht : σ 43 0 e.1 = t) : fl σ Q (t + 1) = fl σ Q t ++ [e] := by
  obtain ⟨A, D, rfl⟩ := List.append_of_mem he
  rw [List.pairwise_append] at hs
  obtain ⟨-, h2, h3⟩ := hs
  rw [List.pairwise_cons] at h2
  have hA : ∀ x ∈ A, σ 43 0 x.1 < t := fun x hx => by rw [← ht]; exact h3 x hx e List.mem_cons_self
  have hD : ∀ x ∈ D, t < σ 43 0 x.1 := fun x hx => by rw [← ht]; exact h2.1 x hx
  unfold fl
  rw [List.filter_append, List.filter_append, List.filter_eq_self.mpr (fun x hx => decide_eq_true (by have := hA x hx; omega)), List.filter_eq_self.mpr (fun x hx => decide_eq_true (hA x hx)), List.filter_cons_of_pos (p := fun x : Nat × Kp => decide (σ 43 0 x.1 < ((t + 1 : Nat) : Int))) (decide_eq_true (by omega)), List.filter_cons_of_neg (p := fun x : Nat × Kp => decide (σ 43 0 x.1 < (t : Int))) (by simp; omega), List.filter_eq_nil_iff.mpr (fun x hx => by have := hD x hx; simp; omega), List.filter_eq_nil_iff.mpr (fun x hx => by have := hD x hx; simp; omega), List.append_nil]
theorem upN_upN {v : Nat} {l l' : List Int} : upN (upN ν v l) v l' = upN ν v l' := by
  funext w
  simp only [upN]
  split <;> rfl
/-- only variables and the parts have changed -/
def pq (σ : Sg) (L : List Nat) (σ2 : Sg) : Prop := (∀ j, j < L.length → σ2 44 0 j = (L.getD j 0 : Nat)) ∧ ∀ a b j, ¬ (a = 28 ∨ a = 29 ∨ a = 44) → σ2 a b j = σ a b j
theorem lp_keep3 {t r0 : Nat} {ν0 ν1 : Nu} (hn3 : n ≤ 3000) (hLn : L.length ≤ n) (hL : ∀ x ∈ L, PB E σ n Q x) (hh : ∀ y ∈ L, ∀ k p p' : Nat, σ 36 0 y = k → σ 37 0 y = p → σ 38 0 y = p' → (ekd E k = 19 → σ 43 0 y = t → y = r0 ∧ upN ν0 (efb E k) (((esb E).drop p).take (p' - p)) = ν1 ∧ upN ν1 (efb E k) (((esb E).drop p).take (p' - p)) = ν1) ∧ (¬ (ekd E k = 19 ∧ σ 43 0 y = t) → y = r0 → ν0 = ν1))
    (hK : ∀ σ2 l5, pq σ L σ2 → MB E σ0 σ2 (if r0 ∈ L then ν1 else ν0) n → Xz SL xs (m_Model_keep SL xs) F (164, [some (.inr (some (26, 0))), some (.inl root), some (.inl L.length), some (.inl t), some (.inl L.length), l5], [], (nx, σ2, rX kn tx), 0, 0)) : ∀ (d i : Nat) (σ2 : Sg) (l5 : Option Av), i + d = L.length → pq σ L σ2 → MB E σ0 σ2 (if r0 ∈ L.take i then ν1 else ν0) n → Xz SL xs (m_Model_keep SL xs) F (97, [some (.inr (some (26, 0))), some (.inl root), some (.inl L.length), some (.inl t), some (.inl i), l5], [], (nx, σ2, rX kn tx), 0, 0) := by
  intro d
  induction d with
  | zero =>
    intro i σ2 l5 hi hp hB
    have he : i = L.length := by omega
    subst he
    rw [List.take_length] at hB
    refine run 4 ?_
    refine And.intro (fun h => leaf (hK σ2 l5 hp hB)) (fun h => absurd (show (L.length : Int) ≤ (L.length : Int) from Int.le_refl _) h)
  | succ d ih =>
    intro i σ2 l5 hi hp hB
    have hlt : i < L.length := by omega
    have hy := getD_mem hlt
    have htk : L.take (i + 1) = L.take i ++ [L.getD i 0] := by
      rw [List.take_add_one, List.getD_eq_getElem?_getD, List.getElem?_eq_getElem hlt]
      rfl
    have e44 : σ2 44 0 (i : Int).toNat = (L.getD i 0 : Nat) := by rw [Int.toNat_natCast]; exact hp.1 i hlt
    obtain ⟨k, p, p', ⟨w1, w2, w3, w4⟩, d1, d2, d3, hyn, -⟩ := (hL _ hy).row
    obtain ⟨hh1, hh2⟩ := hh _ hy k p p' w1 w2 d1
    generalize L.getD i 0 = z at *
    have hwi : wr ((i : Int) + 1) = ((i + 1 : Nat) : Int) := by rw [wr_eq ⟨by omega, by omega⟩]; omega
    have hiz : (0 : Int) ≤ (z : Int) ∧ (z : Int) < 3000 := by omega
    have hO := hB.2.1
    have hk64 : k < 64 := by have := hO.2.1; omega
    obtain ⟨k1, -, k3, -⟩ := hB.ev.2.2 k w3
    have e36 : σ2 36 0 (z : Int).toNat = k := by rw [Int.toNat_natCast, hp.2 36 0 z (by omega)]; exact w1
    have e30 : σ2 30 0 (σ2 36 0 (z : Int).toNat).toNat = (ekd E k : Nat) := by rw [e36, Int.toNat_natCast]; exact k1
    have e43 : σ2 43 0 (z : Int).toNat = σ 43 0 z := by rw [Int.toNat_natCast]; exact hp.2 43 0 z (by omega)
    have hik : 0 ≤ σ2 36 0 (z : Int).toNat ∧ σ2 36 0 (z : Int).toNat < 64 := by rw [e36]; omega
    have Kno : ¬ (ekd E k = 19 ∧ σ 43 0 z = t) → Xz SL xs (m_Model_keep SL xs) F (158, [some (.inr (some (26, 0))), some (.inl root), some (.inl L.length), some (.inl t), some (.inl i), some (.inl z)], [], (nx, σ2, rX kn tx), 0, 0) := by
      intro hno
      have K := ih (i + 1) σ2 (some (.inl z)) (by omega) hp (by
        rw [htk]
        by_cases h1 : r0 ∈ L.take i
        · rw [if_pos (List.mem_append.mpr (Or.inl h1))]
          rw [if_pos h1] at hB
          exact hB
        · rw [if_neg h1] at hB
          by_cases h2 : z = r0
          · rw [← hh2 hno h2]
            split <;> exact hB
          · rw [if_neg (fun z' => by
              rcases List.mem_append.mp z' with h3 | h3
              · exact h1 h3
              · rw [List.mem_singleton] at h3
                exact h2 h3.symm)]
            exact hB)
      rw [← hwi] at K
      exact run 2 K
    have K112 : Xz SL xs (m_Model_keep SL xs) F (112, [some (.inr (some (26, 0))), some (.inl root), some (.inl L.length), some (.inl t), some (.inl i), some (.inl z)], [], (nx, σ2, rX kn tx), 0, 0) := by
      refine run 30 ?_
      refine And.intro hiz ?_
      refine And.intro hik ?_
      refine And.intro (fun h => ?_) (fun h => ?_)
      · have h : ¬ σ2 30 0 (σ2 36 0 (z : Int).toNat).toNat = 19 := h
        rw [e30] at h
        exact leaf (Kno (fun q => by omega))
      · have h : σ2 30 0 (σ2 36 0 (z : Int).toNat).toNat = 19 := Classical.not_not.mp h
        rw [e30] at h
        refine And.intro hiz ?_
        refine And.intro (fun h2 => ?_) (fun h2 => ?_)
        · have h2 : ¬ σ2 43 0 (z : Int).toNat = (t : Int) := h2
          rw [e43] at h2
          exact leaf (Kno (fun q => h2 q.2))
        · have h2 : σ2 43 0 (z : Int).toNat = (t : Int) := Classical.not_not.mp h2
          rw [e43] at h2
          obtain ⟨rfl, hu0, hu1⟩ := hh1 (by omega) h2
          have hbe : efb E k < 8 := (hO.2.2 k w3).2.2.2.2.1 (by omega)
          have hS64 := hO.1
          refine And.intro hiz ?_
          refine And.intro hik ?_
          refine call_any (Y := fun v s' => v = none ∧ ∃ σ', s' = (nx, σ', rX kn tx) ∧ setM σ2 (efb E k) (((esb E).drop p).take (p' - p)) σ') ?_ ?_
          · show vT 7 (T_Model_becomes SL xs) [.inr (some (26, 0)), .inl (σ2 32 0 (σ2 36 0 (z : Int).toNat).toNat), .inl (z : Int)] (nx, σ2, rX kn tx) _
            rw [e36, Int.toNat_natCast, k3]
            exact tw_Model_becomes hB.ev hO hB.2.2.2.2.2 hbe (by omega) (by rw [hp.2 37 0 z (by omega)]; exact w2) (by rw [hp.2 38 0 z (by omega)]; exact d1) d2 d3 (fun σ' h => ⟨rfl, σ', rfl, h⟩)
          · intro v s' hv
            obtain ⟨rfl, σ3, rfl, hset⟩ := hv
            have K := ih (i + 1) σ3 (some (.inl z)) (by omega) ⟨fun j hj => by rw [hset.2 44 0 j (by omega) (by omega)]; exact hp.1 j hj, fun a b j h1 => by rw [hset.2 a b j (by omega) (by omega)]; exact hp.2 a b j h1⟩ (by
              rw [htk, if_pos (List.mem_append.mpr (Or.inr (List.mem_singleton.mpr rfl)))]
              have h3 := hB.set hbe (l := ((esb E).drop p).take (p' - p)) (by simp; omega) hset
              split at h3
              · rw [hu1] at h3
                exact h3
              · rw [hu0] at h3
                exact h3)
            rw [← hwi] at K
            exact leaf (by first | exact run 1 K | exact run 2 K)
    rw [← e44] at K112
    refine run 8 ?_
    refine And.intro (fun h => absurd (show (L.length : Int) ≤ (i : Int) from h) (by omega)) (fun h => ?_)
    refine And.intro ⟨show (0 : Int) ≤ (i : Int) by omega, show (i : Int) < 3000 by omega⟩ ?_
    exact leaf (by first | exact run 1 K112 | exact run 2 K112)
theorem lp_keep2 {clk : Nat} (hn3 : n ≤ 3000) (hLn : L.length ≤ n) (hL : ∀ x ∈ L, PB E σ n Q x) (hall : ∀ x ∈ Q, x.1 ∈ L) (h19 : ∀ x ∈ Q, ∃ k : Nat, σ 36 0 x.1 = k ∧ ekd E k = 19) (hs : Srt σ Q) (hclk : σ 26 0 25 = clk) (hc9 : clk < 100000000) (hF : ∀ σ2, pq σ L σ2 → MB E σ0 σ2 (keepA E (qm Q) ν) n → F none (nx, σ2, rX kn tx)) : ∀ (d t : Nat) (σ2 : Sg) (l4 l5 : Option Av), t + d = clk + 1 → 1 ≤ t → pq σ L σ2 → MB E σ0 σ2 (keepA E (qm (fl σ Q t)) ν) n → Xz SL xs (m_Model_keep SL xs) F (86, [some (.inr (some (26, 0))), some (.inl root), some (.inl L.length), some (.inl t), l4, l5], [], (nx, σ2, rX kn tx), 0, 0) := by
  intro d
  induction d with
  | zero =>
    intro t σ2 l4 l5 ht h1 hp hB
    have e25 : σ2 26 0 25 = clk := by rw [hp.2 26 0 25 (by omega)]; exact hclk
    have hfl : fl σ Q t = Q := by
      unfold fl
      exact List.filter_eq_self.mpr (fun x hx => decide_eq_true (by have := (hs.2 x hx).2; omega))
    rw [hfl] at hB
    refine run 8 ?_
    refine And.intro (fun h => hF σ2 hp hB) (fun h => absurd (show σ2 26 0 25 < (t : Int) by rw [e25]; omega) h)
  | succ d ih =>
    intro t σ2 l4 l5 ht h1 hp hB
    have e25 : σ2 26 0 25 = clk := by rw [hp.2 26 0 25 (by omega)]; exact hclk
    have hwt : wr ((t : Int) + 1) = ((t + 1 : Nat) : Int) := by rw [wr_eq ⟨by omega, by omega⟩]; omega
    have go : ∀ (r0 : Nat) (ν1 : Nu), (∀ y ∈ L, ∀ k p p' : Nat, σ 36 0 y = k → σ 37 0 y = p → σ 38 0 y = p' → (ekd E k = 19 → σ 43 0 y = t → y = r0 ∧ upN (keepA E (qm (fl σ Q t)) ν) (efb E k) (((esb E).drop p).take (p' - p)) = ν1 ∧ upN ν1 (efb E k) (((esb E).drop p).take (p' - p)) = ν1) ∧ (¬ (ekd E k = 19 ∧ σ 43 0 y = t) → y = r0 → (keepA E (qm (fl σ Q t)) ν) = ν1)) → (if r0 ∈ L then ν1 else keepA E (qm (fl σ Q t)) ν) = keepA E (qm (fl σ Q (t + 1))) ν → Xz SL xs (m_Model_keep SL xs) F (86, [some (.inr (some (26, 0))), some (.inl root), some (.inl L.length), some (.inl t), l4, l5], [], (nx, σ2, rX kn tx), 0, 0) := by
      intro r0 ν1 hh hfin
      have K := lp_keep3 (SL := SL) (xs := xs) (nx := nx) (F := F) (kn := kn) (tx := tx) (root := root) (σ0 := σ0) hn3 hLn hL hh (fun σ3 l5' hp3 hB3 => by
        rw [hfin] at hB3
        have K := ih (t + 1) σ3 (some (.inl L.length)) l5' (by omega) (by omega) hp3 hB3
        rw [← hwt] at K
        exact run 2 K) L.length 0 σ2 l5 (Nat.zero_add _) hp (by simpa using hB)
      refine run 6 ?_
      refine And.intro (fun h => absurd (show σ2 26 0 25 < (t : Int) from h) (by rw [e25]; omega)) (fun h => ?_)
      exact leaf (by first | exact run 1 K | exact run 2 K)
    by_cases hex : ∃ e ∈ Q, σ 43 0 e.1 = t
    · obtain ⟨e, he, het⟩ := hex
      have hf := fl_some hs.1 he het
      have hk : keepA E (qm (fl σ Q (t + 1))) ν = upN (keepA E (qm (fl σ Q t)) ν) e.2.1 (((esb E).drop e.2.2.1).take (e.2.2.2 - e.2.2.1)) := by
        rw [hf, show qm (fl σ Q t ++ [e]) = qm (fl σ Q t) ++ [e.2] from List.map_append]
        simp only [keepA, List.foldl_append, List.foldl_cons, List.foldl_nil]
      refine go e.1 (upN (keepA E (qm (fl σ Q t)) ν) e.2.1 (((esb E).drop e.2.2.1).take (e.2.2.2 - e.2.2.1))) (fun y hy k p p' q1 q2 q3 => ⟨fun h1 h2 => ?_, fun h1 h2 => ?_⟩) (by rw [if_pos (hall e he)]; exact hk.symm)
      · obtain ⟨k', pp, pp', ⟨w1, w2, -⟩, d1, -, -, -, hm⟩ := (hL y hy).row
        have e1 : k' = k := by omega
        have e2 : pp = p := by omega
        have e3 : pp' = p' := by omega
        subst e1 e2 e3
        have hm := hm h1
        have hf2 := fl_some hs.1 hm h2
        rw [hf] at hf2
        have hee := List.append_cancel_left hf2
        have hee : e = (y, (efb E k', pp, pp')) := by simpa using hee
        rw [hee]
        exact ⟨rfl, rfl, upN_upN⟩
      · exfalso
        obtain ⟨k', w1, w2⟩ := h19 e he
        rw [← h2] at w1 het
        have e1 : k' = k := by omega
        subst e1
        exact h1 ⟨w2, het⟩
    · have hf : fl σ Q (t + 1) = fl σ Q t := fl_none (fun x hx h => hex ⟨x, hx, h⟩)
      refine go 0 (keepA E (qm (fl σ Q t)) ν) (fun y hy k p p' q1 q2 q3 => ⟨fun h1 h2 => ?_, fun h1 h2 => rfl⟩) (by rw [hf]; split <;> rfl)
      exfalso
      obtain ⟨k', pp, pp', ⟨w1, w2, -⟩, d1, -, -, -, hm⟩ := (hL y hy).row
      have e1 : k' = k := by omega
      subst e1
      exact hex ⟨_, hm h1, h2⟩
theorem tw_Model_keep (hB : MB E σ0 σ ν n) (hn3 : n ≤ 3000) (hD : Dn E σ m n root k p p' [] [] [] C Q) (hs : Srt σ Q) (h25 : 0 ≤ σ 26 0 25 ∧ σ 26 0 25 ≤ 3001 * n + 3000) (hF : ∀ σ', (∀ a b j, ¬ (a = 28 ∨ a = 29 ∨ a = 44) → σ' a b j = σ a b j) → MB E σ0 σ' (keepA E (qm Q) ν) n → F none (nx, σ', rX kn tx)) : T_Model_keep SL xs [.inr (some (26, 0)), .inl root] (nx, σ, rX kn tx) F := by
  have hrn := hD.lt
  have hPB : PB E σ n Q root := ⟨m, n, k, p, p', [], [], [], C, Q, hD, Nat.le_refl _, fun x hx => hx⟩
  have hBI : BI E σ n Q root [root] 0 := ⟨by simp, fun x hx => by rw [List.mem_singleton] at hx; subst hx; exact ⟨hPB, hrn, Nat.le_refl _⟩, by simp, by simp, fun x hx hxr => absurd (List.mem_singleton.mp hx) hxr, fun j hj => by omega⟩
  have hpR : pR σ [root] (upS σ 44 0 (0 : Int).toNat (root : Int)) := ⟨fun j hj => by
    have hj : j = 0 := by simp at hj; exact hj
    subst hj
    exact upS_same, fun a b j h => upS_ne (by omega)⟩
  have K := lp_keep1 (SL := SL) (xs := xs) (nx := nx) (F := F) (kn := kn) (tx := tx) (E := E) (σ := σ) (n := n) (Q := Q) (root := root) (l5 := none) hn3 (fun L σ1 l4 hI hp => ?_) n 0 [root] _ none (Nat.zero_add _) hBI hpR
  · refine run 9 ?_
    refine And.intro ⟨show (0 : Int) ≤ 0 by omega, show (0 : Int) < 3000 by omega⟩ ?_
    exact leaf (by first | exact run 1 K | exact run 2 K | exact run 3 K)
  · obtain ⟨b1, b2, b3, b4, b5, b6⟩ := hI
    have hmem : ∀ x ∈ L, ∃ j, j < L.length ∧ L.getD j 0 = x := by
      intro x hx
      obtain ⟨j, hj, rfl⟩ := List.getElem_of_mem hx
      exact ⟨j, hj, by rw [List.getD_eq_getElem?_getD, List.getElem?_eq_getElem hj]; rfl⟩
    have hcl : ∀ x, x ∈ L → ∀ a : Nat, (σ 40 0 x = a ∨ σ 41 0 x = a) → a ∈ L := by
      intro x hx a ha
      obtain ⟨j, hj, rfl⟩ := hmem x hx
      exact b6 j hj a ha
    have hall : ∀ x ∈ Q, x.1 ∈ L := by
      intro x hx
      rcases Dn.reach (fun x => x ∈ L) hcl hD b3 x hx with h | h
      · cases h
      · exact h
    obtain ⟨clk, hclk⟩ : ∃ clk : Nat, σ 26 0 25 = clk := ⟨(σ 26 0 25).toNat, by omega⟩
    have hpq : pq σ L σ1 := ⟨hp.1, fun a b j h => hp.2 a b j (by omega)⟩
    have hB1 : MB E σ0 σ1 ν n := hB.mv (fun a b j h1 h2 => hp.2 a b j (by omega)) (by rw [hp.2 26 0 14 (by omega)]; exact hB.2.2.2.2.1)
    have hfl : fl σ Q 1 = [] := by
      unfold fl
      exact List.filter_eq_nil_iff.mpr (fun x hx => by have := (hs.2 x hx).1; simp; omega)
    have K := lp_keep2 (SL := SL) (xs := xs) (nx := nx) (F := F) (kn := kn) (tx := tx) (E := E) (σ := σ) (σ0 := σ0) (ν := ν) (n := n) (Q := Q) (root := root) (L := L) (clk := clk) hn3 (nd_len n L b1 (fun x hx => (b2 x hx).2.1)) (fun x hx => (b2 x hx).1) hall (fun x hx => by
      rcases hD.k19 x hx with h | h
      · cases h
      · exact h) hs hclk (by omega) (fun σ2 h1 h2 => hF σ2 h1.2 h2) clk 1 σ1 l4 none (by omega) (Nat.le_refl _) hpq (by rw [hfl]; exact hB1)
    exact run 2 K
end
