/-! The model's rows: what has succeeded, what is under way -/
abbrev Qw : Type := List (Nat × Kp)
abbrev qm (Q : Qw) : List Kp := Q.map Prod.snd
def rwE (E : Ev) (σ : Sg) (r k p : Nat) : Prop := σ 36 0 r = k ∧ σ 37 0 r = p ∧ k < ect E ∧ p ≤ (esb E).length
/-- what a node without others within leaves on the pile -/
def lfC (E : Ev) (k p p' : Nat) (G : List Gl) (B : List Ch) (Q : List Kp) (C : List Ch) : Prop :=
  (ekd E k = 11 ∧ C = if p' < (esb E).length then (1, p', G, Q) :: B else B) ∨ (ekd E k = 12 ∧ bfx (esb E) p p' ∧ C = (2, p', G, Q) :: B) ∨ (ekd E k = 14 ∧ C = (3, p, G, Q) :: B) ∨
  (ekd E k = 16 ∧ C = (0, p, (0, efa E k, 0) :: (0, k, 0) :: G, Q) :: B) ∨ ((ekd E k ≤ 10 ∨ ekd E k = 21 ∨ ekd E k = 22) ∧ C = B)
def sk (E : Ev) (k : Nat) : Nat := if ekd E k = 16 then k else efb E k
/-- a node with one within: which, its goals, its pile -/
def oneC (E : Ev) (s2 : Int) (k p : Nat) (kc : Nat) (G : List Gl) (B : List Ch) (Q : List Kp) (Gc : List Gl) (Bc : List Ch) : Prop :=
  (ekd E k = 18 ∧ s2 = 0 ∧ kc = efa E k ∧ Gc = G ∧ Bc = (0, p, (0, efb E k, 0) :: G, Q) :: B) ∨ (ekd E k = 18 ∧ s2 = 1 ∧ kc = efb E k ∧ Gc = G ∧ Bc = B) ∨ (ekd E k = 19 ∧ kc = efa E k ∧ Gc = (1, efb E k, p) :: G ∧ Bc = B) ∨
  (ekd E k = 20 ∧ kc = efa E k ∧ Gc = (2, efb E k, p) :: G ∧ Bc = B) ∨ (ekd E k = 23 ∧ kc = efa E k ∧ Gc = G ∧ Bc = B)
def kpt (E : Ev) (r k p p' : Nat) : Qw := if ekd E k = 19 then [(r, (efb E k, p, p'))] else []
/-- a row has succeeded -/
def Dn (E : Ev) (σ : Sg) : Nat → Nat → Nat → Nat → Nat → Nat → List Gl → List Ch → Qw → List Ch → Qw → Prop
  | 0, _, _, _, _, _, _, _, _, _, _ => False
  | m + 1, h, r, k, p, p', G, B, Q, C, Q' => rwE E σ r k p ∧ σ 38 0 r = p' ∧ p ≤ p' ∧ p' ≤ (esb E).length ∧ r < h ∧
    ((σ 40 0 r = -1 ∧ σ 41 0 r = -1 ∧ Q' = Q ∧ lfC E k p p' G B (qm Q) C) ∨
     (∃ a b p1 C1 Q1, (ekd E k = 16 ∨ ekd E k = 17) ∧ σ 40 0 r = (a : Nat) ∧ σ 41 0 r = (b : Nat) ∧ r < a ∧ a < b ∧ σ 39 0 a = r ∧ σ 39 0 b = r ∧ Dn E σ m b a (efa E k) p p1 ((0, sk E k, 0) :: G) B Q C1 Q1 ∧ Dn E σ m h b (sk E k) p1 p' G C1 Q1 C Q') ∨
     (∃ a kc Gc Bc Q1, σ 40 0 r = (a : Nat) ∧ σ 41 0 r = -1 ∧ r < a ∧ σ 39 0 a = r ∧ oneC E (σ 42 0 r) k p kc G B (qm Q) Gc Bc ∧ Dn E σ m h a kc p p' Gc Bc Q C Q1 ∧ Q' = Q1 ++ kpt E r k p p'))
/-- a row is under way -/
def Pt (E : Ev) (σ : Sg) (root : Nat × Nat) : Nat → Nat → Nat → Nat → List Gl → List Ch → Qw → Prop
  | 0, _, _, _, _, _, _ => False
  | m + 1, r, k, p, G, B, Q => rwE E σ r k p ∧ ((r = root.1 ∧ p = root.2 ∧ G = [] ∧ B = [] ∧ Q = []) ∨
    ∃ u ku pu Gu Bu Qu, σ 39 0 r = (u : Nat) ∧ root.1 ≤ u ∧ u < r ∧ Pt E σ root m u ku pu Gu Bu Qu ∧
      ((σ 40 0 u = r ∧ σ 41 0 u = -1 ∧ p = pu ∧ Q = Qu ∧ oneC E (σ 42 0 u) ku pu k Gu Bu (qm Qu) G B) ∨
       ((ekd E ku = 16 ∨ ekd E ku = 17) ∧ σ 40 0 u = r ∧ σ 41 0 u = -1 ∧ k = efa E ku ∧ p = pu ∧ G = (0, sk E ku, 0) :: Gu ∧ B = Bu ∧ Q = Qu) ∨
       (∃ a m', (ekd E ku = 16 ∨ ekd E ku = 17) ∧ σ 40 0 u = (a : Nat) ∧ σ 41 0 u = r ∧ k = sk E ku ∧ u < a ∧ a < r ∧ σ 39 0 a = u ∧ G = Gu ∧ Dn E σ m' r a (efa E ku) pu p ((0, sk E ku, 0) :: Gu) Bu Qu B Q)))
section
variable {E : Ev} {σ σ' : Sg} {m h r k p p' : Nat} {root : Nat × Nat} {G : List Gl} {B C : List Ch} {Q Q' : Qw}
theorem Dn.frame : ∀ {m h r k p p' G B Q C Q'}, (∀ a i, 36 ≤ a → a ≤ 42 → r ≤ i → i < h → σ' a 0 i = σ a 0 i) → Dn E σ m h r k p p' G B Q C Q' → Dn E σ' m h r k p p' G B Q C Q'
  | 0, h, r, k, p, p', G, B, Q, C, Q', _, hd => hd
  | m + 1, h, r, k, p, p', G, B, Q, C, Q', hf, ⟨⟨w1, w2, w3⟩, d1, d2, d3, d4, hd⟩ => by
    have e := fun a h1 h2 => hf a r h1 h2 (Nat.le_refl _) d4
    refine ⟨⟨by rw [e 36 (by omega) (by omega)]; exact w1, by rw [e 37 (by omega) (by omega)]; exact w2, w3⟩, by rw [e 38 (by omega) (by omega)]; exact d1, d2, d3, d4, ?_⟩
    rw [e 40 (by omega) (by omega), e 41 (by omega) (by omega), e 42 (by omega) (by omega)]
    rcases hd with hd | ⟨a, b, p1, C1, Q1, q0, q1, q2, q3, q4, q5, q6, q7, q8⟩ | ⟨a, kc, Gc, Bc, Q1, q1, q2, q3, q4, q5, q6, q7⟩
    · exact Or.inl hd
    · have hb : b < h := by
        cases m with
        | zero => cases q8
        | succ m => exact q8.2.2.2.2.1
      refine Or.inr (Or.inl ⟨a, b, p1, C1, Q1, q0, q1, q2, q3, q4, ?_, ?_, q7.frame (fun a' i h1 h2 h3 h4 => hf a' i h1 h2 (by omega) (by omega)), q8.frame (fun a' i h1 h2 h3 h4 => hf a' i h1 h2 (by omega) (by omega))⟩)
      · rw [hf 39 a (by omega) (by omega) (by omega) (by omega)]; exact q5
      · rw [hf 39 b (by omega) (by omega) (by omega) (by omega)]; exact q6
    · have ha : a < h := by
        cases m with
        | zero => cases q6
        | succ m => exact q6.2.2.2.2.1
      refine Or.inr (Or.inr ⟨a, kc, Gc, Bc, Q1, q1, q2, q3, ?_, q5, q6.frame (fun a' i h1 h2 h3 h4 => hf a' i h1 h2 (by omega) (by omega)), q7⟩)
      rw [hf 39 a (by omega) (by omega) (by omega) (by omega)]; exact q4
theorem Dn.lt (h1 : Dn E σ m h r k p p' G B Q C Q') : r < h := by
  cases m with
  | zero => cases h1
  | succ m => exact h1.2.2.2.2.1
theorem Dn.rw (h1 : Dn E σ m h r k p p' G B Q C Q') : rwE E σ r k p ∧ σ 38 0 r = p' ∧ p ≤ p' ∧ p' ≤ (esb E).length := by
  cases m with
  | zero => cases h1
  | succ m => exact ⟨h1.1, h1.2.1, h1.2.2.1, h1.2.2.2.1⟩
theorem Dn.mono : ∀ {m m' h h' r k p p' G B Q C Q'}, m ≤ m' → h ≤ h' → Dn E σ m h r k p p' G B Q C Q' → Dn E σ m' h' r k p p' G B Q C Q'
  | 0, m', h, h', r, k, p, p', G, B, Q, C, Q', _, _, hd => by cases hd
  | m + 1, 0, h, h', r, k, p, p', G, B, Q, C, Q', hm, _, hd => by omega
  | m + 1, m' + 1, h, h', r, k, p, p', G, B, Q, C, Q', hm, hh, ⟨w, d1, d2, d3, d4, hd⟩ => by
    refine ⟨w, d1, d2, d3, by omega, ?_⟩
    rcases hd with hd | ⟨a, b, p1, C1, Q1, q0, q1, q2, q3, q4, q5, q6, q7, q8⟩ | ⟨a, kc, Gc, Bc, Q1, q1, q2, q3, q4, q5, q6, q7⟩
    · exact Or.inl hd
    · exact Or.inr (Or.inl ⟨a, b, p1, C1, Q1, q0, q1, q2, q3, q4, q5, q6, q7.mono (by omega) (Nat.le_refl _), q8.mono (by omega) hh⟩)
    · exact Or.inr (Or.inr ⟨a, kc, Gc, Bc, Q1, q1, q2, q3, q4, q5, q6.mono (by omega) hh, q7⟩)
theorem Dn.q : ∀ {m h r k p p' G B Q C Q'}, Dn E σ m h r k p p' G B Q C Q' → ∃ L, Q' = Q ++ L ∧ ∀ x ∈ L, r ≤ x.1 ∧ x.1 < h
  | 0, h, r, k, p, p', G, B, Q, C, Q', hd => by cases hd
  | m + 1, h, r, k, p, p', G, B, Q, C, Q', ⟨w, d1, d2, d3, d4, hd⟩ => by
    rcases hd with hd | ⟨a, b, p1, C1, Q1, q0, q1, q2, q3, q4, q5, q6, q7, q8⟩ | ⟨a, kc, Gc, Bc, Q1, q1, q2, q3, q4, q5, q6, q7⟩
    · exact ⟨[], by rw [hd.2.2.1]; simp, fun x hx => by cases hx⟩
    · obtain ⟨L1, rfl, h1⟩ := q7.q
      obtain ⟨L2, rfl, h2⟩ := q8.q
      have hb := q8.lt
      refine ⟨L1 ++ L2, by rw [List.append_assoc], fun x hx => ?_⟩
      rcases List.mem_append.mp hx with hx | hx
      · have := h1 x hx
        omega
      · have := h2 x hx
        omega
    · obtain ⟨L1, rfl, h1⟩ := q6.q
      refine ⟨L1 ++ kpt E r k p p', by rw [q7, List.append_assoc], fun x hx => ?_⟩
      rcases List.mem_append.mp hx with hx | hx
      · have := h1 x hx
        omega
      · unfold kpt at hx
        split at hx
        · rw [List.mem_singleton] at hx
          subst hx
          exact ⟨Nat.le_refl _, d4⟩
        · cases hx
theorem Pt.frame : ∀ {m r k p G B Q}, (∀ a i, 36 ≤ a → a ≤ 42 → i < r → σ' a 0 i = σ a 0 i) → σ' 36 0 r = σ 36 0 r → σ' 37 0 r = σ 37 0 r → σ' 39 0 r = σ 39 0 r → Pt E σ root m r k p G B Q → Pt E σ' root m r k p G B Q
  | 0, r, k, p, G, B, Q, _, _, _, _, hd => hd
  | m + 1, r, k, p, G, B, Q, hf, f1, f2, f3, ⟨⟨w1, w2, w3⟩, hd⟩ => by
    refine ⟨⟨by rw [f1]; exact w1, by rw [f2]; exact w2, w3⟩, ?_⟩
    rcases hd with hd | ⟨u, ku, pu, Gu, Bu, Qu, u1, u2, u3, u4, hd⟩
    · exact Or.inl hd
    · have e := fun a h1 h2 => hf a u h1 h2 u3
      refine Or.inr ⟨u, ku, pu, Gu, Bu, Qu, by rw [f3]; exact u1, u2, u3, u4.frame (fun a i h1 h2 h3 => hf a i h1 h2 (by omega)) (e 36 (by omega) (by omega)) (e 37 (by omega) (by omega)) (e 39 (by omega) (by omega)), ?_⟩
      rw [e 40 (by omega) (by omega), e 41 (by omega) (by omega), e 42 (by omega) (by omega)]
      rcases hd with hd | hd | ⟨a, m', q1, q2, q3, q4, q5, q6, q7, q8, q9⟩
      · exact Or.inl hd
      · exact Or.inr (Or.inl hd)
      · exact Or.inr (Or.inr ⟨a, m', q1, q2, q3, q4, q5, q6, by rw [hf 39 a (by omega) (by omega) (by omega)]; exact q7, q8, q9.frame (fun a' i h1 h2 h3 h4 => hf a' i h1 h2 (by omega))⟩)
theorem Pt.rw (h1 : Pt E σ root m r k p G B Q) : rwE E σ r k p := by
  cases m with
  | zero => cases h1
  | succ m => exact h1.1
theorem oneC.kc {s2 : Int} {ku pu : Nat} {Gu : List Gl} {Bu : List Ch} {Qk : List Kp} (h : oneC E s2 ku pu k Gu Bu Qk G B) : kcn G ≤ kcn Gu + 1 := by
  rcases h with ⟨-, -, -, rfl, -⟩ | ⟨-, -, -, rfl, -⟩ | ⟨-, -, rfl, -⟩ | ⟨-, -, rfl, -⟩ | ⟨-, -, rfl, -⟩
  · omega
  · omega
  · simp [kcn]; omega
  · simp [kcn]
  · omega
theorem Pt.kc : ∀ {m r k p G B Q}, Pt E σ root m r k p G B Q → kcn G ≤ r
  | 0, r, k, p, G, B, Q, hd => by cases hd
  | m + 1, r, k, p, G, B, Q, ⟨w, hd⟩ => by
    rcases hd with ⟨-, -, rfl, -⟩ | ⟨u, ku, pu, Gu, Bu, Qu, u1, u2, u3, u4, hd⟩
    · simp [kcn]
    · have ih := u4.kc
      rcases hd with hd | hd | ⟨a, m', q1, q2, q3, q4, q5, q6, q7, q8, q9⟩
      · have := hd.2.2.2.2.kc
        omega
      · rw [hd.2.2.2.2.2.1]
        simp [kcn]
        omega
      · rw [q8]
        omega
theorem Pt.q : ∀ {m r k p G B Q}, Pt E σ root m r k p G B Q → ∀ x ∈ Q, x.1 < r
  | 0, r, k, p, G, B, Q, hd => by cases hd
  | m + 1, r, k, p, G, B, Q, ⟨w, hd⟩ => by
    intro x hx
    rcases hd with ⟨-, -, -, -, rfl⟩ | ⟨u, ku, pu, Gu, Bu, Qu, u1, u2, u3, u4, hd⟩
    · cases hx
    · have ih := u4.q
      rcases hd with hd | hd | ⟨a, m', q1, q2, q3, q4, q5, q6, q7, q8, q9⟩
      · rw [hd.2.2.2.1] at hx
        have := ih x hx
        omega
      · rw [hd.2.2.2.2.2.2.2] at hx
        have := ih x hx
        omega
      · obtain ⟨L, rfl, hL⟩ := q9.q
        rcases List.mem_append.mp hx with hx | hx
        · have := ih x hx
          omega
        · exact (hL x hx).2
end
/-- what stays during a try -/
def frt (σ0 σ : Sg) : Prop := ∀ a b j, ¬ (a = 28 ∨ a = 29 ∨ (36 ≤ a ∧ a ≤ 44)) → ¬ (a = 26 ∧ (j = 14 ∨ (25 ≤ j ∧ j ≤ 29))) → σ a b j = σ0 a b j
def byt (l : List Int) : Prop := ∀ x ∈ l, b8 x = x
def MB (E : Ev) (σ0 σ : Sg) (ν : Nu) (n : Nat) : Prop := frt σ0 σ ∧ EvOK E ∧ EvM E σ0 ∧ NuM ν σ ∧ σ 26 0 14 = n ∧ byt (esb E)
/-- only rows and what is at hand have changed -/
def frr (σ σ' : Sg) : Prop := ∀ a b j, ¬ (36 ≤ a ∧ a ≤ 44) → ¬ (a = 26 ∧ (j = 14 ∨ (25 ≤ j ∧ j ≤ 29))) → σ' a b j = σ a b j
section
variable {E : Ev} {σ0 σ σ' : Sg} {ν : Nu} {n n' : Nat}
theorem MB.ev (h : MB E σ0 σ ν n) : EvM E σ := by
  obtain ⟨f, -, ⟨e1, e2, e3⟩, -⟩ := h
  refine ⟨by rw [f 26 0 5 (by omega) (by omega)]; exact e1, ⟨by rw [f 26 0 16 (by omega) (by omega)]; exact e2.1, fun i hi => by rw [f 35 0 i (by omega) (by omega)]; exact e2.2 i hi⟩, fun k hk => ?_⟩
  obtain ⟨k1, k2, k3, k4, k5⟩ := e3 k hk
  exact ⟨by rw [f 30 0 k (by omega) (by omega)]; exact k1, by rw [f 31 0 k (by omega) (by omega)]; exact k2, by rw [f 32 0 k (by omega) (by omega)]; exact k3, ⟨by rw [f 34 0 k (by omega) (by omega)]; exact k4.1, fun i hi => by show σ 33 0 (64 * k + i) = _; rw [f 33 0 _ (by omega) (by omega)]; exact k4.2 i hi⟩, k5⟩
theorem MB.mv (h : MB E σ0 σ ν n) (hf : frr σ σ') (hn : σ' 26 0 14 = n') : MB E σ0 σ' ν n' := by
  obtain ⟨f, eo, e, nu, -, hb⟩ := h
  refine ⟨fun a b j h1 h2 => by rw [hf a b j (by omega) h2]; exact f a b j h1 h2, eo, e, fun v hv => ?_, hn, hb⟩
  obtain ⟨h5, h6⟩ := nu v hv
  exact ⟨⟨by rw [hf 29 0 v (by omega) (by omega)]; exact h5.1, fun i hi => by show σ' 28 0 (64 * v + i) = _; rw [hf 28 0 _ (by omega) (by omega)]; exact h5.2 i hi⟩, h6⟩
theorem MB.set {v : Nat} {l : List Int} (h : MB E σ0 σ ν n) (hv : v < 8) (hl : l.length ≤ 64) (hs : setM σ v l σ') : MB E σ0 σ' (upN ν v l) n := by
  obtain ⟨f, eo, e, nu, hn, hb⟩ := h
  refine ⟨fun a b j h1 h2 => by rw [hs.2 a b j (by omega) (by omega)]; exact f a b j h1 h2, eo, e, fun w hw => ?_, by rw [hs.2 26 0 14 (by omega) (by omega)]; exact hn, hb⟩
  by_cases hwv : w = v
  · subst hwv
    simp only [upN, if_true]
    exact ⟨hs.1, hl⟩
  · simp only [upN, if_neg hwv]
    obtain ⟨h5, h6⟩ := nu w hw
    exact ⟨⟨by rw [hs.2 29 0 w (by omega) (by omega)]; exact h5.1, fun i hi => by show σ' 28 0 (64 * w + i) = _; rw [hs.2 28 0 _ (by omega) (by omega)]; exact h5.2 i hi⟩, h6⟩
end
