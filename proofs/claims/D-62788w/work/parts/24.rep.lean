/-! How the component's cells hold the states of matching -/
def chn (σ : Sg) : Nat → Int → List Gl → Prop
  | _, g, [] => g = -1
  | tp, g, x :: r => ∃ i : Nat, g = i ∧ i < tp ∧ σ 11 0 i = x.1 ∧ σ 12 0 i = x.2.1 ∧ σ 13 0 i = x.2.2 ∧ chn σ i (σ 14 0 i) r
def kpR (σ : Sg) (q : List Kp) : Prop := ∀ i, i < q.length → σ 23 0 i = (q.getD i (0, 0, 0)).1 ∧ σ 24 0 i = (q.getD i (0, 0, 0)).2.1 ∧ σ 25 0 i = (q.getD i (0, 0, 0)).2.2
def chR (σ : Sg) : Nat → Nat → List Ch → Prop
  | _, _, [] => True
  | tp, kl, x :: r => σ 16 0 r.length = x.1 ∧ σ 17 0 r.length = x.2.1 ∧ σ 21 0 r.length = 0 ∧ ∃ t : Nat, σ 19 0 r.length = t ∧ t ≤ tp ∧ chn σ t (σ 18 0 r.length) x.2.2.1 ∧ σ 20 0 r.length = x.2.2.2.length ∧ x.2.2.2.length ≤ kl ∧ kpR σ x.2.2.2 ∧ chR σ t x.2.2.2.length r
theorem chn.frame {σ σ' : Sg} : ∀ {g : List Gl} {tp : Nat} {x : Int}, (∀ a i, 11 ≤ a → a ≤ 14 → i < tp → σ' a 0 i = σ a 0 i) → chn σ tp x g → chn σ' tp x g
  | [], _, _, _, h => h
  | y :: r, tp, x, hf, ⟨i, h1, h2, h3, h4, h5, h6⟩ => ⟨i, h1, h2, by rw [hf 11 i (by omega) (by omega) h2]; exact h3, by rw [hf 12 i (by omega) (by omega) h2]; exact h4, by rw [hf 13 i (by omega) (by omega) h2]; exact h5, by
      rw [hf 14 i (by omega) (by omega) h2]
      exact chn.frame (fun a j ha hb hj => hf a j ha hb (by omega)) h6⟩
theorem chn.mono {σ : Sg} {tp tp' : Nat} (h : tp ≤ tp') : ∀ {g : List Gl} {x : Int}, chn σ tp x g → chn σ tp' x g
  | [], _, h1 => h1
  | _ :: _, _, ⟨i, h1, h2, h3⟩ => ⟨i, h1, by omega, h3⟩
theorem kpR.frame {σ σ' : Sg} {q : List Kp} (hf : ∀ a i, 23 ≤ a → a ≤ 25 → i < q.length → σ' a 0 i = σ a 0 i) (h : kpR σ q) : kpR σ' q := fun i hi => by
  obtain ⟨h1, h2, h3⟩ := h i hi
  exact ⟨by rw [hf 23 i (by omega) (by omega) hi]; exact h1, by rw [hf 24 i (by omega) (by omega) hi]; exact h2, by rw [hf 25 i (by omega) (by omega) hi]; exact h3⟩
theorem chR.frame {σ σ' : Sg} : ∀ {c : List Ch} {tp kl : Nat}, (∀ a i, 11 ≤ a → a ≤ 14 → i < tp → σ' a 0 i = σ a 0 i) → (∀ a i, 23 ≤ a → a ≤ 25 → i < kl → σ' a 0 i = σ a 0 i) → (∀ a i, 16 ≤ a → a ≤ 21 → i < c.length → σ' a 0 i = σ a 0 i) → chR σ tp kl c → chR σ' tp kl c
  | [], _, _, _, _, _, _ => trivial
  | x :: r, tp, kl, f1, f2, f3, ⟨h1, h2, h2', t, h3, h4, h5, h6, h7, h8, h9⟩ => by
    have e : ∀ a, 16 ≤ a → a ≤ 21 → σ' a 0 r.length = σ a 0 r.length := fun a ha hb => f3 a r.length ha hb (by simp)
    refine ⟨by rw [e 16 (by omega) (by omega)]; exact h1, by rw [e 17 (by omega) (by omega)]; exact h2, by rw [e 21 (by omega) (by omega)]; exact h2', t, by rw [e 19 (by omega) (by omega)]; exact h3, h4, ?_, by rw [e 20 (by omega) (by omega)]; exact h6, h7, h8.frame (fun a i ha hb hi => f2 a i ha hb (by omega)), ?_⟩
    · rw [e 18 (by omega) (by omega)]
      exact h5.frame (fun a i ha hb hi => f1 a i ha hb (by omega))
    · exact h9.frame (fun a i ha hb hi => f1 a i ha hb (by omega)) (fun a i ha hb hi => f2 a i ha hb (by omega)) (fun a i ha hb hi => f3 a i ha hb (by simp; omega))
theorem chR.mono {σ : Sg} {tp tp' kl kl' : Nat} (h : tp ≤ tp') (h' : kl ≤ kl') : ∀ {c : List Ch}, chR σ tp kl c → chR σ tp' kl' c
  | [], _ => trivial
  | _ :: _, ⟨h1, h2, h2', t, h3, h4, h5, h6, h7, h8⟩ => ⟨h1, h2, h2', t, h3, by omega, h5, h6, by omega, h8⟩
/-- what stays while it matches -/
def fr (σ0 σ : Sg) : Prop := ∀ a b j, ¬ (9 ≤ a ∧ a ≤ 25 ∧ ¬ (a = 9 ∧ 10 ≤ j)) → ¬ ((a = 1 ∨ a = 2) ∧ 3 ≤ b ∧ b < 11) → σ a b j = σ0 a b j
theorem fr.up {σ0 σ : Sg} {a b j : Nat} {v : Int} (h : fr σ0 σ) (h1 : 9 ≤ a) (h2 : a ≤ 25) (h5 : ¬ (a = 9 ∧ 10 ≤ j)) : fr σ0 (upS σ a b j v) := fun a' b' j' h3 h4 => by
  rw [upS_ne (fun q => h3 ⟨by omega, by omega, by omega⟩)]
  exact h a' b' j' h3 h4
theorem fr.txt {σ0 σ σ' : Sg} {v : Nat} {l : List Int} (h : fr σ0 σ) (hv : v < 8) (hs : setT σ (3 + v) l σ') : fr σ0 σ' := fun a' b' j' h3 h4 => by
  rw [hs.2 a' b' j' (fun q => h4 ⟨Or.inl q.1, by omega, by omega⟩) (fun q => h4 ⟨Or.inr q.1, by omega, by omega⟩)]
  exact h a' b' j' h3 h4
def EvC (E : Ev) (σ : Sg) (kn : Nat → Option Nat) (tx : Nat → Bool) : Prop := σ 4 0 4 = ect E ∧ tl (σ 2 2) (σ 1 2 1) (esb E) ∧ ∀ k, k < ect E → kn k = some (ekd E k) ∧ σ 6 0 k = efa E k ∧ σ 7 0 k = efb E k ∧ tx k = true ∧ tl (σ 2 (11 + k)) (σ 1 (11 + k) 1) (ewd E k) ∧ (ewd E k).length ≤ 64
def NuC (ν : Nu) (σ : Sg) : Prop := ∀ v, v < 8 → tl (σ 2 (3 + v)) (σ 1 (3 + v) 1) (ν v) ∧ (ν v).length ≤ 64
def RB (E : Ev) (kn : Nat → Option Nat) (tx : Nat → Bool) (σ0 σ : Sg) (ν : Nu) (n : Nat) : Prop := fr σ0 σ ∧ EvOK E ∧ EvC E σ0 kn tx ∧ NuC ν σ ∧ σ 9 0 6 = n
def RG (E : Ev) (kn : Nat → Option Nat) (tx : Nat → Bool) (σ0 σ : Sg) (tp p : Nat) (g : List Gl) (c : List Ch) (q : List Kp) (ν : Nu) (n : Nat) : Prop :=
  RB E kn tx σ0 σ ν n ∧ σ 9 0 7 = p ∧ chn σ tp (σ 9 0 8) g ∧ σ 10 0 4 = tp ∧ tp ≤ 2 * n + 1 ∧ σ 15 0 6 = c.length ∧ chR σ tp q.length c ∧ σ 22 0 3 = q.length ∧ kpR σ q
def RK (E : Ev) (kn : Nat → Option Nat) (tx : Nat → Bool) (σ0 σ : Sg) (c : List Ch) (ν : Nu) (n : Nat) : Prop := RB E kn tx σ0 σ ν n ∧ σ 15 0 6 = c.length ∧ ∃ tp kl : Nat, tp ≤ 2 * n + 1 ∧ chR σ tp kl c
section
variable {E : Ev} {kn : Nat → Option Nat} {tx : Nat → Bool} {σ0 σ : Sg} {tp p n k : Nat} {g : List Gl} {c r : List Ch} {q : List Kp} {ν : Nu} {x : Ch}
theorem RB.up {a j : Nat} {v : Int} (h : RB E kn tx σ0 σ ν n) (h1 : 9 ≤ a) (h2 : a ≤ 25) (h3 : ¬ (a = 9 ∧ (j = 6 ∨ 10 ≤ j))) : RB E kn tx σ0 (upS σ a 0 j v) ν n := by
  obtain ⟨f, eo, e, nu, hn⟩ := h
  refine ⟨f.up h1 h2 (by omega), eo, e, fun v hv => ?_, by rw [upS_ne (fun q => h3 ⟨by omega, by omega⟩)]; exact hn⟩
  obtain ⟨⟨h4, h5⟩, h6⟩ := nu v hv
  exact ⟨⟨by rw [upS_ne (by omega)]; exact h4, fun i hi => by rw [upS_ne (by omega)]; exact h5 i hi⟩, h6⟩
theorem RB.sub (h : RB E kn tx σ0 σ ν n) : tl (σ 2 2) (σ 1 2 1) (esb E) ∧ (esb E).length ≤ 64 := by
  obtain ⟨f, eo, e, nu, hn⟩ := h
  exact ⟨⟨by rw [f 1 2 1 (by omega) (by omega)]; exact e.2.1.1, fun i hi => by rw [f 2 2 i (by omega) (by omega)]; exact e.2.1.2 i hi⟩, eo.1⟩
theorem RB.node (h : RB E kn tx σ0 σ ν n) (hk : k < ect E) : kn k = some (ekd E k) ∧ σ 6 0 k = efa E k ∧ σ 7 0 k = efb E k ∧ tx k = true ∧ tl (σ 2 (11 + k)) (σ 1 (11 + k) 1) (ewd E k) ∧ (ewd E k).length ≤ 64 := by
  obtain ⟨f, eo, e, nu, hn⟩ := h
  obtain ⟨h1, h2, h3, h4, ⟨h5, h6⟩, h7⟩ := e.2.2 k hk
  exact ⟨h1, by rw [f 6 0 k (by omega) (by omega)]; exact h2, by rw [f 7 0 k (by omega) (by omega)]; exact h3, h4, ⟨by rw [f 1 (11 + k) 1 (by omega) (by omega)]; exact h5, fun i hi => by rw [f 2 (11 + k) i (by omega) (by omega)]; exact h6 i hi⟩, h7⟩
theorem RB.cnt (h : RB E kn tx σ0 σ ν n) : σ 4 0 4 = ect E := by
  rw [h.1 4 0 4 (by omega) (by omega)]
  exact h.2.2.1.1
theorem RB.set {v : Nat} {l : List Int} {σ' : Sg} (h : RB E kn tx σ0 σ ν n) (hv : v < 8) (hl : l.length ≤ 64) (hs : setT σ (3 + v) l σ') : RB E kn tx σ0 σ' (upN ν v l) n := by
  obtain ⟨f, eo, e, nu, hn⟩ := h
  refine ⟨f.txt hv hs, eo, e, fun w hw => ?_, by rw [hs.2 9 0 6 (by omega) (by omega)]; exact hn⟩
  by_cases hwv : w = v
  · subst hwv
    simp only [upN, if_true]
    exact ⟨hs.1, hl⟩
  · simp only [upN, if_neg hwv]
    obtain ⟨⟨h4, h5⟩, h6⟩ := nu w hw
    exact ⟨⟨by rw [hs.2 1 (3 + w) 1 (by omega) (by omega)]; exact h4, fun i hi => by rw [hs.2 2 (3 + w) i (by omega) (by omega)]; exact h5 i hi⟩, h6⟩
/-- the place is set -/
theorem RG.place {p' : Nat} (h : RG E kn tx σ0 σ tp p g c q ν n) : RG E kn tx σ0 (upS σ 9 0 7 (p' : Int)) tp p' g c q ν n := by
  obtain ⟨hb, h1, h2, h3, h4, h5, h6, h7, h8⟩ := h
  refine ⟨hb.up (by omega) (by omega) (by omega), upS_same, ?_, by rw [upS_ne (by omega)]; exact h3, h4, by rw [upS_ne (by omega)]; exact h5, ?_, by rw [upS_ne (by omega)]; exact h7, ?_⟩
  · rw [upS_ne (by omega)]
    exact h2.frame (fun a i ha hb hi => upS_ne (by omega))
  · exact h6.frame (fun a i ha hb hi => upS_ne (by omega)) (fun a i ha hb hi => upS_ne (by omega)) (fun a i ha hb hi => upS_ne (by omega))
  · exact h8.frame (fun a i ha hb hi => upS_ne (by omega))
theorem RG.back (h : RG E kn tx σ0 σ tp p g c q ν n) : RK E kn tx σ0 σ c ν n := ⟨h.1, h.2.2.2.2.2.1, tp, q.length, h.2.2.2.2.1, h.2.2.2.2.2.2.1⟩
theorem RK.up {a j : Nat} {v : Int} (h : RK E kn tx σ0 σ c ν n) (ha : a = 9 ∨ a = 10 ∨ a = 22) (h3 : ¬ (a = 9 ∧ (j = 6 ∨ 10 ≤ j))) : RK E kn tx σ0 (upS σ a 0 j v) c ν n := by
  obtain ⟨hb, h1, tp, kl, h2, h4⟩ := h
  exact ⟨hb.up (by omega) (by omega) h3, by rw [upS_ne (by omega)]; exact h1, tp, kl, h2, h4.frame (fun a i ha hb hi => upS_ne (by omega)) (fun a i ha hb hi => upS_ne (by omega)) (fun a i ha hb hi => upS_ne (by omega))⟩
/-- a cell is added to the goals (not yet the first one) -/
theorem gad_at {w a f x : Int} (ht : σ 10 0 4 = tp) : gad σ w a f x 11 0 tp = w ∧ gad σ w a f x 12 0 tp = a ∧ gad σ w a f x 13 0 tp = f ∧ gad σ w a f x 14 0 tp = x ∧ gad σ w a f x 10 0 4 = ((tp + 1 : Nat) : Int) := by
  simp only [gad, gadW, ht, Int.toNat_natCast]
  refine ⟨by simp [upS], by simp [upS], by simp [upS], by simp [upS], by rw [upS_same]; omega⟩
theorem gad_ne {w a f x : Int} (ht : σ 10 0 4 = tp) {a' b' j' : Nat} (h : ¬ (11 ≤ a' ∧ a' ≤ 14 ∧ j' = tp)) (h2 : ¬ (a' = 10 ∧ j' = 4)) : gad σ w a f x a' b' j' = σ a' b' j' := by
  simp only [gad, gadW, ht, Int.toNat_natCast]
  rw [upS_ne (by omega), upS_ne (by omega), upS_ne (by omega), upS_ne (by omega), upS_ne (by omega)]
theorem RG.addG {w a f : Nat} {x : Int} {g' : List Gl} (h : RG E kn tx σ0 σ tp p g c q ν n) (hx : chn σ tp x g') (hn : tp + 1 ≤ 2 * n + 1) :
    RG E kn tx σ0 (gad σ w a f x) (tp + 1) p g c q ν n ∧ chn (gad σ w a f x) (tp + 1) (tp : Int) ((w, a, f) :: g') := by
  obtain ⟨hb, h1, h2, h3, h4, h5, h6, h7, h8⟩ := h
  have at_ := gad_at (σ := σ) (w := w) (a := a) (f := f) (x := x) h3
  have ne := fun {a' b' j' : Nat} => gad_ne (σ := σ) (w := w) (a := a) (f := f) (x := x) h3 (a' := a') (b' := b') (j' := j')
  have fr1 : ∀ a' i, 11 ≤ a' → a' ≤ 14 → i < tp → gad σ w a f x a' 0 i = σ a' 0 i := fun a' i _ _ hi => ne (by omega) (by omega)
  refine ⟨⟨?_, by rw [ne (by omega) (by omega)]; exact h1, ?_, at_.2.2.2.2, hn, by rw [ne (by omega) (by omega)]; exact h5, ?_, by rw [ne (by omega) (by omega)]; exact h7, h8.frame (fun a' i _ _ hi => ne (by omega) (by omega))⟩, tp, rfl, by omega, at_.1, at_.2.1, at_.2.2.1, ?_⟩
  · exact ((((hb.up (by omega) (by omega) (by omega)).up (by omega) (by omega) (by omega)).up (by omega) (by omega) (by omega)).up (by omega) (by omega) (by omega)).up (by omega) (by omega) (by omega)
  · rw [ne (by omega) (by omega)]
    exact (h2.frame fr1).mono (by omega)
  · exact (h6.frame fr1 (fun a' i _ _ hi => ne (by omega) (by omega)) (fun a' i _ _ hi => ne (by omega) (by omega))).mono (by omega) (Nat.le_refl _)
  · rw [at_.2.2.2.1]
    exact hx.frame fr1
/-- the first goal is set -/
theorem RG.goal {g' : List Gl} {x : Int} (h : RG E kn tx σ0 σ tp p g c q ν n) (hx : chn σ tp x g') : RG E kn tx σ0 (upS σ 9 0 8 x) tp p g' c q ν n := by
  obtain ⟨hb, h1, h2, h3, h4, h5, h6, h7, h8⟩ := h
  refine ⟨hb.up (by omega) (by omega) (by omega), by rw [upS_ne (by omega)]; exact h1, ?_, by rw [upS_ne (by omega)]; exact h3, h4, by rw [upS_ne (by omega)]; exact h5, ?_, by rw [upS_ne (by omega)]; exact h7, ?_⟩
  · rw [upS_same]
    exact hx.frame (fun a i ha hb hi => upS_ne (by omega))
  · exact h6.frame (fun a i ha hb hi => upS_ne (by omega)) (fun a i ha hb hi => upS_ne (by omega)) (fun a i ha hb hi => upS_ne (by omega))
  · exact h8.frame (fun a i ha hb hi => upS_ne (by omega))
theorem RG.res {x : Int} (h : RG E kn tx σ0 σ tp p g c q ν n) : RG E kn tx σ0 (upS σ 9 0 9 x) tp p g c q ν n := by
  obtain ⟨hb, h1, h2, h3, h4, h5, h6, h7, h8⟩ := h
  refine ⟨hb.up (by omega) (by omega) (by omega), by rw [upS_ne (by omega)]; exact h1, ?_, by rw [upS_ne (by omega)]; exact h3, h4, by rw [upS_ne (by omega)]; exact h5, ?_, by rw [upS_ne (by omega)]; exact h7, ?_⟩
  · rw [upS_ne (by omega)]
    exact h2.frame (fun a i ha hb hi => upS_ne (by omega))
  · exact h6.frame (fun a i ha hb hi => upS_ne (by omega)) (fun a i ha hb hi => upS_ne (by omega)) (fun a i ha hb hi => upS_ne (by omega))
  · exact h8.frame (fun a i ha hb hi => upS_ne (by omega))
theorem cad_at {w p x : Int} {m : Nat} (ht : σ 15 0 6 = m) : cad σ w p x 16 0 m = w ∧ cad σ w p x 17 0 m = p ∧ cad σ w p x 18 0 m = x ∧ cad σ w p x 19 0 m = σ 10 0 4 ∧ cad σ w p x 20 0 m = σ 22 0 3 ∧ cad σ w p x 21 0 m = 0 ∧ cad σ w p x 15 0 6 = ((m + 1 : Nat) : Int) := by
  simp only [cad, cadW, ht, Int.toNat_natCast]
  refine ⟨by simp [upS], by simp [upS], by simp [upS], by simp [upS], by simp [upS], by simp [upS], by rw [upS_same]; omega⟩
theorem cad_ne {w p x : Int} {m : Nat} (ht : σ 15 0 6 = m) {a' b' j' : Nat} (h : ¬ (16 ≤ a' ∧ a' ≤ 21 ∧ j' = m)) (h2 : ¬ (a' = 15 ∧ j' = 6)) : cad σ w p x a' b' j' = σ a' b' j' := by
  simp only [cad, cadW, ht, Int.toNat_natCast]
  rw [upS_ne (by omega), upS_ne (by omega), upS_ne (by omega), upS_ne (by omega), upS_ne (by omega), upS_ne (by omega), upS_ne (by omega)]
/-- a choice is put on the pile -/
theorem RG.addC {w pc : Nat} {x : Int} {g' : List Gl} (h : RG E kn tx σ0 σ tp p g c q ν n) (hx : chn σ tp x g') : RG E kn tx σ0 (cad σ w pc x) tp p g ((w, pc, g', q) :: c) q ν n := by
  obtain ⟨hb, h1, h2, h3, h4, h5, h6, h7, h8⟩ := h
  have at_ := cad_at (σ := σ) (w := w) (p := pc) (x := x) h5
  have ne := fun {a' b' j' : Nat} => cad_ne (σ := σ) (w := w) (p := pc) (x := x) h5 (a' := a') (b' := b') (j' := j')
  have fr1 : ∀ a' i, 11 ≤ a' → a' ≤ 14 → i < tp → cad σ w pc x a' 0 i = σ a' 0 i := fun a' i _ _ hi => ne (by omega) (by omega)
  have fr2 : ∀ a' i, 23 ≤ a' → a' ≤ 25 → i < q.length → cad σ w pc x a' 0 i = σ a' 0 i := fun a' i _ _ hi => ne (by omega) (by omega)
  refine ⟨?_, by rw [ne (by omega) (by omega)]; exact h1, ?_, by rw [ne (by omega) (by omega)]; exact h3, h4, at_.2.2.2.2.2.2, ⟨at_.1, at_.2.1, at_.2.2.2.2.2.1, tp, by rw [at_.2.2.2.1]; exact h3, Nat.le_refl _, ?_, by rw [at_.2.2.2.2.1]; exact h7, Nat.le_refl _, h8.frame fr2, ?_⟩, by rw [ne (by omega) (by omega)]; exact h7, h8.frame fr2⟩
  · exact ((((((hb.up (by omega) (by omega) (by omega)).up (by omega) (by omega) (by omega)).up (by omega) (by omega) (by omega)).up (by omega) (by omega) (by omega)).up (by omega) (by omega) (by omega)).up (by omega) (by omega) (by omega)).up (by omega) (by omega) (by omega)
  · rw [ne (by omega) (by omega)]
    exact h2.frame fr1
  · rw [at_.2.2.1]
    exact hx.frame fr1
  · exact h6.frame fr1 fr2 (fun a' i _ _ hi => ne (by omega) (by omega))
theorem kad_at {v f u : Int} {m : Nat} (ht : σ 22 0 3 = m) : kad σ v f u 23 0 m = v ∧ kad σ v f u 24 0 m = f ∧ kad σ v f u 25 0 m = u ∧ kad σ v f u 22 0 3 = ((m + 1 : Nat) : Int) := by
  simp only [kad, ht, Int.toNat_natCast]
  refine ⟨by simp [upS], by simp [upS], by simp [upS], by rw [upS_same]; omega⟩
theorem kad_ne {v f u : Int} {m : Nat} (ht : σ 22 0 3 = m) {a' b' j' : Nat} (h : ¬ (23 ≤ a' ∧ a' ≤ 25 ∧ j' = m)) (h2 : ¬ (a' = 22 ∧ j' = 3)) : kad σ v f u a' b' j' = σ a' b' j' := by
  simp only [kad, ht, Int.toNat_natCast]
  rw [upS_ne (by omega), upS_ne (by omega), upS_ne (by omega), upS_ne (by omega)]
theorem RG.addK {v f u : Nat} (h : RG E kn tx σ0 σ tp p g c q ν n) : RG E kn tx σ0 (kad σ v f u) tp p g c (q ++ [(v, f, u)]) ν n := by
  obtain ⟨hb, h1, h2, h3, h4, h5, h6, h7, h8⟩ := h
  have at_ := kad_at (σ := σ) (v := v) (f := f) (u := u) h7
  have ne := fun {a' b' j' : Nat} => kad_ne (σ := σ) (v := v) (f := f) (u := u) h7 (a' := a') (b' := b') (j' := j')
  have fr2 : ∀ a' i, 23 ≤ a' → a' ≤ 25 → i < q.length → kad σ v f u a' 0 i = σ a' 0 i := fun a' i _ _ hi => ne (by omega) (by omega)
  refine ⟨?_, by rw [ne (by omega) (by omega)]; exact h1, ?_, by rw [ne (by omega) (by omega)]; exact h3, h4, by rw [ne (by omega) (by omega)]; exact h5, ?_, by rw [at_.2.2.2]; simp, fun i hi => ?_⟩
  · exact (((hb.up (by omega) (by omega) (by omega)).up (by omega) (by omega) (by omega)).up (by omega) (by omega) (by omega)).up (by omega) (by omega) (by omega)
  · rw [ne (by omega) (by omega)]
    exact h2.frame (fun a' i _ _ hi => ne (by omega) (by omega))
  · exact (h6.frame (fun a' i _ _ hi => ne (by omega) (by omega)) fr2 (fun a' i _ _ hi => ne (by omega) (by omega))).mono (Nat.le_refl _) (by simp)
  · by_cases hq : i < q.length
    · rw [List.getD_eq_getElem?_getD, List.getElem?_append_left hq, ← List.getD_eq_getElem?_getD, fr2 23 i (by omega) (by omega) hq, fr2 24 i (by omega) (by omega) hq, fr2 25 i (by omega) (by omega) hq]
      exact h8 i hq
    · have hi2 : i = q.length := by simp at hi; omega
      subst hi2
      rw [List.getD_eq_getElem?_getD, List.getElem?_append_right (Nat.le_refl _), Nat.sub_self]
      exact ⟨at_.1, at_.2.1, at_.2.2.1⟩
/-- a variable is set -/
theorem RG.set {v : Nat} {l : List Int} {σ' : Sg} (h : RG E kn tx σ0 σ tp p g c q ν n) (hv : v < 8) (hl : l.length ≤ 64) (hs : setT σ (3 + v) l σ') : RG E kn tx σ0 σ' tp p g c q (upN ν v l) n := by
  obtain ⟨hb, h1, h2, h3, h4, h5, h6, h7, h8⟩ := h
  have ne : ∀ a b j, 9 ≤ a → σ' a b j = σ a b j := fun a b j ha => hs.2 a b j (by omega) (by omega)
  refine ⟨hb.set hv hl hs, by rw [ne 9 0 7 (by omega)]; exact h1, ?_, by rw [ne 10 0 4 (by omega)]; exact h3, h4, by rw [ne 15 0 6 (by omega)]; exact h5, ?_, by rw [ne 22 0 3 (by omega)]; exact h7, ?_⟩
  · rw [ne 9 0 8 (by omega)]
    exact h2.frame (fun a i ha hb hi => ne a 0 i (by omega))
  · exact h6.frame (fun a i ha hb hi => ne a 0 i (by omega)) (fun a i ha hb hi => ne a 0 i (by omega)) (fun a i ha hb hi => ne a 0 i (by omega))
  · exact h8.frame (fun a i ha hb hi => ne a 0 i (by omega))
/-- the topmost choice is taken -/
def bkS (σ : Sg) (z : Int) : Sg := upS (upS (upS (upS (upS σ 15 0 6 z) 10 0 4 (σ 19 0 z.toNat)) 22 0 3 (σ 20 0 z.toNat)) 9 0 7 (σ 17 0 z.toNat)) 9 0 8 (σ 18 0 z.toNat)
theorem RK.pop (h : RK E kn tx σ0 σ (x :: r) ν n) : ∃ tp, RG E kn tx σ0 (bkS σ (r.length : Int)) tp x.2.1 x.2.2.1 r x.2.2.2 ν n := by
  obtain ⟨hb, h1, tp, kl, h2, q1, q2, q2', t, q3, q4, q5, q6, q7, q8, q9⟩ := h
  have ne : ∀ a' b' j', ¬ (a' = 15 ∧ j' = 6) → ¬ (a' = 10 ∧ j' = 4) → ¬ (a' = 22 ∧ j' = 3) → ¬ (a' = 9 ∧ (j' = 7 ∨ j' = 8)) → bkS σ (r.length : Int) a' b' j' = σ a' b' j' := by
    intro a' b' j' k1 k2 k3 k4
    simp only [bkS]
    rw [upS_ne (by omega), upS_ne (by omega), upS_ne (by omega), upS_ne (by omega), upS_ne (by omega)]
  have e10 : bkS σ (r.length : Int) 10 0 4 = t := by
    simp only [bkS, Int.toNat_natCast]
    rw [upS_ne (by omega), upS_ne (by omega), upS_ne (by omega), upS_same]
    exact q3
  have e15 : bkS σ (r.length : Int) 15 0 6 = r.length := by
    simp only [bkS, Int.toNat_natCast]
    rw [upS_ne (by omega), upS_ne (by omega), upS_ne (by omega), upS_ne (by omega), upS_same]
  have e22 : bkS σ (r.length : Int) 22 0 3 = x.2.2.2.length := by
    simp only [bkS, Int.toNat_natCast]
    rw [upS_ne (by omega), upS_ne (by omega), upS_same]
    exact q6
  have e97 : bkS σ (r.length : Int) 9 0 7 = x.2.1 := by
    simp only [bkS, Int.toNat_natCast]
    rw [upS_ne (by omega), upS_same]
    exact q2
  have e98 : bkS σ (r.length : Int) 9 0 8 = σ 18 0 r.length := by
    simp only [bkS, Int.toNat_natCast]
    rw [upS_same]
  refine ⟨t, ?_, e97, ?_, e10, by omega, e15, ?_, e22, ?_⟩
  · exact ((((hb.up (by omega) (by omega) (by omega)).up (by omega) (by omega) (by omega)).up (by omega) (by omega) (by omega)).up (by omega) (by omega) (by omega)).up (by omega) (by omega) (by omega)
  · rw [e98]
    exact q5.frame (fun a i ha hb hi => ne a 0 i (by omega) (by omega) (by omega) (by omega))
  · exact q9.frame (fun a i ha hb hi => ne a 0 i (by omega) (by omega) (by omega) (by omega)) (fun a i ha hb hi => ne a 0 i (by omega) (by omega) (by omega) (by omega)) (fun a i ha hb hi => ne a 0 i (by omega) (by omega) (by omega) (by omega))
  · exact q8.frame (fun a i ha hb hi => ne a 0 i (by omega) (by omega) (by omega) (by omega))
end
