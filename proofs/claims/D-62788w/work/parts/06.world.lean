/-! The world: cells of ours by the order in which they are made; the constants -/
/-- where our cells begin; the constants' addresses; classes and slots; classes of arrays -/
abbrev Gp : Type := Nat × (Nat → Nat → Nat) × va_G × (Nat → ClassId)
def adr (G : Gp) (q : Nat × Nat) : Nat := if q.1 < 45 then G.1 + ad q.1 q.2 else G.2.1 q.1 q.2
def cv (G : Gp) : Av → Value
  | .inl x => .int (Int32.ofInt x)
  | .inr r => va_rf (r.map (adr G))
def nF (ci : Nat) : Nat := ((nth frL ci).map List.length).getD 0
def fvl (G : Gp) (s : St) (a b ci j : Nat) : Value := if fk ci j = 1 then va_rf ((s.2.2 a b j).map (adr G)) else .int (Int32.ofInt (s.2.1 a b j))
def ent (G : Gp) (s : St) (q : Nat × Nat) : va_E := match shp q.1 with
  | .inl ci => .inr (ci, (List.range (nF ci)).map (fvl G s q.1 q.2 ci))
  | .inr (t, n) => if t < 3 then .inl (G.2.2.2 t, n, .inl (fun i => Int32.ofInt (s.2.1 q.1 q.2 i))) else .inl (G.2.2.2 t, n, .inr (.inr (.inr (.inr (fun i => (s.2.2 q.1 q.2 i).map (adr G))))))
def wl (G : Gp) (s : St) : va_W := (List.range s.1).map (fun k => (G.1 + k, ent G s (idof k)))
theorem nth_get {α : Type} : ∀ (l : List α) (i : Nat), nth l i = l[i]?
  | [], i => by simp [nth]
  | q :: r, 0 => by simp [nth]
  | q :: r, i + 1 => by simp [nth, nth_get r i]
theorem ad_idof65 : ∀ k, k < 65 → ad (idof k).1 (idof k).2 = k := by decide +kernel
theorem ad_idof (k : Nat) : ad (idof k).1 (idof k).2 = k := by
  by_cases h : k < 65
  · exact ad_idof65 k h
  · by_cases h2 : (k - 65) % 2 = 0
    · have e : idof k = (1, 11 + (k - 65) / 2) := by simp [idof, h, h2]
      rw [e]
      simp only [ad, adT]
      rw [if_pos trivial, if_neg (by omega), if_neg (by omega), if_neg (by omega), if_neg (by omega)]
      omega
    · have e : idof k = (2, 11 + (k - 65) / 2) := by simp [idof, h, h2]
      rw [e]
      simp only [ad, adT]
      rw [if_neg (by omega), if_pos trivial, if_neg (by omega), if_neg (by omega), if_neg (by omega), if_neg (by omega)]
      omega
section
variable {G : Gp} {s s' : St}
theorem wl_get {k : Nat} (h : k < s.1) : (wl G s)[k]? = some (G.1 + k, ent G s (idof k)) := by simp [wl, List.getElem?_map, List.getElem?_range h]
theorem wl_out {k : Nat} (h : ¬ k < s.1) : (wl G s)[k]? = none := by
  have : (List.range s.1)[k]? = none := by simp; omega
  simp [wl, List.getElem?_map, this]
theorem wl_inv {k : Nat} {q : Nat × va_E} (h : (wl G s)[k]? = some q) : k < s.1 ∧ q = (G.1 + k, ent G s (idof k)) := by
  by_cases hk : k < s.1
  · rw [wl_get hk] at h
    exact ⟨hk, (Option.some.inj h).symm⟩
  · rw [wl_out hk] at h
    cases h
theorem wl_at {a b : Nat} (h : idq a b = true) (hl : ad a b < s.1) : (wl G s)[ad a b]? = some (G.1 + ad a b, ent G s (a, b)) := by rw [wl_get hl, idof_ad h]
theorem wl_D : va_D (fun q => G.1 ≤ q) (wl G s) := by
  refine ⟨fun i j p q hp hq e => ?_, fun k q hq => ?_⟩
  · obtain ⟨-, rfl⟩ := wl_inv hp
    obtain ⟨-, rfl⟩ := wl_inv hq
    simp only at e
    omega
  · obtain ⟨-, rfl⟩ := wl_inv hq
    simp
theorem ent_same {q : Nat × Nat} (h1 : ∀ j, s'.2.1 q.1 q.2 j = s.2.1 q.1 q.2 j) (h2 : ∀ j, s'.2.2 q.1 q.2 j = s.2.2 q.1 q.2 j) : ent G s' q = ent G s q := by
  have e1 : s'.2.1 q.1 q.2 = s.2.1 q.1 q.2 := funext h1
  have e2 : s'.2.2 q.1 q.2 = s.2.2 q.1 q.2 := funext h2
  unfold ent
  have e3 : ∀ ci, fvl G s' q.1 q.2 ci = fvl G s q.1 q.2 ci := fun ci => by funext j; simp only [fvl, e1, e2]
  simp only [e1, e2, e3]
theorem wl_set {a b : Nat} (h1 : s'.1 = s.1) (hq : idq a b = true) (hl : ad a b < s.1) (hs : ∀ q, q ≠ (a, b) → ent G s' q = ent G s q) : (wl G s).set (ad a b) (G.1 + ad a b, ent G s' (a, b)) = wl G s' := by
  apply List.ext_getElem?
  intro i
  by_cases hi : i < s.1
  · rw [wl_get (s := s') (by omega)]
    by_cases hia : i = ad a b
    · subst hia
      rw [List.getElem?_set_self (by simp [wl]; exact hl), idof_ad hq]
    · rw [List.getElem?_set_ne (Ne.symm hia), wl_get hi, hs]
      intro e
      apply hia
      have := ad_idof i
      rw [e] at this
      exact this.symm
  · rw [wl_out (s := s') (by omega), List.getElem?_eq_none]
    simp [wl]
    omega
theorem wl_push {a b : Nat} (h1 : s'.1 = s.1 + 1) (hq : idq a b = true) (hl : ad a b = s.1) (hs : ∀ q, q ≠ (a, b) → ent G s' q = ent G s q) : wl G s ++ [(G.1 + s.1, ent G s' (a, b))] = wl G s' := by
  have hlen : (wl G s).length = s.1 := by simp [wl]
  apply List.ext_getElem?
  intro i
  by_cases hi : i < s.1
  · rw [wl_get (s := s') (by omega), List.getElem?_append_left (by omega), wl_get hi, hs]
    intro e
    have := ad_idof i
    rw [e] at this
    simp only at this
    omega
  · by_cases hi2 : i = s.1
    · subst hi2
      rw [wl_get (s := s') (by omega), List.getElem?_append_right (by omega), hlen, Nat.sub_self, ← hl, idof_ad hq]
      rfl
    · rw [wl_out (s := s') (by omega), List.getElem?_eq_none]
      simp [hlen]
      omega
end
/-- the heap holds the world -/
def HP (G : Gp) (s : St) (H : Heap) : Prop := va_P G.2.2.1 classes (wl G s) H ∧ H.size = G.1 + s.1
def okr (s : St) (q : Nat × Nat) : Prop := (idq q.1 q.2 = true ∧ ad q.1 q.2 < s.1) ∨ (q.1 = 45 ∧ q.2 < 24) ∨ (q.1 = 46 ∧ q.2 = 0) ∨ (q.1 = 47 ∧ q.2 = 0)
def okv (s : St) : Av → Prop
  | .inl x => rng x
  | .inr none => True
  | .inr (some q) => okr s q
def Wf (s : St) : Prop := (∀ a b j, rng (s.2.1 a b j)) ∧ (∀ a b j q, s.2.2 a b j = some q → okr s q) ∧ ∀ a b j n, shp a = .inr (1, n) → b8 (s.2.1 a b j) = s.2.1 a b j
theorem okr.mono {s s' : St} {q : Nat × Nat} (h : s.1 ≤ s'.1) (hq : okr s q) : okr s' q := by
  rcases hq with ⟨h1, h2⟩ | h1
  · exact Or.inl ⟨h1, by omega⟩
  · exact Or.inr h1
theorem okv.mono {s s' : St} {v : Av} (h : s.1 ≤ s'.1) (hv : okv s v) : okv s' v := by
  rcases v with x | (_ | q)
  · exact hv
  · trivial
  · exact okr.mono h hv
def okc (s : St) (lv : List (Option Av)) (st : List Av) : Prop := (∀ v ∈ st, okv s v) ∧ ∀ i v, nth lv i = some (some v) → okv s v
/-- locals -/
def lvl (G : Gp) : Nat → List (Option Av) → List (Nat × Value)
  | _, [] => []
  | k, none :: r => lvl G (k + 1) r
  | k, some v :: r => (k, cv G v) :: lvl G (k + 1) r
theorem lvl_mem (G : Gp) : ∀ (lv : List (Option Av)) (k i : Nat) (v : Av), nth lv i = some (some v) → (k + i, cv G v) ∈ lvl G k lv
  | [], k, i, v, h => by cases h
  | none :: r, k, 0, v, h => by cases h
  | none :: r, k, i + 1, v, h => by
    have := lvl_mem G r (k + 1) i v h
    rw [show k + (i + 1) = k + 1 + i by omega]
    exact this
  | some w :: r, k, 0, v, h => by
    cases h
    exact List.mem_cons_self
  | some w :: r, k, i + 1, v, h => by
    have := lvl_mem G r (k + 1) i v h
    rw [show k + (i + 1) = k + 1 + i by omega]
    exact List.mem_cons_of_mem _ this
theorem lvl_inv (G : Gp) : ∀ (lv : List (Option Av)) (k : Nat) (q : Nat × Value), q ∈ lvl G k lv → ∃ i v, nth lv i = some (some v) ∧ q = (k + i, cv G v)
  | [], k, q, h => by cases h
  | none :: r, k, q, h => by
    obtain ⟨i, v, h1, h2⟩ := lvl_inv G r (k + 1) q h
    exact ⟨i + 1, v, h1, by rw [h2, show k + 1 + i = k + (i + 1) by omega]⟩
  | some w :: r, k, q, h => by
    rcases List.mem_cons.mp h with h | h
    · exact ⟨0, w, rfl, h⟩
    · obtain ⟨i, v, h1, h2⟩ := lvl_inv G r (k + 1) q h
      exact ⟨i + 1, v, h1, by rw [h2, show k + 1 + i = k + (i + 1) by omega]⟩
def lh (G : Gp) (ls : Array Slot) (nL : Nat) (lv : List (Option Av)) : Prop := lv_has ls nL (lvl G 0 lv)
theorem lh_at {G : Gp} {ls : Array Slot} {nL : Nat} {lv : List (Option Av)} {i : Nat} {v : Av} (h : lh G ls nL lv) (hi : nth lv i = some (some v)) : ls[i]? = some (.val (cv G v)) := by
  have := h.2.2 _ (lvl_mem G lv 0 i v hi)
  simpa using this
theorem cv_cat (G : Gp) (v : Av) : (cv G v).category = 1 := by rcases v with x | (_ | q) <;> rfl
theorem nth_set {lv : List (Option Av)} {i j : Nat} {x y : Option Av} (h : nth (lv.set i x) j = some y) : (j = i ∧ y = x) ∨ (j ≠ i ∧ nth lv j = some y) := by
  rw [nth_get] at h ⊢
  by_cases hj : j = i
  · subst hj
    rw [List.getElem?_set] at h
    simp at h
    exact Or.inl ⟨rfl, h.2.symm⟩
  · rw [List.getElem?_set_ne (Ne.symm hj)] at h
    exact Or.inr ⟨hj, h⟩
theorem lh_set {G : Gp} {ls : Array Slot} {nL : Nat} {lv : List (Option Av)} {i : Nat} {v : Av} (h : lv_has ls nL ((i, cv G v) :: (lvl G 0 lv).filter (fun q => !(q.1 == i) && !(q.1 + 1 == i && q.2.category == 2)))) : lh G ls nL (lv.set i (some v)) := by
  refine ⟨h.1, h.2.1, fun q hq => ?_⟩
  obtain ⟨j, w, h1, rfl⟩ := lvl_inv G _ 0 q hq
  refine h.2.2 _ ?_
  rcases nth_set h1 with ⟨rfl, e⟩ | ⟨hj, e⟩
  · cases e
    rw [Nat.zero_add]
    exact List.mem_cons_self
  · refine List.mem_cons_of_mem _ (List.mem_filter.mpr ⟨lvl_mem G lv 0 j w e, ?_⟩)
    simp [cv_cat, hj]
theorem okc_set {s : St} {lv : List (Option Av)} {st : List Av} {i : Nat} {v : Av} (h : okc s lv st) (hv : okv s v) : okc s (lv.set i (some v)) st := by
  refine ⟨h.1, fun j w hw => ?_⟩
  rcases nth_set hw with ⟨-, e⟩ | ⟨-, e⟩
  · cases e
    exact hv
  · exact h.2 j w e
theorem okc.mono {s s' : St} {lv : List (Option Av)} {st : List Av} (h : s.1 ≤ s'.1) (hc : okc s lv st) : okc s' lv st := ⟨fun v hv => (hc.1 v hv).mono h, fun i v hv => (hc.2 i v hv).mono h⟩
/-! numbers -/
theorem wr_rng (x : Int) : rng (wr x) := ⟨Int32.le_toInt _, Int32.toInt_lt _⟩
theorem rng_32 (x : Int32) : rng x.toInt := ⟨Int32.le_toInt _, Int32.toInt_lt _⟩
theorem of_to (x : Int32) : Int32.ofInt x.toInt = x := Int32.ofInt_toInt x
theorem of_wr (x : Int) : Int32.ofInt (wr x) = Int32.ofInt x := of_to _
theorem to_of {x : Int} (h : rng x) : (Int32.ofInt x).toInt = x := by
  apply Int32.toInt_ofInt_of_le
  · exact h.1
  · exact h.2
theorem wr_eq {x : Int} (h : rng x) : wr x = x := to_of h
theorem of_lt {x y : Int} (hx : rng x) (hy : rng y) : Int32.ofInt x < Int32.ofInt y ↔ x < y := by rw [Int32.lt_iff_toInt_lt, to_of hx, to_of hy]
theorem of_le {x y : Int} (hx : rng x) (hy : rng y) : Int32.ofInt x ≤ Int32.ofInt y ↔ x ≤ y := by rw [Int32.le_iff_toInt_le, to_of hx, to_of hy]
theorem of_eq {x y : Int} (hx : rng x) (hy : rng y) : Int32.ofInt x = Int32.ofInt y ↔ x = y := by
  constructor
  · intro h
    have := congrArg Int32.toInt h
    rwa [to_of hx, to_of hy] at this
  · intro h
    rw [h]
theorem of_clamp {x : Int} (hx : rng x) : (Int32.ofInt x).toNatClampNeg = x.toNat := by
  show (Int32.ofInt x).toInt.toNat = x.toNat
  rw [to_of hx]
theorem rng0 : rng 0 := ⟨by decide, by decide⟩
theorem of_in {x : Int} {n : Nat} (hx : rng x) (h : 0 ≤ x ∧ x < n) : vp_in (Int32.ofInt x) n := by
  intro q
  rcases q with q | q
  · have : Int32.ofInt x < Int32.ofInt 0 := q
    rw [of_lt hx rng0] at this
    omega
  · rw [of_clamp hx] at q
    omega
