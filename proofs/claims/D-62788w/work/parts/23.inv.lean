/-! What holds of the states of matching -/
def wfg (E : Ev) (p : Nat) (x : Gl) : Prop := (x.1 = 0 ∧ x.2.1 < ect E) ∨ ((x.1 = 1 ∨ x.1 = 2) ∧ x.2.1 < 8 ∧ x.2.2 ≤ p)
def kcn : List Gl → Nat
  | [] => 0
  | x :: r => (if x.1 = 1 then 1 else 0) + kcn r
def bcn : List Ch → Nat
  | [] => 0
  | x :: r => (if x.1 = 2 then 1 else 0) + bcn r
def wfk (E : Ev) (x : Kp) : Prop := x.1 < 8 ∧ x.2.1 ≤ x.2.2 ∧ x.2.2 ≤ (esb E).length
def wfc (E : Ev) (n : Nat) : List Ch → Prop
  | [] => True
  | x :: r => x.1 ≤ 3 ∧ x.2.1 ≤ (esb E).length ∧ (x.1 = 1 → x.2.1 < (esb E).length) ∧ bcn (x :: r) ≤ x.2.1 ∧ (∀ g ∈ x.2.2.1, wfg E x.2.1 g) ∧ x.2.2.2.length + kcn x.2.2.1 ≤ n ∧ (∀ q ∈ x.2.2.2, wfk E q) ∧ wfc E n r
def EvOK (E : Ev) : Prop := (esb E).length ≤ 64 ∧ ect E ≤ 64 ∧ ∀ k, k < ect E → ekd E k < 24 ∧ efa E k < 2147483648 ∧ (16 ≤ ekd E k ∧ ekd E k ≤ 20 → efa E k < ect E) ∧ (ekd E k = 17 ∨ ekd E k = 18 → efb E k < ect E) ∧ (ekd E k = 19 ∨ ekd E k = 20 → efb E k < 8) ∧ (ekd E k = 21 ∨ ekd E k = 22 → efa E k < 8)
def IG (E : Ev) (p : Nat) (g : List Gl) (c : List Ch) (q : List Kp) (n : Nat) : Prop := p ≤ (esb E).length ∧ bcn c ≤ p ∧ (∀ x ∈ g, wfg E p x) ∧ wfc E n c ∧ c.length ≤ n ∧ q.length + kcn g ≤ n ∧ n ≤ 3000 ∧ ∀ x ∈ q, wfk E x
def IB (E : Ev) (k p : Nat) (g : List Gl) (c : List Ch) (q : List Kp) (n : Nat) : Prop := k < ect E ∧ p ≤ (esb E).length ∧ bcn c ≤ p ∧ (∀ x ∈ g, wfg E p x) ∧ wfc E n c ∧ c.length + 1 ≤ n ∧ q.length + kcn g + 1 ≤ n ∧ n ≤ 3000 ∧ ∀ x ∈ q, wfk E x
def IK (E : Ev) (c : List Ch) (n : Nat) : Prop := wfc E n c ∧ c.length ≤ n ∧ n ≤ 3000
section
variable {E : Ev} {p p' k v f n : Nat} {g : List Gl} {c r : List Ch} {q : List Kp} {x : Ch}
theorem wfg.mono (h : p ≤ p') {x : Gl} (hx : wfg E p x) : wfg E p' x := by
  rcases hx with h1 | ⟨h1, h2, h3⟩
  · exact Or.inl h1
  · exact Or.inr ⟨h1, h2, by omega⟩
theorem wfc.mono {n' : Nat} (h : n ≤ n') : ∀ {c : List Ch}, wfc E n c → wfc E n' c
  | [], _ => trivial
  | x :: r, ⟨h1, h2, h2', h3, h4, h5, h6, h7⟩ => ⟨h1, h2, h2', h3, h4, by omega, h6, wfc.mono h h7⟩
theorem bcn_le {x : Ch} {r : List Ch} : bcn r ≤ bcn (x :: r) := by simp only [bcn]; omega
theorem IG.begin (h : IG E p ((0, k, f) :: g) c q n) (hn : ¬ n = 3000) : IB E k p g c q (n + 1) := by
  obtain ⟨h1, h2, h3, h4, h5, h6, h7, h8⟩ := h
  have hk : k < ect E := by
    rcases h3 _ List.mem_cons_self with h | ⟨h, -⟩
    · exact h.2
    · simp at h
  refine ⟨hk, h1, h2, fun x hx => h3 x (List.mem_cons_of_mem _ hx), h4.mono (by omega), by omega, ?_, by omega, h8⟩
  simp only [kcn] at h6
  simp at h6
  omega
theorem IG.kept (h : IG E p ((1, v, f) :: g) c q n) : v < 8 ∧ f ≤ p ∧ q.length < n ∧ IG E p g c (q ++ [(v, f, p)]) n := by
  obtain ⟨h1, h2, h3, h4, h5, h6, h7, h8⟩ := h
  have hv : v < 8 ∧ f ≤ p := by
    rcases h3 _ List.mem_cons_self with h | ⟨-, h⟩
    · simp at h
    · exact h
  simp only [kcn] at h6
  simp at h6
  refine ⟨hv.1, hv.2, by omega, h1, h2, fun x hx => h3 x (List.mem_cons_of_mem _ hx), h4, h5, by simp; omega, h7, fun x hx => ?_⟩
  rcases List.mem_append.mp hx with hx | hx
  · exact h8 x hx
  · rw [List.mem_singleton] at hx
    subst hx
    exact ⟨hv.1, hv.2, h1⟩
theorem IG.told {w : Nat} (hw : ¬ w = 0) (hw1 : ¬ w = 1) (h : IG E p ((w, v, f) :: g) c q n) : w = 2 ∧ v < 8 ∧ f ≤ p ∧ IG E p g c q n := by
  obtain ⟨h1, h2, h3, h4, h5, h6, h7, h8⟩ := h
  have hv : w = 2 ∧ v < 8 ∧ f ≤ p := by
    rcases h3 _ List.mem_cons_self with h | ⟨h, h9⟩
    · exact absurd h.1 hw
    · exact ⟨h.resolve_left hw1, h9⟩
  simp only [kcn] at h6
  refine ⟨hv.1, hv.2.1, hv.2.2, h1, h2, fun x hx => h3 x (List.mem_cons_of_mem _ hx), h4, h5, by omega, h7, h8⟩
/-- goals are put ahead: not the kept ones -/
theorem IB.go {g' : List Gl} (h : IB E k p g c q n) (hp : p ≤ p') (hp' : p' ≤ (esb E).length) (hg : ∀ x ∈ g', x ∈ g ∨ wfg E p' x) (hk : kcn g' ≤ kcn g + 1) : IG E p' g' c q n := by
  obtain ⟨h0, h1, h2, h3, h4, h5, h6, h7, h8⟩ := h
  refine ⟨hp', by omega, fun x hx => ?_, h4, by omega, by omega, h7, h8⟩
  rcases hg x hx with h | h
  · exact (h3 x h).mono hp
  · exact h
/-- a choice is left -/
theorem IB.ch {g' : List Gl} {w : Nat} (h : IB E k p g c q n) (hw : w ≤ 3) (hp : p ≤ p') (hp' : p' ≤ (esb E).length) (hw1 : w = 1 → p' < (esb E).length) (hw2 : w = 2 → p < p') (hg : ∀ x ∈ g', x ∈ g ∨ wfg E p' x) (hk : kcn g' ≤ kcn g + 1) : wfc E n ((w, p', g', q) :: c) ∧ ((w, p', g', q) :: c).length ≤ n ∧ bcn ((w, p', g', q) :: c) ≤ p' := by
  obtain ⟨h0, h1, h2, h3, h4, h5, h6, h7, h8⟩ := h
  have hb : bcn ((w, p', g', q) :: c) ≤ p' := by
    simp only [bcn]
    split
    · rename_i e
      have := hw2 e
      omega
    · omega
  refine ⟨⟨hw, hp', hw1, hb, fun x hx => ?_, by simp only; omega, h8, h4⟩, by simp; omega, hb⟩
  rcases hg x hx with h | h
  · exact (h3 x h).mono hp
  · exact h
theorem IB.back (h : IB E k p g c q n) : IK E c n := ⟨h.2.2.2.2.1, by have := h.2.2.2.2.2.1; omega, h.2.2.2.2.2.2.2.1⟩
theorem IK.pop (h : IK E (x :: r) n) : IG E x.2.1 x.2.2.1 r x.2.2.2 n ∧ IK E r n := by
  obtain ⟨⟨h1, h2, h2', h3, h4, h5, h6, h7⟩, h8, h9⟩ := h
  simp at h8
  exact ⟨⟨h2, by have := bcn_le (x := x) (r := r); omega, h4, h7, by omega, h5, h9, h6⟩, h7, by omega, h9⟩
/-- a choice is put back with a place further on -/
theorem IK.put {w : Nat} (h : IK E (x :: r) n) (hw : w ≤ 3) (hp : x.2.1 < p') (hp' : p' ≤ (esb E).length) (hw1 : w = 1 → p' < (esb E).length) : IG E p' x.2.2.1 ((w, p', x.2.2.1, x.2.2.2) :: r) x.2.2.2 n ∧ IG E p' x.2.2.1 r x.2.2.2 n := by
  obtain ⟨⟨h1, h2, h2', h3, h4, h5, h6, h7⟩, h8, h9⟩ := h
  simp at h8
  have hb := bcn_le (x := x) (r := r)
  have hb2 : bcn ((w, p', x.2.2.1, x.2.2.2) :: r) ≤ p' := by
    simp only [bcn]
    split <;> omega
  exact ⟨⟨hp', hb2, fun y hy => (h4 y hy).mono (by omega), ⟨hw, hp', hw1, hb2, fun y hy => (h4 y hy).mono (by show x.2.1 ≤ p'; omega), h5, h6, h7⟩, by simp; omega, h5, h9, h6⟩, ⟨hp', by omega, fun y hy => (h4 y hy).mono (by omega), h7, by omega, h5, h9, h6⟩⟩
theorem balF_bd (S : List Int) : ∀ (m : Nat) (d : Int) (p p' : Nat), balF S m d p = some p' → p < p' ∧ p' ≤ p + m
  | 0, d, p, p', h => by cases h
  | m + 1, d, p, p', h => by
    simp only [balF] at h
    split at h
    · cases h
    · split at h
      · have := balF_bd S m _ (p + 1) p' h
        omega
      · cases h
        omega
theorem balN_bd {S : List Int} {p p' : Nat} (hp : p ≤ S.length) (h : balN S p = some p') : p < p' ∧ p' ≤ S.length := by
  have := balF_bd S _ _ _ _ h
  omega
theorem scan_bd (fn : Int → Bool) (S : List Int) : ∀ m p, p ≤ scanB fn S m p ∧ scanB fn S m p ≤ p + m
  | 0, p => by simp [scanB]
  | m + 1, p => by
    simp only [scanB]
    split
    · have := scan_bd fn S m (p + 1)
      omega
    · omega
theorem plA_bd {ν : Nu} {pl : Nat} (hp : p ≤ (esb E).length) (h : plA E ν k p = some pl) : p ≤ pl ∧ pl ≤ (esb E).length := by
  unfold plA at h
  split at h
  all_goals first
    | (cases h; done)
    | (cases h; omega)
    | (split at h <;> first | (cases h; done) | skip)
  case h_1 hq =>
    cases h
    have := atT_len hq hp
    omega
  case h_2 hq => cases h; omega
  case h_3 hq => cases h; omega
  case h_4 hq =>
    cases h
    have := scan_bd (fun x => decide (x ∈ ewd E k)) (esb E) ((esb E).length - p) p
    unfold spn
    omega
  case h_5 hq =>
    cases h
    have := scan_bd (fun x => !decide (x ∈ ewd E k)) (esb E) ((esb E).length - p) p
    unfold brk
    omega
  case h_6 hq => cases h; omega
  case h_7 hq => cases h; omega
  case h_8 hq => cases h; omega
  case h_9 hq => cases h; omega
  case h_10 hq => cases h; omega
  case h_12 hq =>
    cases h
    have := atT_len hq hp
    omega
end
