/-! The soundness of a step -/
def slW (own : String) (k : Nat) (q : Nat × Nat) : Cond := if q = (46, 0) then Cond.fieldLink own k "PatternMill" "KINDS" "[LPatternMill$Kind;" else Cond.fieldLink own k "PatternMill$Kind" "KEEP" "LPatternMill$Kind;"
def SlOK (own : String) (sl : Nat → Option (Nat × Nat)) : Prop := ∀ k q, sl k = some q → (q = (46, 0) ∨ q = (45, 19)) ∧ slW own k q ∈ gw
theorem sl_of {own : String} {l : List (Nat × Nat × Nat)} (h : l.all (fun q => (decide (q.2 = (46, 0)) || decide (q.2 = (45, 19))) && (decide (slW own q.1 q.2 ∈ lw_tbl) && goodWord (slW own q.1 q.2))) = true) : SlOK own (lk l) := by
  intro k q hk
  have h1 := List.all_eq_true.mp h _ (lk_mem hk)
  simp only [Bool.and_eq_true, Bool.or_eq_true, decide_eq_true_eq] at h1
  exact ⟨h1.1, gw_mem h1.2.1 h1.2.2⟩
theorem swt_or {x : Int} {P : Nat → Prop} {d : Nat} : ∀ (l : List (Int × Nat)), swt x P d l → (∃ q ∈ l, x = q.1 ∧ P q.2) ∨ ((∀ q ∈ l, ¬ x = q.1) ∧ P d)
  | [], h => Or.inr ⟨fun _ hq => absurd hq List.not_mem_nil, h⟩
  | (k, t) :: r, h => by
    by_cases hx : x = k
    · exact Or.inl ⟨(k, t), List.mem_cons_self, hx, h.1 hx⟩
    · rcases swt_or r (h.2 hx) with ⟨q, h1, h2⟩ | ⟨h1, h2⟩
      · exact Or.inl ⟨q, List.mem_cons_of_mem _ h1, h2⟩
      · refine Or.inr ⟨fun q hq => ?_, h2⟩
        rcases List.mem_cons.mp hq with rfl | hq
        · exact hx
        · exact h1 q hq
theorem swt_look {x : Int} {P : Nat → Prop} {d pc : Nat} {df : Int} (hd : (pc : Int) + df = d) : ∀ (l : List (Int × Int)), (∀ q ∈ l, 0 ≤ (pc : Int) + q.2) → swt x P d (l.map (fun q => (q.1, ((pc : Int) + q.2).toNat))) → ∃ t, P t ∧ (pc : Int) + Op.lookupswitch.offset l df x = (t : Int)
  | [], _, h => ⟨d, h, hd⟩
  | (k, o) :: r, hn, h => by
    rw [Op.lookupswitch.offset_cons]
    by_cases hx : x = k
    · refine ⟨_, h.1 hx, ?_⟩
      rw [if_pos hx.symm]
      have := hn _ List.mem_cons_self
      simp only at this ⊢
      omega
    · rw [if_neg (fun e => hx e.symm)]
      exact swt_look hd r (fun q hq => hn q (List.mem_cons_of_mem _ hq)) (h.2 hx)
theorem rng_of {n : Int} (h : rngB n = true) : rng n := by
  simp only [rngB, Bool.and_eq_true, decide_eq_true_eq] at h
  exact h
section
variable {SL : Nat} {xs : Nat → Int} {p : Program} {l : Launch} {e : Env} {R : Room} {s₀ : State} {m : MethodId} {args : Array Value} {below : List Frame} {meth : Method} {c : Code} {Q : State → Prop} {G : Gp} {cc : ByteArray} {nL : Nat} {own : String}
/-- what holds of the machine at a configuration -/
def Wm (n0 : Nat) (G : Gp) (p : Program) (l : Launch) (e : Env) (R : Room) (s₀ : State) (m : MethodId) (args : Array Value) (below : List Frame) (meth : Method) (c : Code) (nL : Nat) (Q : State → Prop) (cf : Cf) : Prop :=
  ∀ (H : Heap) (locs : List Loc) (ls : Array Slot), HP G cf.2.2.2.1 H → Wf cf.2.2.2.1 → okc cf.2.2.2.1 cf.2.1 cf.2.2.1 → va_S (fun q => G.1 ≤ q) s₀.heap H locs → lh G ls nL cf.2.1 → n0 ≤ cf.2.2.2.1.1 ∧ cf.2.2.2.2.1 ≤ R.cells ∧ cf.2.2.2.2.2 ≤ R.slots →
    W p l e R s₀ m args below meth c H locs cf.2.2.2.2.1 cf.2.2.2.2.2 Q (F0 m cf.1 ls (cf.2.2.1.map (cv G)))
/-- a call's rule -/
def CallR (SL : Nat) (xs : Nat → Int) (l : Launch) (own : String) (R : Room) (i : Instr) (n mc ms : Nat) (T : Tr) : Prop :=
  ∀ (p : Program) (e : Env) (s₀ : State) (m : MethodId) (args : Array Value) (below : List Frame) (meth : Method) (c : Code) (Q : State → Prop) (G : Gp) (cc : ByteArray) (nL : Nat), CallFix p m c cc nL s₀ args gw own → KK G s₀ → CN G SL xs s₀ s₀.heap → G.1 ≤ s₀.heap.size →
  ∀ (pc : Nat) (ls : Array Slot) (av rest : List Av) (s : St) (H : Heap) (locs : List Loc) (kc ks : Nat), decode cc pc = .ok (i, 3) → ls.size = nL → av.length = n → rest.length ≤ 8 → HP G s H → Wf s → (∀ v ∈ av, okv s v) → va_S (fun q => G.1 ≤ q) s₀.heap H locs → kc + mc ≤ R.cells → ks + ms ≤ R.slots →
  ∀ Y, T av s Y → (∀ v s' H1 locs1, Y v s' → HP G s' H1 → Wf s' → (∀ x, v = some x → okv s' x) → s.1 ≤ s'.1 → va_S (fun q => G.1 ≤ q) s₀.heap H1 locs1 → W p l e R s₀ m args below meth c H1 locs1 (kc + mc) (ks + ms) Q (F0 m (pc + 3) ls ((v.toList ++ rest).map (cv G)))) →
  W p l e R s₀ m args below meth c H locs kc ks Q (F0 m pc ls ((av.reverse ++ rest).map (cv G)))
def isInv (i : Instr) (k : Nat) : Prop := i = .invokevirtual k ∨ i = .invokespecial k ∨ i = .invokestatic k
theorem okc_push {s : St} {lv : List (Option Av)} {st : List Av} {v : Av} (h : okc s lv st) (hv : okv s v) : okc s lv (v :: st) := ⟨fun w hw => (List.mem_cons.mp hw).elim (fun e => e ▸ hv) (h.1 w), h.2⟩
theorem okc_tail {s : St} {lv : List (Option Av)} {st : List Av} {v : Av} (h : okc s lv (v :: st)) : okc s lv st := ⟨fun w hw => h.1 w (List.mem_cons_of_mem _ hw), h.2⟩
theorem okc_head {s : St} {lv : List (Option Av)} {st : List Av} {v : Av} (h : okc s lv (v :: st)) : okv s v := h.1 v List.mem_cons_self
theorem popn_eq : ∀ (n : Nat) (acc st av r : List Av), popn n acc st = some (av, r) → av.length = acc.length + n ∧ av.reverse ++ r = acc.reverse ++ st
  | 0, acc, st, av, r, h => by cases h; exact ⟨rfl, rfl⟩
  | n + 1, acc, [], av, r, h => by cases h
  | n + 1, acc, v :: t, av, r, h => by
    obtain ⟨h1, h2⟩ := popn_eq n (v :: acc) t av r h
    refine ⟨by rw [h1]; simp; omega, ?_⟩
    rw [h2]
    simp
theorem cond_of {b : Bool} {A : Prop} (h : bif b then A else False) : b = true ∧ A := by
  cases b
  · exact h.elim
  · exact ⟨rfl, h⟩
theorem Wf.up {s : St} {a b j : Nat} {v : Int} (h : Wf s) (hv : rng v) (hb : ∀ n, shp a = .inr (1, n) → b8 v = v) : Wf (s.1, upS s.2.1 a b j v, s.2.2) := by
  refine ⟨fun a' b' j' => ?_, h.2.1, fun a' b' j' n hn => ?_⟩
  · simp only [upS]
    split
    · exact hv
    · exact h.1 a' b' j'
  · simp only [upS]
    split
    · rename_i hq
      obtain ⟨rfl, -, -⟩ := hq
      exact hb n hn
    · exact h.2.2 a' b' j' n hn
theorem Wf.upR {s : St} {a b j : Nat} {v : Rf} (h : Wf s) (hv : okv s (.inr v)) : Wf (s.1, s.2.1, upR s.2.2 a b j v) := by
  refine ⟨h.1, fun a' b' j' q hq => ?_, h.2.2⟩
  simp only [_root_.Jvm.Pilot.CPatternMillLaw_law_r1863_1d1ca3.upR] at hq
  split at hq
  · subst hq
    exact hv
  · exact h.2.1 a' b' j' q hq
theorem b8_b8 (x : Int) : b8 (b8 x) = b8 x := by
  simp only [b8, of_to]
  congr 1
  have := vp_nar_byte
  simp
theorem b8_0 : b8 0 = 0 := by decide
theorem b8_rng (x : Int) : rng (b8 x) := rng_32 _
theorem Wf.new {s : St} {a b : Nat} (h : Wf s) : Wf (s.1 + 1, zrS s.2.1 a b, zrR s.2.2 a b) := by
  refine ⟨fun a' b' j' => ?_, fun a' b' j' q hq => ?_, fun a' b' j' n hn => ?_⟩
  · simp only [zrS]
    split
    · exact rng0
    · exact h.1 a' b' j'
  · simp only [zrR] at hq
    split at hq
    · cases hq
    · exact (h.2.1 a' b' j' q hq).mono (by simp)
  · simp only [zrS]
    split
    · exact b8_0
    · exact h.2.2 a' b' j' n hn
theorem Wf.cp {s : St} {a b i a1 b1 i1 n n0 : Nat} (h : Wf s) (h0 : shp a = .inr (1, n0)) : Wf (s.1, cpS s.2.1 a b i a1 b1 i1 n, s.2.2) := by
  refine ⟨fun a' b' j' => ?_, h.2.1, fun a' b' j' m hm => ?_⟩
  · simp only [cpS]
    split
    · exact h.1 _ _ _
    · exact h.1 a' b' j'
  · simp only [cpS]
    split
    · exact h.2.2 _ _ _ n0 h0
    · exact h.2.2 a' b' j' m hm
end
