/-! Arrays and new cells over the world -/
section
variable {SL : Nat} {xs : Nat → Int} {p : Program} {l : Launch} {e : Env} {R : Room} {s₀ : State} {m : MethodId} {args : Array Value} {below : List Frame} {meth : Method} {c : Code} {Q : State → Prop} {G : Gp} {cc : ByteArray} {nL : Nat} {own : String}
variable {H : Heap} {locs : List Loc} {kc ks : Nat} {ls : Array Slot} {rest : List Value} {s : St} {pc k a b ci j n t : Nat} {fl : Fl} {x v : Int}
theorem tys_at : (tysL G)[0]? = some (G.2.2.2 0, .int) ∧ (tysL G)[1]? = some (G.2.2.2 1, .byte) ∧ (tysL G)[2]? = some (G.2.2.2 2, .boolean) ∧ (tysL G)[3]? = some (G.2.2.2 3, .object "PatternMill$Kind") ∧ (tysL G)[4]? = some (G.2.2.2 4, .object "PatternMill$Text") := ⟨rfl, rfl, rfl, rfl, rfl⟩
theorem wl_int (h : shp a = .inr (t, n)) (ht : t < 3) (hq : idq a b = true ∧ ad a b < s.1) : (wl G s)[ad a b]? = some (G.1 + ad a b, .inl (G.2.2.2 t, n, .inl (fun i => Int32.ofInt (s.2.1 a b i)))) := by rw [wl_at hq.1 hq.2, ent_int h ht]
theorem wl_ref (h : shp a = .inr (t, n)) (ht : ¬ t < 3) (hq : idq a b = true ∧ ad a b < s.1) : (wl G s)[ad a b]? = some (G.1 + ad a b, .inl (G.2.2.2 t, n, .inr (.inr (.inr (.inr (fun i => (s.2.2 a b i).map (adr G))))))) := by rw [wl_at hq.1 hq.2, ent_ref h ht]
theorem s_iald (S : CallFix p m c cc nL s₀ args gw own) (hK : KK G s₀) (hs : shp a = .inr (0, n)) (hd : decode cc pc = .ok (.iaload, 1)) (hP : HP G s H) (hq : idq a b = true ∧ ad a b < s.1) (hr : rng x) (hi : 0 ≤ x ∧ x < n)
    (kk : W p l e R s₀ m args below meth c H locs kc ks Q (F0 m (pc + 1) ls (.int (Int32.ofInt (s.2.1 a b x.toNat)) :: rest))) : W p l e R s₀ m args below meth c H locs kc ks Q (F0 m pc ls (.int (Int32.ofInt x) :: .ref (G.1 + ad a b) :: rest)) := by
  refine va_iald S.1 S.2.1 hK.1 hP.1 (ad a b) 0 (wl_int hs (by omega) hq) rfl (of_in hr hi) hd ?_
  rw [of_clamp hr]
  exact kk
theorem s_bald (S : CallFix p m c cc nL s₀ args gw own) (hK : KK G s₀) (hs : shp a = .inr (1, n)) (hd : decode cc pc = .ok (.baload, 1)) (hP : HP G s H) (hq : idq a b = true ∧ ad a b < s.1) (hr : rng x) (hi : 0 ≤ x ∧ x < n)
    (kk : W p l e R s₀ m args below meth c H locs kc ks Q (F0 m (pc + 1) ls (.int (Int32.ofInt (s.2.1 a b x.toNat)) :: rest))) : W p l e R s₀ m args below meth c H locs kc ks Q (F0 m pc ls (.int (Int32.ofInt x) :: .ref (G.1 + ad a b) :: rest)) := by
  refine va_bald S.1 S.2.1 hK.1 hP.1 (ad a b) 1 (wl_int hs (by omega) hq) rfl (of_in hr hi) hd ?_
  rw [of_clamp hr]
  exact kk
theorem s_zald (S : CallFix p m c cc nL s₀ args gw own) (hK : KK G s₀) (hs : shp a = .inr (2, n)) (hd : decode cc pc = .ok (.baload, 1)) (hP : HP G s H) (hq : idq a b = true ∧ ad a b < s.1) (hr : rng x) (hi : 0 ≤ x ∧ x < n)
    (kk : W p l e R s₀ m args below meth c H locs kc ks Q (F0 m (pc + 1) ls (.int (Int32.ofInt (s.2.1 a b x.toNat)) :: rest))) : W p l e R s₀ m args below meth c H locs kc ks Q (F0 m pc ls (.int (Int32.ofInt x) :: .ref (G.1 + ad a b) :: rest)) := by
  refine va_zald S.1 S.2.1 hK.1 hP.1 (ad a b) 2 (wl_int hs (by omega) hq) rfl (of_in hr hi) hd ?_
  rw [of_clamp hr]
  exact kk
theorem s_aald (S : CallFix p m c cc nL s₀ args gw own) (hK : KK G s₀) (hs : shp a = .inr (t, n)) (ht : t = 3 ∨ t = 4) (hd : decode cc pc = .ok (.aaload, 1)) (hP : HP G s H) (hq : idq a b = true ∧ ad a b < s.1) (hr : rng x) (hi : 0 ≤ x ∧ x < n)
    (kk : W p l e R s₀ m args below meth c H locs kc ks Q (F0 m (pc + 1) ls (va_rf ((s.2.2 a b x.toNat).map (adr G)) :: rest))) : W p l e R s₀ m args below meth c H locs kc ks Q (F0 m pc ls (.int (Int32.ofInt x) :: .ref (G.1 + ad a b) :: rest)) := by
  rcases ht with rfl | rfl
  · refine va_aldq S.1 S.2.1 hK.1 hP.1 (ad a b) 3 (wl_ref hs (by omega) hq) rfl (of_in hr hi) hd ?_
    rw [of_clamp hr]
    exact kk
  · refine va_aldq S.1 S.2.1 hK.1 hP.1 (ad a b) 4 (wl_ref hs (by omega) hq) rfl (of_in hr hi) hd ?_
    rw [of_clamp hr]
    exact kk
theorem ar_set {f : Nat → Int32} {cA : ClassId} {i : Nat} {w : Int32} : (vp_cell cA (n, .inl f)).setSlot i (.int w) = vp_cell cA (n, .inl (upd f i w)) := by
  rw [vp_cell_i, vp_cell_i, arrV_store]
  congr 1
  funext q
  by_cases hq : q = i
  · subst hq
    simp [updV, upd]
  · simp [updV, upd, hq]
theorem ar_setq {f : Nat → Option Nat} {cA : ClassId} {i w : Nat} : (vp_cell cA (n, .inr (.inr (.inr (.inr f))))).setSlot i (.ref w) = vp_cell cA (n, .inr (.inr (.inr (.inr (va_up f i (some w)))))) := by
  rw [vp_cell_q, vp_cell_q, arrV_store]
  congr 1
  funext q
  by_cases hq : q = i
  · subst hq
    simp [updV, va_up, va_rf]
  · simp [updV, va_up, hq]
/-- an int place of an array is written: the world behind it -/
theorem hp_ast {H1 : Heap} (hs : shp a = .inr (t, n)) (ht : t < 3) (hq : idq a b = true ∧ ad a b < s.1) (hP : HP G s H) {i : Nat} (h1 : H1[G.1 + ad a b]? = some ((vp_cell (G.2.2.2 t) (n, .inl (fun i => Int32.ofInt (s.2.1 a b i)))).setSlot i (.int (Int32.ofInt v)))) (h2 : H1.size = H.size) (h3 : ∀ q, q ≠ G.1 + ad a b → H1[q]? = H[q]?) : HP G (s.1, upS s.2.1 a b i v, s.2.2) H1 := by
  rw [ar_set] at h1
  refine hp_set (locs1 := []) (s := s) (s' := (s.1, upS s.2.1 a b i v, s.2.2)) rfl hq (fun q hq => ent_upS hq) (ent_int hs ht) ?_ (by rw [h2, hP.2])
  have he := wl_int (G := G) hs ht hq
  refine hP.1.set wl_D he ?_ h3
  show H1[G.1 + ad a b]? = _
  rw [h1]
  congr 4
  funext q
  by_cases hq : q = i
  · subst hq
    simp [upd, upS]
  · simp [upd, upS, hq]
theorem s_iast (S : CallFix p m c cc nL s₀ args gw own) (hK : KK G s₀) (hs : shp a = .inr (0, n)) (hd : decode cc pc = .ok (.iastore, 1)) (hP : HP G s H) (hS : va_S (fun q => G.1 ≤ q) s₀.heap H locs) (hq : idq a b = true ∧ ad a b < s.1) (hr : rng x) (hi : 0 ≤ x ∧ x < n)
    (kk : ∀ (H1 : Heap) (locs1 : List Loc), HP G (s.1, upS s.2.1 a b x.toNat v, s.2.2) H1 → va_S (fun q => G.1 ≤ q) s₀.heap H1 locs1 → W p l e R s₀ m args below meth c H1 locs1 kc ks Q (F0 m (pc + 1) ls rest)) : W p l e R s₀ m args below meth c H locs kc ks Q (F0 m pc ls (.int (Int32.ofInt v) :: .int (Int32.ofInt x) :: .ref (G.1 + ad a b) :: rest)) := by
  have he := wl_int (G := G) hs (by omega) hq
  refine W.iast S.1 S.2.1 (hP.1 _ _ he) ((hK.1.2 0 _ rfl).1 n (fun j => .int (Int32.ofInt (s.2.1 a b j)))) (fun q => by cases q) (by show ¬ (_ ∨ (arrV _ _ _).slots.size ≤ _); rw [arrV_size]; exact of_in hr hi) rfl rfl hd fun H1 g1 g2 g3 => ?_
  rw [of_clamp hr] at g1
  exact kk H1 _ (hp_ast hs (by omega) hq hP g1 g2 g3) (hS.put g2 g3 (by simp))
theorem s_bast (S : CallFix p m c cc nL s₀ args gw own) (hK : KK G s₀) (hs : shp a = .inr (1, n)) (hd : decode cc pc = .ok (.bastore, 1)) (hP : HP G s H) (hS : va_S (fun q => G.1 ≤ q) s₀.heap H locs) (hq : idq a b = true ∧ ad a b < s.1) (hr : rng x) (hi : 0 ≤ x ∧ x < n)
    (kk : ∀ (H1 : Heap) (locs1 : List Loc), HP G (s.1, upS s.2.1 a b x.toNat (b8 v), s.2.2) H1 → va_S (fun q => G.1 ≤ q) s₀.heap H1 locs1 → W p l e R s₀ m args below meth c H1 locs1 kc ks Q (F0 m (pc + 1) ls rest)) : W p l e R s₀ m args below meth c H locs kc ks Q (F0 m pc ls (.int (Int32.ofInt v) :: .int (Int32.ofInt x) :: .ref (G.1 + ad a b) :: rest)) := by
  have he := wl_int (G := G) hs (by omega) hq
  refine W.bast S.1 S.2.1 (hP.1 _ _ he) ((hK.1.2 1 _ rfl).1 n (fun j => .int (Int32.ofInt (s.2.1 a b j)))) (fun q => by cases q) (by show ¬ (_ ∨ (arrV _ _ _).slots.size ≤ _); rw [arrV_size]; exact of_in hr hi) rfl rfl hd fun H1 g1 g2 g3 => ?_
  rw [of_clamp hr] at g1
  have e1 : narrow .byte (.int (Int32.ofInt v)) = .int (Int32.ofInt (b8 v)) := by rw [b8, of_to]; rfl
  rw [e1] at g1
  exact kk H1 _ (hp_ast hs (by omega) hq hP g1 g2 g3) (hS.put g2 g3 (by simp))
theorem s_zast (S : CallFix p m c cc nL s₀ args gw own) (hK : KK G s₀) (hs : shp a = .inr (2, n)) (hd : decode cc pc = .ok (.bastore, 1)) (hP : HP G s H) (hS : va_S (fun q => G.1 ≤ q) s₀.heap H locs) (hq : idq a b = true ∧ ad a b < s.1) (hr : rng x) (hi : 0 ≤ x ∧ x < n) (hv : v = 0 ∨ v = 1)
    (kk : ∀ (H1 : Heap) (locs1 : List Loc), HP G (s.1, upS s.2.1 a b x.toNat v, s.2.2) H1 → va_S (fun q => G.1 ≤ q) s₀.heap H1 locs1 → W p l e R s₀ m args below meth c H1 locs1 kc ks Q (F0 m (pc + 1) ls rest)) : W p l e R s₀ m args below meth c H locs kc ks Q (F0 m pc ls (.int (Int32.ofInt v) :: .int (Int32.ofInt x) :: .ref (G.1 + ad a b) :: rest)) := by
  have he := wl_int (G := G) hs (by omega) hq
  refine W.zast S.1 S.2.1 (hP.1 _ _ he) ((hK.1.2 2 _ rfl).1 n (fun j => .int (Int32.ofInt (s.2.1 a b j)))) (fun q => by cases q) (by show ¬ (_ ∨ (arrV _ _ _).slots.size ≤ _); rw [arrV_size]; exact of_in hr hi) rfl rfl hd fun H1 g1 g2 g3 => ?_
  rw [of_clamp hr] at g1
  have e1 : narrow .boolean (.int (Int32.ofInt v)) = .int (Int32.ofInt v) := by rcases hv with rfl | rfl <;> decide
  rw [e1] at g1
  exact kk H1 _ (hp_ast hs (by omega) hq hP g1 g2 g3) (hS.put g2 g3 (by simp))
/-- a reference is put into an array of references -/
theorem s_aast {E : String} {q1 : Nat × Nat} (S : CallFix p m c cc nL s₀ args gw own) (hK : KK G s₀) (hs : shp a = .inr (t, n)) (ht : ¬ t < 3) (hE : (tysL G)[t]? = some (G.2.2.2 t, .object E)) (hd : decode cc pc = .ok (.aastore, 1)) (hP : HP G s H) (hS : va_S (fun q => G.1 ≤ q) s₀.heap H locs) (hq : idq a b = true ∧ ad a b < s.1) (hr : rng x) (hi : 0 ≤ x ∧ x < n) (hA : va_Any E s₀ H (adr G q1))
    (kk : ∀ (H1 : Heap) (locs1 : List Loc), HP G (s.1, s.2.1, upR s.2.2 a b x.toNat (some q1)) H1 → va_S (fun q => G.1 ≤ q) s₀.heap H1 locs1 → W p l e R s₀ m args below meth c H1 locs1 kc ks Q (F0 m (pc + 1) ls rest)) : W p l e R s₀ m args below meth c H locs kc ks Q (F0 m pc ls (.ref (adr G q1) :: .int (Int32.ofInt x) :: .ref (G.1 + ad a b) :: rest)) := by
  have he := wl_ref (G := G) hs ht hq
  obtain ⟨cellV, g1, g3, ⟨kC, hkC⟩, hasg⟩ := hA
  obtain ⟨kA, comp, k1, k2, k3, -⟩ := (hK.1.2 t _ hE).2
  obtain ⟨kE, hkE, -⟩ := Vm.findClass_spec k3
  have hin := of_in hr hi
  refine W.aast S.1 S.2.1 (hP.1 _ _ he) (fun q h => by cases h) (fun h => by cases h) k1 k2 rfl hkE ⟨fun q => hin (Or.inl q), by show _ < (arrV _ _ _).slots.size; rw [arrV_size]; exact Nat.not_le.mp fun q => hin (Or.inr q)⟩ g1 (fun q h => by rw [h] at g3; cases g3) hkC (hasg _ k3) rfl rfl hd fun H1 g1 g2 g3 => ?_
  rw [of_clamp hr, ar_setq] at g1
  refine kk H1 _ ?_ (hS.put g2 g3 (by simp))
  refine hp_set (locs1 := []) (s := s) (s' := (s.1, s.2.1, upR s.2.2 a b x.toNat (some q1))) rfl hq (fun q hq => ent_upR hq) (ent_ref hs ht) ?_ (by rw [g2, hP.2])
  refine hP.1.set wl_D he ?_ g3
  show H1[G.1 + ad a b]? = _
  rw [g1]
  congr 7
  funext q
  by_cases hq : q = x.toNat
  · subst hq
    simp [va_up, upR]
  · simp [va_up, upR, hq]
end
