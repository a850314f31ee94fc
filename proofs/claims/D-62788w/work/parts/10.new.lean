/-! New cells; arraycopy -/
section
variable {SL : Nat} {xs : Nat → Int} {p : Program} {l : Launch} {e : Env} {R : Room} {s₀ : State} {m : MethodId} {args : Array Value} {below : List Frame} {meth : Method} {c : Code} {Q : State → Prop} {G : Gp} {cc : ByteArray} {nL : Nat} {own : String}
variable {H : Heap} {locs : List Loc} {kc ks : Nat} {ls : Array Slot} {rest : List Value} {s : St} {pc k a b ci j n t : Nat} {fl : Fl} {x v : Int}
theorem ent_zr {q : Nat × Nat} (h : q ≠ (a, b)) : ent G (n, zrS s.2.1 a b, zrR s.2.2 a b) q = ent G s q := by
  have hn : ¬ (q.1 = a ∧ q.2 = b) := fun h1 => h (Prod.ext h1.1 h1.2)
  refine ent_same (fun i => ?_) (fun i => ?_)
  · simp only [zrS]
    rw [if_neg hn]
  · simp only [zrR]
    rw [if_neg hn]
/-- a new cell: the world behind it -/
theorem hp_new {H1 : Heap} (hq : idq a b = true) (ha : ad a b = s.1) (hP : HP G s H) (h1 : va_at G.2.2.1 classes (G.1 + s.1, ent G (s.1 + 1, zrS s.2.1 a b, zrR s.2.2 a b) (a, b)) H1) (h2 : H1.size = H.size + 1) (h3 : ∀ q, q < H.size → H1[q]? = H[q]?) : HP G (s.1 + 1, zrS s.2.1 a b, zrR s.2.2 a b) H1 := by
  refine ⟨?_, by rw [h2, hP.2]; show _ = G.1 + (s.1 + 1); omega⟩
  rw [← wl_push (s := s) (s' := (s.1 + 1, zrS s.2.1 a b, zrR s.2.2 a b)) rfl hq ha (fun q hq => ent_zr hq)]
  refine va_P.app (hP.1.kept fun k q hk => h3 q.1 ((hP.1 k q hk).lt)) (fun k q hk => ?_)
  have hz : k < 1 := (List.getElem?_eq_some_iff.mp hk).1
  rw [show k = 0 by omega] at hk
  cases hk
  exact h1
theorem va_S.new {A : Nat → Prop} {H0 H1 : Heap} (hS : va_S A H0 H locs) (h2 : H1.size = H.size + 1) (h3 : ∀ q, q < H.size → H1[q]? = H[q]?) : va_S A H0 H1 locs :=
  ⟨Nat.le_trans hS.1 (by omega), fun q h1 h4 => (h3 q (Nat.lt_of_lt_of_le h1 hS.1)).trans (hS.2.1 q h1 h4), hS.2.2⟩
theorem s_new {kl : Nat → Option Nat} (S : CallFix p m c cc nL s₀ args gw own) (hK : KK G s₀) (hkl : KlOK own kl) (hk : kl k = some ci) (hc : ci < 8) (hs : shp a = .inl ci) (hd : decode cc pc = .ok (.new k, 3)) (hP : HP G s H) (hS : va_S (fun q => G.1 ≤ q) s₀.heap H locs) (hq : idq a b = true) (ha : ad a b = s.1) (hmc : kc + 1 ≤ R.cells) (hms : ks + nF ci ≤ R.slots)
    (kk : ∀ (H1 : Heap) (locs1 : List Loc), HP G (s.1 + 1, zrS s.2.1 a b, zrR s.2.2 a b) H1 → va_S (fun q => G.1 ≤ q) s₀.heap H1 locs1 → W p l e R s₀ m args below meth c H1 locs1 (kc + 1) (ks + nF ci) Q (F0 m (pc + 3) ls (.ref (G.1 + ad a b) :: rest))) : W p l e R s₀ m args below meth c H locs kc ks Q (F0 m pc ls rest) := by
  obtain ⟨hx, hb, -, hown, hts⟩ := S
  have hKn := hK.1.1 ci _ (cl_at hc)
  have hnm := cl_nm ci hc
  obtain ⟨hin1, hin2⟩ := cl_in2 ci hc
  refine W.newcK hx hb hown (hts _ (hkl k ci hk)) (hts _ hin1) (hts _ hin2) rfl hd hmc hms (by rw [← hnm]; exact hKn.2.1) hP.2 fun H1 kC hkC g1 g2 g3 => ?_
  rw [ha] at kk
  refine kk H1 locs (hp_new hq ha hP ?_ (by rw [g2, hP.2]) (fun q hq => g3 q (by rw [← hP.2]; exact hq))) (va_S.new hS (by rw [g2, hP.2]) (fun q hq => g3 q (by rw [← hP.2]; exact hq)))
  rw [ent_obj hs]
  refine ⟨_, cl_at hc, (u_born (cty ci) hts (cl_in hc) hKn hkC g1 (cl_ty hc)).to fun j hj => ?_⟩
  rw [cl_N ci hc] at hj
  have e1 : vp_V ((List.range (nF ci)).map (fvl G (s.1 + 1, zrS s.2.1 a b, zrR s.2.2 a b) a b ci)) j = fvl G (s.1 + 1, zrS s.2.1 a b, zrR s.2.2 a b) a b ci j := by
    simp [vp_V, List.getD_eq_getElem?_getD, List.getElem?_map, List.getElem?_range hj]
  rw [e1]
  obtain ⟨-, -, -, -, h01⟩ := cl_fd1 ci hc j hj
  obtain ⟨f0, f2, f1, -⟩ := cl_fd2 ci hc j hj
  rcases h01 with h | h | h
  · rw [f0 h]
    simp [fvl, h, zrS, defaultValue]
  · have := f1 h
    simp only [fvl, h, zrR]
    cases hty : cty ci j <;> rw [hty] at this <;> first | (cases this; done) | simp [defaultValue, va_rf]
  · rw [f2 h]
    simp [fvl, h, zrS, defaultValue]
theorem s_newa {ty : ArrayType} (S : CallFix p m c cc nL s₀ args gw own) (hK : KK G s₀) (hs : shp a = .inr (atk ty, n)) (hd : decode cc pc = .ok (.newarray ty, 2)) (hP : HP G s H) (hS : va_S (fun q => G.1 ≤ q) s₀.heap H locs) (hq : idq a b = true) (ha : ad a b = s.1) (hr : rng x) (h0 : 0 ≤ x) (hx : x.toNat = n) (hn : n ≤ 100000) (hmc : kc + 1 ≤ R.cells) (hms : ks + n ≤ R.slots)
    (kk : ∀ (H1 : Heap) (locs1 : List Loc), HP G (s.1 + 1, zrS s.2.1 a b, zrR s.2.2 a b) H1 → va_S (fun q => G.1 ≤ q) s₀.heap H1 locs1 → W p l e R s₀ m args below meth c H1 locs1 (kc + 1) (ks + n) Q (F0 m (pc + 2) ls (.ref (G.1 + ad a b) :: rest))) : W p l e R s₀ m args below meth c H locs kc ks Q (F0 m pc ls (.int (Int32.ofInt x) :: rest)) := by
  obtain ⟨hx0, hb, -, hown, hts⟩ := S
  have ht := (shp_arr hs).2
  have harrs : ([Cond.arrayClass .int, Cond.arrayClass .byte, Cond.arrayClass .boolean] : List Cond).all (fun w => decide (w ∈ lw_tbl) && goodWord w) = true := by decide +kernel
  have harr : (Cond.arrayClass (newarray.typeOf ty)).before args s₀ = true := by
    refine hts _ (gw_all harrs _ ?_)
    cases ty <;> first | (simp [newarray.typeOf]; done) | (simp [atk] at ht)
  have hneg : ¬ Int32.ofInt x < 0 := by
    intro q
    have : Int32.ofInt x < Int32.ofInt 0 := q
    rw [of_lt hr rng0] at this
    omega
  refine va_newaK hx0 hb harr rfl hd rfl hneg (N := n) (by rw [of_clamp hr]; exact hx) ?_ hmc hms hP.2 fun H1 cA g1 g2 g3 _ g5 => ?_
  · have : componentBytes (newarray.typeOf ty) ≤ 8 := by cases ty <;> decide
    have h8 : n * componentBytes (newarray.typeOf ty) ≤ 100000 * 8 := Nat.mul_le_mul hn this
    omega
  rw [ha] at kk
  refine kk H1 locs (hp_new hq ha hP ?_ (by rw [g2, hP.2]) (fun q hq => g3 q (by rw [← hP.2]; exact hq))) (va_S.new hS (by rw [g2, hP.2]) (fun q hq => g3 q (by rw [← hP.2]; exact hq)))
  have h3 : atk ty < 3 := by cases ty <;> first | decide | (simp [atk] at ht)
  rw [ent_int hs h3]
  show H1[G.1 + s.1]? = some (vp_cell _ _)
  rw [g1, vp_cell_i]
  have e1 : cA = G.2.2.2 (atk ty) := by
    cases ty <;> first
      | (simp [atk] at ht; done)
      | exact Option.some.inj (g5.symm.trans (hK.1.2 0 _ rfl).2)
      | exact Option.some.inj (g5.symm.trans (hK.1.2 1 _ rfl).2)
      | exact Option.some.inj (g5.symm.trans (hK.1.2 2 _ rfl).2)
  have e3 : (fun j : Nat => Value.int (Int32.ofInt (zrS s.2.1 a b a b j))) = fun _ => defaultValue (newarray.typeOf ty) := by
    funext i
    have e2 : zrS s.2.1 a b a b i = 0 := by simp [zrS]
    rw [e2]
    cases ty <;> first | rfl | (simp [atk] at ht)
  show _ = some (arrV _ _ (fun j : Nat => Value.int (Int32.ofInt (zrS s.2.1 a b a b j))))
  rw [e1, e3]
theorem s_anew {kl : Nat → Option Nat} (S : CallFix p m c cc nL s₀ args gw own) (hK : KK G s₀) (hkl : KlOK own kl) (hk : kl k = some ci) (hct : (ci = 8 ∧ t = 3) ∨ (ci = 1 ∧ t = 4)) (hs : shp a = .inr (t, n)) (hd : decode cc pc = .ok (.anewarray k, 3)) (hP : HP G s H) (hS : va_S (fun q => G.1 ≤ q) s₀.heap H locs) (hq : idq a b = true) (ha : ad a b = s.1) (hr : rng x) (h0 : 0 ≤ x) (hx : x.toNat = n) (hn : n ≤ 100000) (hmc : kc + 1 ≤ R.cells) (hms : ks + n ≤ R.slots)
    (kk : ∀ (H1 : Heap) (locs1 : List Loc), HP G (s.1 + 1, zrS s.2.1 a b, zrR s.2.2 a b) H1 → va_S (fun q => G.1 ≤ q) s₀.heap H1 locs1 → W p l e R s₀ m args below meth c H1 locs1 (kc + 1) (ks + n) Q (F0 m (pc + 3) ls (.ref (G.1 + ad a b) :: rest))) : W p l e R s₀ m args below meth c H locs kc ks Q (F0 m pc ls (.int (Int32.ofInt x) :: rest)) := by
  obtain ⟨hx0, hb, -, hown, hts⟩ := S
  have hneg : ¬ Int32.ofInt x < 0 := by
    intro q
    have : Int32.ofInt x < Int32.ofInt 0 := q
    rw [of_lt hr rng0] at this
    omega
  have hcl : (Int32.ofInt x).toNatClampNeg = n := by rw [of_clamp hr]; exact hx
  have hlink := hts _ (hkl k ci hk)
  have fin : ∀ (C : String), va_RA s₀ (G.2.2.2 t) (.object C) → (nth cnL ci).getD "" = C → va_AO C s₀ → W p l e R s₀ m args below meth c H locs kc ks Q (F0 m pc ls (.int (Int32.ofInt x) :: rest)) := by
    intro C hRA hC hAO
    rw [hC] at hlink
    obtain ⟨kA0, comp0, -, -, -, hfA⟩ := hRA
    refine W.anew hx0 hb hown hlink (va_AO.use hAO) rfl hd rfl hneg (by rw [hcl]; omega) hmc (by rw [hcl]; exact hms) fun cA kA comp f1 f2 f3 f4 => ?_
    have e1 : cA = G.2.2.2 t := Option.some.inj (f1.symm.trans hfA)
    subst e1
    generalize hH1 : H.push ({ cls := G.2.2.2 t, slots := Array.replicate (Int32.ofInt x).toNatClampNeg .null, vm := .none } : Cell) = H1
    rw [hcl] at hH1 ⊢
    have g2 : H1.size = H.size + 1 := by rw [← hH1, Array.size_push]
    have g1 : H1[H.size]? = some (arrV (G.2.2.2 t) n (fun _ => .null)) := by rw [← hH1, Array.getElem?_push_size, ← arrV_new]
    have g3 : ∀ q : Nat, q < H.size → H1[q]? = H[q]? := fun q hq => by rw [← hH1, Array.getElem?_push, if_neg (Nat.ne_of_lt hq)]
    have K := kk H1 locs (hp_new hq ha hP ?_ g2 g3) (va_S.new hS g2 g3)
    · rw [ha, ← hP.2] at K
      exact K
    · rw [ent_ref hs (by omega)]
      show H1[G.1 + s.1]? = some (vp_cell _ _)
      rw [← hP.2, g1, vp_cell_q]
      congr 2
      funext i
      have e2 : zrR s.2.2 a b a b i = none := by simp [zrR]
      simp only [e2]
      rfl
  rcases hct with ⟨rfl, rfl⟩ | ⟨rfl, rfl⟩
  · exact fin "PatternMill$Kind" (hK.1.2 3 _ rfl).2 rfl hK.2.2.1
  · exact fin "PatternMill$Text" (hK.1.2 4 _ rfl).2 rfl hK.2.2.2.1
end
