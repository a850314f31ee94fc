/-! The rows of the heap over the world -/
section
variable {SL : Nat} {xs : Nat → Int} {p : Program} {l : Launch} {e : Env} {R : Room} {s₀ : State} {m : MethodId} {args : Array Value} {below : List Frame} {meth : Method} {c : Code} {Q : State → Prop} {G : Gp} {cc : ByteArray} {nL : Nat} {own : String}
variable {H : Heap} {locs : List Loc} {kc ks : Nat} {ls : Array Slot} {rest : List Value} {s : St} {pc k a b ci j n : Nat} {fl : Fl}
theorem ent_obj (h : shp a = .inl ci) : ent G s (a, b) = .inr (ci, (List.range (nF ci)).map (fvl G s a b ci)) := by simp [ent, h]
theorem ent_int {t : Nat} (h : shp a = .inr (t, n)) (ht : t < 3) : ent G s (a, b) = .inl (G.2.2.2 t, n, .inl (fun i => Int32.ofInt (s.2.1 a b i))) := by simp [ent, h, ht]
theorem ent_ref {t : Nat} (h : shp a = .inr (t, n)) (ht : ¬ t < 3) : ent G s (a, b) = .inl (G.2.2.2 t, n, .inr (.inr (.inr (.inr (fun i => (s.2.2 a b i).map (adr G)))))) := by simp [ent, h, ht]
theorem fs_at (hj : j < nF ci) : ((List.range (nF ci)).map (fvl G s a b ci))[j]? = some (fvl G s a b ci j) := by simp [List.getElem?_map, List.getElem?_range hj]
theorem fs_set {s' : St} {N : Nat} {v : Value} (h1 : fvl G s' a b ci j = v) (h2 : ∀ i, i ≠ j → fvl G s' a b ci i = fvl G s a b ci i) : ((List.range N).map (fvl G s a b ci)).set j v = (List.range N).map (fvl G s' a b ci) := by
  apply List.ext_getElem?
  intro i
  by_cases hi : i < N
  · by_cases hij : i = j
    · subst hij
      rw [List.getElem?_set_self (by simpa using hi)]
      simp [List.getElem?_map, List.getElem?_range hi, h1]
    · rw [List.getElem?_set_ne (Ne.symm hij)]
      simp [List.getElem?_map, List.getElem?_range hi, h2 i hij]
  · rw [List.getElem?_eq_none (by simp; omega), List.getElem?_eq_none (by simp; omega)]
/-- a field's link, of either kind -/
theorem fl_word (S : CallFix p m c cc nL s₀ args gw own) (hK : KK G s₀) (hfl : FlOK own fl) (hk : fl k = some (ci, j)) : (Cond.fieldLink own k (fd ci j).1 (fd ci j).2.1 (fd ci j).2.2).before args s₀ = true ∨ (Cond.fieldLinkNest own k (fd ci j).1 (fd ci j).2.1 (fd ci j).2.2 "PatternMill").before args s₀ = true := by
  rcases (hfl k ci j hk).2 with hw | hw
  · exact Or.inl (S.2.2.2.2 _ hw)
  · exact Or.inr (va_Nw.use rfl (hK.2.1 _ hw rfl))
theorem s_get (S : CallFix p m c cc nL s₀ args gw own) (hK : KK G s₀) (hfl : FlOK own fl) (hk : fl k = some (ci, j)) (hs : shp a = .inl ci) (hc : ci < 8) (hd : decode cc pc = .ok (.getfield k, 3)) (hP : HP G s H) (hq : idq a b = true ∧ ad a b < s.1)
    (kk : W p l e R s₀ m args below meth c H locs kc ks Q (F0 m (pc + 3) ls (fvl G s a b ci j :: rest))) : W p l e R s₀ m args below meth c H locs kc ks Q (F0 m pc ls (.ref (G.1 + ad a b) :: rest)) := by
  obtain ⟨hx, hb, -, hown, hts⟩ := S
  have hj : j < nF ci := by rw [← fd_len ci hc]; exact (hfl k ci j hk).1
  obtain ⟨e1, e2, e3, -, -⟩ := cl_fd1 ci hc j hj
  have he := wl_at (G := G) hq.1 hq.2
  rw [ent_obj hs] at he
  have hjN : j < (clr ci).2.2 := by rw [cl_N ci hc]; exact hj
  rcases fl_word ⟨hx, hb, rfl, hown, hts⟩ hK hfl hk with hw | hw
  · rw [← e1, ← e2, ← e3] at hw
    exact va_get (C := (clr ci).1) (T := (clr ci).2.1) (N := (clr ci).2.2) hx hb hts (cl_in hc) hown hK.1 hP.1 (ad a b) he (cl_at hc) j hjN hw (fun _ h => h) (fs_at hj) hd kk
  · rw [← e1, ← e2, ← e3] at hw
    exact va_getN (C := (clr ci).1) (T := (clr ci).2.1) (N := (clr ci).2.2) hx hb hts (cl_in hc) hown hK.1 hP.1 (ad a b) he (cl_at hc) j hjN hw (fun _ h => h) (fs_at hj) hd kk
theorem s_getC (S : CallFix p m c cc nL s₀ args gw own) (hK : KK G s₀) (hC : CN G SL xs s₀ s₀.heap) (hS : va_S (fun q => G.1 ≤ q) s₀.heap H locs) (hfl : FlOK own fl) (hk : fl k = some (8, j)) (hb24 : b < 24) (hd : decode cc pc = .ok (.getfield k, 3))
    (kk : W p l e R s₀ m args below meth c H locs kc ks Q (F0 m (pc + 3) ls (.int (Int32.ofInt (kF j b)) :: rest))) : W p l e R s₀ m args below meth c H locs kc ks Q (F0 m pc ls (.ref (G.2.1 45 b) :: rest)) := by
  obtain ⟨hx, hb, -, hown, hts⟩ := S
  have hj : j < 4 := (hfl k 8 j hk).1
  obtain ⟨hm, e1, e2, e3, hv⟩ := kTab_ok j hj
  obtain ⟨hv, -⟩ := hv b hb24
  obtain ⟨cf, kl, fi, f, cell, h1, h2, h3, h4, h5, h6⟩ := ((hC.1.1 b hb24).2.2 _ hm).kept hS.2.1
  rw [e1, e2, e3] at h1
  rw [hv] at h5
  rcases fl_word ⟨hx, hb, rfl, hown, hts⟩ hK hfl hk with hw | hw
  · exact W.getf hx hb hown hw h1 h2 h3 h4 h5 rfl rfl hd kk
  · exact va_Wgetf hx hb hown hw h1 h2 h3 h4 h5 rfl rfl hd kk
theorem fvl_up {v : Int} (h : ¬ fk ci j = 1) : fvl G (n, upS s.2.1 a b j v, s.2.2) a b ci j = .int (Int32.ofInt v) ∧ ∀ i, i ≠ j → fvl G (n, upS s.2.1 a b j v, s.2.2) a b ci i = fvl G s a b ci i := by
  refine ⟨by simp [fvl, h, upS], fun i hi => by simp [fvl, upS, hi]⟩
theorem fvl_upR {v : Rf} (h : fk ci j = 1) : fvl G (n, s.2.1, upR s.2.2 a b j v) a b ci j = va_rf (v.map (adr G)) ∧ ∀ i, i ≠ j → fvl G (n, s.2.1, upR s.2.2 a b j v) a b ci i = fvl G s a b ci i := by
  refine ⟨by simp [fvl, h, upR], fun i hi => by simp [fvl, upR, hi]⟩
theorem ent_upS {v : Int} {q : Nat × Nat} (h : q ≠ (a, b)) : ent G (n, upS s.2.1 a b j v, s.2.2) q = ent G s q := by
  refine ent_same (fun i => ?_) (fun _ => rfl)
  simp only [upS]
  rw [if_neg]
  rintro ⟨h1, h2, -⟩
  exact h (Prod.ext h1 h2)
theorem ent_upR {v : Rf} {q : Nat × Nat} (h : q ≠ (a, b)) : ent G (n, s.2.1, upR s.2.2 a b j v) q = ent G s q := by
  refine ent_same (fun _ => rfl) (fun i => ?_)
  simp only [upR]
  rw [if_neg]
  rintro ⟨h1, h2, -⟩
  exact h (Prod.ext h1 h2)
theorem hp_set {s' : St} {H1 : Heap} {locs1 : List Loc} {E : va_E} (h1 : s'.1 = s.1) (hq : idq a b = true ∧ ad a b < s.1) (hs : ∀ q, q ≠ (a, b) → ent G s' q = ent G s q) (hE : ent G s' (a, b) = E) (hP : va_P G.2.2.1 classes ((wl G s).set (ad a b) (G.1 + ad a b, E)) H1) (hz : H1.size = G.1 + s.1) : HP G s' H1 := by
  subst hE
  rw [wl_set h1 hq.1 hq.2 hs] at hP
  exact ⟨hP, by rw [hz, h1]⟩
/-- an object's field is written -/
theorem s_put {v : Value} {ty : FieldType} (S : CallFix p m c cc nL s₀ args gw own) (hK : KK G s₀) (hfl : FlOK own fl) (hk : fl k = some (ci, j)) (hs : shp a = .inl ci) (hc : ci < 8) (hd : decode cc pc = .ok (.putfield k, 3)) (hP : HP G s H) (hS : va_S (fun q => G.1 ≤ q) s₀.heap H locs) (hq : idq a b = true ∧ ad a b < s.1) (hf : ¬ fk ci j = 1) (hty : cty ci j = ty) (hn : narrow ty v = v) (hfit : fits ty v = true)
    (kk : ∀ (H1 : Heap) (locs1 : List Loc), va_P G.2.2.1 classes ((wl G s).set (ad a b) (G.1 + ad a b, .inr (ci, ((List.range (nF ci)).map (fvl G s a b ci)).set j v))) H1 → H1.size = G.1 + s.1 → va_S (fun q => G.1 ≤ q) s₀.heap H1 locs1 → W p l e R s₀ m args below meth c H1 locs1 kc ks Q (F0 m (pc + 3) ls rest)) : W p l e R s₀ m args below meth c H locs kc ks Q (F0 m pc ls (v :: .ref (G.1 + ad a b) :: rest)) := by
  obtain ⟨hx, hb, -, hown, hts⟩ := S
  have hj : j < nF ci := by rw [← fd_len ci hc]; exact (hfl k ci j hk).1
  obtain ⟨e1, e2, e3, e4, -⟩ := cl_fd1 ci hc j hj
  have he := wl_at (G := G) hq.1 hq.2
  rw [ent_obj hs] at he
  have hjN : j < (clr ci).2.2 := by rw [cl_N ci hc]; exact hj
  have hap := va_apart (own := own) hts (cl_in hc) (cty ci) (cl_ty hc) (cl_nd hc) hK.1 (cl_at hc)
  obtain ⟨r, h1, cell, q1, q2, q3, q4⟩ := hP.1 (ad a b) _ he
  have hr : r = clr ci := Option.some.inj (h1.symm.trans (cl_at hc))
  subst hr
  obtain ⟨hSl, hfc, kC, hkC, hkind⟩ := hK.1.1 ci _ (cl_at hc)
  obtain ⟨cf, kf, fi, f, hi, hsl⟩ := hSl j hjN
  have hlay := hts _ (cl_in hc _ (u_in_lay hjN))
  unfold u_lay at hlay
  rw [if_neg (by rw [e4]; simpa using hf)] at hlay
  have hst := (u_facts hfc hkC (u_lays hts (cl_in hc) hjN) hi).1
  have h6 := u_store hfc hkC hkind hlay hi (by rw [cl_ty hc j hjN, hty]) hn hfit
  have hlen : j < ((List.range (nF ci)).map (fvl G s a b ci)).length := by simpa using hj
  have fin : ∀ H' : Heap, H'[G.1 + ad a b]? = some (cell.setSlot f.slot v) → H'.size = H.size → (∀ q, q ≠ G.1 + ad a b → H'[q]? = H[q]?) → W p l e R s₀ m args below meth c H' (locs ++ [⟨G.1 + ad a b, f.slot⟩]) kc ks Q (F0 m (pc + 3) ls rest) := by
    intro H' g1 g2 g3
    rw [hsl] at g1 ⊢
    exact kk H' _ (hP.1.set wl_D he ⟨_, cl_at hc, t_OB.to (V := updV (vp_V _) j v) ⟨_, g1, q2, q3, t_set q4 hap hjN v⟩ (fun i _ => vp_updV_set hlen v i)⟩ g3) (by rw [g2, hP.2]) (hS.put g2 g3 (by simp))
  rcases fl_word ⟨hx, hb, rfl, hown, hts⟩ hK hfl hk with hw | hw
  · rw [← e1, ← e2, ← e3] at hw
    exact W.putK hx hb (f := f) ⟨hown, hw, ⟨_, _, _, hi⟩, hst⟩ (by rw [q2]; exact h6) q1 q3 (by rw [hsl]; exact k2_hasslot (q4 j hjN)) rfl rfl hd fin
  · rw [← e1, ← e2, ← e3] at hw
    exact va_WputK hx hb hown hw hi hst (by rw [q2]; exact h6) q1 q3 (by rw [hsl]; exact k2_hasslot (q4 j hjN)) rfl rfl hd fin
/-- a final field is written in its constructor -/
theorem s_putF {v : Value} (S : CallFix p m c cc nL s₀ args gw own) (hK : KK G s₀) (hfl : FlOK own fl) (hk : fl k = some (ci, j)) (hs : shp a = .inl ci) (hc : ci < 8) (hd : decode cc pc = .ok (.putfield k, 3)) (hP : HP G s H) (hS : va_S (fun q => G.1 ≤ q) s₀.heap H locs) (hq : idq a b = true ∧ ad a b < s.1) (hf : fk ci j = 1) (hin : meth.name = "<init>") (ho : own = (nth cnL ci).getD "") (hn : narrow (cty ci j) v = v) (hfit : fits (cty ci j) v = true)
    (kk : ∀ (H1 : Heap) (locs1 : List Loc), va_P G.2.2.1 classes ((wl G s).set (ad a b) (G.1 + ad a b, .inr (ci, ((List.range (nF ci)).map (fvl G s a b ci)).set j v))) H1 → H1.size = G.1 + s.1 → va_S (fun q => G.1 ≤ q) s₀.heap H1 locs1 → W p l e R s₀ m args below meth c H1 locs1 kc ks Q (F0 m (pc + 3) ls rest)) : W p l e R s₀ m args below meth c H locs kc ks Q (F0 m pc ls (v :: .ref (G.1 + ad a b) :: rest)) := by
  obtain ⟨hx, hb, -, hown, hts⟩ := S
  have hj : j < nF ci := by rw [← fd_len ci hc]; exact (hfl k ci j hk).1
  obtain ⟨e1, e2, e3, e4, -⟩ := cl_fd1 ci hc j hj
  obtain ⟨-, -, -, e5⟩ := cl_fd2 ci hc j hj
  have hdecl : ((clr ci).2.1 j).1 = own := by rw [e5 hf, ho]
  have he := wl_at (G := G) hq.1 hq.2
  rw [ent_obj hs] at he
  have hjN : j < (clr ci).2.2 := by rw [cl_N ci hc]; exact hj
  have hap := va_apart (own := own) hts (cl_in hc) (cty ci) (cl_ty hc) (cl_nd hc) hK.1 (cl_at hc)
  obtain ⟨r, h1, cell, q1, q2, q3, q4⟩ := hP.1 (ad a b) _ he
  have hr : r = clr ci := Option.some.inj (h1.symm.trans (cl_at hc))
  subst hr
  obtain ⟨hSl, hfc, kC, hkC, hkind⟩ := hK.1.1 ci _ (cl_at hc)
  obtain ⟨cf, kf, fi, f, hi, hsl⟩ := hSl j hjN
  have hlay := hts _ (cl_in hc _ (u_in_lay hjN))
  unfold u_lay at hlay
  rw [if_pos (by rw [e4]; simpa using hf)] at hlay
  have hst := (u_facts hfc hkC (u_lays hts (cl_in hc) hjN) hi).1
  have hcf : m.cls = cf := by
    obtain ⟨_, _, c', _, _, _, -, -, hf', -, -, -, hown2, -⟩ := Cond.laysFinal_spec hlay
    have e1 : c' = cf := by have := hi.symm.trans hf'; simp at this; exact this.1.symm
    rw [hdecl] at hown2
    rw [← e1]; exact Option.some.inj (hown.symm.trans hown2)
  have h6 := u_fits hfc hkC hkind (Or.inr hlay) hi (cl_ty hc j hjN) hn hfit
  have hlen : j < ((List.range (nF ci)).map (fvl G s a b ci)).length := by simpa using hj
  have fin : ∀ H' : Heap, H'[G.1 + ad a b]? = some (cell.setSlot f.slot v) → H'.size = H.size → (∀ q, q ≠ G.1 + ad a b → H'[q]? = H[q]?) → W p l e R s₀ m args below meth c H' (locs ++ [⟨G.1 + ad a b, f.slot⟩]) kc ks Q (F0 m (pc + 3) ls rest) := by
    intro H' g1 g2 g3
    rw [hsl] at g1 ⊢
    exact kk H' _ (hP.1.set wl_D he ⟨_, cl_at hc, t_OB.to (V := updV (vp_V _) j v) ⟨_, g1, q2, q3, t_set q4 hap hjN v⟩ (fun i _ => vp_updV_set hlen v i)⟩ g3) (by rw [g2, hP.2]) (hS.put g2 g3 (by simp))
  rcases fl_word ⟨hx, hb, rfl, hown, hts⟩ hK hfl hk with hw | hw
  · rw [← e1, ← e2, ← e3] at hw
    exact W.putFinK hx hb hown hw hi hst hcf hin (by rw [q2]; exact h6) q1 q3 (by rw [hsl]; exact k2_hasslot (q4 j hjN)) rfl rfl hd fin
  · rw [← e1, ← e2, ← e3] at hw
    have ha : G.1 + ad a b < H.size := (Array.getElem?_eq_some_iff.mp q1).1
    refine va_Wputf hx hb hown hw hi hst (Or.inr ⟨hcf, hin⟩) q1 (by rw [q3]; exact fun h => by cases h) (by rw [hsl]; exact k2_hasslot (q4 j hjN)) (by have := h6.1; exact this) (by rw [q2, q3]; exact h6.2) rfl rfl hd ?_
    refine fin _ ?_ ?_ ?_
    · simp [Array.getElem?_setIfInBounds, ha]
    · simp
    · intro q hq
      simp [Array.getElem?_setIfInBounds, Ne.symm hq]
end
