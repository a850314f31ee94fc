section
variable {SL : Nat} {xs : Nat → Int} {p : Program} {l : Launch} {e : Env} {R : Room} {s₀ : State} {m : MethodId} {args : Array Value} {below : List Frame} {meth : Method} {c : Code} {Q : State → Prop} {G : Gp} {cc : ByteArray} {nL : Nat} {own : String}
variable {H : Heap} {locs : List Loc} {kc ks : Nat} {ls : Array Slot} {rest : List Value} {s : St} {pc k a b a0 b0 n0 n1 : Nat} {sp dp n : Int}
theorem ent_cp {i i1 n : Nat} {q : Nat × Nat} (h : q ≠ (a, b)) : ent G (s.1, cpS s.2.1 a0 b0 i a b i1 n, s.2.2) q = ent G s q := by
  refine ent_same (fun j => ?_) (fun _ => rfl)
  simp only [cpS]
  rw [if_neg]
  rintro ⟨h1, h2, -⟩
  exact h (Prod.ext h1 h2)
theorem copy_words : ([Cond.native arraycopyName, Cond.static arraycopyName, Cond.initialized "java/lang/System"] : List Cond).all (fun w => decide (w ∈ lw_tbl) && goodWord w) = true := by decide +kernel
theorem s_copy (S : CallFix p m c cc nL s₀ args gw own) (hK : KK G s₀) (hlink : Cond.methodLink own k arraycopyName ∈ gw) (hls : ls.size = nL) (hs0 : shp a0 = .inr (1, n0)) (hs1 : shp a = .inr (1, n1)) (hd : decode cc pc = .ok (.invokestatic k, 3)) (hP : HP G s H) (hW : Wf s) (hS : va_S (fun q => G.1 ≤ q) s₀.heap H locs) (hq0 : idq a0 b0 = true ∧ ad a0 b0 < s.1) (hq : idq a b = true ∧ ad a b < s.1)
    (r1 : rng sp) (r2 : rng dp) (r3 : rng n) (h1 : 0 ≤ sp) (h2 : 0 ≤ dp) (h3 : 0 ≤ n) (h4 : sp + n ≤ n0) (h5 : dp + n ≤ n1) (hfr : 1 ≤ R.frames) (hlo : (rest.map fun v => v.category).sum + (nativeFrameWords "java/lang/System" "arraycopy" 5 + 11) ≤ R.locals)
    (kk : ∀ (H1 : Heap) (locs1 : List Loc), HP G (s.1, cpS s.2.1 a0 b0 sp.toNat a b dp.toNat n.toNat, s.2.2) H1 → va_S (fun q => G.1 ≤ q) s₀.heap H1 locs1 → W p l e R s₀ m args below meth c H1 locs1 kc ks Q (F0 m (pc + 3) ls rest)) : W p l e R s₀ m args below meth c H locs kc ks Q (F0 m pc ls (.int (Int32.ofInt n) :: .int (Int32.ofInt dp) :: .ref (G.1 + ad a b) :: .int (Int32.ofInt sp) :: .ref (G.1 + ad a0 b0) :: rest)) := by
  obtain ⟨hx, hb, hml, hown, hts⟩ := S
  have he0 := wl_int (G := G) hs0 (by omega) hq0
  have he1 := wl_int (G := G) hs1 (by omega) hq
  have hc0 : H[G.1 + ad a0 b0]? = some (vp_cell (G.2.2.2 1) (n0, .inl (fun i => Int32.ofInt (s.2.1 a0 b0 i)))) := hP.1 _ _ he0
  have hc1 : H[G.1 + ad a b]? = some (vp_cell (G.2.2.2 1) (n1, .inl (fun i => Int32.ofInt (s.2.1 a b i)))) := hP.1 _ _ he1
  obtain ⟨-, k0, hk0, cm0, hkk0⟩ := (hK.1.2 1 _ rfl).1 n0 (fun j => .int (Int32.ofInt (s.2.1 a0 b0 j)))
  obtain ⟨-, k1, hk1, cm1, hkk1⟩ := (hK.1.2 1 _ rfl).1 n1 (fun j => .int (Int32.ofInt (s.2.1 a b j)))
  have neg : ∀ z : Int, rng z → 0 ≤ z → ¬ Int32.ofInt z < 0 := by
    intro z hz h0 q
    have : Int32.ofInt z < Int32.ofInt 0 := q
    rw [of_lt hz rng0] at this
    omega
  intro T hT X
  obtain ⟨vm', X', step⟩ := X.arraycopy hx hown (hts _ hlink) (hts _ (gw_all copy_words _ (by simp))) (hts _ (gw_all copy_words _ (by simp))) (hts _ (gw_all copy_words _ (by simp))) (src := G.1 + ad a0 b0) (dst := G.1 + ad a b) (cs := vp_cell (G.2.2.2 1) (n0, .inl (fun i => Int32.ofInt (s.2.1 a0 b0 i)))) (cd := vp_cell (G.2.2.2 1) (n1, .inl (fun i => Int32.ofInt (s.2.1 a b i)))) (srcPos := Int32.ofInt sp) (destPos := Int32.ofInt dp) (n := Int32.ofInt n) (by rw [hT]; exact hc0) (by rw [hT]; exact hc1)
    (fun _ h => by cases h) (fun _ h => by cases h) (fun h => by cases h) (fun h => by cases h) hk0 hk1 hkk0 hkk1 (by simp [refKind]) (neg sp r1 h1) (neg dp r2 h2) (neg n r3 h3)
    (by rw [to_of r1, to_of r3]; show ¬ _ > ((arrV _ n0 _).slots.size : Int); rw [arrV_size]; omega)
    (by rw [to_of r2, to_of r3]; show ¬ _ > ((arrV _ n1 _).slots.size : Int); rw [arrV_size]; omega)
    (fun vm₁ _ i hi => by
      rw [of_clamp r3] at hi
      have e : (vp_cell (G.2.2.2 1) (n0, .inl (fun i => Int32.ofInt (s.2.1 a0 b0 i)))).slots.getD ((Int32.ofInt sp).toNatClampNeg + i) .null = .int (Int32.ofInt (s.2.1 a0 b0 (sp.toNat + i))) := by
        rw [of_clamp r1]
        show (arrV _ n0 (fun j => .int (Int32.ofInt (s.2.1 a0 b0 j)))).slots.getD _ _ = _
        rw [Array.getD_eq_getD_getElem?, arrV_read _ _ (by omega)]
        rfl
      refine ⟨?_, ?_⟩
      · rw [e]
        have := hW.2.2 a0 b0 (sp.toNat + i) n0 hs0
        rw [← this, b8, of_to]
        exact pk_fb _
      · rw [e]
        exact trivial)
    (g := F0 m pc ls (.int (Int32.ofInt n) :: .int (Int32.ofInt dp) :: .ref (G.1 + ad a b) :: .int (Int32.ofInt sp) :: .ref (G.1 + ad a0 b0) :: rest)) rfl (by rw [hml]; exact hls) (rest := rest) rfl (by rw [hb]; exact hd) hfr (by show 2 * 0 + _ + _ ≤ _; omega)
  have e1 : copied (vp_cell (G.2.2.2 1) (n0, .inl (fun i => Int32.ofInt (s.2.1 a0 b0 i)))) (vp_cell (G.2.2.2 1) (n1, .inl (fun i => Int32.ofInt (s.2.1 a b i)))) (Int32.ofInt sp) (Int32.ofInt dp) (Int32.ofInt n) = vp_cell (G.2.2.2 1) (n1, .inl (va_cpy (fun i => Int32.ofInt (s.2.1 a0 b0 i)) (fun i => Int32.ofInt (s.2.1 a b i)) sp.toNat dp.toNat n.toNat)) := by
    have := va_copied (fun z => .int z) (G.2.2.2 1) (G.2.2.2 1) (n0 := n0) (n1 := n1) (sp := sp.toNat) (dp := dp.toNat) (n := n.toNat) (fun i => Int32.ofInt (s.2.1 a0 b0 i)) (fun i => Int32.ofInt (s.2.1 a b i)) (by omega)
    rw [← of_clamp r1, ← of_clamp r2, ← of_clamp r3] at this ⊢
    exact this
  rw [e1] at X' step
  have hl : G.1 + ad a b < H.size := (Array.getElem?_eq_some_iff.mp hc1).1
  have oq : ∀ q : Nat, q ≠ G.1 + ad a b → (H.setIfInBounds (G.1 + ad a b) (vp_cell (G.2.2.2 1) (n1, .inl (va_cpy (fun i => Int32.ofInt (s.2.1 a0 b0 i)) (fun i => Int32.ofInt (s.2.1 a b i)) sp.toNat dp.toNat n.toNat))))[q]? = H[q]? := fun q hq => by simp [Array.getElem?_setIfInBounds, Ne.symm hq]
  have hsame : (H.setIfInBounds (G.1 + ad a b) (vp_cell (G.2.2.2 1) (n1, .inl (va_cpy (fun i => Int32.ofInt (s.2.1 a0 b0 i)) (fun i => Int32.ofInt (s.2.1 a b i)) sp.toNat dp.toNat n.toNat))))[G.1 + ad a b]? = some (vp_cell (G.2.2.2 1) (n1, .inl (va_cpy (fun i => Int32.ofInt (s.2.1 a0 b0 i)) (fun i => Int32.ofInt (s.2.1 a b i)) sp.toNat dp.toNat n.toNat))) := by simp [Array.getElem?_setIfInBounds, hl]
  have hheap : ((T.setVm vm').setCell (G.1 + ad a b) (vp_cell (G.2.2.2 1) (n1, .inl (va_cpy (fun i => Int32.ofInt (s.2.1 a0 b0 i)) (fun i => Int32.ofInt (s.2.1 a b i)) sp.toNat dp.toNat n.toNat)))).heap = H.setIfInBounds (G.1 + ad a b) (vp_cell (G.2.2.2 1) (n1, .inl (va_cpy (fun i => Int32.ofInt (s.2.1 a0 b0 i)) (fun i => Int32.ofInt (s.2.1 a b i)) sp.toNat dp.toNat n.toNat))) := by rw [← hT]; rfl
  have hsz : (H.setIfInBounds (G.1 + ad a b) (vp_cell (G.2.2.2 1) (n1, .inl (va_cpy (fun i => Int32.ofInt (s.2.1 a0 b0 i)) (fun i => Int32.ofInt (s.2.1 a b i)) sp.toNat dp.toNat n.toNat)))).size = H.size := by simp
  have hP1 : HP G (s.1, cpS s.2.1 a0 b0 sp.toNat a b dp.toNat n.toNat, s.2.2) (H.setIfInBounds (G.1 + ad a b) (vp_cell (G.2.2.2 1) (n1, .inl (va_cpy (fun i => Int32.ofInt (s.2.1 a0 b0 i)) (fun i => Int32.ofInt (s.2.1 a b i)) sp.toNat dp.toNat n.toNat)))) := by
    refine hp_set (locs1 := []) (s := s) (s' := (s.1, cpS s.2.1 a0 b0 sp.toNat a b dp.toNat n.toNat, s.2.2)) rfl hq (fun q hq => ent_cp hq) (ent_int hs1 (by omega)) ?_ (by rw [hsz, hP.2])
    refine hP.1.set wl_D he1 ?_ oq
    show (H.setIfInBounds _ _)[G.1 + ad a b]? = _
    rw [hsame]
    congr 4
    funext q
    simp only [va_cpy, cpS]
    by_cases hq : dp.toNat ≤ q ∧ q < dp.toNat + n.toNat
    · rw [if_pos hq, if_pos ⟨trivial, trivial, hq.1, hq.2⟩]
    · rw [if_neg hq, if_neg (fun h => hq h.2.2)]
  obtain ⟨t, a1, b1⟩ := kk _ _ hP1 ⟨by rw [hsz]; exact hS.1, fun q g1 g2 => by
      rw [oq q (fun e => g2 (by rw [e]; simp))]
      exact hS.2.1 q g1 g2, fun q hq => by
      rcases List.mem_append.mp hq with h | h
      · exact hS.2.2 q h
      · obtain ⟨z, -, hz⟩ := List.mem_map.mp h
        rw [← hz]
        simp⟩ _ hheap X'
  exact ⟨t, step t a1, b1⟩
end
