theorem shp_len46 : ∀ a, a < 46 → (match shp a with | .inl _ => true | .inr (_, n) => decide (n ≤ 100000)) = true := by decide +kernel
theorem shp_len {a t n : Nat} (h : shp a = .inr (t, n)) : n ≤ 100000 := by
  have := shp_len46 a (by have := (shp_arr h).1; omega)
  rw [h] at this
  simpa using this
section
variable {SL : Nat} {xs : Nat → Int} {p : Program} {l : Launch} {e : Env} {R : Room} {s₀ : State} {m : MethodId} {args : Array Value} {below : List Frame} {meth : Method} {c : Code} {Q : State → Prop} {G : Gp} {cc : ByteArray} {nL : Nat} {own : String}
set_option maxHeartbeats 8000000 in
theorem sound {fl : Fl} {kl : Nat → Option Nat} {sl : Nat → Option (Nat × Nat)} {code : Nat → Option En} {cs : Cs} {n0 MC MS ini rt : Nat} {F : Option Av → St → Prop}
    (S : CallFix p m c cc nL s₀ args gw own) (hcode : CodeOK cc code) (hfl : FlOK own fl) (hkl : KlOK own kl) (hsl : SlOK own sl) (hK : KK G s₀) (hC : CN G SL xs s₀ s₀.heap) (hz : G.1 ≤ s₀.heap.size) (hSLr : rng SL) (hMC : MC ≤ R.cells) (hMS : MS ≤ R.slots)
    (hini : ini < 8 → meth.name = "<init>" ∧ own = (nth cnL ini).getD "")
    (hcs : ∀ pc i nx tg cas k n mc ms T, code pc = some (i, nx, tg, cas) → isInv i k → cs k = some (n, mc, ms, T) → CallR SL xs l own R i n mc ms T)
    (hri : ∀ pc ls H locs kc ks x s, decode cc pc = .ok (.ireturn, 1) → F (some (.inl x)) s → (rt = 1 ∨ (rt = 2 ∧ (x = 0 ∨ x = 1))) → HP G s H → Wf s → rng x → va_S (fun q => G.1 ≤ q) s₀.heap H locs → n0 ≤ s.1 ∧ kc ≤ R.cells ∧ ks ≤ R.slots → W p l e R s₀ m args below meth c H locs kc ks Q (F0 m pc ls [.int (Int32.ofInt x)]))
    (hrv : ∀ pc ls H locs kc ks s, decode cc pc = .ok (.return_, 1) → F none s → rt = 0 → HP G s H → Wf s → va_S (fun q => G.1 ≤ q) s₀.heap H locs → n0 ≤ s.1 ∧ kc ≤ R.cells ∧ ks ≤ R.slots → W p l e R s₀ m args below meth c H locs kc ks Q (F0 m pc ls []))
    (cf : Cf) (H : stp SL xs (fl, kl, sl, code, cs, nL, MC, MS, ini, rt) F (Wm n0 G p l e R s₀ m args below meth c nL Q) cf) : Wm n0 G p l e R s₀ m args below meth c nL Q cf := by
  obtain ⟨pc, lv, st, s, kc, ks⟩ := cf
  intro Hh locs ls hP hW hO hS hl hk
  simp only at hP hW hO hl hk ⊢
  have hx := S.1
  have hb := S.2.1
  simp only [stp] at H
  cases hc : code pc with
  | none => rw [hc] at H; exact H.elim
  | some q =>
    obtain ⟨i, nx, tg, cas⟩ := q
    rw [hc] at H
    obtain ⟨hd, hok⟩ := hcode pc i nx tg cas hc
    simp only at H
    cases i
    case iconst n =>
      simp only [okE, Bool.and_eq_true, decide_eq_true_eq] at hok
      obtain ⟨rfl, hr⟩ := hok
      rw [Nat.add_sub_cancel_left] at hd
      exact lv_iconst (v := Int32.ofInt n) hx hb hd rfl (H Hh locs ls hP hW (okc_push hO (rng_of hr)) hS hl hk)
    case bipush n =>
      simp only [okE, Bool.and_eq_true, decide_eq_true_eq] at hok
      obtain ⟨⟨rfl, hr⟩, hv⟩ := hok
      rw [Nat.add_sub_cancel_left] at hd
      exact lv_bipush (v := Int32.ofInt n) hx hb hd hv (H Hh locs ls hP hW (okc_push hO (rng_of hr)) hS hl hk)
    case sipush n =>
      simp only [okE, Bool.and_eq_true, decide_eq_true_eq] at hok
      obtain ⟨⟨rfl, hr⟩, hv⟩ := hok
      rw [Nat.add_sub_cancel_left] at hd
      exact lv_sipush (v := Int32.ofInt n) hx hb hd hv (H Hh locs ls hP hW (okc_push hO (rng_of hr)) hS hl hk)
    case iload_n k =>
      obtain rfl : nx = pc + 1 := of_decide_eq_true hok
      rw [Nat.add_sub_cancel_left] at hd
      simp only at H
      split at H
      · rename_i x hn
        exact lv_iload_n hx hb hd rfl (lh_at hl hn) (H Hh locs ls hP hW (okc_push hO (hO.2 _ _ hn)) hS hl hk)
      · exact H.elim
    case iload k =>
      obtain rfl : nx = pc + 2 := of_decide_eq_true hok
      rw [Nat.add_sub_cancel_left] at hd
      simp only at H
      split at H
      · rename_i x hn
        exact lv_iload hx hb hd (lh_at hl hn) (H Hh locs ls hP hW (okc_push hO (hO.2 _ _ hn)) hS hl hk)
      · exact H.elim
    case aload_n k =>
      obtain rfl : nx = pc + 1 := of_decide_eq_true hok
      rw [Nat.add_sub_cancel_left] at hd
      simp only at H
      split at H
      · rename_i x hn
        have hq := lh_at hl hn
        have K := H Hh locs ls hP hW (okc_push hO (hO.2 _ _ hn)) hS hl hk
        rcases x with _ | x
        · exact lv_aload_nN hx hb hd rfl hq K
        · exact lv_aload_n hx hb hd rfl hq K
      · exact H.elim
    case aload k =>
      obtain rfl : nx = pc + 2 := of_decide_eq_true hok
      rw [Nat.add_sub_cancel_left] at hd
      simp only at H
      split at H
      · rename_i x hn
        have hq := lh_at hl hn
        have K := H Hh locs ls hP hW (okc_push hO (hO.2 _ _ hn)) hS hl hk
        rcases x with _ | x
        · exact lv_aloadN hx hb hd hq K
        · exact lv_aload hx hb hd hq K
      · exact H.elim
    case istore_n k =>
      obtain rfl : nx = pc + 1 := of_decide_eq_true hok
      rw [Nat.add_sub_cancel_left] at hd
      simp only at H
      split at H
      · rename_i x r
        have hn := (cond_of H).1; replace H := (cond_of H).2
        have hn : k.val < nL := Nat.le_of_ble_eq_true hn
        exact lv_istore_n hx hb hd rfl hl hn rfl (fun ls' hl' => H Hh locs ls' hP hW (okc_set (okc_tail hO) (okc_head hO)) hS (lh_set (v := .inl x) hl') hk)
      · exact H.elim
    case istore k =>
      obtain rfl : nx = pc + 2 := of_decide_eq_true hok
      rw [Nat.add_sub_cancel_left] at hd
      simp only at H
      split at H
      · rename_i x r
        have hn := (cond_of H).1; replace H := (cond_of H).2
        have hn : k < nL := Nat.le_of_ble_eq_true hn
        exact lv_istore hx hb hd hl hn rfl (fun ls' hl' => H Hh locs ls' hP hW (okc_set (okc_tail hO) (okc_head hO)) hS (lh_set (v := .inl x) hl') hk)
      · exact H.elim
    case astore_n k =>
      obtain rfl : nx = pc + 1 := of_decide_eq_true hok
      rw [Nat.add_sub_cancel_left] at hd
      simp only at H
      split at H
      · rename_i x r
        have hn := (cond_of H).1; replace H := (cond_of H).2
        have hn : k.val < nL := Nat.le_of_ble_eq_true hn
        rcases x with _ | x
        · exact lv_astore_nN hx hb hd rfl hl hn rfl (fun ls' hl' => H Hh locs ls' hP hW (okc_set (okc_tail hO) (okc_head hO)) hS (lh_set (v := .inr none) hl') hk)
        · exact lv_astore_n hx hb hd rfl hl hn rfl (fun ls' hl' => H Hh locs ls' hP hW (okc_set (okc_tail hO) (okc_head hO)) hS (lh_set (v := .inr (some x)) hl') hk)
      · exact H.elim
    case astore k =>
      obtain rfl : nx = pc + 2 := of_decide_eq_true hok
      rw [Nat.add_sub_cancel_left] at hd
      simp only at H
      split at H
      · rename_i x r
        have hn := (cond_of H).1; replace H := (cond_of H).2
        have hn : k < nL := Nat.le_of_ble_eq_true hn
        rcases x with _ | x
        · exact lv_astoreN hx hb hd hl hn rfl (fun ls' hl' => H Hh locs ls' hP hW (okc_set (okc_tail hO) (okc_head hO)) hS (lh_set (v := .inr none) hl') hk)
        · exact lv_astore hx hb hd hl hn rfl (fun ls' hl' => H Hh locs ls' hP hW (okc_set (okc_tail hO) (okc_head hO)) hS (lh_set (v := .inr (some x)) hl') hk)
      · exact H.elim
    case iinc k n =>
      simp only [okE, Bool.and_eq_true, decide_eq_true_eq] at hok
      obtain ⟨rfl, hr⟩ := hok
      rw [Nat.add_sub_cancel_left] at hd
      simp only at H
      split at H
      · rename_i x hn
        have hk2 := (cond_of H).1; replace H := (cond_of H).2
        have hk2 : k < nL := Nat.le_of_ble_eq_true hk2
        obtain ⟨k', hk'⟩ := List.getElem?_of_mem (lvl_mem G lv 0 k _ hn)
        rw [Nat.zero_add] at hk'
        have e1 : Int32.ofInt x + Int32.ofInt n = Int32.ofInt (wr (x + n)) := by rw [of_wr, Int32.ofInt_add]
        exact lv_iinc hx hb hd hl hk' e1 hk2 rfl (fun ls' hl' => H Hh locs ls' hP hW (okc_set hO (wr_rng _)) hS (lh_set (v := .inl (wr (x + n))) hl') hk)
      · exact H.elim
    case iadd =>
      obtain rfl : nx = pc + 1 := of_decide_eq_true hok
      rw [Nat.add_sub_cancel_left] at hd
      simp only at H
      split at H
      · rename_i y x r
        have e1 : Int32.ofInt (wr (x + y)) = Int32.ofInt x + Int32.ofInt y := by rw [of_wr, Int32.ofInt_add]
        have K : W p l e R s₀ m args below meth c Hh locs kc ks Q (F0 m (pc + 1) ls (.int (Int32.ofInt (wr (x + y))) :: r.map (cv G))) := H Hh locs ls hP hW (okc_push (okc_tail (okc_tail hO)) (wr_rng _)) hS hl hk
        rw [e1] at K
        exact lv_iadd hx hb hd K
      · exact H.elim
    case isub =>
      obtain rfl : nx = pc + 1 := of_decide_eq_true hok
      rw [Nat.add_sub_cancel_left] at hd
      simp only at H
      split at H
      · rename_i y x r
        have e1 : Int32.ofInt (wr (x - y)) = Int32.ofInt x - Int32.ofInt y := by rw [of_wr, Int32.ofInt_sub]
        have K : W p l e R s₀ m args below meth c Hh locs kc ks Q (F0 m (pc + 1) ls (.int (Int32.ofInt (wr (x - y))) :: r.map (cv G))) := H Hh locs ls hP hW (okc_push (okc_tail (okc_tail hO)) (wr_rng _)) hS hl hk
        rw [e1] at K
        exact lv_isub hx hb hd K
      · exact H.elim
    case imul =>
      obtain rfl : nx = pc + 1 := of_decide_eq_true hok
      rw [Nat.add_sub_cancel_left] at hd
      simp only at H
      split at H
      · rename_i y x r
        have e1 : Int32.ofInt (wr (x * y)) = Int32.ofInt x * Int32.ofInt y := by rw [of_wr, Int32.ofInt_mul]
        have K : W p l e R s₀ m args below meth c Hh locs kc ks Q (F0 m (pc + 1) ls (.int (Int32.ofInt (wr (x * y))) :: r.map (cv G))) := H Hh locs ls hP hW (okc_push (okc_tail (okc_tail hO)) (wr_rng _)) hS hl hk
        rw [e1] at K
        exact lv_imul hx hb hd K
      · exact H.elim
    case idiv =>
      obtain rfl : nx = pc + 1 := of_decide_eq_true hok
      rw [Nat.add_sub_cancel_left] at hd
      simp only at H
      split at H
      · rename_i y x r
        obtain ⟨hy, H⟩ := H
        have e1 : Int32.ofInt (w_div x y) = Int32.ofInt x / Int32.ofInt y := of_to _
        have K : W p l e R s₀ m args below meth c Hh locs kc ks Q (F0 m (pc + 1) ls (.int (Int32.ofInt (w_div x y)) :: r.map (cv G))) := H Hh locs ls hP hW (okc_push (okc_tail (okc_tail hO)) (rng_32 _)) hS hl hk
        rw [e1] at K
        exact lv_idiv hx hb hd (fun q => hy ((of_eq (okc_head hO) rng0).mp q)) K
      · exact H.elim
    case irem =>
      obtain rfl : nx = pc + 1 := of_decide_eq_true hok
      rw [Nat.add_sub_cancel_left] at hd
      simp only at H
      split at H
      · rename_i y x r
        obtain ⟨hy, H⟩ := H
        have e1 : Int32.ofInt (w_rem x y) = Int32.ofInt x - Int32.ofInt x / Int32.ofInt y * Int32.ofInt y := of_to _
        have K : W p l e R s₀ m args below meth c Hh locs kc ks Q (F0 m (pc + 1) ls (.int (Int32.ofInt (w_rem x y)) :: r.map (cv G))) := H Hh locs ls hP hW (okc_push (okc_tail (okc_tail hO)) (rng_32 _)) hS hl hk
        rw [e1] at K
        exact lv_irem hx hb hd (fun q => hy ((of_eq (okc_head hO) rng0).mp q)) K
      · exact H.elim
    case iand =>
      obtain rfl : nx = pc + 1 := of_decide_eq_true hok
      rw [Nat.add_sub_cancel_left] at hd
      simp only at H
      split at H
      · rename_i y x r
        have e1 : Int32.ofInt (w_and x y) = Int32.ofInt x &&& Int32.ofInt y := of_to _
        have K : W p l e R s₀ m args below meth c Hh locs kc ks Q (F0 m (pc + 1) ls (.int (Int32.ofInt (w_and x y)) :: r.map (cv G))) := H Hh locs ls hP hW (okc_push (okc_tail (okc_tail hO)) (rng_32 _)) hS hl hk
        rw [e1] at K
        exact lv_iand hx hb hd K
      · exact H.elim
    case ior =>
      obtain rfl : nx = pc + 1 := of_decide_eq_true hok
      rw [Nat.add_sub_cancel_left] at hd
      simp only at H
      split at H
      · rename_i y x r
        have e1 : Int32.ofInt (w_or x y) = Int32.ofInt x ||| Int32.ofInt y := of_to _
        have K : W p l e R s₀ m args below meth c Hh locs kc ks Q (F0 m (pc + 1) ls (.int (Int32.ofInt (w_or x y)) :: r.map (cv G))) := H Hh locs ls hP hW (okc_push (okc_tail (okc_tail hO)) (rng_32 _)) hS hl hk
        rw [e1] at K
        exact lv_ior hx hb hd K
      · exact H.elim
    case i2b =>
      obtain rfl : nx = pc + 1 := of_decide_eq_true hok
      rw [Nat.add_sub_cancel_left] at hd
      simp only at H
      split at H
      · rename_i x r
        exact lv_i2b (v := Int32.ofInt (b8 x)) hx hb hd (of_to _).symm (H Hh locs ls hP hW (okc_push (okc_tail hO) (rng_32 _)) hS hl hk)
      · exact H.elim
    case dup =>
      obtain rfl : nx = pc + 1 := of_decide_eq_true hok
      rw [Nat.add_sub_cancel_left] at hd
      simp only at H
      split at H
      · rename_i v r
        exact lv_dup hx hb hd (cv_cat G v) (H Hh locs ls hP hW (okc_push hO (okc_head hO)) hS hl hk)
      · exact H.elim
    case goto off =>
      simp only [okE, Bool.and_eq_true, decide_eq_true_eq] at hok
      obtain ⟨rfl, ht⟩ := hok
      rw [Nat.add_sub_cancel_left] at hd
      exact lv_goto (tgt := tg) hx hb hd ht (H Hh locs ls hP hW hO hS hl hk)
    case ifCond cd off =>
      simp only [okE, Bool.and_eq_true, decide_eq_true_eq] at hok
      obtain ⟨rfl, ht⟩ := hok
      rw [Nat.add_sub_cancel_left] at hd
      simp only at H
      split at H
      · rename_i x r
        have hr : rng x := okc_head hO
        have k1 := fun h => H.1 h Hh locs ls hP hW (okc_tail hO) hS hl hk
        have k2 := fun h => H.2 h Hh locs ls hP hW (okc_tail hO) hS hl hk
        cases cd
        · exact lv_if_eq (tgt := tg) hx hb hd ht (fun h => k1 ((of_eq hr rng0).mp h)) (fun h => k2 (fun q => h ((of_eq hr rng0).mpr q)))
        · exact lv_if_ne (tgt := tg) hx hb hd ht (fun h => k1 (fun q => h ((of_eq hr rng0).mpr q))) (fun h => k2 (fun q => q ((of_eq hr rng0).mp h)))
        · exact lv_if_lt (tgt := tg) hx hb hd ht (fun h => k1 ((of_lt hr rng0).mp h)) (fun h => k2 (fun q => h ((of_lt hr rng0).mpr q)))
        · exact lv_if_ge (tgt := tg) hx hb hd ht (fun h => k1 ((of_le rng0 hr).mp h)) (fun h => k2 (fun q => h ((of_le rng0 hr).mpr q)))
        · exact lv_if_gt (tgt := tg) hx hb hd ht (fun h => k1 ((of_lt rng0 hr).mp h)) (fun h => k2 (fun q => h ((of_lt rng0 hr).mpr q)))
        · exact lv_if_le (tgt := tg) hx hb hd ht (fun h => k1 ((of_le hr rng0).mp h)) (fun h => k2 (fun q => h ((of_le hr rng0).mpr q)))
      · exact H.elim
    case if_icmp cd off =>
      simp only [okE, Bool.and_eq_true, decide_eq_true_eq] at hok
      obtain ⟨rfl, ht⟩ := hok
      rw [Nat.add_sub_cancel_left] at hd
      simp only at H
      split at H
      · rename_i y x r
        have hy : rng y := okc_head hO
        have hr : rng x := okc_head (okc_tail hO)
        have k1 := fun h => H.1 h Hh locs ls hP hW (okc_tail (okc_tail hO)) hS hl hk
        have k2 := fun h => H.2 h Hh locs ls hP hW (okc_tail (okc_tail hO)) hS hl hk
        cases cd
        · exact lv_icmp_eq (tgt := tg) hx hb hd ht (fun h => k1 ((of_eq hr hy).mp h)) (fun h => k2 (fun q => h ((of_eq hr hy).mpr q)))
        · exact lv_icmp_ne (tgt := tg) hx hb hd ht (fun h => k1 (fun q => h ((of_eq hr hy).mpr q))) (fun h => k2 (fun q => q ((of_eq hr hy).mp h)))
        · exact lv_icmp_lt (tgt := tg) hx hb hd ht (fun h => k1 ((of_lt hr hy).mp h)) (fun h => k2 (fun q => h ((of_lt hr hy).mpr q)))
        · exact lv_icmp_ge (tgt := tg) hx hb hd ht (fun h => k1 ((of_le hy hr).mp h)) (fun h => k2 (fun q => h ((of_le hy hr).mpr q)))
        · exact lv_icmp_gt (tgt := tg) hx hb hd ht (fun h => k1 ((of_lt hy hr).mp h)) (fun h => k2 (fun q => h ((of_lt hy hr).mpr q)))
        · exact lv_icmp_le (tgt := tg) hx hb hd ht (fun h => k1 ((of_le hr hy).mp h)) (fun h => k2 (fun q => h ((of_le hr hy).mpr q)))
      · exact H.elim
    case ifnonnull off =>
      simp only [okE, Bool.and_eq_true, decide_eq_true_eq] at hok
      obtain ⟨rfl, ht⟩ := hok
      rw [Nat.add_sub_cancel_left] at hd
      simp only at H
      split at H
      · rename_i x r
        rcases x with _ | x
        · exact lv_ifnonnullN hx hb hd (H.2 rfl Hh locs ls hP hW (okc_tail hO) hS hl hk)
        · exact lv_ifnonnull (tgt := tg) hx hb hd ht (H.1 (fun q => by cases q) Hh locs ls hP hW (okc_tail hO) hS hl hk)
      · exact H.elim
    case if_acmp cd off =>
      simp only [okE, Bool.and_eq_true, decide_eq_true_eq] at hok
      obtain ⟨rfl, ht⟩ := hok
      rw [Nat.add_sub_cancel_left] at hd
      cases cd
      · exact H.elim
      · simp only at H
        split at H
        · rename_i a1 b1 a b r
          have ha := (cond_of H).1; replace H := (cond_of H).2
          simp only [Bool.and_eq_true] at ha
          have ha1 := Nat.eq_of_beq_eq_true ha.1
          have ha2 := Nat.eq_of_beq_eq_true ha.2
          subst ha1
          subst ha2
          have o1 : b1 < 24 := by
            rcases okc_head hO with ⟨h, -⟩ | ⟨-, h⟩ | ⟨h, -⟩ | ⟨h, -⟩
            · simp [idq] at h
            · exact h
            · simp at h
            · simp at h
          have o2 : b < 24 := by
            rcases okc_head (okc_tail hO) with ⟨h, -⟩ | ⟨-, h⟩ | ⟨h, -⟩ | ⟨h, -⟩
            · simp [idq] at h
            · exact h
            · simp at h
            · simp at h
          have e1 : ∀ b, adr G (45, b) = G.2.1 45 b := fun b => by simp [adr]
          have inj : ∀ i j, i < 24 → j < 24 → G.2.1 45 i = G.2.1 45 j → i = j := hC.1.2
          refine lv_acmp_ne (rx := (some (45, b)).map (adr G)) (ry := (some (45, b1)).map (adr G)) (tgt := tg) hx hb hd ht (fun h => H.1 (fun q => h (by rw [q])) Hh locs ls hP hW (okc_tail (okc_tail hO)) hS hl hk) (fun h => H.2 ?_ Hh locs ls hP hW (okc_tail (okc_tail hO)) hS hl hk)
          simp only [Option.map_some, e1, Option.some.injEq] at h
          exact inj _ _ o2 o1 h
        · exact H.elim
    case tableswitch d lo hi offs =>
      simp only [okE, Bool.and_eq_true, decide_eq_true_eq] at hok
      obtain ⟨⟨⟨ht, hhi⟩, hcas⟩, hpos⟩ := hok
      simp only at H
      split at H
      · rename_i x r
        have hr : rng x := okc_head hO
        rcases swt_or _ H with ⟨q, hq, hxq, H⟩ | ⟨hno, H⟩
        · rw [hcas] at hq
          obtain ⟨j, hj, rfl⟩ := List.mem_map.mp hq
          have hj' := List.mem_range.mp hj
          have hp0 := List.all_eq_true.mp hpos j hj
          simp only [decide_eq_true_eq] at hp0
          simp only at hxq H
          refine lv_tableIn (off := offs.getD j 0) hx hb hd (by rw [to_of hr]; omega) (by rw [to_of hr]; omega) ?_ ?_ (H Hh locs ls hP hW (okc_tail hO) hS hl hk)
          · rw [to_of hr, show (x - lo).toNat = j by omega, Array.getD_eq_getD_getElem?, Array.getElem?_eq_getElem hj']
            rfl
          · omega
        · refine lv_tableOut (tgt := tg) hx hb hd ?_ ht (H Hh locs ls hP hW (okc_tail hO) hS hl hk)
          rw [to_of hr]
          by_cases h1 : x < lo
          · exact Or.inl h1
          · by_cases h2 : hi < x
            · exact Or.inr h2
            · exfalso
              refine hno (lo + ((x - lo).toNat : Int), ((pc : Int) + offs.getD (x - lo).toNat 0).toNat) ?_ ?_
              · rw [hcas]
                exact List.mem_map.mpr ⟨(x - lo).toNat, List.mem_range.mpr (by omega), rfl⟩
              · simp only
                omega
      · exact H.elim
    case lookupswitch d ps =>
      simp only [okE, Bool.and_eq_true, decide_eq_true_eq] at hok
      obtain ⟨⟨⟨ht, hsrt⟩, hcas⟩, hpos⟩ := hok
      simp only at H
      split at H
      · rename_i x r
        have hr : rng x := okc_head hO
        rw [hcas] at H
        obtain ⟨t, H, ht2⟩ := swt_look ht ps.toList (fun q hq => by have := List.all_eq_true.mp hpos q hq; simpa using this) H
        exact lv_lookup (tgt := t) hx hb hd hsrt rfl (by rw [to_of hr]; exact ht2) (H Hh locs ls hP hW (okc_tail hO) hS hl hk)
      · exact H.elim
    case getfield k =>
      obtain rfl : nx = pc + 3 := of_decide_eq_true hok
      rw [Nat.add_sub_cancel_left] at hd
      simp only at H
      split at H
      · rename_i a b r
        have hv := okc_head hO
        split at H
        · rename_i ci j hflk
          split at H
          · rename_i cj hshp
            have hbq := (cond_of H).1; replace H := (cond_of H).2
            have hcj := Nat.eq_of_beq_eq_true hbq
            subst hcj
            cases hb8 : Nat.beq ci 8
            · simp only [hb8, cond_false] at H
              have hne : ¬ ci = 8 := fun q => by rw [q] at hb8; cases hb8
              have hj := (hfl k ci j hflk).1
              have hc8 : ci < 8 := by
                rcases Nat.lt_or_ge ci 9 with h | h
                · omega
                · exfalso
                  rw [nth_get, List.getElem?_eq_none (by show 9 ≤ ci; exact h)] at hj
                  simp at hj
              have ha : a < 45 := by
                rcases shp_obj hshp (by omega) with h | h
                · exact h.2
                · omega
              have hq := okr_our hv ha
              have hjN : j < nF ci := by rw [← fd_len ci hc8]; exact hj
              obtain ⟨-, -, -, -, h012⟩ := cl_fd1 ci hc8 j hjN
              have hadr : cv G (.inr (some (a, b))) = .ref (G.1 + ad a b) := by simp [cv, va_rf, adr_our ha]
              rw [List.map_cons, hadr]
              refine s_get S hK hfl hflk hshp hc8 hd hP hq ?_
              split at H
              · rename_i hfk
                have K := H Hh locs ls hP hW (okc_push (okc_tail hO) (by
                  cases hr : s.2.2 a b j with
                  | none => trivial
                  | some q => exact hW.2.1 a b j q hr)) hS hl hk
                simp only [fvl, hfk, if_true]
                exact K
              · rename_i hfk
                have K := H Hh locs ls hP hW (okc_push (okc_tail hO) (hW.1 a b j)) hS hl hk
                simp only [fvl, if_neg hfk]
                exact K
            · simp only [hb8, cond_true] at H
              have h8 := Nat.eq_of_beq_eq_true hb8
              subst h8
              have ha : a = 45 := by
                rcases shp_obj hshp (by omega) with h | h
                · omega
                · exact h.2
              subst ha
              have hb24 : b < 24 := by
                rcases hv with ⟨h, -⟩ | ⟨-, h⟩ | ⟨h, -⟩ | ⟨h, -⟩
                · simp [idq] at h
                · exact h
                · simp at h
                · simp at h
              have hj : j < 4 := (hfl k 8 j hflk).1
              have hkf := ((kTab_ok j hj).2.2.2.2 b hb24).2
              have K := H Hh locs ls hP hW (okc_push (okc_tail hO) (show rng _ from ⟨by omega, by omega⟩)) hS hl hk
              exact s_getC S hK hC hS hfl hflk hb24 hd K
          · exact H.elim
        · exact H.elim
      · exact H.elim
    case putfield k =>
      obtain rfl : nx = pc + 3 := of_decide_eq_true hok
      rw [Nat.add_sub_cancel_left] at hd
      simp only at H
      split at H
      · rename_i x a b r
        have hv := okc_head (okc_tail hO)
        have hr : rng x := okc_head hO
        split at H
        · rename_i ci j hflk
          split at H
          · rename_i cj hshp
            have hbq := (cond_of H).1; replace H := (cond_of H).2
            have hcj := Nat.eq_of_beq_eq_true hbq
            subst hcj
            have hj := (hfl k ci j hflk).1
            have hc9 : ci < 9 := by
              rcases Nat.lt_or_ge ci 9 with h | h
              · exact h
              · exfalso
                rw [nth_get, List.getElem?_eq_none (by show 9 ≤ ci; exact h)] at hj
                simp at hj
            have hc8 : ci < 8 := by
              rcases Nat.lt_or_ge ci 8 with h | h
              · exact h
              · exfalso
                have h8 : ci = 8 := by omega
                subst h8
                have h9 : fk 8 j = 9 := by simp [fk, nth, frL]
                rw [h9] at H
                exact H.elim
            have ha : a < 45 := by
              rcases shp_obj hshp (by omega) with h | h
              · exact h.2
              · omega
            have hq := okr_our hv ha
            have hjN : j < nF ci := by rw [← fd_len ci hc8]; exact hj
            obtain ⟨f0, f2, -, -⟩ := cl_fd2 ci hc8 j hjN
            have hadr : cv G (.inr (some (a, b))) = .ref (G.1 + ad a b) := by simp [cv, va_rf, adr_our ha]
            have hwf : Wf (s.1, upS s.2.1 a b j x, s.2.2) := hW.up hr (fun n hn => by rw [hshp] at hn; cases hn)
            rw [List.map_cons, List.map_cons, hadr]
            split at H
            · rename_i hfk
              refine s_put (v := .int (Int32.ofInt x)) S hK hfl hflk hshp hc8 hd hP hS hq (by omega) (f0 hfk) rfl rfl (fun H1 locs1 g1 g2 g3 => ?_)
              have hset := fvl_up (G := G) (n := s.1) (s := s) (a := a) (b := b) (v := x) (ci := ci) (j := j) (by omega)
              refine H H1 locs1 ls (hp_set (locs1 := []) (s := s) (s' := (s.1, upS s.2.1 a b j x, s.2.2)) rfl hq (fun q hq => ent_upS hq) ?_ g1 g2) hwf (okc_tail (okc_tail hO)) g3 hl hk
              rw [ent_obj hshp, fs_set hset.1 hset.2]
            · rename_i hfk
              obtain ⟨hx01, H⟩ := H
              refine s_put (v := .int (Int32.ofInt x)) S hK hfl hflk hshp hc8 hd hP hS hq (by omega) (f2 hfk) (by rcases hx01 with rfl | rfl <;> decide) (by rcases hx01 with rfl | rfl <;> decide) (fun H1 locs1 g1 g2 g3 => ?_)
              have hset := fvl_up (G := G) (n := s.1) (s := s) (a := a) (b := b) (v := x) (ci := ci) (j := j) (by omega)
              refine H H1 locs1 ls (hp_set (locs1 := []) (s := s) (s' := (s.1, upS s.2.1 a b j x, s.2.2)) rfl hq (fun q hq => ent_upS hq) ?_ g1 g2) hwf (okc_tail (okc_tail hO)) g3 hl hk
              rw [ent_obj hshp, fs_set hset.1 hset.2]
            · exact H.elim
          · exact H.elim
        · exact H.elim
      · rename_i x a b r
        have hv := okc_head (okc_tail hO)
        split at H
        · rename_i ci j hflk
          split at H
          · rename_i cj hshp
            have hbq := (cond_of H).1; replace H := (cond_of H).2
            simp only [Bool.and_eq_true] at hbq
            have hcj := Nat.eq_of_beq_eq_true hbq.1
            subst hcj
            have hin := Nat.eq_of_beq_eq_true hbq.2
            subst hin
            have hj := (hfl k ini j hflk).1
            have hc9 : ini < 9 := by
              rcases Nat.lt_or_ge ini 9 with h | h
              · exact h
              · exfalso
                rw [nth_get, List.getElem?_eq_none (by show 9 ≤ ini; exact h)] at hj
                simp at hj
            have hc8 : ini < 8 := by
              rcases Nat.lt_or_ge ini 8 with h | h
              · exact h
              · exfalso
                have h8 : ini = 8 := by omega
                subst h8
                have h9 : fk 8 j = 9 := by simp [fk, nth, frL]
                rw [h9] at H
                exact H.elim
            have ha : a < 45 := by
              rcases shp_obj hshp (by omega) with h | h
              · exact h.2
              · omega
            have hq := okr_our hv ha
            have hjN : j < nF ini := by rw [← fd_len ini hc8]; exact hj
            obtain ⟨-, -, f1, -⟩ := cl_fd2 ini hc8 j hjN
            have hadr : cv G (.inr (some (a, b))) = .ref (G.1 + ad a b) := by simp [cv, va_rf, adr_our ha]
            rw [List.map_cons, List.map_cons, hadr]
            split at H
            · rename_i hfk
              have hrf := f1 hfk
              obtain ⟨hi1, hi2⟩ := hini hc8
              refine s_putF (v := cv G (.inr x)) S hK hfl hflk hshp hc8 hd hP hS hq hfk hi1 hi2 (by cases hty : cty ini j <;> rw [hty] at hrf <;> first | (cases hrf; done) | rfl) (by cases hty : cty ini j <;> rw [hty] at hrf <;> first | (cases hrf; done) | (rcases x with _ | x <;> rfl)) (fun H1 locs1 g1 g2 g3 => ?_)
              have hset := fvl_upR (G := G) (n := s.1) (s := s) (a := a) (b := b) (v := x) (ci := ini) (j := j) hfk
              refine H H1 locs1 ls (hp_set (locs1 := []) (s := s) (s' := (s.1, s.2.1, upR s.2.2 a b j x)) rfl hq (fun q hq => ent_upR hq) ?_ g1 g2) (hW.upR (okc_head hO)) (okc_tail (okc_tail hO)) g3 hl hk
              rw [ent_obj hshp, ← fs_set hset.1 hset.2]
              rfl
            · exact H.elim
          · exact H.elim
        · exact H.elim
      · exact H.elim
    case getstatic k =>
      obtain rfl : nx = pc + 3 := of_decide_eq_true hok
      rw [Nat.add_sub_cancel_left] at hd
      simp only at H
      split at H
      · rename_i q hslk
        obtain ⟨hq, hw⟩ := hsl k q hslk
        rcases hq with rfl | rfl
        · have K := H Hh locs ls hP hW (okc_push hO (Or.inr (Or.inr (Or.inl ⟨rfl, rfl⟩)))) hS hl hk
          exact va_gets hx hb hC.2.1 hS S.2.2.2.1 (S.2.2.2.2 _ hw) (fun _ h => h) hd K
        · have K := H Hh locs ls hP hW (okc_push hO (Or.inr (Or.inl ⟨rfl, by decide⟩))) hS hl hk
          exact va_gets hx hb (hC.1.1 19 (by decide)).1 hS S.2.2.2.1 (S.2.2.2.2 _ hw) (fun _ h => h) hd K
      · exact H.elim
    case iaload =>
      obtain rfl : nx = pc + 1 := of_decide_eq_true hok
      rw [Nat.add_sub_cancel_left] at hd
      simp only at H
      split at H
      · rename_i x a b r
        have hr : rng x := okc_head hO
        have hv := okc_head (okc_tail hO)
        cases hb47 : Nat.beq a 47
        · simp only [hb47, cond_false] at H
          split at H
          · rename_i n hshp
            have ha := (shp_arr hshp).1
            have hadr : cv G (.inr (some (a, b))) = .ref (G.1 + ad a b) := by simp [cv, va_rf, adr_our ha]
            rw [List.map_cons, List.map_cons, hadr]
            exact s_iald S hK hshp hd hP (okr_our hv ha) hr H.1 (H.2 Hh locs ls hP hW (okc_push (okc_tail (okc_tail hO)) (hW.1 _ _ _)) hS hl hk)
          · exact H.elim
        · simp only [hb47, cond_true] at H
          have h47 := Nat.eq_of_beq_eq_true hb47
          subst h47
          have hb0 : b = 0 := by
            rcases hv with ⟨h, -⟩ | ⟨h, -⟩ | ⟨h, -⟩ | ⟨-, h⟩
            · simp [idq] at h
            · simp at h
            · simp at h
            · exact h
          subst hb0
          have K := H.2 Hh locs ls hP hW (okc_push (okc_tail (okc_tail hO)) (hC.2.2.2.2.2 _)) hS hl hk
          refine va_sld hx hb hC.2.2.2.1 (by have := hC.2.2.2.2.1; omega) (by have := hC.2.2.2.2.1; omega) hS (of_in hr H.1) hd ?_
          rw [of_clamp hr]
          exact K
      · exact H.elim
    case baload =>
      obtain rfl : nx = pc + 1 := of_decide_eq_true hok
      rw [Nat.add_sub_cancel_left] at hd
      simp only at H
      split at H
      · rename_i x a b r
        have hr : rng x := okc_head hO
        have hv := okc_head (okc_tail hO)
        split at H
        · rename_i n hshp
          have ha := (shp_arr hshp).1
          have hadr : cv G (.inr (some (a, b))) = .ref (G.1 + ad a b) := by simp [cv, va_rf, adr_our ha]
          rw [List.map_cons, List.map_cons, hadr]
          exact s_bald S hK hshp hd hP (okr_our hv ha) hr H.1 (H.2 Hh locs ls hP hW (okc_push (okc_tail (okc_tail hO)) (hW.1 _ _ _)) hS hl hk)
        · rename_i n hshp
          have ha := (shp_arr hshp).1
          have hadr : cv G (.inr (some (a, b))) = .ref (G.1 + ad a b) := by simp [cv, va_rf, adr_our ha]
          rw [List.map_cons, List.map_cons, hadr]
          exact s_zald S hK hshp hd hP (okr_our hv ha) hr H.1 (H.2 Hh locs ls hP hW (okc_push (okc_tail (okc_tail hO)) (hW.1 _ _ _)) hS hl hk)
        · exact H.elim
      · exact H.elim
    case aaload =>
      obtain rfl : nx = pc + 1 := of_decide_eq_true hok
      rw [Nat.add_sub_cancel_left] at hd
      simp only at H
      split at H
      · rename_i x a b r
        have hr : rng x := okc_head hO
        have hv := okc_head (okc_tail hO)
        cases hb46 : Nat.beq a 46
        · simp only [hb46, cond_false] at H
          have okq : ∀ j, okv s (.inr (s.2.2 a b j)) := fun j => by
            cases hr : s.2.2 a b j with
            | none => trivial
            | some q => exact hW.2.1 a b j q hr
          split at H
          · rename_i n hshp
            have ha := (shp_arr hshp).1
            have hadr : cv G (.inr (some (a, b))) = .ref (G.1 + ad a b) := by simp [cv, va_rf, adr_our ha]
            rw [List.map_cons, List.map_cons, hadr]
            exact s_aald S hK hshp (Or.inl rfl) hd hP (okr_our hv ha) hr H.1 (H.2 Hh locs ls hP hW (okc_push (okc_tail (okc_tail hO)) (okq _)) hS hl hk)
          · rename_i n hshp
            have ha := (shp_arr hshp).1
            have hadr : cv G (.inr (some (a, b))) = .ref (G.1 + ad a b) := by simp [cv, va_rf, adr_our ha]
            rw [List.map_cons, List.map_cons, hadr]
            exact s_aald S hK hshp (Or.inr rfl) hd hP (okr_our hv ha) hr H.1 (H.2 Hh locs ls hP hW (okc_push (okc_tail (okc_tail hO)) (okq _)) hS hl hk)
          · exact H.elim
        · simp only [hb46, cond_true] at H
          have h46 := Nat.eq_of_beq_eq_true hb46
          subst h46
          have hb0 : b = 0 := by
            rcases hv with ⟨h, -⟩ | ⟨h, -⟩ | ⟨-, h⟩ | ⟨h, -⟩
            · simp [idq] at h
            · simp at h
            · exact h
            · simp at h
          subst hb0
          have hlt : x.toNat < 24 := by omega
          have K := H.2 Hh locs ls hP hW (okc_push (okc_tail (okc_tail hO)) (Or.inr (Or.inl ⟨rfl, hlt⟩))) hS hl hk
          obtain ⟨cell, h1, h2, h3, h4, h5, h6, h7⟩ := hC.2.2.1.kept hS.2.1
          refine W.aald (v := .ref (G.2.1 45 x.toNat)) (ty := .object "PatternMill$Kind") hx hb h1 h2 rfl h3 ?_ ?_ rfl rfl hd K
          · intro q
            rcases q with q | q
            · exact of_in hr H.1 (Or.inl q)
            · rw [of_clamp hr] at q
              omega
          · rw [of_clamp hr]
            exact h6 _ hlt
      · exact H.elim
    case iastore =>
      obtain rfl : nx = pc + 1 := of_decide_eq_true hok
      rw [Nat.add_sub_cancel_left] at hd
      simp only at H
      split at H
      · rename_i v x a b r
        have hrv : rng v := okc_head hO
        have hr : rng x := okc_head (okc_tail hO)
        have hv := okc_head (okc_tail (okc_tail hO))
        split at H
        · rename_i n hshp
          have ha := (shp_arr hshp).1
          have hadr : cv G (.inr (some (a, b))) = .ref (G.1 + ad a b) := by simp [cv, va_rf, adr_our ha]
          rw [List.map_cons, List.map_cons, List.map_cons, hadr]
          exact s_iast S hK hshp hd hP hS (okr_our hv ha) hr H.1 (fun H1 locs1 g1 g2 => H.2 H1 locs1 ls g1 (hW.up hrv (fun n hn => by rw [hshp] at hn; cases hn)) (okc_tail (okc_tail (okc_tail hO))) g2 hl hk)
        · exact H.elim
      · exact H.elim
    case bastore =>
      obtain rfl : nx = pc + 1 := of_decide_eq_true hok
      rw [Nat.add_sub_cancel_left] at hd
      simp only at H
      split at H
      · rename_i v x a b r
        have hrv : rng v := okc_head hO
        have hr : rng x := okc_head (okc_tail hO)
        have hv := okc_head (okc_tail (okc_tail hO))
        split at H
        · rename_i n hshp
          have ha := (shp_arr hshp).1
          have hadr : cv G (.inr (some (a, b))) = .ref (G.1 + ad a b) := by simp [cv, va_rf, adr_our ha]
          rw [List.map_cons, List.map_cons, List.map_cons, hadr]
          exact s_bast S hK hshp hd hP hS (okr_our hv ha) hr H.1 (fun H1 locs1 g1 g2 => H.2 H1 locs1 ls g1 (hW.up (b8_rng _) (fun n _ => b8_b8 v)) (okc_tail (okc_tail (okc_tail hO))) g2 hl hk)
        · rename_i n hshp
          have ha := (shp_arr hshp).1
          have hadr : cv G (.inr (some (a, b))) = .ref (G.1 + ad a b) := by simp [cv, va_rf, adr_our ha]
          rw [List.map_cons, List.map_cons, List.map_cons, hadr]
          exact s_zast S hK hshp hd hP hS (okr_our hv ha) hr H.1 H.2.1 (fun H1 locs1 g1 g2 => H.2.2 H1 locs1 ls g1 (hW.up hrv (fun n hn => by rw [hshp] at hn; cases hn)) (okc_tail (okc_tail (okc_tail hO))) g2 hl hk)
        · exact H.elim
      · exact H.elim
    case aastore =>
      obtain rfl : nx = pc + 1 := of_decide_eq_true hok
      rw [Nat.add_sub_cancel_left] at hd
      simp only at H
      split at H
      · rename_i a1 b1 x a b r
        have hv1 := okc_head hO
        have hr : rng x := okc_head (okc_tail hO)
        have hv := okc_head (okc_tail (okc_tail hO))
        split at H
        · rename_i n hshp
          have hbq := (cond_of H).1; replace H := (cond_of H).2
          have h45 := Nat.eq_of_beq_eq_true hbq
          subst h45
          have ha := (shp_arr hshp).1
          have hadr : cv G (.inr (some (a, b))) = .ref (G.1 + ad a b) := by simp [cv, va_rf, adr_our ha]
          rw [List.map_cons, List.map_cons, List.map_cons, hadr]
          have hb24 : b1 < 24 := by
            rcases hv1 with ⟨h, -⟩ | ⟨-, h⟩ | ⟨h, -⟩ | ⟨h, -⟩
            · simp [idq] at h
            · exact h
            · simp at h
            · simp at h
          have hK2 := hK
          obtain ⟨-, -, -, -, cK, kK, hfK, hkK, hasK⟩ := hK2
          obtain ⟨cell, g1, g2, g3, -⟩ := ((hC.1.1 b1 hb24).2.1).kept hS.2.1
          have ecl : cell.cls = cK := Option.some.inj (g3.symm.trans hfK)
          refine s_aast (q1 := (45, b1)) S hK hshp (by omega) rfl hd hP hS (okr_our hv ha) hr H.1 ⟨cell, by simpa [adr] using g1, g2, ⟨kK, by rw [ecl]; exact hkK⟩, fun comp hcomp => ?_⟩ (fun H1 locs1 g1 g2 => H.2 H1 locs1 ls g1 (hW.upR hv1) (okc_tail (okc_tail (okc_tail hO))) g2 hl hk)
          rw [ecl, ← Option.some.inj (hfK.symm.trans hcomp)]
          exact hasK
        · rename_i n hshp
          have hbq := (cond_of H).1; replace H := (cond_of H).2
          have h1 := Nat.eq_of_beq_eq_true hbq
          subst h1
          have ha := (shp_arr hshp).1
          have hadr : cv G (.inr (some (a, b))) = .ref (G.1 + ad a b) := by simp [cv, va_rf, adr_our ha]
          rw [List.map_cons, List.map_cons, List.map_cons, hadr]
          have hq1 := okr_our hv1 (by omega)
          have he := wl_at (G := G) hq1.1 hq1.2
          rw [ent_obj (ci := 1) rfl] at he
          refine s_aast (q1 := (1, b1)) S hK hshp (by omega) rfl hd hP hS (okr_our hv ha) hr H.1 ?_ (fun H1 locs1 g1 g2 => H.2 H1 locs1 ls g1 (hW.upR hv1) (okc_tail (okc_tail (okc_tail hO))) g2 hl hk)
          rw [adr_our (by omega)]
          refine va_rAny hK.1 hP.1 he (cl_at (by omega)) (fun comp c0 h1 h2 => ?_)
          have e1 : (clr 1).1 = "PatternMill$Text" := rfl
          rw [e1] at h2
          have e2 := Option.some.inj (h1.symm.trans h2)
          subst e2
          have hcl := (hK.1.1 1 _ (cl_at (by omega))).2
          have e3 := Option.some.inj (hcl.1.symm.trans h2)
          rw [← e3]
          exact va_assign hcl
        · exact H.elim
      · exact H.elim
    case arraylength =>
      obtain rfl : nx = pc + 1 := of_decide_eq_true hok
      rw [Nat.add_sub_cancel_left] at hd
      simp only at H
      split at H
      · rename_i a b r
        have hv := okc_head hO
        cases hb47 : Nat.beq a 47
        · simp only [hb47, cond_false] at H
          have hbq := (cond_of H).1; replace H := (cond_of H).2
          have h46 := Nat.eq_of_beq_eq_true hbq
          subst h46
          have hb0 : b = 0 := by
            rcases hv with ⟨h, -⟩ | ⟨h, -⟩ | ⟨-, h⟩ | ⟨h, -⟩
            · simp [idq] at h
            · simp at h
            · exact h
            · simp at h
          subst hb0
          have K := H Hh locs ls hP hW (okc_push (okc_tail hO) (show rng _ from ⟨by decide, by decide⟩)) hS hl hk
          obtain ⟨cell, h1, h2, h3, h4, h5, h6, h7⟩ := hC.2.2.1.kept hS.2.1
          exact W.alen (n := Int32.ofInt 24) hx hb h1 h2 h5 rfl rfl hd K
        · simp only [hb47, cond_true] at H
          have h47 := Nat.eq_of_beq_eq_true hb47
          subst h47
          have hb0 : b = 0 := by
            rcases hv with ⟨h, -⟩ | ⟨h, -⟩ | ⟨h, -⟩ | ⟨-, h⟩
            · simp [idq] at h
            · simp at h
            · simp at h
            · exact h
          subst hb0
          have K := H Hh locs ls hP hW (okc_push (okc_tail hO) hSLr) hS hl hk
          exact va_slen (b := G.2.1 47 0) hx hb hC.2.2.2.1 (by have := hC.2.2.2.2.1; omega) (by have := hC.2.2.2.2.1; omega) hS hd K
      · exact H.elim
    case new k =>
      obtain rfl : nx = pc + 3 := of_decide_eq_true hok
      rw [Nat.add_sub_cancel_left] at hd
      simp only at H
      split at H
      · rename_i ci hkk
        split at H
        · rename_i a fl0 ha hfl0
          obtain ⟨b, ⟨hq, had⟩, H⟩ := H
          have hbb := (cond_of H).1; replace H := (cond_of H).2
          simp only [Bool.and_eq_true] at hbb
          have hc8 : ci < 8 := by
            rcases Nat.lt_or_ge ci 8 with h | h
            · exact h
            · rw [nth_get, List.getElem?_eq_none (by show 8 ≤ ci; exact h)] at ha
              cases ha
          have hnF : nF ci = fl0.length := by simp [nF, hfl0]
          have hshp : shp a = .inl ci := by
            rcases c8 hc8 with rfl | rfl | rfl | rfl | rfl | rfl | rfl | rfl <;> (cases ha; rfl)
          have ha45 : a < 45 := by
            rcases c8 hc8 with rfl | rfl | rfl | rfl | rfl | rfl | rfl | rfl <;> (cases ha; decide)
          rw [← hnF] at H hbb
          have hb1 := Nat.le_trans (Nat.le_of_ble_eq_true hbb.1) hMC
          have hb2 := Nat.le_trans (Nat.le_of_ble_eq_true hbb.2) hMS
          refine s_new S hK hkl hkk hc8 hshp hd hP hS hq had hb1 hb2 (fun H1 locs1 g1 g2 => ?_)
          have K := H H1 locs1 ls g1 hW.new (okc_push (hO.mono (by simp)) (Or.inl ⟨hq, by simp only; omega⟩)) g2 hl ⟨Nat.le_succ_of_le hk.1, hb1, hb2⟩
          have hadr : cv G (.inr (some (a, b))) = .ref (G.1 + ad a b) := by simp [cv, va_rf, adr_our ha45]
          rw [← hadr]
          exact K
        · exact H.elim
      · exact H.elim
    case newarray ty =>
      obtain rfl : nx = pc + 2 := of_decide_eq_true hok
      rw [Nat.add_sub_cancel_left] at hd
      simp only at H
      split at H
      · rename_i n r
        obtain ⟨a, b, ⟨hshp, h0, hq, had⟩, H⟩ := H
        have hbb := (cond_of H).1; replace H := (cond_of H).2
        simp only [Bool.and_eq_true] at hbb
        have hb1 := Nat.le_trans (Nat.le_of_ble_eq_true hbb.1) hMC
        have hb2 := Nat.le_trans (Nat.le_of_ble_eq_true hbb.2) hMS
        have ha := (shp_arr hshp).1
        refine s_newa S hK hshp hd hP hS hq had (okc_head hO) h0 rfl (shp_len hshp) hb1 hb2 (fun H1 locs1 g1 g2 => ?_)
        have K := H H1 locs1 ls g1 hW.new (okc_push ((okc_tail hO).mono (by simp)) (Or.inl ⟨hq, by simp only; omega⟩)) g2 hl ⟨Nat.le_succ_of_le hk.1, hb1, hb2⟩
        have hadr : cv G (.inr (some (a, b))) = .ref (G.1 + ad a b) := by simp [cv, va_rf, adr_our ha]
        rw [← hadr]
        exact K
      · exact H.elim
    case anewarray k =>
      obtain rfl : nx = pc + 3 := of_decide_eq_true hok
      rw [Nat.add_sub_cancel_left] at hd
      simp only at H
      split at H
      · rename_i n r
        split at H
        · rename_i ci hkk
          obtain ⟨a, b, t, ⟨hshp, hct, h0, hq, had⟩, H⟩ := H
          have hbb := (cond_of H).1; replace H := (cond_of H).2
          simp only [Bool.and_eq_true] at hbb
          have hb1 := Nat.le_trans (Nat.le_of_ble_eq_true hbb.1) hMC
          have hb2 := Nat.le_trans (Nat.le_of_ble_eq_true hbb.2) hMS
          have ha := (shp_arr hshp).1
          refine s_anew S hK hkl hkk hct hshp hd hP hS hq had (okc_head hO) h0 rfl (shp_len hshp) hb1 hb2 (fun H1 locs1 g1 g2 => ?_)
          have K := H H1 locs1 ls g1 hW.new (okc_push ((okc_tail hO).mono (by simp)) (Or.inl ⟨hq, by simp only; omega⟩)) g2 hl ⟨Nat.le_succ_of_le hk.1, hb1, hb2⟩
          have hadr : cv G (.inr (some (a, b))) = .ref (G.1 + ad a b) := by simp [cv, va_rf, adr_our ha]
          rw [← hadr]
          exact K
        · exact H.elim
      · exact H.elim
    case invokevirtual k =>
      obtain rfl : nx = pc + 3 := of_decide_eq_true hok
      rw [Nat.add_sub_cancel_left] at hd
      simp only at H
      split at H
      · rename_i n mc ms T hcsk
        split at H
        · rename_i av r hpop
          have hbb := (cond_of H).1; replace H := (cond_of H).2
          simp only [Bool.and_eq_true] at hbb
          obtain ⟨⟨hb1, hb2⟩, hb3⟩ := hbb
          obtain ⟨Y, hT, H⟩ := H
          obtain ⟨q1, q2⟩ := popn_eq _ _ _ _ _ hpop
          simp only [List.reverse_nil, List.nil_append] at q2
          have hav : ∀ v ∈ av, okv s v := fun v hv => hO.1 v (by rw [← q2]; exact List.mem_append_left _ (List.mem_reverse.mpr hv))
          have hrr : ∀ v ∈ r, okv s v := fun v hv => hO.1 v (by rw [← q2]; exact List.mem_append_right _ hv)
          rw [← q2]
          refine hcs pc _ _ _ _ k n mc ms T hc (Or.inl rfl) hcsk p e s₀ m args below meth c Q G cc nL S hK hC hz pc ls av r s Hh locs kc ks hd hl.1 (by simpa using q1) (Nat.le_of_ble_eq_true hb1) hP hW hav hS (Nat.le_trans (Nat.le_of_ble_eq_true hb2) hMC) (Nat.le_trans (Nat.le_of_ble_eq_true hb3) hMS) Y hT (fun v s' H1 locs1 hY g1 g2 g3 g4 g5 => ?_)
          refine H v s' hY H1 locs1 ls g1 g2 ⟨fun w hw => ?_, fun i w hw => (hO.2 i w hw).mono g4⟩ g5 hl ⟨Nat.le_trans hk.1 g4, Nat.le_trans (Nat.le_of_ble_eq_true hb2) hMC, Nat.le_trans (Nat.le_of_ble_eq_true hb3) hMS⟩
          rcases List.mem_append.mp hw with hw | hw
          · rcases v with _ | v
            · cases hw
            · rw [Option.toList_some, List.mem_singleton] at hw
              exact g3 w (by rw [hw])
          · exact (hrr w hw).mono g4
        · exact H.elim
      · exact H.elim
    case invokespecial k =>
      obtain rfl : nx = pc + 3 := of_decide_eq_true hok
      rw [Nat.add_sub_cancel_left] at hd
      simp only at H
      split at H
      · rename_i n mc ms T hcsk
        split at H
        · rename_i av r hpop
          have hbb := (cond_of H).1; replace H := (cond_of H).2
          simp only [Bool.and_eq_true] at hbb
          obtain ⟨⟨hb1, hb2⟩, hb3⟩ := hbb
          obtain ⟨Y, hT, H⟩ := H
          obtain ⟨q1, q2⟩ := popn_eq _ _ _ _ _ hpop
          simp only [List.reverse_nil, List.nil_append] at q2
          have hav : ∀ v ∈ av, okv s v := fun v hv => hO.1 v (by rw [← q2]; exact List.mem_append_left _ (List.mem_reverse.mpr hv))
          have hrr : ∀ v ∈ r, okv s v := fun v hv => hO.1 v (by rw [← q2]; exact List.mem_append_right _ hv)
          rw [← q2]
          refine hcs pc _ _ _ _ k n mc ms T hc (Or.inr (Or.inl rfl)) hcsk p e s₀ m args below meth c Q G cc nL S hK hC hz pc ls av r s Hh locs kc ks hd hl.1 (by simpa using q1) (Nat.le_of_ble_eq_true hb1) hP hW hav hS (Nat.le_trans (Nat.le_of_ble_eq_true hb2) hMC) (Nat.le_trans (Nat.le_of_ble_eq_true hb3) hMS) Y hT (fun v s' H1 locs1 hY g1 g2 g3 g4 g5 => ?_)
          refine H v s' hY H1 locs1 ls g1 g2 ⟨fun w hw => ?_, fun i w hw => (hO.2 i w hw).mono g4⟩ g5 hl ⟨Nat.le_trans hk.1 g4, Nat.le_trans (Nat.le_of_ble_eq_true hb2) hMC, Nat.le_trans (Nat.le_of_ble_eq_true hb3) hMS⟩
          rcases List.mem_append.mp hw with hw | hw
          · rcases v with _ | v
            · cases hw
            · rw [Option.toList_some, List.mem_singleton] at hw
              exact g3 w (by rw [hw])
          · exact (hrr w hw).mono g4
        · exact H.elim
      · exact H.elim
    case invokestatic k =>
      obtain rfl : nx = pc + 3 := of_decide_eq_true hok
      rw [Nat.add_sub_cancel_left] at hd
      simp only at H
      split at H
      · rename_i n mc ms T hcsk
        split at H
        · rename_i av r hpop
          have hbb := (cond_of H).1; replace H := (cond_of H).2
          simp only [Bool.and_eq_true] at hbb
          obtain ⟨⟨hb1, hb2⟩, hb3⟩ := hbb
          obtain ⟨Y, hT, H⟩ := H
          obtain ⟨q1, q2⟩ := popn_eq _ _ _ _ _ hpop
          simp only [List.reverse_nil, List.nil_append] at q2
          have hav : ∀ v ∈ av, okv s v := fun v hv => hO.1 v (by rw [← q2]; exact List.mem_append_left _ (List.mem_reverse.mpr hv))
          have hrr : ∀ v ∈ r, okv s v := fun v hv => hO.1 v (by rw [← q2]; exact List.mem_append_right _ hv)
          rw [← q2]
          refine hcs pc _ _ _ _ k n mc ms T hc (Or.inr (Or.inr rfl)) hcsk p e s₀ m args below meth c Q G cc nL S hK hC hz pc ls av r s Hh locs kc ks hd hl.1 (by simpa using q1) (Nat.le_of_ble_eq_true hb1) hP hW hav hS (Nat.le_trans (Nat.le_of_ble_eq_true hb2) hMC) (Nat.le_trans (Nat.le_of_ble_eq_true hb3) hMS) Y hT (fun v s' H1 locs1 hY g1 g2 g3 g4 g5 => ?_)
          refine H v s' hY H1 locs1 ls g1 g2 ⟨fun w hw => ?_, fun i w hw => (hO.2 i w hw).mono g4⟩ g5 hl ⟨Nat.le_trans hk.1 g4, Nat.le_trans (Nat.le_of_ble_eq_true hb2) hMC, Nat.le_trans (Nat.le_of_ble_eq_true hb3) hMS⟩
          rcases List.mem_append.mp hw with hw | hw
          · rcases v with _ | v
            · cases hw
            · rw [Option.toList_some, List.mem_singleton] at hw
              exact g3 w (by rw [hw])
          · exact (hrr w hw).mono g4
        · exact H.elim
      · exact H.elim
    case ireturn =>
      obtain rfl : nx = pc + 1 := of_decide_eq_true hok
      rw [Nat.add_sub_cancel_left] at hd
      simp only at H
      split at H
      · rename_i x
        split at H
        · exact hri pc ls Hh locs kc ks x s hd H (Or.inl rfl) hP hW (okc_head hO) hS hk
        · exact hri pc ls Hh locs kc ks x s hd H.2 (Or.inr ⟨rfl, H.1⟩) hP hW (okc_head hO) hS hk
        · exact H.elim
      · exact H.elim
    case return_ =>
      obtain rfl : nx = pc + 1 := of_decide_eq_true hok
      rw [Nat.add_sub_cancel_left] at hd
      simp only at H
      split at H
      · split at H
        · exact hrv pc ls Hh locs kc ks s hd H rfl hP hW hS hk
        · exact H.elim
      · exact H.elim
    all_goals exact H.elim
end
