/-! Contracts: a method's transformer holds of the machine; calls -/
def Pr (SL : Nat) (xs : Nat → Int) (G : Gp) (s : St) (av : List Av) : Array Value → State → Prop := va_Pc (av.map (cv G)) (fun U => HP G s U.heap ∧ Wf s ∧ (∀ v ∈ av, okv s v) ∧ KK G U ∧ CN G SL xs U U.heap)
def Qr (G : Gp) (n0 : Nat) (F : Option Av → St → Prop) : Array Value → State → Outcome → State → Prop := fun _ st oc t => (∃ v s', oc = .returned (v.map (cv G)) ∧ F v s' ∧ HP G s' t.heap ∧ Wf s' ∧ (∀ x, v = some x → okv s' x) ∧ n0 ≤ s'.1) ∧ va_F (fun q => G.1 ≤ q) st t
/-- a contract -/
def Ct (SL : Nat) (xs : Nat → Int) (y : MethodName) (cc : ByteArray) (nL : Nat) (ret : Option FieldType) (rm : Room) (T : Tr) : Prop :=
  ∀ (l : Launch) (G : Gp) (av : List Av) (s : St) (F : Option Av → St → Prop), T av s F → Met l y (.code y cc nL ret :: gw) rm (Pr SL xs G s av) (Qr G s.1 F) rm.cells rm.slots (fun q => G.1 ≤ q)
def entL (av : List Av) (n : Nat) : List (Option Av) := av.map some ++ List.replicate (n - av.length) none
/-- what a method does -/
def trm (SL : Nat) (xs : Nat → Int) (M : Me) : Tr := fun av s F => bif Nat.ble av.length M.2.2.2.2.2.1 then Xz SL xs M F (0, entL av M.2.2.2.2.2.1, [], s, 0, 0) else False
def rmL (d mc ms : Nat) : Room := { frames := d, cells := mc, slots := ms, locals := 40 * d }
theorem lg_len (G : Gp) : ∀ av : List Av, (lg_sl (av.map (cv G))).length = av.length
  | [] => rfl
  | v :: r => by
    have := lg_len G r
    simp only [lg_sl] at this
    simp [lg_sl, cv_cat]
    simpa [Function.comp_def] using this
theorem lvl_ent (G : Gp) (m : Nat) : ∀ (av : List Av) (k : Nat), lvl G k (av.map some ++ List.replicate m none) = lv_args k (av.map (cv G))
  | [], k => by
    induction m generalizing k with
    | zero => rfl
    | succ m ih => exact ih (k + 1)
  | v :: r, k => by
    have := lvl_ent G m r (k + 1)
    simp only [List.map_cons, List.cons_append, lvl, lv_args, cv_cat]
    rw [this]
    rfl
theorem nth_ent {av : List Av} {n i : Nat} {v : Av} (h : nth (entL av n) i = some (some v)) : v ∈ av := by
  rw [nth_get] at h
  have := List.mem_of_getElem? h
  simp only [entL, List.mem_append, List.mem_map, List.mem_replicate] at this
  rcases this with ⟨w, h1, h2⟩ | ⟨-, h2⟩
  · cases h2
    exact h1
  · cases h2
def retOf (rt : Nat) : Option FieldType := match rt with
  | 0 => none
  | 1 => some .int
  | _ => some .boolean
/-- the calls of a code -/
def CallOK (SL : Nat) (xs : Nat → Int) (cs : Cs) (own : String) (R : Room) (i : Instr) : Prop := ∀ l k n mc ms T, isInv i k → cs k = some (n, mc, ms, T) → CallR SL xs l own R i n mc ms T
def isInvB : Instr → Bool
  | .invokevirtual _ => true
  | .invokespecial _ => true
  | .invokestatic _ => true
  | _ => false
theorem calls_of {SL : Nat} {xs : Nat → Int} {cs : Cs} {own : String} {R : Room} {L : List (Nat × En)} {I : List Instr} (h : L.all (fun e => !isInvB e.2.1 || I.any (fun i => decide (i = e.2.1))) = true) (hI : ∀ i ∈ I, CallOK SL xs cs own R i) : ∀ l pc i nx tg cas k n mc ms T, lk L pc = some (i, nx, tg, cas) → isInv i k → cs k = some (n, mc, ms, T) → CallR SL xs l own R i n mc ms T := by
  intro l pc i nx tg cas k n mc ms T hl hi hc
  have h1 := List.all_eq_true.mp h _ (lk_mem hl)
  have h2 : isInvB i = true := by rcases hi with rfl | rfl | rfl <;> rfl
  simp only [h2, Bool.not_true, Bool.false_or] at h1
  obtain ⟨j, h3, h4⟩ := List.any_eq_true.mp h1
  have h5 : j = i := of_decide_eq_true h4
  subst h5
  exact hI j h3 l k n mc ms T hi hc
theorem ok_v {SL : Nat} {xs : Nat → Int} {cs : Cs} {own : String} {R : Room} {k n mc ms : Nat} {T : Tr} (hc : cs k = some (n, mc, ms, T)) (h : ∀ l, CallR SL xs l own R (.invokevirtual k) n mc ms T) : CallOK SL xs cs own R (.invokevirtual k) := by
  intro l k' n' mc' ms' T' hi hc'
  rcases hi with e | e | e
  · cases e
    rw [hc] at hc'
    cases hc'
    exact h l
  · cases e
  · cases e
theorem ok_i {SL : Nat} {xs : Nat → Int} {cs : Cs} {own : String} {R : Room} {k n mc ms : Nat} {T : Tr} (hc : cs k = some (n, mc, ms, T)) (h : ∀ l, CallR SL xs l own R (.invokespecial k) n mc ms T) : CallOK SL xs cs own R (.invokespecial k) := by
  intro l k' n' mc' ms' T' hi hc'
  rcases hi with e | e | e
  · cases e
  · cases e
    rw [hc] at hc'
    cases hc'
    exact h l
  · cases e
theorem ok_s {SL : Nat} {xs : Nat → Int} {cs : Cs} {own : String} {R : Room} {k n mc ms : Nat} {T : Tr} (hc : cs k = some (n, mc, ms, T)) (h : ∀ l, CallR SL xs l own R (.invokestatic k) n mc ms T) : CallOK SL xs cs own R (.invokestatic k) := by
  intro l k' n' mc' ms' T' hi hc'
  rcases hi with e | e | e
  · cases e
  · cases e
  · cases e
    rw [hc] at hc'
    cases hc'
    exact h l
section
variable {SL : Nat} {xs : Nat → Int}
set_option maxHeartbeats 4000000 in
theorem ct_of {fl : Fl} {kl : Nat → Option Nat} {sl : Nat → Option (Nat × Nat)} {code : Nat → Option En} {cs : Cs} {nL MC MS ini rt d : Nat} {y : MethodName} {cc : ByteArray}
    (hy : plainName y.cls = true) (hcode : CodeOK cc code) (hfl : FlOK y.cls fl) (hkl : KlOK y.cls kl) (hsl : SlOK y.cls sl) (hSLr : rng SL) (hini : ini < 8 → y.name = "<init>" ∧ y.cls = (nth cnL ini).getD "") (hrt : rt < 3)
    (hcs : ∀ l pc i nx tg cas k n mc ms T, code pc = some (i, nx, tg, cas) → isInv i k → cs k = some (n, mc, ms, T) → CallR SL xs l y.cls (rmL d MC MS) i n mc ms T) :
    Ct SL xs y cc nL (retOf rt) (rmL d MC MS) (trm SL xs (fl, kl, sl, code, cs, nL, MC, MS, ini, rt)) := by
  intro l G av s F hT
  refine Met.ofW (cc := cc) (maxL := nL) (ret := retOf rt) hy rfl ?_
  intro p e s₀ m args below meth c s₁ B hml hv
  obtain ⟨rfl, hP, hW, hO, hK, hC⟩ := hv
  have hts := atoms_spec (ws := .code y cc nL (retOf rt) :: gw) B.pre
  have hlocks := B.notSynchronized
  have S : CallFix p m c cc nL s₀ (av.map (cv G)).toArray gw y.cls := ⟨B.exec, B.bytes, hml, findClass_of_methodNamed B.named, fun w hw => hts w (List.mem_cons_of_mem _ hw)⟩
  have hr := B.returns
  have hz : G.1 ≤ s₀.heap.size := by rw [hP.2]; omega
  have hlen : av.length ≤ nL := Nat.le_of_ble_eq_true (cond_of hT).1
  have hT := (cond_of hT).2
  rw [lg_entry_eq]
  have hl : lh G ((lg_sl (av.map (cv G)) ++ List.replicate (nL - (lg_sl (av.map (cv G))).length) Slot.unset).toArray) nL (entL av nL) := by
    have h1 := lv_entry (av.map (cv G)) (n := nL) (by rw [lg_len]; exact hlen)
    rw [← lvl_ent G (nL - av.length) av 0] at h1
    exact h1
  have K := hT (Wm s.1 G p l e (rmL d MC MS) s₀ m (av.map (cv G)).toArray below meth c nL (MQ below (Qr G s.1 F) (av.map (cv G)).toArray s₀ MC MS (fun q => G.1 ≤ q))) (fun cf hcf => ?_)
  · exact K s₀.heap [] _ hP hW ⟨fun v hv => absurd hv List.not_mem_nil, fun i v hv => hO v (nth_ent hv)⟩ va_S.rf hl ⟨Nat.le_refl _, Nat.zero_le _, Nat.zero_le _⟩
  · refine sound S hcode hfl hkl hsl hK hC hz hSLr (Nat.le_refl _) (Nat.le_refl _) (fun h => ⟨?_, (hini h).2⟩) (hcs l) ?_ ?_ cf hcf
    · rw [(name_of_methodNamed B.named B.method).1]
      exact (hini h).1
    · intro pc ls H locs kc ks x s' hd hF h12 hP' hW' hx' hS' hk
      refine W.widen (k := MC) (n := MS) hk.2.1 hk.2.2 ?_
      have hq : ∀ t : State, t.heap = H → s₀.WarmedH t.vm → Qr G s.1 F (av.map (cv G)).toArray s₀ (.returned (some (.int (Int32.ofInt x)))) t := fun t ht hw => ⟨⟨some (.inl x), s', rfl, hF, by rw [ht]; exact hP', hW', fun v hv => by cases hv; exact hx', hk.1⟩, hS'.F ht⟩
      rcases h12 with rfl | ⟨rfl, hx01⟩
      · exact W.iret B.exec B.bytes hr hq hS'.2.2 hd
      · exact W.zret B.exec B.bytes hr (by rcases hx01 with rfl | rfl <;> decide) hq hS'.2.2 hd
    · intro pc ls H locs kc ks s' hd hF h0 hP' hW' hS' hk
      subst h0
      refine W.widen (k := MC) (n := MS) hk.2.1 hk.2.2 ?_
      exact W.vret B.exec B.bytes hr (fun t ht hw => ⟨⟨none, s', rfl, hF, by rw [ht]; exact hP', hW', fun v hv => (by cases hv), hk.1⟩, hS'.F ht⟩) hS'.2.2 hd
/-! calls -/
theorem gw_good {w : Cond} (h : w ∈ gw) : (w.onTables && w.keeps) = true ∨ ∃ ty, w = .arrayClass ty := good_of_word (List.mem_filter.mp h).2
theorem good_gw {l : List Cond} (h : ∀ w ∈ l, w ∈ gw) {y : MethodName} {cc : ByteArray} {nL : Nat} {ret : Option FieldType} (hc : Cond.code y cc nL ret ∈ gw) : GoodIn gw (l ++ (.code y cc nL ret :: gw)) := by
  intro w hw
  rcases List.mem_append.mp hw with hw | hw
  · exact ⟨h w hw, gw_good (h w hw)⟩
  · rcases List.mem_cons.mp hw with rfl | hw
    · exact ⟨hc, gw_good hc⟩
    · exact ⟨hw, gw_good hw⟩
theorem Pr.blind {G : Gp} {s : St} {av : List Av} : FrameBlind (Pr SL xs G s av) := by
  intro a U g mk h
  obtain ⟨h1, h2, h3, h4, h5, h6⟩ := h
  exact ⟨h1, h2, h3, h4, h5.calling, h6.moved (u := U) (U := U.calling g mk a) (Vm.Alike.refl U.vm)⟩
theorem cat_sum (G : Gp) : ∀ rest : List Av, ((rest.map (cv G)).map fun v => v.category).sum = rest.length
  | [] => rfl
  | v :: r => by simp only [List.map_cons, List.sum_cons, cat_sum G r, cv_cat, List.length_cons]; omega
section
variable {p : Program} {l : Launch} {e : Env} {R : Room} {s₀ : State} {m : MethodId} {args : Array Value} {below : List Frame} {meth : Method} {c : Code} {Q : State → Prop} {G : Gp} {H : Heap} {locs : List Loc} {kc ks mc ms pc : Nat} {ls : Array Slot} {st0 : List Value} {rest : List Av} {s : St} {a : Array Value}
theorem call_go {Y : Option Av → St → Prop} (hr : va_Run p l e R s₀ m args below meth c H locs kc ks mc ms (F0 m pc ls st0) (rest.map (cv G)) (Qr G s.1 Y a) (fun q => G.1 ≤ q)) (hS : va_S (fun q => G.1 ≤ q) s₀.heap H locs)
    (kk : ∀ v s' H1 locs1, Y v s' → HP G s' H1 → Wf s' → (∀ x, v = some x → okv s' x) → s.1 ≤ s'.1 → va_S (fun q => G.1 ≤ q) s₀.heap H1 locs1 → W p l e R s₀ m args below meth c H1 locs1 (kc + mc) (ks + ms) Q (F0 m (pc + 3) ls ((v.toList ++ rest).map (cv G)))) : W p l e R s₀ m args below meth c H locs kc ks Q (F0 m pc ls st0) := by
  intro T hT X
  obtain ⟨v, st₀, t, T', L, h0, X', hL, e1, e2, ⟨⟨v', s', hv, hY, hP, hW, hO, hle⟩, hz, hk⟩, st⟩ := hr T hT X
  cases hv
  rw [h0] at hz hk
  rw [← e1] at hP hz hk
  obtain ⟨t2, a1, b1⟩ := kk v' s' T'.heap (locs ++ L) hY hP hW hO hle ⟨Nat.le_trans hS.1 hz, fun q h1 h2 => by rw [hk q (Nat.lt_of_lt_of_le h1 hS.1) h2]; exact hS.2.1 q h1 h2, fun q hq => by
      rcases List.mem_append.mp hq with h | h
      · exact hS.2.2 q h
      · exact hL q h⟩ T' rfl X'
  refine ⟨t2, st t2 ?_, b1⟩
  rcases v' with _ | v'
  · exact a1
  · exact a1
end
def clsB (a ci : Nat) : Bool := match shp a with
  | .inl cj => Nat.beq ci cj
  | _ => false
/-- a call at an object of a class -/
def vT (ci : Nat) (T : Tr) : Tr := fun av s F => match av with
  | .inr (some (a, _)) :: _ => bif clsB a ci then T av s F else False
  | _ => False
theorem vT_spec {ci : Nat} {T : Tr} {av : List Av} {s : St} {F : Option Av → St → Prop} (h : vT ci T av s F) : ∃ a b As, av = .inr (some (a, b)) :: As ∧ shp a = .inl ci ∧ T av s F := by
  unfold vT at h
  split at h
  · rename_i a b As
    have h1 := (cond_of h).1
    have h2 := (cond_of h).2
    refine ⟨a, b, As, rfl, ?_, h2⟩
    unfold clsB at h1
    split at h1
    · rename_i cj hs
      rw [hs, Nat.eq_of_beq_eq_true h1]
    · cases h1
  · exact h.elim
def okMeth (y : MethodName) (n : Nat) : Bool := decide (y.cls ≠ "java/lang/invoke/MethodHandle") && decide (y.cls ≠ "java/lang/invoke/VarHandle") && decide ((parseMethodDescriptor y.desc).map (fun d => d.parameters.length) = some n)
def okWords (ws : List Cond) : Bool := ws.all (fun w => decide (w ∈ lw_tbl) && goodWord w)
def recvOK (G : Gp) (s₀ : State) (H : Heap) (C : String) (a : Nat) : Prop := ∃ cellB : Cell, H[a]? = some cellB ∧ cellB.vm.isStatics = false ∧ s₀.vm.findClass C = some cellB.cls
theorem recv_our {G : Gp} {SL : Nat} {xs : Nat → Int} {s₀ : State} {H : Heap} {locs : List Loc} {s : St} {a b ci : Nat} (hK : KK G s₀) (hC : CN G SL xs s₀ s₀.heap) (hP : HP G s H) (hS : va_S (fun q => G.1 ≤ q) s₀.heap H locs) (hv : okr s (a, b)) (hs : shp a = .inl ci) (h9 : ci < 9) : recvOK G s₀ H ((nth cnL ci).getD "") (adr G (a, b)) := by
  rcases shp_obj hs h9 with ⟨h8, ha⟩ | ⟨rfl, rfl⟩
  · have hq := okr_our hv ha
    have he := wl_at (G := G) hq.1 hq.2
    rw [ent_obj hs] at he
    have := va_recv hK.1 hP.1 (cl_at h8) he
    rw [cl_nm ci h8] at this
    rw [adr_our ha]
    exact this
  · have hb24 : b < 24 := by
      rcases hv with ⟨h, -⟩ | ⟨-, h⟩ | ⟨h, -⟩ | ⟨h, -⟩
      · simp [idq] at h
      · exact h
      · simp at h
      · simp at h
    obtain ⟨cell, g1, g2, g3, -⟩ := ((hC.1.1 b hb24).2.1).kept hS.2.1
    exact ⟨cell, by simpa [adr] using g1, g2, g3⟩
/-- a call of a method at an object: invokevirtual -/
theorem callV_of {l : Launch} {own : String} {R : Room} {k n mc ms d nL ci : Nat} {y : MethodName} {cc : ByteArray} {ret : Option FieldType} {T : Tr} (hT : Ct SL xs y cc nL ret (rmL d mc ms) T)
    (hw : okWords [.methodLink own k y, .instanceMethod y, .selects y.cls y y, .initialized y.cls, .code y cc nL ret] = true) (hy : okMeth y n = true) (h9 : ci < 9) (hci : y.cls = (nth cnL ci).getD "") (hd : d + 1 ≤ R.frames) (hl : 8 + (nL + 11) + 40 * d ≤ R.locals) : CallR SL xs l own R (.invokevirtual k) (n + 1) mc ms (vT ci T) := by
  intro p e s₀ m args below meth c Q G cc0 nL0 S hK hC hz pc ls av rest s H locs kc ks hdec hls hn hr8 hP hW hO hS hmc hms Y hTY kk
  obtain ⟨a, b, As, rfl, hs, hTY⟩ := vT_spec hTY
  have hws := gw_all hw
  simp only [okMeth, Bool.and_eq_true, decide_eq_true_eq] at hy
  have hpre : ∀ U : State, U.heap = H → s₀.WarmedH U.vm → Pr SL xs G s (.inr (some (a, b)) :: As) (Value.ref (adr G (a, b)) :: As.map (cv G)).toArray U := fun U hU hWm => ⟨rfl, by rw [hU]; exact hP, hW, hO, hK.warm hWm, by rw [hU]; exact (hC.kept hz (fun a h1 h2 => hS.2.1 a h1 h2)).moved hWm.alike⟩
  have hcw : CallW R s₀ args own y.cls k y cc nL ret (.code y cc nL ret :: gw) (rmL d mc ms) mc ms n := by
    refine cwV n S.2.2.2.2 ?_ rfl rfl rfl ⟨rfl, hy.1.1, hy.1.2, hy.2⟩ ⟨hd, hl⟩
    exact good_gw (l := [.methodLink own k y, .instanceMethod y, .selects y.cls y y, .initialized y.cls]) (fun w hw => hws w (by simp at hw ⊢; rcases hw with h | h | h | h <;> simp [h])) (hws _ (by simp))
  have hrv : ∃ cellB : Cell, H[adr G (a, b)]? = some cellB ∧ cellB.vm.isStatics = false ∧ s₀.vm.findClass y.cls = some cellB.cls := by
    rw [hci]
    exact recv_our hK hC hP hS (hO _ List.mem_cons_self) hs h9
  have hstack : ((Sum.inr (some (a, b)) :: As).reverse ++ rest).map (cv G) = (As.map (cv G)).reverse ++ Value.ref (adr G (a, b)) :: rest.map (cv G) := by
    simp only [List.reverse_cons, List.map_append, List.map_reverse, List.append_assoc]
    rfl
  rw [hstack]
  refine call_go (va_runV (As := As.map (cv G)) (rest := rest.map (cv G)) S (hT l G (.inr (some (a, b)) :: As) s Y hTY) hcw ⟨Pr.blind, hrv, hpre⟩ rfl (by simpa using hn) hls rfl (lv_room (by rw [cat_sum]; exact hr8)) hdec ⟨hmc, hms⟩) hS kk
/-- invokestatic -/
theorem callS_of {l : Launch} {own : String} {R : Room} {k n mc ms d nL : Nat} {y : MethodName} {cc : ByteArray} {ret : Option FieldType} {T : Tr} (hT : Ct SL xs y cc nL ret (rmL d mc ms) T)
    (hw : okWords [.methodLink own k y, .static y, .initialized y.cls, .code y cc nL ret] = true) (hy : okMeth y n = true) (hd : d + 1 ≤ R.frames) (hl : 8 + (nL + 11) + 40 * d ≤ R.locals) : CallR SL xs l own R (.invokestatic k) n mc ms T := by
  intro p e s₀ m args below meth c Q G cc0 nL0 S hK hC hz pc ls av rest s H locs kc ks hdec hls hn hr8 hP hW hO hS hmc hms Y hTY kk
  have hws := gw_all hw
  simp only [okMeth, Bool.and_eq_true, decide_eq_true_eq] at hy
  have hpre : ∀ U : State, U.heap = H → s₀.WarmedH U.vm → Pr SL xs G s av (av.map (cv G)).toArray U := fun U hU hWm => ⟨rfl, by rw [hU]; exact hP, hW, hO, hK.warm hWm, by rw [hU]; exact (hC.kept hz (fun a h1 h2 => hS.2.1 a h1 h2)).moved hWm.alike⟩
  have hcw : CallB R s₀ args own k y cc nL ret (.code y cc nL ret :: gw) (rmL d mc ms) mc ms n ∧ (Cond.static y).before args s₀ = true := by
    refine va_cwS n S.2.2.2.2 ?_ rfl rfl rfl ⟨hy.1.1, hy.1.2, hy.2⟩ ⟨hd, hl⟩
    exact good_gw (l := [.methodLink own k y, .static y, .initialized y.cls]) (fun w hw => hws w (by simp at hw ⊢; rcases hw with h | h | h <;> simp [h])) (hws _ (by simp))
  have hstack : (av.reverse ++ rest).map (cv G) = (av.map (cv G)).reverse ++ rest.map (cv G) := by simp only [List.map_append, List.map_reverse]
  rw [hstack]
  exact call_go (va_runS (As := av.map (cv G)) (rest := rest.map (cv G)) S (hT l G av s Y hTY) hcw ⟨Pr.blind, hpre⟩ rfl (by simpa using hn) hls rfl (lv_room (by rw [cat_sum]; exact hr8)) hdec ⟨hmc, hms⟩) hS kk
/-- invokespecial of a constructor -/
theorem callI_of {l : Launch} {own : String} {R : Room} {k n mc ms d nL ci : Nat} {y : MethodName} {cc : ByteArray} {T : Tr} (hT : Ct SL xs y cc nL none (rmL d mc ms) T)
    (hw : okWords [.methodLink own k y, .instanceMethod y, .initialized y.cls, .code y cc nL none] = true) (hy : okMeth y n = true) (hyn : y.name = "<init>") (hd : d + 1 ≤ R.frames) (hl : 8 + (nL + 11) + 40 * d ≤ R.locals) : CallR SL xs l own R (.invokespecial k) (n + 1) mc ms (vT ci T) := by
  intro p e s₀ m args below meth c Q G cc0 nL0 S hK hC hz pc ls av rest s H locs kc ks hdec hls hn hr8 hP hW hO hS hmc hms Y hTY kk
  obtain ⟨a, b, As, rfl, hs, hTY⟩ := vT_spec hTY
  have hws := gw_all hw
  simp only [okMeth, Bool.and_eq_true, decide_eq_true_eq] at hy
  have hpre : ∀ U : State, U.heap = H → s₀.WarmedH U.vm → Pr SL xs G s (.inr (some (a, b)) :: As) (Value.ref (adr G (a, b)) :: As.map (cv G)).toArray U := fun U hU hWm => ⟨rfl, by rw [hU]; exact hP, hW, hO, hK.warm hWm, by rw [hU]; exact (hC.kept hz (fun a h1 h2 => hS.2.1 a h1 h2)).moved hWm.alike⟩
  have hcw : CallB R s₀ args own k y cc nL none (.code y cc nL none :: gw) (rmL d mc ms) mc ms n ∧ y.name = "<init>" ∧ (Cond.instanceMethod y).before args s₀ = true :=
    cwI n S.2.2.2.2 (good_gw (l := []) (fun w hw => absurd hw List.not_mem_nil) (hws _ (by simp))) rfl rfl rfl (S.2.2.2.2 _ (hws _ (by simp))) (S.2.2.2.2 _ (hws _ (by simp))) (S.2.2.2.2 _ (hws _ (by simp))) hyn ⟨hy.1.1, hy.1.2, hy.2⟩ ⟨hd, hl⟩
  have hstack : ((Sum.inr (some (a, b)) :: As).reverse ++ rest).map (cv G) = (As.map (cv G)).reverse ++ Value.ref (adr G (a, b)) :: rest.map (cv G) := by
    simp only [List.reverse_cons, List.map_append, List.map_reverse, List.append_assoc]
    rfl
  rw [hstack]
  exact call_go (va_runI (As := As.map (cv G)) (rest := rest.map (cv G)) S (hT l G (.inr (some (a, b)) :: As) s Y hTY) hcw ⟨Pr.blind, hpre⟩ rfl (by simpa using hn) hls rfl (lv_room (by rw [cat_sum]; exact hr8)) hdec ⟨hmc, hms⟩) hS kk
/-- a nest mate's constructor -/
theorem callIN_of {l : Launch} {own : String} {R : Room} {k n mc ms d nL ci : Nat} {y : MethodName} {cc : ByteArray} {T : Tr} (hT : Ct SL xs y cc nL none (rmL d mc ms) T)
    (hw : okWords [.instanceMethod y, .initialized y.cls, .code y cc nL none] = true) (hln : Cond.methodLinkNest own k y "PatternMill" ∈ lw_tbl) (hy : okMeth y n = true) (hyn : y.name = "<init>") (hd : d + 1 ≤ R.frames) (hl : 8 + (nL + 11) + 40 * d ≤ R.locals) : CallR SL xs l own R (.invokespecial k) (n + 1) mc ms (vT ci T) := by
  intro p e s₀ m args below meth c Q G cc0 nL0 S hK hC hz pc ls av rest s H locs kc ks hdec hls hn hr8 hP hW hO hS hmc hms Y hTY kk
  obtain ⟨a, b, As, rfl, hs, hTY⟩ := vT_spec hTY
  have hws := gw_all hw
  simp only [okMeth, Bool.and_eq_true, decide_eq_true_eq] at hy
  have hpre : ∀ U : State, U.heap = H → s₀.WarmedH U.vm → Pr SL xs G s (.inr (some (a, b)) :: As) (Value.ref (adr G (a, b)) :: As.map (cv G)).toArray U := fun U hU hWm => ⟨rfl, by rw [hU]; exact hP, hW, hO, hK.warm hWm, by rw [hU]; exact (hC.kept hz (fun a h1 h2 => hS.2.1 a h1 h2)).moved hWm.alike⟩
  have hcw : va_CN R s₀ args own k y "PatternMill" cc nL none (.code y cc nL none :: gw) (rmL d mc ms) mc ms n :=
    va_cnB n S.2.2.2.2 (good_gw (l := []) (fun w hw => absurd hw List.not_mem_nil) (hws _ (by simp))) rfl rfl rfl (hK.2.1 _ hln rfl) (S.2.2.2.2 _ (hws _ (by simp))) ⟨hy.1.1, hy.1.2, hy.2⟩ ⟨hd, hl⟩
  have hstack : ((Sum.inr (some (a, b)) :: As).reverse ++ rest).map (cv G) = (As.map (cv G)).reverse ++ Value.ref (adr G (a, b)) :: rest.map (cv G) := by
    simp only [List.reverse_cons, List.map_append, List.map_reverse, List.append_assoc]
    rfl
  rw [hstack]
  exact call_go (va_runIN (As := As.map (cv G)) (rest := rest.map (cv G)) S (hT l G (.inr (some (a, b)) :: As) s Y hTY) ⟨hcw, hyn, S.2.2.2.2 _ (hws _ (by simp))⟩ ⟨Pr.blind, hpre⟩ rfl (by simpa using hn) hls rfl (lv_room (by rw [cat_sum]; exact hr8)) hdec ⟨hmc, hms⟩) hS kk
/-- an inherited method -/
theorem callU_of {l : Launch} {own owner : String} {R : Room} {k n mc ms d nL ci : Nat} {x y : MethodName} {cc : ByteArray} {ret : Option FieldType} {T : Tr} (hT : Ct SL xs y cc nL ret (rmL d mc ms) T)
    (hw : okWords [.methodLink own k x, .sameMethod x.cls owner x.name x.desc, .selects x.cls x y, .instanceMethod y, .initialized y.cls, .code y cc nL ret] = true) (hyx : y = ⟨owner, x.name, x.desc⟩) (hy : okMeth y n = true) (h9 : ci < 9) (hci : x.cls = (nth cnL ci).getD "") (hd : d + 1 ≤ R.frames) (hl : 8 + (nL + 11) + 40 * d ≤ R.locals) : CallR SL xs l own R (.invokevirtual k) (n + 1) mc ms (vT ci T) := by
  intro p e s₀ m args below meth c Q G cc0 nL0 S hK hC hz pc ls av rest s H locs kc ks hdec hls hn hr8 hP hW hO hS hmc hms Y hTY kk
  obtain ⟨a, b, As, rfl, hs, hTY⟩ := vT_spec hTY
  have hws := gw_all hw
  simp only [okMeth, Bool.and_eq_true, decide_eq_true_eq] at hy
  have hpre : ∀ U : State, U.heap = H → s₀.WarmedH U.vm → Pr SL xs G s (.inr (some (a, b)) :: As) (Value.ref (adr G (a, b)) :: As.map (cv G)).toArray U := fun U hU hWm => ⟨rfl, by rw [hU]; exact hP, hW, hO, hK.warm hWm, by rw [hU]; exact (hC.kept hz (fun a h1 h2 => hS.2.1 a h1 h2)).moved hWm.alike⟩
  have hcw : va_CU R s₀ args own x.cls owner k x y cc nL ret (.code y cc nL ret :: gw) (rmL d mc ms) mc ms n := by
    refine va_cwU n S.2.2.2.2 ?_ rfl rfl rfl hyx ?_ ⟨hd, hl⟩
    · exact good_gw (l := [.methodLink own k x, .sameMethod x.cls owner x.name x.desc, .selects x.cls x y, .instanceMethod y, .initialized y.cls]) (fun w hw => hws w (by simp at hw ⊢; rcases hw with h | h | h | h | h <;> simp [h])) (hws _ (by simp))
    · rw [hyx] at hy
      exact ⟨hy.1.1, hy.1.2, hy.2⟩
  have hrv : ∃ cellB : Cell, H[adr G (a, b)]? = some cellB ∧ cellB.vm.isStatics = false ∧ s₀.vm.findClass x.cls = some cellB.cls := by
    rw [hci]
    exact recv_our hK hC hP hS (hO _ List.mem_cons_self) hs h9
  have hstack : ((Sum.inr (some (a, b)) :: As).reverse ++ rest).map (cv G) = (As.map (cv G)).reverse ++ Value.ref (adr G (a, b)) :: rest.map (cv G) := by
    simp only [List.reverse_cons, List.map_append, List.map_reverse, List.append_assoc]
    rfl
  rw [hstack]
  exact call_go (va_runU (As := As.map (cv G)) (rest := rest.map (cv G)) S (hT l G (.inr (some (a, b)) :: As) s Y hTY) hcw ⟨Pr.blind, hrv, hpre⟩ rfl (by simpa using hn) hls rfl (lv_room (by rw [cat_sum]; exact hr8)) hdec ⟨hmc, hms⟩) hS kk
/-- Object's constructor -/
def T_obj : Tr := fun av s F => match av with
  | [.inr (some _)] => F none s
  | _ => False
theorem callO_of {l : Launch} {own : String} {R : Room} {k : Nat} (hw : okWords [.methodLink own k Lib.objectInit, .instanceMethod Lib.objectInit, .code Lib.objectInit ⟨#[0xb1]⟩ 1 none] = true) (hd : 1 ≤ R.frames) (hl : 20 ≤ R.locals) : CallR SL xs l own R (.invokespecial k) 1 0 0 T_obj := by
  intro p e s₀ m args below meth c Q G cc0 nL0 S hK hC hz pc ls av rest s H locs kc ks hdec hls hn hr8 hP hW hO hS hmc hms Y hTY kk
  unfold T_obj at hTY
  split at hTY
  · rename_i q
    have hws := gw_all hw
    have K := kk none s H locs hTY hP hW (fun x hx => by cases hx) (Nat.le_refl _) hS
    refine W.objInit S.1 S.2.1 S.2.2.2.1 (S.2.2.2.2 _ (hws _ (by simp))) (S.2.2.2.2 _ (hws _ (by simp))) (S.2.2.2.2 _ (hws _ (by simp))) (a := adr G q) (rest := rest.map (cv G)) rfl (by rw [S.2.2.1]; exact hls) rfl hdec hd ?_ K
    have := lv_room (m := m) (pc := pc) (ls := ls) (rest := []) (st := rest.map (cv G)) (by rw [cat_sum]; exact hr8)
    exact Nat.le_trans (Nat.add_le_add_right this 12) hl
  · exact hTY.elim
/-- System.arraycopy over byte arrays -/
def T_copy : Tr := fun av s F => match av with
  | [.inr (some (a0, b0)), .inl sp, .inr (some (a, b)), .inl dp, .inl n] => match shp a0, shp a with
    | .inr (1, n0), .inr (1, n1) => (0 ≤ sp ∧ 0 ≤ dp ∧ 0 ≤ n ∧ sp + n ≤ n0 ∧ dp + n ≤ n1) ∧ F none (s.1, cpS s.2.1 a0 b0 sp.toNat a b dp.toNat n.toNat, s.2.2)
    | _, _ => False
  | _ => False
theorem callC_of {l : Launch} {own : String} {R : Room} {k : Nat} (hw : okWords [.methodLink own k arraycopyName] = true) (hd : 1 ≤ R.frames) (hl : 8 + (nativeFrameWords "java/lang/System" "arraycopy" 5 + 11) ≤ R.locals) : CallR SL xs l own R (.invokestatic k) 5 0 0 T_copy := by
  intro p e s₀ m args below meth c Q G cc0 nL0 S hK hC hz pc ls av rest s H locs kc ks hdec hls hn hr8 hP hW hO hS hmc hms Y hTY kk
  unfold T_copy at hTY
  split at hTY
  · rename_i a0 b0 sp a b dp n
    split at hTY
    · rename_i n0 n1 hs0 hs1
      obtain ⟨⟨h1, h2, h3, h4, h5⟩, hY⟩ := hTY
      have ha0 := (shp_arr hs0).1
      have ha := (shp_arr hs1).1
      have e0 : cv G (.inr (some (a0, b0))) = .ref (G.1 + ad a0 b0) := by simp [cv, va_rf, adr_our ha0]
      have e1 : cv G (.inr (some (a, b))) = .ref (G.1 + ad a b) := by simp [cv, va_rf, adr_our ha]
      have hst : ([Sum.inr (some (a0, b0)), Sum.inl sp, Sum.inr (some (a, b)), Sum.inl dp, Sum.inl n].reverse ++ rest).map (cv G) = .int (Int32.ofInt n) :: .int (Int32.ofInt dp) :: .ref (G.1 + ad a b) :: .int (Int32.ofInt sp) :: .ref (G.1 + ad a0 b0) :: rest.map (cv G) := by
        rw [← e0, ← e1]
        rfl
      rw [hst]
      refine s_copy S hK (gw_all hw _ (by simp)) hls hs0 hs1 hdec hP hW hS (okr_our (hO (.inr (some (a0, b0))) (by simp)) ha0) (okr_our (hO (.inr (some (a, b))) (by simp)) ha) (hO (.inl sp) (by simp)) (hO (.inl dp) (by simp)) (hO (.inl n) (by simp)) h1 h2 h3 h4 h5 hd (by rw [cat_sum]; omega) (fun H1 locs1 g1 g2 => ?_)
      exact kk none _ H1 locs1 hY g1 (hW.cp hs0) (fun x hx => by cases hx) (Nat.le_refl _) g2
    · exact hTY.elim
  · exact hTY.elim
end
