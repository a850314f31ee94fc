/-! THE CLAIM OUT OF ONE WALK OF THE LAW'S BODY. Your part is whole_start (and what it stands on); all else here is the same for every law, but numbers. -/
def R_law : String := "PatternMillLaw"
def lw_P (b : Addr) (xs : List Int32) (args : Array Value) (s : State) : Prop := args = #[.ref b] ∧ s.IntsAt b xs ∧ xs.length ≤ 2048 ∧ (Jvm.Cond.and given_1 narrow_1).before args s = true
def lw_Q (_ : Array Value) (s : State) (o : Outcome) (t : State) : Prop := o = .returned (some (.int 1)) ∧ Framed s o t [] 600000 7302250
def lw_Z (below : List Frame) (a : Array Value) (s : State) : State → Prop := fun t => ∃ o, t.status = .running ∧ Ended t below o ∧ lw_Q a s o t
/-- the law's own end, with 1 on the stack, nothing written that was there before, its room as the claim has it -/
theorem lw_ret {p : Program} {l : Launch} {e : Env} {s : State} {m : MethodId} {below : List Frame} {meth : Method} {c : Code} {b : Nat} (hx : p.tables.exec = Jvm.exec) (hb : c.code = code) (hr : meth.sig.returnType = ret) (hlocks : meth.locks = false) {pc : Nat} {H : Heap} {ls : Array Slot} (hdg : decode code pc = .ok (.ireturn, 1)) : W p l e room_1 s m #[Value.ref b] below meth c H [] 600000 7302250 (lw_Z below #[Value.ref b] s) (F0 m pc ls [.int 1]) := by
  intro T hT X
  obtain ⟨fs, hret, hrun, hended, hW, hframe⟩ := X.leave (v := some (.int 1)) (hlocks := hlocks) (fun h => by rw [hr] at h; cases h)
  have hmeth' : T.vm.method? m = some meth := X.method'
  refine ⟨T.setFrames fs, ?_, .returned (some (.int 1)), hrun, hended, rfl, ⟨_, rfl⟩, hW, hframe⟩
  jvm_step X.here [X.here.top, hx, hb, hdg, hmeth', hr, ret, narrow_b1]
  (try refine ⟨rfl, ?_⟩); (try refine ⟨rfl, ?_⟩)
  first | (intro acts; rw [hret _ acts rfl rfl rfl]) | rw [hret _ _ rfl rfl rfl]
  exact Steps.refl _
/-- what holds at the law's entry: the machine, the code, the tables' words (any of lw_tbl by 'hts w (by decide +kernel)'), the script of L ints xs at the cell b, what the Statement gives of the start (any of its parts by flat_of_before) -/
def lw_At (p : Program) (s : State) (m : MethodId) (meth : Method) (c : Code) (b L : Nat) (xs : Nat → Int32) : Prop :=
  p.tables.exec = Jvm.exec ∧ c.code = code ∧ meth.sig.returnType = ret ∧ c.maxLocals = 4 ∧ s.vm.findClass R_law = some m.cls ∧ (∀ w ∈ lw_tbl, w.before #[Value.ref b] s = true) ∧ va_X b L xs s s.heap ∧ b < s.heap.size ∧ meth.locks = false ∧ (Jvm.Cond.and given_1 narrow_1).before #[Value.ref b] s = true

/-! what the Statement gives of the constants -/
def nchk (nm : Nat → Nat → Cond) : List Cond → Nat → List (Nat × Nat × Nat) → Bool
  | _, _, [] => true
  | [], _, _ :: _ => false
  | w :: r, n, q :: t => bif Nat.beq n q.1 then decide (w = nm q.2.1 q.2.2) && nchk nm r (n + 1) t else nchk nm r (n + 1) (q :: t)
theorem nchk_mem (nm : Nat → Nat → Cond) : ∀ (L : List Cond) (n : Nat) (P : List (Nat × Nat × Nat)), nchk nm L n P = true → ∀ q ∈ P, nm q.2.1 q.2.2 ∈ L
  | _, _, [], _, q, hq => absurd hq List.not_mem_nil
  | [], _, _ :: _, h, q, hq => by simp [nchk] at h
  | w :: r, n, x :: t, h, q, hq => by
    unfold nchk at h
    cases hb : Nat.beq n x.1
    · rw [hb] at h
      exact List.mem_cons_of_mem _ (nchk_mem nm r (n + 1) (x :: t) h q hq)
    · rw [hb] at h
      simp only [cond_true, Bool.and_eq_true, decide_eq_true_eq] at h
      rcases List.mem_cons.mp hq with rfl | hq
      · rw [← h.1]
        exact List.mem_cons_self
      · exact List.mem_cons_of_mem _ (nchk_mem nm r (n + 1) t h.2 q hq)
def kSt (i : Nat) : Term := .static "PatternMill$Kind" (kNames.getD i "") "LPatternMill$Kind;"
def kPairs : List (Nat × Nat × Nat) := [(43, 19, 0), (49, 19, 1), (50, 0, 1), (56, 19, 2), (57, 0, 2), (58, 1, 2), (64, 19, 3), (65, 0, 3), (66, 1, 3), (67, 2, 3), (73, 19, 4), (74, 0, 4), (75, 1, 4), (76, 2, 4), (77, 3, 4), (83, 19, 5), (84, 0, 5), (85, 1, 5), (86, 2, 5), (87, 3, 5), (88, 4, 5), (94, 19, 6), (95, 0, 6), (96, 1, 6), (97, 2, 6), (98, 3, 6), (99, 4, 6), (100, 5, 6), (106, 19, 7), (107, 0, 7), (108, 1, 7), (109, 2, 7), (110, 3, 7), (111, 4, 7), (112, 5, 7), (113, 6, 7), (119, 19, 8), (120, 0, 8), (121, 1, 8), (122, 2, 8), (123, 3, 8), (124, 4, 8), (125, 5, 8), (126, 6, 8), (127, 7, 8), (133, 19, 9), (134, 0, 9), (135, 1, 9), (136, 2, 9), (137, 3, 9), (138, 4, 9), (139, 5, 9), (140, 6, 9), (141, 7, 9), (142, 8, 9), (148, 19, 10), (149, 0, 10), (150, 1, 10), (151, 2, 10), (152, 3, 10), (153, 4, 10), (154, 5, 10), (155, 6, 10), (156, 7, 10), (157, 8, 10), (158, 9, 10), (164, 19, 11), (165, 0, 11), (166, 1, 11), (167, 2, 11), (168, 3, 11), (169, 4, 11), (170, 5, 11), (171, 6, 11), (172, 7, 11), (173, 8, 11), (174, 9, 11), (175, 10, 11), (181, 19, 12), (182, 0, 12), (183, 1, 12), (184, 2, 12), (185, 3, 12), (186, 4, 12), (187, 5, 12), (188, 6, 12), (189, 7, 12), (190, 8, 12), (191, 9, 12), (192, 10, 12), (193, 11, 12), (199, 19, 13), (200, 0, 13), (201, 1, 13), (202, 2, 13), (203, 3, 13), (204, 4, 13), (205, 5, 13), (206, 6, 13), (207, 7, 13), (208, 8, 13), (209, 9, 13), (210, 10, 13), (211, 11, 13), (212, 12, 13), (218, 19, 14), (219, 0, 14), (220, 1, 14), (221, 2, 14), (222, 3, 14), (223, 4, 14), (224, 5, 14), (225, 6, 14), (226, 7, 14), (227, 8, 14), (228, 9, 14), (229, 10, 14), (230, 11, 14), (231, 12, 14), (232, 13, 14), (238, 19, 15), (239, 0, 15), (240, 1, 15), (241, 2, 15), (242, 3, 15), (243, 4, 15), (244, 5, 15), (245, 6, 15), (246, 7, 15), (247, 8, 15), (248, 9, 15), (249, 10, 15), (250, 11, 15), (251, 12, 15), (252, 13, 15), (253, 14, 15), (259, 19, 16), (260, 0, 16), (261, 1, 16), (262, 2, 16), (263, 3, 16), (264, 4, 16), (265, 5, 16), (266, 6, 16), (267, 7, 16), (268, 8, 16), (269, 9, 16), (270, 10, 16), (271, 11, 16), (272, 12, 16), (273, 13, 16), (274, 14, 16), (275, 15, 16), (281, 19, 17), (282, 0, 17), (283, 1, 17), (284, 2, 17), (285, 3, 17), (286, 4, 17), (287, 5, 17), (288, 6, 17), (289, 7, 17), (290, 8, 17), (291, 9, 17), (292, 10, 17), (293, 11, 17), (294, 12, 17), (295, 13, 17), (296, 14, 17), (297, 15, 17), (298, 16, 17), (304, 19, 18), (305, 0, 18), (306, 1, 18), (307, 2, 18), (308, 3, 18), (309, 4, 18), (310, 5, 18), (311, 6, 18), (312, 7, 18), (313, 8, 18), (314, 9, 18), (315, 10, 18), (316, 11, 18), (317, 12, 18), (318, 13, 18), (319, 14, 18), (320, 15, 18), (321, 16, 18), (322, 17, 18), (328, 19, 20), (329, 0, 20), (330, 1, 20), (331, 2, 20), (332, 3, 20), (333, 4, 20), (334, 5, 20), (335, 6, 20), (336, 7, 20), (337, 8, 20), (338, 9, 20), (339, 10, 20), (340, 11, 20), (341, 12, 20), (342, 13, 20), (343, 14, 20), (344, 15, 20), (345, 16, 20), (346, 17, 20), (347, 18, 20), (353, 19, 21), (354, 0, 21), (355, 1, 21), (356, 2, 21), (357, 3, 21), (358, 4, 21), (359, 5, 21), (360, 6, 21), (361, 7, 21), (362, 8, 21), (363, 9, 21), (364, 10, 21), (365, 11, 21), (366, 12, 21), (367, 13, 21), (368, 14, 21), (369, 15, 21), (370, 16, 21), (371, 17, 21), (372, 18, 21), (373, 20, 21), (379, 19, 22), (380, 0, 22), (381, 1, 22), (382, 2, 22), (383, 3, 22), (384, 4, 22), (385, 5, 22), (386, 6, 22), (387, 7, 22), (388, 8, 22), (389, 9, 22), (390, 10, 22), (391, 11, 22), (392, 12, 22), (393, 13, 22), (394, 14, 22), (395, 15, 22), (396, 16, 22), (397, 17, 22), (398, 18, 22), (399, 20, 22), (400, 21, 22), (406, 19, 23), (407, 0, 23), (408, 1, 23), (409, 2, 23), (410, 3, 23), (411, 4, 23), (412, 5, 23), (413, 6, 23), (414, 7, 23), (415, 8, 23), (416, 9, 23), (417, 10, 23), (418, 11, 23), (419, 12, 23), (420, 13, 23), (421, 14, 23), (422, 15, 23), (423, 16, 23), (424, 17, 23), (425, 18, 23), (426, 20, 23), (427, 21, 23), (428, 22, 23)]
theorem kPairs_ok : nchk (fun i j => Cond.not (.eq (kSt i) (kSt j))) (flatC (Jvm.Cond.and given_1 narrow_1)) 0 kPairs = true := by decide +kernel
theorem kPairs_all : (List.range 24).all (fun i => (List.range 24).all (fun j => Nat.beq i j || kPairs.any (fun q => Nat.beq q.2.1 i && Nat.beq q.2.2 j) || kPairs.any (fun q => Nat.beq q.2.1 j && Nat.beq q.2.2 i))) = true := by decide +kernel
theorem kw1 : (List.range 24).all (fun i => decide (Cond.laysStatic "PatternMill$Kind" (kNames.getD i "") "LPatternMill$Kind;" ∈ lw_tbl)) = true := by decide +kernel
theorem kw2 : (List.range 24).all (fun i => decide (Cond.exactly (kSt i) "PatternMill$Kind" ∈ flatC (Jvm.Cond.and given_1 narrow_1))) = true := by decide +kernel
theorem kw3 : kTab.all (fun q => (List.range 24).all (fun i => decide (Cond.eq (.field (kSt i) q.1 q.2.1 q.2.2.1) (.int (q.2.2.2.getD i 0)) ∈ flatC (Jvm.Cond.and given_1 narrow_1)))) = true := by decide +kernel
def kAr : Term := .static "PatternMill" "KINDS" "[LPatternMill$Kind;"
theorem kw5 : (List.range 24).all (fun i => decide (Cond.eq (.elem kAr (.int (Int32.ofNat i))) (kSt i) ∈ flatC (Jvm.Cond.and given_1 narrow_1))) = true := by decide +kernel
theorem kw6 : decide (Cond.arrayOf kAr (.object "PatternMill$Kind") ∈ flatC (Jvm.Cond.and given_1 narrow_1)) = true ∧ decide (Cond.eq (.length kAr) (.int 24) ∈ flatC (Jvm.Cond.and given_1 narrow_1)) = true := by decide +kernel
theorem asg_self (vm : Vm) (c : ClassId) : vm.assignable c c = true := by
  show vm.assignableAux (255 + 1) c c = true
  rw [Vm.assignableAux]
  simp only [beq_self_eq_true, Bool.true_or]
def s_beg : St := (0, fun _ _ _ => 0, fun _ _ _ => none)
/-- the walk of the law's body out of its transformer -/
theorem start_W {p : Program} {e : Env} {s : State} {m : MethodId} {below : List Frame} {meth : Method} {c : Code} (l : Launch) {b L : Nat} {xs : Nat → Int32} (hL : L ≤ 2048) (C0 : lw_At p s m meth c b L xs)
    (hX0 : Xz L (fun j => (xs j).toInt) (m_Law_law L (fun j => (xs j).toInt)) (fun v _ => v = some (.inl 1)) (0, entL [.inr (some (47, 0))] 4, [], s_beg, 0, 0)) : W p l e room_1 s m #[Value.ref b] below meth c s.heap [] 0 0 (lw_Z below #[Value.ref b] s) (entryFrame m ([Value.ref b] : List Value).toArray 4) := by
  obtain ⟨hx, hb, hr, hml, hown, hts, hX, hbl, hlocks, hgv⟩ := C0
  have hfl := flat_of_before _ hgv
  have hgw : ∀ w ∈ gw, w.before #[Value.ref b] s = true := fun w hw => hts w (List.mem_filter.mp hw).1
  -- classes
  have h8 : ∀ ci : Nat, ∃ (q : ClassId × (Nat → Nat)), ci < 8 → u_Kn s (clr ci).1 (clr ci).2.1 (clr ci).2.2 q.1 q.2 := by
    intro ci
    by_cases hc : ci < 8
    · obtain ⟨cC, iS, h⟩ := u_known hgw (cl_in hc) (hgw _ (by have := (cl_in2 ci hc).1; rw [← cl_nm ci hc] at this; exact this))
      exact ⟨(cC, iS), fun _ => h⟩
    · exact ⟨(0, fun _ => 0), fun h => absurd h hc⟩
  obtain ⟨dq, hdq⟩ := Classical.axiomOfChoice h8
  -- classes of arrays
  have harrs : ([Cond.arrayClass .int, Cond.arrayClass .byte, Cond.arrayClass .boolean] : List Cond).all (fun w => decide (w ∈ lw_tbl) && goodWord w) = true := by decide +kernel
  have hovK : (Cond.arrayOver (.object "PatternMill$Kind")).before #[Value.ref b] s = true := hts _ (by decide +kernel)
  have hovT : (Cond.arrayOver (.object "PatternMill$Text")).before #[Value.ref b] s = true := hts _ (by decide +kernel)
  obtain ⟨c0, k0, m0, a01, a02, a03⟩ := Cond.arrayClass_spec (hgw _ (gw_all harrs (Cond.arrayClass .int) (by simp)))
  obtain ⟨c1, k1, m1, a11, a12, a13⟩ := Cond.arrayClass_spec (hgw _ (gw_all harrs (Cond.arrayClass .byte) (by simp)))
  obtain ⟨c2, k2, m2, a21, a22, a23⟩ := Cond.arrayClass_spec (hgw _ (gw_all harrs (Cond.arrayClass .boolean) (by simp)))
  obtain ⟨m3, c3, k3, a30, -, a32, a33, a31⟩ := Cond.arrayOver_spec hovK
  obtain ⟨m4, c4, k4, a40, -, a42, a43, a41⟩ := Cond.arrayOver_spec hovT
  -- constants
  have hA : ∀ a : Nat, a < s.heap.size → ¬ s.heap.size ≤ a := fun a h => by omega
  have hini : (Cond.initialized "PatternMill$Kind").before #[Value.ref b] s = true := hts _ (by decide +kernel)
  have hlen : kNames.length = 24 := rfl
  obtain ⟨adK, hEn, hev⟩ := va_Enof2 (args := #[Value.ref b]) (s := s) (E := "PatternMill$Kind") (d := "LPatternMill$Kind;") (nm := kNames) (F := kTab) (A := fun q => s.heap.size ≤ q)
    (fun i hi => hts _ (by have := List.all_eq_true.mp kw1 i (List.mem_range.mpr hi); simpa using this)) hini
    (fun i hi => hfl _ (of_decide_eq_true (List.all_eq_true.mp kw2 i (List.mem_range.mpr hi))))
    (fun q hq i hi => hfl _ (of_decide_eq_true (List.all_eq_true.mp (List.all_eq_true.mp kw3 q hq) i (List.mem_range.mpr hi))))
    (fun i j hi hj hij => by
      have := List.all_eq_true.mp (List.all_eq_true.mp kPairs_all i (List.mem_range.mpr hi)) j (List.mem_range.mpr hj)
      simp only [Bool.or_eq_true] at this
      rcases this with (h | h) | h
      · exact absurd (Nat.eq_of_beq_eq_true h) hij
      · obtain ⟨q, h1, h2⟩ := List.any_eq_true.mp h
        simp only [Bool.and_eq_true] at h2
        have := nchk_mem _ _ _ _ kPairs_ok q h1
        rw [Nat.eq_of_beq_eq_true h2.1, Nat.eq_of_beq_eq_true h2.2] at this
        exact Or.inl (hfl _ this)
      · obtain ⟨q, h1, h2⟩ := List.any_eq_true.mp h
        simp only [Bool.and_eq_true] at h2
        have := nchk_mem _ _ _ _ kPairs_ok q h1
        rw [Nat.eq_of_beq_eq_true h2.1, Nat.eq_of_beq_eq_true h2.2] at this
        exact Or.inr (hfl _ this)) hA
  have hev : ∀ i, i < 24 → (kSt i).eval #[Value.ref b] s none [] s = some (.ref (adK i)) := hev
  obtain ⟨tK, htK, hTab⟩ := va_Tof (args := #[Value.ref b]) (s := s) (tm := kAr) (ty := .object "PatternMill$Kind") (N := 24) (f := fun i => .ref (adK i)) (A := fun q => s.heap.size ≤ q) (by decide) (hfl _ (of_decide_eq_true kw6.1)) (va_eqt (hfl _ (of_decide_eq_true kw6.2)))
    (fun j hj => va_eqv (hfl _ (of_decide_eq_true (List.all_eq_true.mp kw5 j (List.mem_range.mpr hj)))) (hev j hj)) hA
  have hZ : va_Z "PatternMill" "KINDS" "[LPatternMill$Kind;" (.ref tK) (fun q => s.heap.size ≤ q) s s.heap := va_Zof (args := #[Value.ref b]) (hts _ (by decide +kernel)) (hts _ (by decide +kernel)) htK hA
  -- the world
  obtain ⟨G, hG⟩ : ∃ G : Gp, G = (s.heap.size, (fun a i => if a = 45 then adK i else if a = 46 then tK else b), ((fun ci => (dq ci).1), (fun ci => (dq ci).2)), (fun t => match t with | 0 => c0 | 1 => c1 | 2 => c2 | 3 => c3 | _ => c4)) := ⟨_, rfl⟩
  have g1 : G.1 = s.heap.size := by rw [hG]
  have g45 : G.2.1 45 = adK := by rw [hG]; rfl
  have g46 : G.2.1 46 0 = tK := by rw [hG]; rfl
  have g47 : G.2.1 47 0 = b := by rw [hG]; rfl
  have hK : KK G s := by
    refine ⟨⟨fun ci q hq => ?_, fun k q hq => ?_⟩, fun w hw hn => ?_, va_AO.of hovK, va_AO.of hovT, ?_⟩
    · have hc : ci < 8 := by
        have := (List.getElem?_eq_some_iff.mp hq).1
        exact this
      rw [cl_at hc] at hq
      cases hq
      rw [hG]
      exact hdq ci hc
    · have hk : k < 5 := (List.getElem?_eq_some_iff.mp hq).1
      have hk5 : k = 0 ∨ k = 1 ∨ k = 2 ∨ k = 3 ∨ k = 4 := by omega
      rw [hG] at hq
      rcases hk5 with rfl | rfl | rfl | rfl | rfl
      · cases hq
        exact ⟨fun n z => ⟨fun k h => (by cases h), k0, a02, m0, a03⟩, a01⟩
      · cases hq
        exact ⟨fun n z => ⟨fun k h => (by cases h), k1, a12, m1, a13⟩, a11⟩
      · cases hq
        exact ⟨fun n z => ⟨fun k h => (by cases h), k2, a22, m2, a23⟩, a21⟩
      · cases hq
        exact ⟨fun n z => ⟨fun k h => (by cases h), k3, a32, m3, a33⟩, k3, m3, a32, a33, a30, a31⟩
      · cases hq
        exact ⟨fun n z => ⟨fun k h => (by cases h), k4, a42, m4, a43⟩, k4, m4, a42, a43, a40, a41⟩
    · refine va_Nw.of ?_ (hts w hw)
      cases w <;> first | (cases hn; done) | rfl
    · obtain ⟨kc, hkc, -⟩ := Vm.findClass_spec a30
      exact ⟨m3, kc, a30, hkc, asg_self _ _⟩
  have hC : CN G L (fun j => (xs j).toInt) s s.heap := by
    refine ⟨?_, ?_, ?_, ?_, ?_, fun j => rng_32 _⟩
    · rw [g45, g1]
      exact hEn
    · rw [g46, g1]
      exact hZ
    · rw [g46, g45, g1]
      exact hTab
    · rw [g47]
      have e1 : (fun j => Int32.ofInt ((xs j).toInt)) = xs := funext fun j => of_to _
      rw [e1]
      exact hX
    · rw [g47, g1]
      exact hbl
  have hcv : cv G (.inr (some (47, 0))) = .ref b := by
    show Value.ref (adr G (47, 0)) = _
    rw [show adr G (47, 0) = G.2.1 47 0 from rfl, g47]
  have S : CallFix p m c code 4 s #[Value.ref b] gw "PatternMillLaw" := ⟨hx, hb, hml, hown, hgw⟩
  have hSL : rng L := ⟨by omega, by omega⟩
  have K := hX0 (Wm 0 G p l e room_1 s m #[Value.ref b] below meth c 4 (lw_Z below #[Value.ref b] s)) (fun cf hcf => ?_)
  · have hl : lh G ((lg_sl ([.inr (some (47, 0))].map (cv G)) ++ List.replicate (4 - (lg_sl ([.inr (some (47, 0))].map (cv G))).length) Slot.unset).toArray) 4 (entL [.inr (some (47, 0))] 4) := by
      have h1 := lv_entry ([.inr (some (47, 0))].map (cv G)) (n := 4) (by rw [lg_len]; decide)
      rw [← lvl_ent G (4 - 1) [.inr (some (47, 0))] 0] at h1
      exact h1
    have K2 := K s.heap [] _ ⟨fun k q hq => (by cases hq), (by rw [g1]; rfl)⟩ ⟨fun _ _ _ => rng0, fun _ _ _ _ h => (by cases h), fun _ _ _ _ _ => b8_0⟩ ⟨fun v hv => absurd hv List.not_mem_nil, fun i v hv => by
      have := nth_ent hv
      rw [List.mem_singleton] at this
      subst this
      exact Or.inr (Or.inr (Or.inr ⟨rfl, rfl⟩))⟩ va_S.rf hl ⟨Nat.le_refl _, Nat.zero_le _, Nat.zero_le _⟩
    rw [List.map_singleton, hcv] at K2
    rw [lg_entry_eq]
    exact K2
  · refine sound S co_Law_law fo_Law ko_Law so_Law hK hC (by rw [g1]; exact Nat.le_refl _) hSL (Nat.le_refl _) (Nat.le_refl _) (fun h => absurd h (by decide)) (law_calls hSL l) ?_ ?_ cf hcf
    · intro pc ls H locs kc ks x s' hd hF h12 hP' hW' hx' hS' hk
      cases hF
      rw [g1] at hS'
      refine va_forget (fun q hq => hS'.2.2 q hq) ?_
      refine W.widen (k := 600000) (n := 7302250) hk.2.1 hk.2.2 ?_
      exact lw_ret hx hb hr hlocks hd
    · intro pc ls H locs kc ks s' hd hF h0 hP' hW' hS' hk
      cases hF
