/-! Both faces: bytes stay bytes; a match; clear; let -/
def bnu (ν : Nu) : Prop := ∀ v, v < 8 → byt (ν v)
def JC (E : Ev) (c : List Ch) : Prop := ∀ x ∈ c, x.2.1 ≤ (esb E).length ∧ (x.1 = 1 → x.2.1 < (esb E).length)
def JA (E : Ev) (x : As) : Prop := x.2.2.1 ≤ (esb E).length ∧ JC E x.2.2.2.2.1 ∧ bnu (yν x)
section
variable {E : Ev} {ν : Nu} {c : List Ch} {p p' : Nat} {g : List Gl} {q : List Kp}
theorem bnu.up {v : Nat} {l : List Int} (h : bnu ν) (hl : byt l) : bnu (upN ν v l) := fun w hw => by
  unfold upN
  split
  · exact hl
  · exact h w hw
theorem byt_sub {l : List Int} {a b : Nat} (h : byt l) : byt ((l.drop a).take b) := fun x hx => h x (List.mem_of_mem_drop (List.mem_of_mem_take hx))
theorem byt_dig (hp : p ≤ 64) : byt (dig p) := fun x hx => by
  unfold dig at hx
  split at hx
  · rcases List.mem_cons.mp hx with rfl | hx
    · exact b8s _ (by omega)
    · rw [List.mem_singleton] at hx
      subst hx
      exact b8s _ (by omega)
  · rw [List.mem_singleton] at hx
    subst hx
    exact b8s _ (by omega)
theorem JC.cons {w : Nat} (h : JC E c) (h1 : p ≤ (esb E).length) (h2 : w = 1 → p < (esb E).length) : JC E ((w, p, g, q) :: c) := fun x hx => by
  rcases List.mem_cons.mp hx with rfl | hx
  · exact ⟨h1, h2⟩
  · exact h x hx
theorem astep_J (hb : byt (esb E)) (h64 : (esb E).length ≤ 64) {x : As} (hx : JA E x) : (∀ z, astep E x = .inl z → JA E z) ∧ (∀ o z, astep E x = .inr (o, z) → JA E z) := by
  obtain ⟨m, k, p, g, c, q, ν, n⟩ := x
  obtain ⟨h1, h2, h3⟩ := hx
  have h1 : p ≤ (esb E).length := h1
  have h2 : JC E c := h2
  have h3 : bnu ν := h3
  have z0 : 0 ≤ (esb E).length := Nat.zero_le _
  rcases m with _ | _ | m
  · show (∀ z, stepB E k p g c q ν n = .inl z → JA E z) ∧ (∀ o z, stepB E k p g c q ν n = .inr (o, z) → JA E z)
    unfold stepB
    constructor
    · intro z hz
      split at hz
      · cases hz
        refine ⟨h1, ?_, h3⟩
        show JC E (if p < (esb E).length then (1, p, g, q) :: c else c)
        split
        · exact h2.cons h1 (fun _ => by assumption)
        · exact h2
      · split at hz
        · rename_i p' hb'
          have hbd := balN_bd h1 hb'
          cases hz
          exact ⟨hbd.2, h2.cons hbd.2 (fun e => by omega), h3⟩
        · cases hz
          exact ⟨z0, h2, h3⟩
      · cases hz
        exact ⟨h1, h2.cons h1 (fun e => by omega), h3⟩
      · cases hz
      · cases hz
        exact ⟨h1, h2.cons h1 (fun e => by omega), h3⟩
      · cases hz
        exact ⟨h1, h2, h3⟩
      · cases hz
        exact ⟨h1, h2.cons h1 (fun e => by omega), h3⟩
      · cases hz
        exact ⟨h1, h2, h3⟩
      · cases hz
        exact ⟨h1, h2, h3⟩
      · cases hz
        exact ⟨h1, h2, h3.up (byt_dig (by omega))⟩
      · split at hz
        · cases hz
          exact ⟨h1, h2, h3⟩
        · cases hz
          exact ⟨z0, h2, h3⟩
      · split at hz
        · rename_i p' hb'
          have hbd := plA_bd h1 hb'
          cases hz
          exact ⟨hbd.2, h2, h3⟩
        · cases hz
          exact ⟨z0, h2, h3⟩
    · intro o z hz
      split at hz
      all_goals first
        | (cases hz; exact ⟨z0, h2, h3⟩)
        | (cases hz; done)
        | (split at hz <;> cases hz)
  · show (∀ z, stepK E c ν n = .inl z → JA E z) ∧ (∀ o z, stepK E c ν n = .inr (o, z) → JA E z)
    cases c with
    | nil =>
      refine ⟨fun z hz => (by cases hz), fun o z hz => ?_⟩
      cases hz
      exact ⟨z0, h2, h3⟩
    | cons x r =>
      obtain ⟨w, p1, g1, q1⟩ := x
      have hx := h2 _ List.mem_cons_self
      have hr : JC E r := fun y hy => h2 y (List.mem_cons_of_mem _ hy)
      have hx1 : p1 ≤ (esb E).length := hx.1
      rcases w with _ | _ | _ | w
      · refine ⟨fun z hz => ?_, fun o z hz => by cases hz⟩
        cases hz
        exact ⟨hx1, hr, h3⟩
      · have hlt : p1 < (esb E).length := hx.2 rfl
        refine ⟨fun z hz => ?_, fun o z hz => by cases hz⟩
        cases hz
        refine ⟨hlt, ?_, h3⟩
        show JC E (if p1 + 1 < (esb E).length then (1, p1 + 1, g1, q1) :: r else r)
        split
        · exact hr.cons hlt (fun _ => by assumption)
        · exact hr
      · refine ⟨fun z hz => ?_, fun o z hz => ?_⟩
        · simp only [stepK] at hz
          split at hz
          · rename_i p' hb'
            have hbd := balN_bd hx1 hb'
            cases hz
            exact ⟨hbd.2, hr.cons hbd.2 (fun e => by omega), h3⟩
          · cases hz
            exact ⟨z0, hr, h3⟩
        · simp only [stepK] at hz
          split at hz <;> cases hz
      · refine ⟨fun z hz => (by cases hz), fun o z hz => ?_⟩
        cases hz
        exact ⟨z0, hr, h3⟩
  · show (∀ z, stepG E p g c q ν n = .inl z → JA E z) ∧ (∀ o z, stepG E p g c q ν n = .inr (o, z) → JA E z)
    cases g with
    | nil =>
      refine ⟨fun z hz => (by cases hz), fun o z hz => ?_⟩
      cases hz
      exact ⟨h1, h2, h3⟩
    | cons x r =>
      obtain ⟨w, k1, f1⟩ := x
      rcases w with _ | _ | w
      · refine ⟨fun z hz => ?_, fun o z hz => ?_⟩
        · simp only [stepG] at hz
          split at hz
          · cases hz
          · cases hz
            exact ⟨h1, h2, h3⟩
        · simp only [stepG] at hz
          split at hz
          · cases hz
            exact ⟨z0, h2, h3⟩
          · cases hz
      · refine ⟨fun z hz => ?_, fun o z hz => by cases hz⟩
        cases hz
        exact ⟨h1, h2, h3⟩
      · refine ⟨fun z hz => ?_, fun o z hz => by cases hz⟩
        cases hz
        exact ⟨h1, h2, h3.up (byt_sub hb)⟩
theorem runA_J (hb : byt (esb E)) (h64 : (esb E).length ≤ 64) : ∀ (f : Nat) (x y : As) (o : Nat), JA E x → runA E f x = some (o, y) → JA E y
  | 0, x, y, o, _, h => by cases h
  | f + 1, x, y, o, hx, h => by
    obtain ⟨h1, h2⟩ := astep_J hb h64 hx
    simp only [runA] at h
    split at h
    · rename_i z hz
      exact runA_J hb h64 f z y o (h1 z hz) h
    · rename_i z hz
      cases h
      exact h2 o y hz
theorem Mt_J (hb : byt (esb E)) (h64 : (esb E).length ≤ 64) {k : Nat} : ∀ (m b : Nat) (ν : Nu) (n o bf : Nat) (y : As), b + m ≤ (esb E).length + 1 → bnu ν → Mt E k m b ν n o bf y → bnu (yν y)
  | 0, b, ν, n, o, bf, y, _, h, hm => by
    obtain ⟨-, -, rfl⟩ := hm
    exact h
  | m + 1, b, ν, n, o, bf, y, hbm, h, hm => by
    obtain ⟨f, o', y', hr, hm⟩ := hm
    have hJ := runA_J hb h64 f (GS b [(0, k, 0)] [] [] ν n) y' o' ⟨show b ≤ (esb E).length by omega, (fun x hx => by cases hx), h⟩ hr
    rcases hm with ⟨-, hm⟩ | ⟨-, -, -, rfl⟩
    · exact Mt_J hb h64 m (b + 1) _ _ _ _ _ (by omega) hJ.2.2 hm
    · exact hJ.2.2
theorem keepA_J (hb : byt (esb E)) : ∀ (q : List Kp) (ν : Nu), bnu ν → bnu (keepA E q ν)
  | [], ν, h => h
  | x :: q, ν, h => keepA_J hb q _ (h.up (byt_sub hb))
end
section
variable {SL : Nat} {xs : Nat → Int} {nx hi : Nat} {σ σ' : Sg} {kn : Nat → Option Nat} {tx : Nat → Bool} {F : Option Av → St → Prop} {E : Ev} {ν : Nu} {sl : List Int}
def subE (E : Ev) (S : List Int) : Ev := (E.1, E.2.1, E.2.2.1, E.2.2.2.1, S, E.2.2.2.2.2)
theorem bth_match {v k an : Int} (hR : RR nx σ kn tx hi sl ν E) : Bth SL xs (T_Mill_match SL xs) (T_Model_match SL xs) [.inl v, .inl k, .inl an] nx σ kn tx := by
  have hR0 := hR
  obtain ⟨⟨r1, r2, r3, r4⟩, hsl, hnu, ⟨hC, hM, hO, hE0⟩, hmc⟩ := hR
  by_cases hok : (0 ≤ v ∧ v < 8) ∧ 0 ≤ k ∧ k < (ect E : Int)
  · obtain ⟨hv, hk⟩ := hok
    obtain ⟨n1, n2, n3⟩ := hnu
    have hv8 : v.toNat < 8 := by omega
    have hl64 := (n1 v.toNat hv8).2
    have hvc : ((v.toNat : Nat) : Int) = v := by omega
    have hkc : ((k.toNat : Nat) : Int) = k := by omega
    have hO' : EvOK (subE E (ν v.toNat)) := ⟨hl64, hO.2⟩
    have hb' : byt (esb (subE E (ν v.toNat))) := n3 v.toNat hv8
    obtain ⟨o, bf, y, hm⟩ := Mt.ex (subE E (ν v.toNat)) k.toNat ((if an = 0 then (esb (subE E (ν v.toNat))).length else 0) + 1) 0 ν 0 (by omega)
    have hJ : bnu (yν y) := Mt_J hb' hl64 _ _ _ _ _ _ _ (by split <;> omega) n3 hm
    have ex : ∀ a b j, ¬ a = 0 → upS σ 0 0 5 1 a b j = σ a b j := fun a b j h => upS_ne (by omega)
    have hRM : RM (subE E (ν v.toNat)) kn tx (upS σ 0 0 5 1) ν := by
      refine ⟨hO', by rw [ex 4 0 4 (by omega)]; exact hC.1, fun k' hk' => ?_, fun w hw => ?_⟩
      · obtain ⟨k1, k2, k3, k4, k5⟩ := hC.2 k' hk'
        have hk'' : k' < ect E := hk'
        exact ⟨k1, by rw [ex 6 0 k' (by omega)]; exact k2, by rw [ex 7 0 k' (by omega)]; exact k3, by rw [r4]; exact decide_eq_true (by omega), k4.fr (fun i _ => ex 2 _ i (by omega)) (ex 1 _ 1 (by omega)), k5⟩
      · exact ⟨(n1 w hw).1.fr (fun i _ => ex 2 _ i (by omega)) (ex 1 _ 1 (by omega)), (n1 w hw).2⟩
    refine bth_p (x := (o : Int)) (PA := fun σ1 => Mfin (subE E (ν v.toNat)) kn tx (upS σ 0 0 5 1) o bf y σ1) (PC := fun σ1 σ2 => MMf (subE E (ν v.toNat)) σ1 o bf y σ2) ?_ (fun σ1 h1 => ?_) (fun σ1 σ2 h1 h2 => ?_)
    · refine run 30 ?_
      refine call_eq (fun F hF => tw_Mill_isVariable hF) ?_
      refine And.intro (fun h => absurd (show (if 0 ≤ v ∧ v < 8 then (1 : Int) else 0) = 0 from h) (by rw [if_pos hv]; omega)) (fun h => ?_)
      refine call_eq (fun F hF => tw_Nodes_is hF) ?_
      refine And.intro (fun h => ?_) (fun h => absurd (show ¬ (if 0 ≤ k ∧ k < σ 4 0 4 then (1 : Int) else 0) = 0 by rw [hC.1, if_pos hk]; omega) h)
      refine And.intro (Or.inr rfl) ?_
      refine And.intro hv ?_
      refine call_any (Y := fun v0 s => v0 = some (.inl (o : Int)) ∧ ∃ σ1, s = (nx, σ1, rX kn tx) ∧ Mfin (subE E (ν v.toNat)) kn tx (upS σ 0 0 5 1) o bf y σ1) ?_ ?_
      · show vT 3 (T_Matcher_match SL xs) [.inr (some (9, 0)), .inr (if v.toNat < 8 then some (1, 3 + v.toNat) else none), .inl k, .inl an] (nx, upS σ 0 0 5 1, rX kn tx) _
        rw [vref hv, ← hkc]
        exact tw_Matcher_match hRM hv8 rfl (by show k.toNat < ect E; omega) hm (fun σ1 h => ⟨rfl, σ1, rfl, h⟩)
      · intro v0 s hv0
        obtain ⟨rfl, σ1, rfl, h1⟩ := hv0
        exact ⟨rfl, σ1, rfl, h1⟩
    · have fr1 : ∀ a b j, 26 ≤ a → σ1 a b j = σ a b j := fun a b j h => by rw [h1.1 a b j (by omega) (by omega), ex a b j (by omega)]
      have hM1 : RMm (subE E (ν v.toNat)) σ1 ν := ⟨hO', by rw [fr1 26 0 5 (by omega)]; exact hM.1, fun k' hk' => by
        obtain ⟨k1, k2, k3, k4, k5⟩ := hM.2 k' hk'
        exact ⟨by rw [fr1 30 0 k' (by omega)]; exact k1, by rw [fr1 31 0 k' (by omega)]; exact k2, by rw [fr1 32 0 k' (by omega)]; exact k3, k4.fr (fun i _ => fr1 33 0 _ (by omega)) (fr1 34 0 _ (by omega)), k5⟩, fun w hw => ⟨(n2 w hw).1.fr (fun i _ => fr1 28 0 _ (by omega)) (fr1 29 0 _ (by omega)), (n2 w hw).2⟩, hb'⟩
      have K := tw_Model_match (SL := SL) (xs := xs) (nx := nx) (kn := kn) (tx := tx) (F := fun v0 s => v0 = some (.inl (o : Int)) ∧ ∃ σ2, s = (nx, σ2, rX kn tx) ∧ MMf (subE E (ν v.toNat)) σ1 o bf y σ2) (v := v.toNat) (k := k.toNat) hM1 hv8 rfl (by show k.toNat < ect E; omega) hm (fun σ2 h => ⟨rfl, σ2, rfl, h⟩)
      rw [hvc, hkc] at K
      exact K
    · have fr1 : ∀ a b j, ¬ a = 0 → ¬ (9 ≤ a ∧ a ≤ 25) → ¬ ((a = 1 ∨ a = 2) ∧ 2 ≤ b ∧ b < 11) → σ1 a b j = σ a b j := fun a b j h3 h4 h5 => by rw [h1.1 a b j h4 h5, ex a b j h3]
      have fr2 := h2.1
      have fr3 : ∀ a b j, a < 26 → σ2 a b j = σ1 a b j := fun a b j h => fr2 a b j (by omega) (by omega)
      have hmat : σ1 0 0 5 = 1 := by rw [h1.1 0 0 5 (by omega) (by omega), upS_same]
      have hn : ∀ ν', NuC ν' σ1 → NuM ν' σ2 → bnu ν' → nuR σ2 ν' := fun ν' q1 q2 q3 => ⟨fun w hw => ⟨(q1 w hw).1.fr (fun i _ => fr3 2 _ i (by omega)) (fr3 1 _ 1 (by omega)), (q1 w hw).2⟩, q2, q3⟩
      have hsl2 : slR σ2 sl := hsl.fr (fun j => by rw [fr3 2 0 j (by omega), fr1 2 0 j (by omega) (by omega) (by omega)]) (by rw [fr3 1 0 1 (by omega), fr1 1 0 1 (by omega) (by omega) (by omega)]) (fun j => by rw [fr2 27 0 j (by omega) (by omega), fr1 27 0 j (by omega) (by omega) (by omega)]) (by rw [fr2 26 0 2 (by omega) (by omega), fr1 26 0 2 (by omega) (by omega) (by omega)])
      have hC2 : NdC E σ2 kn := hC.fr (by rw [fr3 4 0 4 (by omega), fr1 4 0 4 (by omega) (by omega) (by omega)]) (fun j => by rw [fr3 6 0 j (by omega), fr1 6 0 j (by omega) (by omega) (by omega)]) (fun j => by rw [fr3 7 0 j (by omega), fr1 7 0 j (by omega) (by omega) (by omega)]) (fun b j hb => by rw [fr3 2 b j (by omega), fr1 2 b j (by omega) (by omega) (by omega)]) (fun b hb => by rw [fr3 1 b 1 (by omega), fr1 1 b 1 (by omega) (by omega) (by omega)])
      have hM2 : NdM E σ2 := hM.fr (by rw [fr2 26 0 5 (by omega) (by omega), fr1 26 0 5 (by omega) (by omega) (by omega)]) (fun a j h3 h4 => by rw [fr2 a 0 j (by omega) (by omega), fr1 a 0 j (by omega) (by omega) (by omega)])
      obtain ⟨-, m11, hA⟩ := h1
      obtain ⟨-, g11, hB⟩ := h2
      rcases hA with ⟨ho, p, c, q, ν1, nn, hy, hp, hRB, m7, mb1, mb2, m10⟩ | ⟨ho, hRB⟩
      · rcases hB with ⟨-, p2, c2, q2, ν2, nn2, hy2, g1, g2, g3, g12, g13, g14⟩ | ⟨ho2, -⟩
        · rw [hy] at hy2
          cases hy2
          have hbf : ∃ b : Nat, bf = b + 1 := ⟨bf - 1, by omega⟩
          obtain ⟨b, rfl⟩ := hbf
          refine ⟨hi, sl, _, E, ⟨r1, r2, r3, r4⟩, hsl2, hn _ hRB.2.2.1 g3 (keepA_J hb' _ _ (by rw [hy] at hJ; exact hJ)), ⟨hC2, hM2, hO, hE0⟩, Or.inr ⟨by rw [fr3 0 0 5 (by omega)]; exact hmat, g11, by rw [fr3 9 0 6 (by omega), g14]; exact hRB.2.2.2, Or.inl ⟨by rw [fr3 9 0 11 (by omega), m11, ho]; rfl, b, p, by rw [fr3 9 0 10 (by omega), m10]; omega, by rw [g12]; omega, by rw [fr3 9 0 7 (by omega)]; exact m7, g13, by omega, ?_⟩⟩⟩
          have : p ≤ (ν v.toNat).length := hp
          omega
        · exact absurd ho ho2
      · rcases hB with ⟨ho2, -⟩ | ⟨-, g3, g12, g13, g14⟩
        · exact absurd ho2 ho
        · exact ⟨hi, sl, _, E, ⟨r1, r2, r3, r4⟩, hsl2, hn _ hRB.2.2.1 g3 hJ, ⟨hC2, hM2, hO, hE0⟩, Or.inr ⟨by rw [fr3 0 0 5 (by omega)]; exact hmat, g11, by rw [fr3 9 0 6 (by omega), g14]; exact hRB.2.2.2, Or.inr ⟨by rw [fr3 9 0 11 (by omega), m11]; omega, g12, g13⟩⟩⟩
  · refine bth_no (x := -1) hR0 ?_ ?_
    · refine run 30 ?_
      refine call_eq (fun F hF => tw_Mill_isVariable hF) ?_
      refine And.intro (fun h => ⟨rfl, rfl⟩) (fun h => ?_)
      have h : ¬ (if 0 ≤ v ∧ v < 8 then (1 : Int) else 0) = 0 := h
      have h := Classical.not_not.mp (fun z => h (ite0.mpr z))
      refine call_eq (fun F hF => tw_Nodes_is hF) ?_
      refine And.intro (fun h2 => ?_) (fun h2 => ⟨rfl, rfl⟩)
      have h2 : ¬ (if 0 ≤ k ∧ k < σ 4 0 4 then (1 : Int) else 0) = 0 := h2
      have h2 := Classical.not_not.mp (fun z => h2 (ite0.mpr z))
      rw [hC.1] at h2
      exact absurd ⟨h, h2⟩ hok
    · exact tw_Model_match_no (by rw [hM.1]; exact hok) ⟨rfl, rfl⟩
end
