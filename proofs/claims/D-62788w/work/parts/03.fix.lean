/-! The least fixed point, and n steps at once -/
section
variable {SL : Nat} {xs : Nat → Int} {F : Option Av → St → Prop}
theorem cond_mono {b : Bool} {A B : Prop} (h : A → B) (H : bif b then A else False) : bif b then B else False := by
  cases b
  · exact H
  · exact h H
theorem swt_mono {x : Int} {P Q : Nat → Prop} {d : Nat} (h : ∀ t, P t → Q t) : ∀ (l : List (Int × Nat)), swt x P d l → swt x Q d l
  | [], H => h _ H
  | (k, t) :: r, H => ⟨fun e => h _ (H.1 e), fun e => swt_mono h r (H.2 e)⟩
set_option maxHeartbeats 4000000 in
theorem stp_mono {M : Me} {P Q : Cf → Prop} (h : ∀ c, P c → Q c) (c : Cf) (H : stp SL xs M F P c) : stp SL xs M F Q c := by
  obtain ⟨fl, kl, sl, code, cs, nL, MC, MS, ini, rt⟩ := M
  obtain ⟨pc, lv, st, s, kc, ks⟩ := c
  simp only [stp] at H ⊢
  revert H
  generalize code pc = z
  intro H
  rcases z with _ | ⟨i, nx, tg, cas⟩
  · exact H
  · cases i
    all_goals first
      | exact H
      | exact h _ H
      | (simp only at H ⊢
         split at H <;> first | exact h _ H | exact H.elim)
      | (simp only at H ⊢
         split at H <;> first | exact H.elim | exact cond_mono (h _) H)
      | (simp only at H ⊢
         revert H
         generalize nth lv _ = z
         intro H
         split at H <;> first | exact h _ H | exact H.elim | exact cond_mono (h _) H)
      | (simp only at H ⊢
         split at H <;> first | exact H.elim | exact ⟨H.1, h _ H.2⟩)
      | (simp only at H ⊢
         split at H <;> first | exact H.elim | exact ⟨fun e => h _ (H.1 e), fun e => h _ (H.2 e)⟩)
      | (simp only at H ⊢
         split at H <;> first | exact H.elim | exact swt_mono (fun t => h _) _ H)
      | skip
    case aaload =>
      simp only at H ⊢
      split at H
      · rename_i x a b r
        cases hb : Nat.beq a 46
        · simp only [hb, cond_false] at H ⊢
          revert H
          generalize shp a = z
          intro H
          split at H <;> first | exact H.elim | exact ⟨H.1, h _ H.2⟩
        · simp only [hb, cond_true] at H ⊢
          exact ⟨H.1, h _ H.2⟩
      · exact H.elim
    case iaload =>
      simp only at H ⊢
      split at H
      · rename_i x a b r
        cases hb : Nat.beq a 47
        · simp only [hb, cond_false] at H ⊢
          revert H
          generalize shp a = z
          intro H
          split at H <;> first | exact H.elim | exact ⟨H.1, h _ H.2⟩
        · simp only [hb, cond_true] at H ⊢
          exact ⟨H.1, h _ H.2⟩
      · exact H.elim
    case baload =>
      simp only at H ⊢
      split at H
      · rename_i x a b r
        revert H
        generalize shp a = z
        intro H
        split at H <;> first | exact H.elim | exact ⟨H.1, h _ H.2⟩
      · exact H.elim
    case iastore =>
      simp only at H ⊢
      split at H
      · rename_i v x a b r
        revert H
        generalize shp a = z
        intro H
        split at H <;> first | exact H.elim | exact ⟨H.1, h _ H.2⟩
      · exact H.elim
    case bastore =>
      simp only at H ⊢
      split at H
      · rename_i v x a b r
        revert H
        generalize shp a = z
        intro H
        split at H <;> first | exact H.elim | exact ⟨H.1, h _ H.2⟩ | exact ⟨H.1, H.2.1, h _ H.2.2⟩
      · exact H.elim
    case aastore =>
      simp only at H ⊢
      split at H
      · rename_i a1 b1 x a b r
        revert H
        generalize shp a = z
        intro H
        split at H <;> first | exact H.elim | exact cond_mono (fun K => ⟨K.1, h _ K.2⟩) H
      · exact H.elim
    case arraylength =>
      simp only at H ⊢
      split at H
      · rename_i a b r
        cases hb : Nat.beq a 47
        · simp only [hb, cond_false] at H ⊢
          exact cond_mono (h _) H
        · simp only [hb, cond_true] at H ⊢
          exact h _ H
      · exact H.elim
    case getfield k =>
      simp only at H ⊢
      split at H
      · rename_i a b r
        revert H
        generalize fl k = y
        generalize shp a = z
        intro H
        split at H
        · rename_i ci j
          split at H
          · rename_i cj
            refine cond_mono (fun K => ?_) H
            cases hb : Nat.beq ci 8
            · simp only [hb, cond_false] at K ⊢
              revert K
              generalize fk ci j = y
              intro K
              split at K <;> exact h _ K
            · simp only [hb, cond_true] at K ⊢
              exact h _ K
          · exact H.elim
        · exact H.elim
      · exact H.elim
    case putfield k =>
      simp only at H ⊢
      split at H
      · rename_i x a b r
        revert H
        generalize fl k = y
        generalize shp a = z
        intro H
        split at H
        · rename_i ci j
          split at H
          · rename_i cj
            refine cond_mono (fun K => ?_) H
            revert K
            generalize fk ci j = y
            intro K
            split at K <;> first | exact h _ K | exact ⟨K.1, h _ K.2⟩ | exact K.elim
          · exact H.elim
        · exact H.elim
      · rename_i x a b r
        revert H
        generalize fl k = y
        generalize shp a = z
        intro H
        split at H
        · rename_i ci j
          split at H
          · rename_i cj
            refine cond_mono (fun K => ?_) H
            revert K
            generalize fk ci j = y
            intro K
            split at K <;> first | exact h _ K | exact ⟨K.1, h _ K.2⟩ | exact K.elim
          · exact H.elim
        · exact H.elim
      · exact H.elim
    case if_acmp cd off =>
      cases cd
      · exact H
      · simp only at H ⊢
        split at H <;> first | exact H.elim | exact cond_mono (fun K => ⟨fun e => h _ (K.1 e), fun e => h _ (K.2 e)⟩) H
    case new k =>
      simp only at H ⊢
      revert H
      generalize kl k = y
      intro H
      split at H
      · rename_i ci
        revert H
        generalize nth oaL ci = y
        generalize nth frL ci = z
        intro H
        split at H
        · obtain ⟨b, h1, h2⟩ := H
          exact ⟨b, h1, cond_mono (h _) h2⟩
        · exact H.elim
      · exact H.elim
    case newarray ty =>
      simp only at H ⊢
      split at H
      · obtain ⟨a, b, h1, h2⟩ := H
        exact ⟨a, b, h1, cond_mono (h _) h2⟩
      · exact H.elim
    case anewarray k =>
      simp only at H ⊢
      split at H
      · revert H
        generalize kl k = y
        intro H
        split at H
        · obtain ⟨a, b, t, h1, h2⟩ := H
          exact ⟨a, b, t, h1, cond_mono (h _) h2⟩
        · exact H.elim
      · exact H.elim
    case invokevirtual k =>
      simp only at H ⊢
      revert H
      generalize cs k = y
      intro H
      split at H
      · rename_i n mc ms T
        revert H
        generalize popn n [] st = y
        intro H
        split at H
        · refine cond_mono (fun K => ?_) H
          obtain ⟨Y, k1, k2⟩ := K
          exact ⟨Y, k1, fun v s' e => h _ (k2 v s' e)⟩
        · exact H.elim
      · exact H.elim
    case invokespecial k =>
      simp only at H ⊢
      revert H
      generalize cs k = y
      intro H
      split at H
      · rename_i n mc ms T
        revert H
        generalize popn n [] st = y
        intro H
        split at H
        · refine cond_mono (fun K => ?_) H
          obtain ⟨Y, k1, k2⟩ := K
          exact ⟨Y, k1, fun v s' e => h _ (k2 v s' e)⟩
        · exact H.elim
      · exact H.elim
    case invokestatic k =>
      simp only at H ⊢
      revert H
      generalize cs k = y
      intro H
      split at H
      · rename_i n mc ms T
        revert H
        generalize popn n [] st = y
        intro H
        split at H
        · refine cond_mono (fun K => ?_) H
          obtain ⟨Y, k1, k2⟩ := K
          exact ⟨Y, k1, fun v s' e => h _ (k2 v s' e)⟩
        · exact H.elim
      · exact H.elim
end
/-- the least fixed point: it comes to its end, and F holds there -/
def Xz (SL : Nat) (xs : Nat → Int) (M : Me) (F : Option Av → St → Prop) (c : Cf) : Prop := ∀ P : Cf → Prop, (∀ c, stp SL xs M F P c → P c) → P c
def wpg (SL : Nat) (xs : Nat → Int) (M : Me) (F : Option Av → St → Prop) : Nat → Cf → Prop
  | 0, c => Xz SL xs M F c
  | n + 1, c => stp SL xs M F (wpg SL xs M F n) c
section
variable {SL : Nat} {xs : Nat → Int} {F : Option Av → St → Prop} {M : Me}
theorem Xz_in {c : Cf} (h : stp SL xs M F (Xz SL xs M F) c) : Xz SL xs M F c := fun P hP => hP c (stp_mono (fun _ h' => h' P hP) c h)
theorem Xz_out {c : Cf} (h : Xz SL xs M F c) : stp SL xs M F (Xz SL xs M F) c := h (fun c => stp SL xs M F (Xz SL xs M F) c) (fun c h' => stp_mono (fun _ h2 => Xz_in h2) c h')
theorem run {c : Cf} (n : Nat) (h : wpg SL xs M F n c) : Xz SL xs M F c := by
  induction n generalizing c with
  | zero => exact h
  | succ n ih => exact Xz_in (stp_mono (fun c' h' => ih h') c h)
theorem leaf {n : Nat} {c : Cf} (h : Xz SL xs M F c) : wpg SL xs M F n c := by
  induction n generalizing c with
  | zero => exact h
  | succ n ih => exact stp_mono (fun c' h' => ih h') c (Xz_out h)
end
theorem stp_post {SL : Nat} {xs : Nat → Int} {M : Me} {F F' : Option Av → St → Prop} {P : Cf → Prop} (h : ∀ v s, F v s → F' v s) (c : Cf) (H : stp SL xs M F P c) : stp SL xs M F' P c := by
  obtain ⟨fl, kl, sl, code, cs, nL, MC, MS, ini, rt⟩ := M
  obtain ⟨pc, lv, st, s, kc, ks⟩ := c
  simp only [stp] at H ⊢
  revert H
  generalize code pc = z
  intro H
  rcases z with _ | ⟨i, nx, tg, cas⟩
  · exact H
  · cases i
    case ireturn =>
      simp only at H ⊢
      split at H
      · split at H <;> first | exact h _ _ H | exact ⟨H.1, h _ _ H.2⟩ | exact H.elim
      · exact H.elim
    case return_ =>
      simp only at H ⊢
      split at H
      · split at H <;> first | exact h _ _ H | exact H.elim
      · exact H.elim
    case if_acmp cd off => cases cd <;> exact H
    all_goals exact H
theorem Xz_post {SL : Nat} {xs : Nat → Int} {M : Me} {F F' : Option Av → St → Prop} (h : ∀ v s, F v s → F' v s) {c : Cf} (H : Xz SL xs M F c) : Xz SL xs M F' c := fun P hP => H P (fun c' h' => hP c' (stp_post h c' h'))
