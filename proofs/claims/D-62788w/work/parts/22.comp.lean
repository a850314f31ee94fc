/-! The component's small methods -/
theorem upS_upS {f : Sg} {a b j : Nat} {v w : Int} : upS (upS f a b j v) a b j w = upS f a b j w := by
  funext a' b' j'
  simp only [upS]
  split <;> rfl
theorem upS_id {f : Sg} {a b j : Nat} {v : Int} (h : f a b j = v) : upS f a b j v = f := by
  funext a' b' j'
  simp only [upS]
  split
  · rename_i hq
    obtain ⟨rfl, rfl, rfl⟩ := hq
    exact h.symm
  · rfl
theorem b8s : ∀ k : Nat, k < 128 → b8 (k : Int) = k := by decide +kernel
def gadW (σ : Sg) (w a f g t : Int) : Sg := upS (upS (upS (upS (upS σ 11 0 (σ 10 0 4).toNat w) 12 0 (σ 10 0 4).toNat a) 13 0 (σ 10 0 4).toNat f) 14 0 (σ 10 0 4).toNat g) 10 0 4 t
def gad (σ : Sg) (w a f g : Int) : Sg := gadW σ w a f g (σ 10 0 4 + 1)
def kad (σ : Sg) (v f u : Int) : Sg := upS (upS (upS (upS σ 23 0 (σ 22 0 3).toNat v) 24 0 (σ 22 0 3).toNat f) 25 0 (σ 22 0 3).toNat u) 22 0 3 (σ 22 0 3 + 1)
def cadW (σ : Sg) (k p g z : Int) : Sg := upS (upS (upS (upS (upS (upS (upS σ 16 0 (σ 15 0 6).toNat k) 17 0 (σ 15 0 6).toNat p) 18 0 (σ 15 0 6).toNat g) 19 0 (σ 15 0 6).toNat (σ 10 0 4)) 20 0 (σ 15 0 6).toNat (σ 22 0 3)) 21 0 (σ 15 0 6).toNat 0) 15 0 6 z
def cad (σ : Sg) (k p g : Int) : Sg := cadW σ k p g (σ 15 0 6 + 1)
section
variable {SL : Nat} {xs : Nat → Int} {nx : Nat} {σ : Sg} {kn : Nat → Option Nat} {tx : Nat → Bool} {F : Option Av → St → Prop} {t : Nat}
theorem tw_Goals_add {w : Nat} {a f g : Int} (ht : 0 ≤ σ 10 0 4 ∧ σ 10 0 4 < 8192) (hw : w < 128) (hF : F (some (.inl (σ 10 0 4))) (nx, gad σ w a f g, rX kn tx)) : T_Goals_add SL xs [.inr (some (10, 0)), .inl w, .inl a, .inl f, .inl g] (nx, σ, rX kn tx) F := by
  have e0 : wr (σ 10 0 4 + 1) = σ 10 0 4 + 1 := wr_eq ⟨by omega, by omega⟩
  have e1 : wr (wr (σ 10 0 4 + 1) - 1) = σ 10 0 4 := by rw [e0, wr_eq ⟨by omega, by omega⟩]; omega
  have K : F (some (.inl (wr (wr (σ 10 0 4 + 1) - 1)))) (nx, gadW σ (b8 (b8 w)) a f g (wr (σ 10 0 4 + 1)), rX kn tx) := by
    rw [e1, e0, b8s w hw, b8s w hw]
    exact hF
  refine run 50 ?_
  refine And.intro ht ?_
  refine And.intro ht ?_
  refine And.intro ht ?_
  refine And.intro ht ?_
  exact K
theorem tw_Kept_add {v f u : Int} (ht : 0 ≤ σ 22 0 3 ∧ σ 22 0 3 < 8192) (hF : F none (nx, kad σ v f u, rX kn tx)) : T_Kept_add SL xs [.inr (some (22, 0)), .inl v, .inl f, .inl u] (nx, σ, rX kn tx) F := by
  have e0 : wr (σ 22 0 3 + 1) = σ 22 0 3 + 1 := wr_eq ⟨by omega, by omega⟩
  have K : F none (nx, upS (upS (upS (upS σ 23 0 (σ 22 0 3).toNat v) 24 0 (σ 22 0 3).toNat f) 25 0 (σ 22 0 3).toNat u) 22 0 3 (wr (σ 22 0 3 + 1)), rX kn tx) := by
    rw [e0]
    exact hF
  refine run 50 ?_
  refine And.intro ht ?_
  refine And.intro ht ?_
  refine And.intro ht ?_
  exact K
theorem tw_Matcher_choose {k : Nat} {p g : Int} (ht : 0 ≤ σ 15 0 6 ∧ σ 15 0 6 < 4096) (hk : k < 128) (hF : F none (nx, cad σ k p g, rX kn tx)) : T_Matcher_choose SL xs [.inr (some (9, 0)), .inl k, .inl p, .inl g, .inl 0] (nx, σ, rX kn tx) F := by
  have e0 : wr (σ 15 0 6 + 1) = σ 15 0 6 + 1 := wr_eq ⟨by omega, by omega⟩
  have K : F none (nx, cadW σ (b8 (b8 k)) p g (wr (σ 15 0 6 + 1)), rX kn tx) := by
    rw [e0, b8s k hk, b8s k hk]
    exact hF
  refine run 60 ?_
  refine And.intro ht ?_
  refine And.intro ht ?_
  refine And.intro ht ?_
  refine And.intro ht ?_
  refine And.intro ht ?_
  refine And.intro ht ?_
  exact K
theorem tw_Matcher_further {p n : Nat} (hp : σ 9 0 7 = p) (hn : σ 1 2 1 = n) (h64 : n ≤ 64) (hpn : p < 100) (ht : 0 ≤ σ 15 0 6 ∧ σ 15 0 6 < 4096)
    (hF1 : p + 1 < n → F none (nx, cad (upS σ 9 0 7 ((p + 1 : Nat) : Int)) 1 ((p + 1 : Nat) : Int) (σ 9 0 8), rX kn tx)) (hF0 : ¬ p + 1 < n → F none (nx, upS σ 9 0 7 ((p + 1 : Nat) : Int), rX kn tx)) : T_Matcher_further SL xs [.inr (some (9, 0))] (nx, σ, rX kn tx) F := by
  have e0 : wr (σ 9 0 7 + 1) = ((p + 1 : Nat) : Int) := by rw [hp, wr_eq ⟨by omega, by omega⟩]; omega
  rw [← e0] at hF1 hF0
  refine run 60 ?_
  refine And.intro (fun h => ?_) (fun h => ?_)
  · have h : σ 1 2 1 ≤ wr (σ 9 0 7 + 1) := h
    rw [e0, hn] at h
    exact hF0 (by omega)
  · have h : ¬ σ 1 2 1 ≤ wr (σ 9 0 7 + 1) := h
    rw [e0, hn] at h
    exact call_eq (fun F hF => tw_Matcher_choose (k := 1) (σ := upS σ 9 0 7 (wr (σ 9 0 7 + 1))) ht (by omega) hF) (hF1 (by omega))
theorem lp_Matcher_balances {S : List Int} {g : Int} (hS : tl (σ 2 2) (σ 1 2 1) S) (h64 : S.length ≤ 64) (ht : 0 ≤ σ 15 0 6 ∧ σ 15 0 6 < 4096) (op : Int) : ∀ (m : Nat) (d : Int) (p : Nat) (l3 : Option Av), p + m = S.length → 0 ≤ d → d ≤ p →
    (∀ p', balF S m d p = some p' → F (some (.inl 1)) (nx, cad (upS σ 9 0 7 (p' : Int)) 2 (p' : Int) (σ 9 0 8), rX kn tx)) → (balF S m d p = none → ∀ p' : Int, F (some (.inl 0)) (nx, upS σ 9 0 7 p', rX kn tx)) →
    Xz SL xs (m_Matcher_balances SL xs) F (2, [some (.inr (some (9, 0))), some (.inl op), some (.inl d), l3], [], (nx, upS σ 9 0 7 (p : Int), rX kn tx), 0, 0) := by
  have hlen : σ 1 2 1 = S.length := hS.1
  intro m
  induction m with
  | zero =>
    intro d p l3 hp hd hdp hF1 hF0
    refine run 60 ?_
    refine And.intro (fun h => ?_) (fun h => ?_)
    · exact And.intro (Or.inl rfl) (hF0 rfl _)
    · have h : ¬ σ 1 2 1 ≤ (p : Int) := h
      rw [hlen] at h
      omega
  | succ m ih =>
    intro d p l3 hp hd hdp hF1 hF0
    have hsg : σ 2 2 (p : Int).toNat = S.getD p 0 := by rw [show (p : Int).toNat = p by omega]; exact hS.2 p (by omega)
    have hw : wr ((p : Int) + 1) = ((p + 1 : Nat) : Int) := by rw [wr_eq ⟨by omega, by omega⟩]; omega
    have fin : ∀ (b : Int), brc (S.getD p 0) = b → (b = 1 ∨ b = -1 ∨ b = 0) → Xz SL xs (m_Matcher_balances SL xs) F (51, [some (.inr (some (9, 0))), some (.inl op), some (.inl d), some (.inl (σ 2 2 (p : Int).toNat))], [.inl b, .inl d], (nx, upS σ 9 0 7 (p : Int), rX kn tx), 0, 0) := by
      intro b hb hb3
      have hwd : wr (d + b) = d + b := wr_eq ⟨by omega, by omega⟩
      refine run 60 ?_
      refine And.intro (fun h => ?_) (fun h => ?_)
      · have h : 0 ≤ wr (d + b) := h
        rw [hwd] at h
        refine And.intro (fun h2 => ?_) (fun h2 => ?_)
        · have h2 : wr (d + b) ≤ 0 := h2
          rw [hwd] at h2
          have hbal : balF S (m + 1) d p = some (p + 1) := by
            simp only [balF, hb]
            rw [if_neg (by omega), if_neg (by omega)]
          have K := hF1 (p + 1) hbal
          rw [← hw, ← upS_upS (v := (p : Int))] at K
          exact call_eq (fun F hF => tw_Matcher_choose (k := 2) (σ := upS (upS σ 9 0 7 (p : Int)) 9 0 7 (wr ((p : Int) + 1))) (g := σ 9 0 8) (p := wr ((p : Int) + 1)) ht (by omega) hF) (And.intro (Or.inr rfl) K)
        · have h2 : ¬ wr (d + b) ≤ 0 := h2
          rw [hwd] at h2
          have hbal : balF S (m + 1) d p = balF S m (d + b) (p + 1) := by
            simp only [balF, hb]
            rw [if_neg (by omega), if_pos (by omega)]
          rw [hbal] at hF1 hF0
          have K := ih (d + b) (p + 1) (some (.inl (σ 2 2 (p : Int).toNat))) (by omega) (by omega) (by omega) hF1 hF0
          rw [← hw, ← hwd, ← upS_upS (v := (p : Int))] at K
          exact leaf (by first | exact run 1 K | exact run 2 K | exact run 3 K)
      · have h : ¬ 0 ≤ wr (d + b) := h
        rw [hwd] at h
        have hbal : balF S (m + 1) d p = none := by
          simp only [balF, hb]
          rw [if_pos (by omega)]
        exact And.intro (Or.inl rfl) (hF0 hbal _)
    refine run 60 ?_
    refine And.intro (fun h => ?_) (fun h => ?_)
    · have h : σ 1 2 1 ≤ (p : Int) := h
      rw [hlen] at h
      omega
    · refine And.intro ⟨show (0 : Int) ≤ (p : Int) by omega, show (p : Int) < 64 by omega⟩ ?_
      refine And.intro (fun h => ?_) (fun h => ?_)
      · have h : ¬ σ 2 2 (p : Int).toNat = 40 := h
        rw [hsg] at h
        refine And.intro (fun h2 => ?_) (fun h2 => ?_)
        · have h2 : ¬ σ 2 2 (p : Int).toNat = 41 := h2
          rw [hsg] at h2
          have K := fin 0 (by unfold brc; rw [if_neg h, if_neg h2]) (by omega)
          exact leaf (by first | exact run 1 K | exact run 2 K | exact run 3 K)
        · have h2 : σ 2 2 (p : Int).toNat = 41 := Classical.not_not.mp h2
          rw [hsg] at h2
          have K := fin (-1) (by unfold brc; rw [if_neg h, if_pos h2]) (by omega)
          exact leaf (by first | exact run 1 K | exact run 2 K | exact run 3 K)
      · have h : σ 2 2 (p : Int).toNat = 40 := Classical.not_not.mp h
        rw [hsg] at h
        have K := fin 1 (by unfold brc; rw [if_pos h]) (by omega)
        exact leaf (by first | exact run 1 K | exact run 2 K | exact run 3 K)
theorem tw_Matcher_balances {S : List Int} {p : Nat} (hS : tl (σ 2 2) (σ 1 2 1) S) (h64 : S.length ≤ 64) (ht : 0 ≤ σ 15 0 6 ∧ σ 15 0 6 < 4096) (hp : σ 9 0 7 = p) (hpn : p ≤ S.length)
    (hF1 : ∀ p', balN S p = some p' → F (some (.inl 1)) (nx, cad (upS σ 9 0 7 (p' : Int)) 2 (p' : Int) (σ 9 0 8), rX kn tx)) (hF0 : balN S p = none → ∀ p' : Int, F (some (.inl 0)) (nx, upS σ 9 0 7 p', rX kn tx)) : T_Matcher_balances SL xs [.inr (some (9, 0)), .inl 0] (nx, σ, rX kn tx) F := by
  have K := lp_Matcher_balances (SL := SL) (xs := xs) (g := 0) hS h64 ht 0 (S.length - p) 0 p none (by omega) (by omega) (by omega) hF1 hF0
  rw [upS_id hp] at K
  exact run 2 K
theorem lp_Matcher_run {l S : List Int} {t : Nat} (hl : tl (σ 2 t) (σ 1 t 1) l) (hl64 : l.length ≤ 64) (hS : tl (σ 2 2) (σ 1 2 1) S) (h64 : S.length ≤ 64) : ∀ (m p : Nat), p + m = S.length → F (some (.inl (scanB (fun x => decide (x ∈ l)) S m p : Nat))) (nx, σ, rX kn tx) → Xz SL xs (m_Matcher_run SL xs) F (5, [some (.inr (some (9, 0))), some (.inr (some (1, t))), some (.inl p)], [], (nx, σ, rX kn tx), 0, 0) := by
  have hlen : σ 1 2 1 = S.length := hS.1
  intro m
  induction m with
  | zero =>
    intro p hp hF
    refine run 60 ?_
    refine And.intro (fun h => hF) (fun h => ?_)
    have h : ¬ σ 1 2 1 ≤ (p : Int) := h
    rw [hlen] at h
    omega
  | succ m ih =>
    intro p hp hF
    have hsg : σ 2 2 (p : Int).toNat = S.getD p 0 := by rw [show (p : Int).toNat = p by omega]; exact hS.2 p (by omega)
    have hw : wr ((p : Int) + 1) = ((p + 1 : Nat) : Int) := by rw [wr_eq ⟨by omega, by omega⟩]; omega
    refine run 60 ?_
    refine And.intro (fun h => ?_) (fun h => ?_)
    · have h : σ 1 2 1 ≤ (p : Int) := h
      rw [hlen] at h
      omega
    · refine And.intro ⟨show (0 : Int) ≤ (p : Int) by omega, show (p : Int) < 64 by omega⟩ ?_
      refine call_eq (fun F hF => tw_Text_has hl hl64 hF) ?_
      refine And.intro (fun h => ?_) (fun h => ?_)
      · have h : (if σ 2 2 (p : Int).toNat ∈ l then (1 : Int) else 0) = 0 := h
        rw [hsg] at h
        have hn : ¬ S.getD p 0 ∈ l := fun q => by rw [if_pos q] at h; omega
        simp only [scanB, decide_eq_true_eq] at hF
        rw [if_neg hn] at hF
        exact hF
      · have h : ¬ (if σ 2 2 (p : Int).toNat ∈ l then (1 : Int) else 0) = 0 := h
        rw [hsg] at h
        have hn : S.getD p 0 ∈ l := Classical.not_not.mp (fun q => h (by rw [if_neg q]))
        simp only [scanB, decide_eq_true_eq] at hF
        rw [if_pos hn] at hF
        have K := ih (p + 1) (by omega) hF
        rw [← hw] at K
        exact leaf (by first | exact run 1 K | exact run 2 K | exact run 3 K)
theorem tw_Matcher_run {l S : List Int} {t p : Nat} (hl : tl (σ 2 t) (σ 1 t 1) l) (hl64 : l.length ≤ 64) (hS : tl (σ 2 2) (σ 1 2 1) S) (h64 : S.length ≤ 64) (hp : σ 9 0 7 = p) (hpn : p ≤ S.length) (hF : F (some (.inl (spn l S p : Nat))) (nx, σ, rX kn tx)) : T_Matcher_run SL xs [.inr (some (9, 0)), .inr (some (1, t))] (nx, σ, rX kn tx) F := by
  have K := lp_Matcher_run (SL := SL) (xs := xs) hl hl64 hS h64 (S.length - p) p (by omega) hF
  rw [← hp] at K
  exact run 3 K
theorem lp_Matcher_breaks {l S : List Int} {t : Nat} (hl : tl (σ 2 t) (σ 1 t 1) l) (hl64 : l.length ≤ 64) (hS : tl (σ 2 2) (σ 1 2 1) S) (h64 : S.length ≤ 64) : ∀ (m p : Nat), p + m = S.length → F (some (.inl (scanB (fun x => !decide (x ∈ l)) S m p : Nat))) (nx, σ, rX kn tx) → Xz SL xs (m_Matcher_breaks SL xs) F (5, [some (.inr (some (9, 0))), some (.inr (some (1, t))), some (.inl p)], [], (nx, σ, rX kn tx), 0, 0) := by
  have hlen : σ 1 2 1 = S.length := hS.1
  intro m
  induction m with
  | zero =>
    intro p hp hF
    refine run 60 ?_
    refine And.intro (fun h => hF) (fun h => ?_)
    have h : ¬ σ 1 2 1 ≤ (p : Int) := h
    rw [hlen] at h
    omega
  | succ m ih =>
    intro p hp hF
    have hsg : σ 2 2 (p : Int).toNat = S.getD p 0 := by rw [show (p : Int).toNat = p by omega]; exact hS.2 p (by omega)
    have hw : wr ((p : Int) + 1) = ((p + 1 : Nat) : Int) := by rw [wr_eq ⟨by omega, by omega⟩]; omega
    refine run 60 ?_
    refine And.intro (fun h => ?_) (fun h => ?_)
    · have h : σ 1 2 1 ≤ (p : Int) := h
      rw [hlen] at h
      omega
    · refine And.intro ⟨show (0 : Int) ≤ (p : Int) by omega, show (p : Int) < 64 by omega⟩ ?_
      refine call_eq (fun F hF => tw_Text_has hl hl64 hF) ?_
      refine And.intro (fun h => ?_) (fun h => ?_)
      · have h : ¬ (if σ 2 2 (p : Int).toNat ∈ l then (1 : Int) else 0) = 0 := h
        rw [hsg] at h
        have hn : S.getD p 0 ∈ l := Classical.not_not.mp (fun q => h (by rw [if_neg q]))
        simp only [scanB, Bool.not_eq_true', decide_eq_false_iff_not] at hF
        rw [if_neg (fun q => q hn)] at hF
        exact hF
      · have h : (if σ 2 2 (p : Int).toNat ∈ l then (1 : Int) else 0) = 0 := Classical.not_not.mp h
        rw [hsg] at h
        have hn : ¬ S.getD p 0 ∈ l := fun q => by rw [if_pos q] at h; omega
        simp only [scanB, Bool.not_eq_true', decide_eq_false_iff_not] at hF
        rw [if_pos hn] at hF
        have K := ih (p + 1) (by omega) hF
        rw [← hw] at K
        exact leaf (by first | exact run 1 K | exact run 2 K | exact run 3 K)
theorem tw_Matcher_breaks {l S : List Int} {t p : Nat} (hl : tl (σ 2 t) (σ 1 t 1) l) (hl64 : l.length ≤ 64) (hS : tl (σ 2 2) (σ 1 2 1) S) (h64 : S.length ≤ 64) (hp : σ 9 0 7 = p) (hpn : p ≤ S.length) (hF : F (some (.inl (brk l S p : Nat))) (nx, σ, rX kn tx)) : T_Matcher_breaks SL xs [.inr (some (9, 0)), .inr (some (1, t))] (nx, σ, rX kn tx) F := by
  have K := lp_Matcher_breaks (SL := SL) (xs := xs) hl hl64 hS h64 (S.length - p) p (by omega) hF
  rw [← hp] at K
  exact run 3 K
theorem tw_Matcher_isSign {l S : List Int} {t p : Nat} {b : Int} (hl : tl (σ 2 t) (σ 1 t 1) l) (hl64 : l.length ≤ 64) (hS : tl (σ 2 2) (σ 1 2 1) S) (h64 : S.length ≤ 64) (hp : σ 9 0 7 = p) (hpn : p ≤ S.length) (hF : F (some (.inl (if p < S.length ∧ (if S.getD p 0 ∈ l then (1 : Int) else 0) = b then 1 else 0))) (nx, σ, rX kn tx)) : T_Matcher_isSign SL xs [.inr (some (9, 0)), .inr (some (1, t)), .inl b] (nx, σ, rX kn tx) F := by
  have hlen : σ 1 2 1 = S.length := hS.1
  refine run 60 ?_
  refine And.intro (fun h => ?_) (fun h => ?_)
  · have h : σ 1 2 1 ≤ σ 9 0 7 := h
    rw [hlen, hp] at h
    rw [if_neg (by omega)] at hF
    exact And.intro (Or.inl rfl) hF
  · have h : ¬ σ 1 2 1 ≤ σ 9 0 7 := h
    rw [hlen, hp] at h
    have hsg : σ 2 2 (σ 9 0 7).toNat = S.getD p 0 := by rw [hp, show (p : Int).toNat = p by omega]; exact hS.2 p (by omega)
    refine And.intro ⟨show (0 : Int) ≤ σ 9 0 7 by rw [hp]; omega, show σ 9 0 7 < 64 by rw [hp]; omega⟩ ?_
    refine call_eq (fun F hF => tw_Text_has hl hl64 hF) ?_
    refine And.intro (fun h2 => ?_) (fun h2 => ?_)
    · have h2 : ¬ (if σ 2 2 (σ 9 0 7).toNat ∈ l then (1 : Int) else 0) = b := h2
      rw [hsg] at h2
      rw [if_neg (fun q => h2 q.2)] at hF
      exact And.intro (Or.inl rfl) hF
    · have h2 : (if σ 2 2 (σ 9 0 7).toNat ∈ l then (1 : Int) else 0) = b := Classical.not_not.mp h2
      rw [hsg] at h2
      rw [if_pos ⟨by omega, h2⟩] at hF
      exact And.intro (Or.inr rfl) hF
theorem tw_Nodes_is {x : Int} (hF : F (some (.inl (if 0 ≤ x ∧ x < σ 4 0 4 then 1 else 0))) (nx, σ, rX kn tx)) : T_Nodes_is SL xs [.inr (some (4, 0)), .inl x] (nx, σ, rX kn tx) F := by
  refine run 30 ?_
  refine And.intro (fun h => ?_) (fun h => ?_)
  · have h : x < 0 := h
    rw [if_neg (by omega)] at hF
    exact And.intro (Or.inl rfl) hF
  · have h : ¬ x < 0 := h
    refine And.intro (fun h2 => ?_) (fun h2 => ?_)
    · have h2 : σ 4 0 4 ≤ x := h2
      rw [if_neg (by omega)] at hF
      exact And.intro (Or.inl rfl) hF
    · have h2 : ¬ σ 4 0 4 ≤ x := h2
      rw [if_pos (by omega)] at hF
      exact And.intro (Or.inr rfl) hF
theorem tw_Enum_ordinal {s : St} {k : Nat} (hF : F (some (.inl k)) s) : T_Enum_ordinal SL xs [.inr (some (45, k))] s F := run 10 hF
/-- a text is set, nothing else changes -/
def setT (σ : Sg) (t : Nat) (l : List Int) (σ' : Sg) : Prop := tl (σ' 2 t) (σ' 1 t 1) l ∧ ∀ a b j, ¬ (a = 1 ∧ b = t ∧ j = 1) → ¬ (a = 2 ∧ b = t) → σ' a b j = σ a b j
theorem digs : ∀ n : Nat, n < 65 → b8 (b8 (wr (48 + w_div n 10))) = ((48 + n / 10 : Nat) : Int) ∧ b8 (b8 (wr (48 + w_rem n 10))) = ((48 + n % 10 : Nat) : Int) := by decide +kernel
theorem tw_Text_digits {n : Nat} (hn : n < 65) (hF : ∀ σ', setT σ t (dig n) σ' → F none (nx, σ', rX kn tx)) : T_Text_digits SL xs [.inr (some (1, t)), .inl n] (nx, σ, rX kn tx) F := by
  obtain ⟨d1, d2⟩ := digs n hn
  have w1 : wr ((0 : Int) + 1) = 1 := by decide
  have w2 : wr ((1 : Int) + 1) = 2 := by decide
  refine run 40 ?_
  refine And.intro (fun h => ?_) (fun h => ?_)
  · have h : (n : Int) ≤ 9 := h
    refine And.intro (show ¬ (10 : Int) = 0 by omega) ?_
    refine call_eq (fun F hF => tw_Text_add (σ := upS σ 1 t 1 0) (by rw [upS_same]; omega) hF) ?_
    rw [upS_same, d2, w1]
    refine hF _ ⟨⟨?_, fun i hi => ?_⟩, fun a b j h1 h2 => ?_⟩
    · rw [upS_same]
      simp [dig, show ¬ 9 < n by omega]
    · have hi : i = 0 := by simp [dig, show ¬ 9 < n by omega] at hi; exact hi
      subst hi
      simp [upS, dig, show ¬ 9 < n by omega]
    · rw [upS_ne h1, upS_ne (fun q => h2 ⟨q.1, q.2.1⟩), upS_ne h1]
  · have h : ¬ (n : Int) ≤ 9 := h
    refine And.intro (show ¬ (10 : Int) = 0 by omega) ?_
    refine call_eq (fun F hF => tw_Text_add (σ := upS σ 1 t 1 0) (by rw [upS_same]; omega) hF) ?_
    rw [upS_same, d1, w1]
    refine And.intro (show ¬ (10 : Int) = 0 by omega) ?_
    refine call_eq (fun F hF => tw_Text_add (σ := upS (upS (upS σ 1 t 1 0) 2 t (0 : Int).toNat ((48 + n / 10 : Nat) : Int)) 1 t 1 1) (by rw [upS_same]; omega) hF) ?_
    rw [upS_same, d2, w2]
    refine hF _ ⟨⟨?_, fun i hi => ?_⟩, fun a b j h1 h2 => ?_⟩
    · rw [upS_same]
      simp [dig, show 9 < n by omega]
    · have hi : i = 0 ∨ i = 1 := by simp [dig, show 9 < n by omega] at hi; omega
      rcases hi with rfl | rfl
      · simp [upS, dig, show 9 < n by omega]
      · simp [upS, dig, show 9 < n by omega]
    · rw [upS_ne h1, upS_ne (fun q => h2 ⟨q.1, q.2.1⟩), upS_ne h1, upS_ne (fun q => h2 ⟨q.1, q.2.1⟩), upS_ne h1]
end
