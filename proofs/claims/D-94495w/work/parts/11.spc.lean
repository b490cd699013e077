/-! SPEC: how far places are; sets as numbers -/
set_option maxRecDepth 100000
theorem ite_nn (X : Int) : 0 ≤ (if 0 ≤ X then X else 8) := by split; assumption; decide
def sumI (h : Int → Int) : Nat → Int
  | 0 => 0
  | n + 1 => sumI h n + h (n : Int)
theorem sumI_upd {h h' : Int → Int} {b : Int} (hne : ∀ i, i ≠ b → h' i = h i) : ∀ (n : Nat), (0 ≤ b ∧ b < n → sumI h' n = sumI h n + (h' b - h b)) ∧ (¬ (0 ≤ b ∧ b < n) → sumI h' n = sumI h n)
  | 0 => ⟨fun z => by omega, fun _ => rfl⟩
  | n + 1 => by
    obtain ⟨h1, h2⟩ := sumI_upd hne n
    constructor
    · intro z
      show sumI h' n + h' n = sumI h n + h n + _
      by_cases e : b = n
      · rw [h2 (by omega), e]; omega
      · rw [h1 (by omega), hne n (fun q => e q.symm)]; omega
    · intro z
      show sumI h' n + h' n = sumI h n + h n
      rw [h2 (by omega), hne n (by omega)]
theorem sumI_nn {h : Int → Int} (h0 : ∀ i, 0 ≤ h i) : ∀ n, 0 ≤ sumI h n
  | 0 => Int.le_refl 0
  | n + 1 => by have := sumI_nn h0 n; have := h0 n; show 0 ≤ sumI h n + h n; omega
theorem cntB_sumI (p : Int → Bool) : ∀ n, cntB p n = sumI (fun i => if p i = true then 1 else 0) n
  | 0 => rfl
  | n + 1 => by show cntB p n + _ = sumI _ n + _; rw [cntB_sumI p n]
/-- q is come to from p by at most n ways, as they lead now -/
def rch (f : Int → Int) (p : Int) : Nat → Int → Bool
  | 0, q => p == q
  | n + 1, q => rch f p n q || anyB (fun w => sE f (f 2) w 1 == q && rch f p n (sE f (f 2) w 0)) (f 0).toNat
def isDist (f : Int → Int) (p q v : Int) : Prop := (v = -1 ∧ ∀ n, rch f p n q = false) ∨ (0 ≤ v ∧ rch f p v.toNat q = true ∧ ∀ n, n < v.toNat → rch f p n q = false)
theorem isDist_uniq {f : Int → Int} {p q v v' : Int} (h : isDist f p q v) (h' : isDist f p q v') : v = v' := by
  rcases h with ⟨h1, h2⟩ | ⟨h1, h2, h3⟩ <;> rcases h' with ⟨g1, g2⟩ | ⟨g1, g2, g3⟩
  · omega
  · rw [h2] at g2; cases g2
  · rw [g2] at h2; cases h2
  · rcases Int.lt_trichotomy v v' with c | c | c
    · have := g3 v.toNat (by omega); rw [this] at h2; cases h2
    · exact c
    · have := h3 v'.toNat (by omega); rw [this] at g2; cases g2
/-- how many ways from p to q; none: -1 -/
noncomputable def dst (f : Int → Int) (p q : Int) : Int := Classical.epsilon (fun v => isDist f p q v)
theorem dst_eq {f : Int → Int} {p q v : Int} (h : isDist f p q v) : v = dst f p q := isDist_uniq h (Classical.epsilon_spec (p := fun v => isDist f p q v) ⟨v, h⟩)
theorem rch_step {f : Int → Int} {p w : Int} {n : Nat} (h0 : 0 ≤ w) (h1 : w < f 0) (h : rch f p n (sE f (f 2) w 0) = true) : rch f p (n + 1) (sE f (f 2) w 1) = true := by
  show (_ || anyB _ _) = true
  rw [Bool.or_eq_true]
  exact Or.inr (anyB_iff.mpr ⟨w, h0, by omega, by simp [h]⟩)
/-- what the twin's row of distances is while it is made -/
def Fvd (f : Int → Int) (p : Int) (F : Int → Int) : Prop := F p = 0 ∧ (∀ q, 0 ≤ q → q ≤ 7 → -1 ≤ F q ∧ (0 ≤ F q → rch f p (F q).toNat q = true)) ∧ ∀ q, 0 ≤ q → q ≤ 7 → F q ≤ cntB (fun q => decide (0 ≤ F q)) 8 - 1
def Fmu (F : Int → Int) : Nat := (sumI (fun q => if 0 ≤ F q then F q else 8) 8).toNat
def Fcl (f : Int → Int) (F : Int → Int) (w : Int) : Prop := F (sE f (f 2) w 0) < 0 ∨ (0 ≤ F (sE f (f 2) w 1) ∧ F (sE f (f 2) w 1) ≤ F (sE f (f 2) w 0) + 1)
theorem Fvd.le {f : Int → Int} {p : Int} {F : Int → Int} (h : Fvd f p F) {q : Int} (h0 : 0 ≤ q) (h7 : q ≤ 7) : -1 ≤ F q ∧ F q ≤ 7 := by
  have h1 := (h.2.1 q h0 h7).1
  have h2 := h.2.2 q h0 h7
  have h3 := (cntB_b (fun q => decide (0 ≤ F q)) 8).2
  constructor
  · exact h1
  · have : ((8 : Nat) : Int) = 8 := rfl
    omega
theorem Fvd.up {f : Int → Int} {p : Int} {F : Int → Int} (h : Fvd f p F) {w : Int} (h0 : 0 ≤ w) (h1 : w < f 0) (hw : WI f w) (ha : 0 ≤ F (sE f (f 2) w 0)) (hb : F (sE f (f 2) w 1) < 0 ∨ F (sE f (f 2) w 0) + 1 < F (sE f (f 2) w 1)) :
    Fvd f p (fun i => if i = sE f (f 2) w 1 then F (sE f (f 2) w 0) + 1 else F i) ∧ Fmu (fun i => if i = sE f (f 2) w 1 then F (sE f (f 2) w 0) + 1 else F i) < Fmu F := by
  have ea := hw.end (d := f 2) (Or.inl rfl)
  have eb := hw.end (d := f 2) (Or.inr rfl)
  generalize hA : sE f (f 2) w 0 = a at *
  generalize hB : sE f (f 2) w 1 = b at *
  have hle := h.le eb.1 eb.2
  have hla := h.le ea.1 ea.2
  have hra := h.2.2 a ea.1 ea.2
  have hrb := h.2.2 b eb.1 eb.2
  have hc : cntB (fun q => decide (0 ≤ (if q = b then F a + 1 else F q))) 8 = cntB (fun q => decide (0 ≤ F q)) 8 + (if 0 ≤ F b then 0 else 1) := by
    rw [cntB_sumI, cntB_sumI, (sumI_upd (b := b) (h := fun i => if decide (0 ≤ F i) = true then 1 else 0) (fun i hi => by simp only [if_neg hi]) 8).1 (by constructor <;> omega)]
    simp only [if_pos trivial, decide_eq_true_eq]
    rw [if_pos (by omega : 0 ≤ F a + 1)]
    split <;> omega
  refine ⟨⟨?_, ?_, ?_⟩, ?_⟩
  · show (if p = b then _ else _) = (0 : Int)
    split
    · rename_i e
      subst e
      have := h.1
      omega
    · exact h.1
  · intro q q0 q7
    show -1 ≤ (if q = b then _ else _) ∧ (0 ≤ (if q = b then _ else _) → rch f p (if q = b then _ else _ : Int).toNat q = true)
    by_cases e : q = b
    · rw [if_pos e]
      refine ⟨by omega, fun _ => ?_⟩
      have hr := (h.2.1 a ea.1 ea.2).2 ha
      rw [show (F a + 1).toNat = (F a).toNat + 1 by omega, e, ← hB]
      exact rch_step h0 h1 (by rw [hA]; exact hr)
    · rw [if_neg e]
      exact h.2.1 q q0 q7
  · intro q q0 q7
    rw [hc]
    have := h.2.2 q q0 q7
    show (if q = b then _ else _) ≤ _
    split
    · split <;> omega
    · split <;> omega
  · unfold Fmu
    have hs := (sumI_upd (b := b) (h := fun q => if 0 ≤ F q then F q else 8) (h' := fun q => if 0 ≤ (if q = b then F a + 1 else F q) then (if q = b then F a + 1 else F q) else 8) (fun i hi => by simp only [if_neg hi]) 8).1 (by constructor <;> omega)
    simp only [if_pos trivial] at hs
    rw [if_pos (by omega : 0 ≤ F a + 1)] at hs
    have n1 : 0 ≤ sumI (fun q => if 0 ≤ F q then F q else 8) 8 := sumI_nn (fun i => ite_nn _) 8
    have n2 : 0 ≤ sumI (fun q => if 0 ≤ (if q = b then F a + 1 else F q) then (if q = b then F a + 1 else F q) else 8) 8 := sumI_nn (fun i => ite_nn _) 8
    have hb8 := (cntB_b (fun q => decide (0 ≤ (if q = b then F a + 1 else F q))) 8).2
    rw [hc] at hb8
    have : F a + 1 < (if 0 ≤ F b then F b else 8) := by
      by_cases e : 0 ≤ F b
      · rw [if_pos e]; omega
      · rw [if_neg e]; rw [if_neg e] at hb8
        have : ((8 : Nat) : Int) = 8 := rfl
        omega
    show (sumI (fun q => if 0 ≤ (if q = b then F a + 1 else F q) then (if q = b then F a + 1 else F q) else 8) 8).toNat < (sumI (fun q => if 0 ≤ F q then F q else 8) 8).toNat
    omega
theorem Fvd.done {K : Int} {f : Int → Int} (hf : LI K f) {p : Int} {F : Int → Int} (h : Fvd f p F) (hc : ∀ w, 0 ≤ w → w < f 0 → Fcl f F w) {q : Int} (h0 : 0 ≤ q) (h7 : q ≤ 7) : F q = dst f p q := by
  have key : ∀ (n : Nat) (q : Int), rch f p n q = true → 0 ≤ F q ∧ F q ≤ n := by
    intro n
    induction n with
    | zero =>
      intro q hq
      have : p = q := by simpa [rch] using hq
      subst this
      rw [h.1]
      omega
    | succ n ih =>
      intro q hq
      have hq : (rch f p n q || anyB (fun w => sE f (f 2) w 1 == q && rch f p n (sE f (f 2) w 0)) (f 0).toNat) = true := hq
      rcases (Bool.or_eq_true _ _).mp hq with hq | hq
      · have := ih q hq
        omega
      · obtain ⟨w, w0, w1, hw⟩ := anyB_iff.mp hq
        simp only [Bool.and_eq_true, beq_iff_eq] at hw
        have := hf.nW
        have h1 := ih _ hw.2
        rcases hc w w0 (by omega) with c | c
        · omega
        · rw [hw.1] at c
          omega
  apply dst_eq
  by_cases c : 0 ≤ F q
  · refine Or.inr ⟨c, (h.2.1 q h0 h7).2 c, fun n hn => ?_⟩
    cases hr : rch f p n q
    · rfl
    · have := (key n q hr).2
      omega
  · refine Or.inl ⟨by have := (h.le h0 h7).1; omega, fun n => ?_⟩
    cases hr : rch f p n q
    · rfl
    · exact absurd (key n q hr).1 c
/-- the set of those below n, as a number -/
def bset (p : Int → Bool) : Nat → Nat
  | 0 => 0
  | n + 1 => bset p n ||| (if p (n : Int) = true then 2 ^ n else 0)
theorem bset_lt (p : Int → Bool) : ∀ n, bset p n < 2 ^ n
  | 0 => Nat.one_pos
  | n + 1 => by
    have h := bset_lt p n
    have e : 2 ^ (n + 1) = 2 ^ n + 2 ^ n := by rw [Nat.pow_succ]; omega
    show bset p n ||| _ < _
    apply Nat.or_lt_two_pow
    · omega
    · split <;> omega
theorem bset_bit (p : Int → Bool) : ∀ (n i : Nat), (bset p n).testBit i = (decide (i < n) && p (i : Int))
  | 0, i => by simp [bset]
  | n + 1, i => by
    show (bset p n ||| _).testBit i = _
    rw [Nat.testBit_or, bset_bit p n i]
    by_cases hp : p (n : Int) = true
    · rw [if_pos hp, Nat.testBit_two_pow]
      by_cases e : n = i
      · subst e
        simp [hp]
      · by_cases l : i < n
        · have : i < n + 1 := by omega
          simp [l, this, e]
        · have : ¬ i < n + 1 := by omega
          simp [l, this, e]
    · rw [if_neg hp, Nat.zero_testBit, Bool.or_false]
      by_cases e : i = n
      · subst e
        simp at hp
        simp [hp]
      · by_cases l : i < n
        · have : i < n + 1 := by omega
          simp [l, this]
        · have : ¬ i < n + 1 := by omega
          simp [l, this]
theorem cntB_pos {p : Int → Bool} {i : Int} (h0 : 0 ≤ i) (hp : p i = true) : ∀ n : Nat, i < n → 1 ≤ cntB p n
  | 0, h => by omega
  | n + 1, h => by
    have hb := (cntB_b p n).1
    show 1 ≤ cntB p n + _
    by_cases e : i = n
    · subst e; rw [if_pos hp]; omega
    · have := cntB_pos h0 hp n (by omega)
      split <;> omega
theorem Fvd.start {f : Int → Int} {p : Int} (hp : 0 ≤ p ∧ p ≤ 7) {F : Int → Int} (h0 : F p = 0) (h1 : ∀ q, 0 ≤ q → q ≤ 7 → q ≠ p → F q = -1) : Fvd f p F := by
  have hc := cntB_pos (p := fun q => decide (0 ≤ F q)) hp.1 (decide_eq_true (by omega)) 8 (by omega)
  refine ⟨h0, fun q q0 q7 => ?_, fun q q0 q7 => ?_⟩
  · by_cases e : q = p
    · subst e
      rw [h0]
      exact ⟨by decide, fun _ => by simp [rch]⟩
    · rw [h1 q q0 q7 e]
      exact ⟨by decide, fun z => by omega⟩
  · by_cases e : q = p
    · subst e; omega
    · rw [h1 q q0 q7 e]; omega
