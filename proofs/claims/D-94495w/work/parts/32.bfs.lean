/-! SEARCHES in a row of states, each met from those ahead of it -/
set_option maxRecDepth 100000
/-- how many are met, the row, whence each was met, where each state stands in the row (and one) -/
abbrev QS : Type := Int × (Int → Int) × (Int → Int) × (Int → Int)
def qmeet (q : QS) (s b : Int) : QS := if 0 < q.2.2.2 s then q else (q.1 + 1, upF q.2.1 q.1 s, upF q.2.2.1 q.1 b, upF q.2.2.2 s (q.1 + 1))
/-- places of the search: state, mover, way -/
def bef (j m w j' m' w' : Int) : Prop := j < j' ∨ (j = j' ∧ (m < m' ∨ (m = m' ∧ w < w')))
section BFS
variable {N P n s0 : Int} {sc : Int → Int → Int → Int}
/-- N: states are below it; P movers, n ways; sc: the state behind a going (-1: none); k m w: where the search stands -/
def BFI (N P n s0 : Int) (sc : Int → Int → Int → Int) (k m w : Int) (q : QS) : Prop :=
  (0 ≤ k ∧ 1 ≤ q.1 ∧ k ≤ q.1 ∧ q.2.1 0 = s0 ∧ q.2.2.1 0 = -1) ∧
  (∀ i, 0 ≤ i → i < q.1 → (0 ≤ q.2.1 i ∧ q.2.1 i < N) ∧ q.2.2.2 (q.2.1 i) = i + 1) ∧
  (∀ s, 0 ≤ s → s < N → q.2.2.2 s = 0 ∨ (1 ≤ q.2.2.2 s ∧ q.2.2.2 s ≤ q.1 ∧ q.2.1 (q.2.2.2 s - 1) = s)) ∧
  cntB (fun s => decide (0 < q.2.2.2 s)) N.toNat = q.1 ∧
  (∀ i, 1 ≤ i → i < q.1 → (0 ≤ q.2.2.1 i ∧ q.2.2.1 i < i) ∧ ∃ m' w', (0 ≤ m' ∧ m' < P) ∧ (0 ≤ w' ∧ w' < n) ∧ sc (q.2.1 (q.2.2.1 i)) m' w' = q.2.1 i ∧ bef (q.2.2.1 i) m' w' k m w ∧
    ∀ j'' m'' w'', 0 ≤ j'' → (0 ≤ m'' ∧ m'' < P) → (0 ≤ w'' ∧ w'' < n) → bef j'' m'' w'' (q.2.2.1 i) m' w' → sc (q.2.1 j'') m'' w'' = -1 ∨ (0 < q.2.2.2 (sc (q.2.1 j'') m'' w'') ∧ q.2.2.2 (sc (q.2.1 j'') m'' w'') ≤ i)) ∧
  (∀ j' m' w', 0 ≤ j' → (0 ≤ m' ∧ m' < P) → (0 ≤ w' ∧ w' < n) → bef j' m' w' k m w → sc (q.2.1 j') m' w' = -1 ∨ 0 < q.2.2.2 (sc (q.2.1 j') m' w')) ∧
  ∀ i i', 1 ≤ i → i ≤ i' → i' < q.1 → q.2.2.1 i ≤ q.2.2.1 i'
theorem cntB_full {p : Int → Bool} {i : Int} (h0 : 0 ≤ i) (hp : p i = false) : ∀ n : Nat, i < n → cntB p n < n
  | 0, h => by omega
  | n + 1, h => by
    have hb := (cntB_b p n).2
    show cntB p n + _ < _
    by_cases e : i = n
    · subst e; rw [if_neg (by rw [hp]; decide)]; omega
    · have := cntB_full h0 hp n (by omega)
      split <;> omega
theorem cntB_add {p q : Int → Bool} {b : Int} (hne : ∀ i, i ≠ b → q i = p i) (hp : p b = false) (hq : q b = true) {n : Nat} (h0 : 0 ≤ b) (h1 : b < n) : cntB q n = cntB p n + 1 := by
  rw [cntB_sumI, cntB_sumI, (sumI_upd (b := b) (h := fun i => if p i = true then 1 else 0) (fun i hi => by simp only [hne i hi]) n).1 ⟨h0, h1⟩]
  simp [hp, hq]
theorem BFI.lt {k m w : Int} {q : QS} (h : BFI N P n s0 sc k m w q) {t : Int} (t0 : 0 ≤ t) (t1 : t < N) (ht : ¬ 0 < q.2.2.2 t) : q.1 < N := by
  have h4 := h.2.2.2.1
  have := cntB_full (p := fun s => decide (0 < q.2.2.2 s)) t0 (decide_eq_false ht) N.toNat (by omega)
  omega
theorem BFI.start {mt st fr : Int → Int} (h0 : 0 ≤ s0) (h1 : s0 < N) (hm : ∀ s, 0 ≤ s → s < N → mt s = 0) : BFI N P n s0 sc 0 0 0 (qmeet (0, st, fr, mt) s0 (-1)) := by
  have e : qmeet (0, st, fr, mt) s0 (-1) = (1, upF st 0 s0, upF fr 0 (-1), upF mt s0 1) := by
    unfold qmeet
    rw [if_neg (by show ¬ 0 < mt s0; rw [hm s0 h0 h1]; decide)]
    rfl
  rw [e]
  refine ⟨⟨Int.le_refl 0, Int.le_refl 1, by show (0 : Int) ≤ 1; decide, by show upF st 0 s0 0 = s0; exact upF_self, by show upF fr 0 (-1) 0 = -1; exact upF_self⟩, ?_, ?_, ?_, ?_, ?_, ?_⟩
  · intro i i0 i1
    have i1 : i < 1 := i1
    have : i = 0 := by omega
    subst this
    show (0 ≤ upF st 0 s0 0 ∧ upF st 0 s0 0 < N) ∧ upF mt s0 1 (upF st 0 s0 0) = 0 + 1
    rw [upF_self, upF_self]
    exact ⟨⟨h0, h1⟩, rfl⟩
  · intro s a b
    show upF mt s0 1 s = 0 ∨ (1 ≤ upF mt s0 1 s ∧ upF mt s0 1 s ≤ 1 ∧ upF st 0 s0 (upF mt s0 1 s - 1) = s)
    by_cases c : s = s0
    · right
      rw [c, upF_self]
      exact ⟨by decide, by decide, upF_self⟩
    · left
      rw [upF_ne c, hm s a b]
  · show cntB (fun s => decide (0 < upF mt s0 1 s)) N.toNat = 1
    have h9 : cntB (fun s => decide (0 < mt s)) N.toNat = 0 := by
      have : cntB (fun s => decide (0 < mt s)) N.toNat = cntB (fun _ => false) N.toNat := cntB_congr _ (fun i a b => by rw [hm i a (by omega)]; rfl)
      rw [this]
      have z : ∀ n : Nat, cntB (fun _ => false) n = 0 := by
        intro n
        induction n with
        | zero => rfl
        | succ n ih => show cntB _ n + _ = 0; rw [ih]; rfl
      exact z _
    rw [cntB_add (p := fun s => decide (0 < mt s)) (b := s0) (fun i hi => by simp only [upF_ne hi]) (by simp [hm s0 h0 h1]) (by simp [upF_self]) h0 (by omega), h9]
    rfl
  · intro i i0 i1
    have i1 : i < 1 := i1
    omega
  · intro j m w j0 _ _ hb
    rcases hb with hb | ⟨_, hb | ⟨_, hb⟩⟩ <;> omega
  · intro i i' i0 i1 i2
    have i2 : i' < 1 := i2
    omega
/-- one going looked at -/
theorem BFI.step {k m w : Int} {q : QS} (h : BFI N P n s0 sc k m w q) (hk : k < q.1) (hm : 0 ≤ m ∧ m < P) (hw : 0 ≤ w ∧ w < n) (hsc : ∀ s m w, (0 ≤ s ∧ s < N) → (0 ≤ m ∧ m < P) → (0 ≤ w ∧ w < n) → sc s m w = -1 ∨ (0 ≤ sc s m w ∧ sc s m w < N)) {t : Int} (ht : sc (q.2.1 k) m w = t) : BFI N P n s0 sc k m (w + 1) (if t = -1 then q else qmeet q t k) := by
  obtain ⟨⟨k0, c1, kc, e0, ef⟩, h2, h3, h4, h5, h6, h7⟩ := h
  have ht1 : t = -1 ∨ (0 ≤ t ∧ t < N) := by
    rw [← ht]
    exact hsc _ _ _ (h2 k k0 hk).1 hm hw
  have befw : ∀ {j m' w'}, bef j m' w' k m w → bef j m' w' k m (w + 1) := by
    intro j m' w' hb
    rcases hb with hb | ⟨a, hb | ⟨b, hb⟩⟩
    · exact Or.inl hb
    · exact Or.inr ⟨a, Or.inl hb⟩
    · exact Or.inr ⟨a, Or.inr ⟨b, by omega⟩⟩
  have old : ∀ q' : QS, q' = q → (t = -1 ∨ 0 < q.2.2.2 t) → BFI N P n s0 sc k m (w + 1) q' := by
    intro q' e hc
    subst e
    refine ⟨⟨k0, c1, kc, e0, ef⟩, h2, h3, h4, ?_, ?_, h7⟩
    · intro i i0 i1
      obtain ⟨a, m', w', b1, b2, b3, b4, b5⟩ := h5 i i0 i1
      exact ⟨a, m', w', b1, b2, b3, befw b4, b5⟩
    · intro j m' w' j0 hm' hw' hb
      by_cases c : bef j m' w' k m w
      · exact h6 j m' w' j0 hm' hw' c
      · have : j = k ∧ m' = m ∧ w' = w := by
          unfold bef at hb c
          omega
        obtain ⟨rfl, rfl, rfl⟩ := this
        rw [ht]
        exact hc
  by_cases ct : t = -1
  · rw [if_pos ct]
    exact old q rfl (Or.inl ct)
  rw [if_neg ct]
  have t0 : 0 ≤ t ∧ t < N := by omega
  by_cases cm : 0 < q.2.2.2 t
  · have : qmeet q t k = q := if_pos cm
    exact old _ this (Or.inr cm)
  have eq : qmeet q t k = (q.1 + 1, upF q.2.1 q.1 t, upF q.2.2.1 q.1 k, upF q.2.2.2 t (q.1 + 1)) := if_neg cm
  have mt0 : q.2.2.2 t = 0 := by
    rcases h3 t t0.1 t0.2 with x | x
    · exact x
    · omega
  rw [eq]
  have stx : ∀ i, i < q.1 → upF q.2.1 q.1 t i = q.2.1 i := fun i hi => upF_ne (by omega)
  have frx : ∀ i, i < q.1 → upF q.2.2.1 q.1 k i = q.2.2.1 i := fun i hi => upF_ne (by omega)
  have mtx : ∀ s, s ≠ t → upF q.2.2.2 t (q.1 + 1) s = q.2.2.2 s := fun s hs => upF_ne hs
  have mtp : ∀ s, 0 < q.2.2.2 s → upF q.2.2.2 t (q.1 + 1) s = q.2.2.2 s := fun s hs => mtx s (fun e => by rw [e, mt0] at hs; omega)
  have mpos : ∀ s, 0 < q.2.2.2 s → 0 < upF q.2.2.2 t (q.1 + 1) s := fun s hs => by rw [mtp s hs]; exact hs
  refine ⟨⟨k0, by show 1 ≤ q.1 + 1; omega, by show k ≤ q.1 + 1; omega, by show upF q.2.1 q.1 t 0 = s0; rw [stx 0 (by omega)]; exact e0, by show upF q.2.2.1 q.1 k 0 = -1; rw [frx 0 (by omega)]; exact ef⟩, ?_, ?_, ?_, ?_, ?_, ?_⟩
  · intro i i0 i1
    have i1 : i < q.1 + 1 := i1
    show (0 ≤ upF q.2.1 q.1 t i ∧ upF q.2.1 q.1 t i < N) ∧ upF q.2.2.2 t (q.1 + 1) (upF q.2.1 q.1 t i) = i + 1
    by_cases e : i = q.1
    · rw [e, upF_self, upF_self]; exact ⟨t0, rfl⟩
    · rw [stx i (by omega)]
      have := h2 i i0 (by omega)
      rw [mtp _ (by omega)]
      exact this
  · intro s a b
    show upF q.2.2.2 t (q.1 + 1) s = 0 ∨ (1 ≤ upF q.2.2.2 t (q.1 + 1) s ∧ upF q.2.2.2 t (q.1 + 1) s ≤ q.1 + 1 ∧ upF q.2.1 q.1 t (upF q.2.2.2 t (q.1 + 1) s - 1) = s)
    by_cases c : s = t
    · right
      rw [c, upF_self]
      exact ⟨by omega, by omega, by rw [show q.1 + 1 - 1 = q.1 by omega, upF_self]⟩
    · rw [mtx s c]
      rcases h3 s a b with x | ⟨x1, x2, x3⟩
      · exact Or.inl x
      · exact Or.inr ⟨x1, by omega, by rw [stx _ (by omega)]; exact x3⟩
  · show cntB (fun s => decide (0 < upF q.2.2.2 t (q.1 + 1) s)) N.toNat = q.1 + 1
    rw [cntB_add (p := fun s => decide (0 < q.2.2.2 s)) (b := t) (fun i hi => by simp only [upF_ne hi]) (decide_eq_false cm) (decide_eq_true (by rw [upF_self]; omega)) t0.1 (by omega), h4]
  · intro i i0 i1
    dsimp only at i1 ⊢
    by_cases e : i = q.1
    · subst e
      have ek : upF q.2.2.1 q.1 k q.1 = k := upF_self
      rw [ek]
      refine ⟨⟨k0, hk⟩, m, w, hm, hw, ?_, Or.inr ⟨rfl, Or.inr ⟨rfl, by omega⟩⟩, ?_⟩
      · rw [stx k hk, upF_self]; exact ht
      · intro j m' w' j0 hm' hw' hb
        have hjk : j < q.1 := by unfold bef at hb; omega
        rw [stx j hjk]
        rcases h6 j m' w' j0 hm' hw' hb with x | x
        · exact Or.inl x
        · rcases hsc _ _ _ (h2 j j0 hjk).1 hm' hw' with cr | cr
          · exact Or.inl cr
          · right
            rw [mtp _ x]
            refine ⟨x, ?_⟩
            rcases h3 _ cr.1 cr.2 with y | y <;> omega
    · rw [frx i (by omega)]
      obtain ⟨a, m', w', b1, b2, b3, b4, b5⟩ := h5 i i0 (by omega)
      refine ⟨a, m', w', b1, b2, ?_, befw b4, ?_⟩
      · rw [stx _ (by omega), stx i (by omega)]; exact b3
      · intro j m2 w2 j0 hm2 hw2 hb
        have hj : j < q.1 := by unfold bef at hb; omega
        have := b5 j m2 w2 j0 hm2 hw2 hb
        rw [stx j hj]
        rcases this with x | ⟨x1, x2⟩
        · exact Or.inl x
        · exact Or.inr (by rw [mtp _ x1]; exact ⟨x1, x2⟩)
  · intro j m' w' j0 hm' hw' hb
    show sc (upF q.2.1 q.1 t j) m' w' = -1 ∨ 0 < upF q.2.2.2 t (q.1 + 1) (sc (upF q.2.1 q.1 t j) m' w')
    have hj : j < q.1 := by unfold bef at hb; omega
    rw [stx j hj]
    by_cases c : bef j m' w' k m w
    · rcases h6 j m' w' j0 hm' hw' c with x | x
      · exact Or.inl x
      · exact Or.inr (mpos _ x)
    · have : j = k ∧ m' = m ∧ w' = w := by
        unfold bef at hb c
        omega
      obtain ⟨rfl, rfl, rfl⟩ := this
      rw [ht]
      exact Or.inr (by rw [upF_self]; omega)
  · intro i i' i0 i1 i2
    have i2 : i' < q.1 + 1 := i2
    show upF q.2.2.1 q.1 k i ≤ upF q.2.2.1 q.1 k i'
    by_cases e : i' = q.1
    · rw [e, upF_self]
      by_cases e2 : i = q.1
      · rw [e2, upF_self]; omega
      · rw [frx i (by omega)]
        obtain ⟨a, m', w', b1, b2, b3, b4, b5⟩ := h5 i i0 (by omega)
        unfold bef at b4
        omega
    · rw [frx i (by omega), frx i' (by omega)]
      exact h7 i i' i0 i1 (by omega)
theorem BFI.nextM {k m w : Int} {q : QS} (h : BFI N P n s0 sc k m w q) (hw : n ≤ w) : BFI N P n s0 sc k (m + 1) 0 q := by
  obtain ⟨h1, h2, h3, h4, h5, h6, h7⟩ := h
  refine ⟨h1, h2, h3, h4, ?_, ?_, h7⟩
  · intro i i0 i1
    obtain ⟨a, m', w', b1, b2, b3, b4, b5⟩ := h5 i i0 i1
    refine ⟨a, m', w', b1, b2, b3, ?_, b5⟩
    unfold bef at b4 ⊢
    omega
  · intro j m' w' j0 hm' hw' hb
    refine h6 j m' w' j0 hm' hw' ?_
    unfold bef at hb ⊢
    omega
theorem BFI.nextK {k m w : Int} {q : QS} (h : BFI N P n s0 sc k m w q) (hm : P ≤ m) (hk : k < q.1) : BFI N P n s0 sc (k + 1) 0 0 q := by
  obtain ⟨h1, h2, h3, h4, h5, h6, h7⟩ := h
  refine ⟨⟨by omega, h1.2.1, by omega, h1.2.2.2⟩, h2, h3, h4, ?_, ?_, h7⟩
  · intro i i0 i1
    obtain ⟨a, m', w', b1, b2, b3, b4, b5⟩ := h5 i i0 i1
    refine ⟨a, m', w', b1, b2, b3, ?_, b5⟩
    unfold bef at b4 ⊢
    omega
  · intro j m' w' j0 hm' hw' hb
    refine h6 j m' w' j0 hm' hw' ?_
    unfold bef at hb ⊢
    omega
end BFS
