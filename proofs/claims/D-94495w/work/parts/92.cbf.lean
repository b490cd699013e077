/-! SEARCHES as the component makes them: a row of states, how far each is -/
set_option maxRecDepth 100000
/-- how many are queued, the queue, how far each state is (-1: not met) -/
abbrev CQ : Type := Int × (Int → Int) × (Int → Int)
def cput (q : CQ) (s l : Int) : CQ := if s = -1 ∨ q.2.2 s ≠ -1 then q else (q.1 + 1, upF q.2.1 q.1 s, upF q.2.2 s l)
/-- one comes in l goings from a source to t -/
def fpt (P n : Int) (sc : Int → Int → Int → Int) (src : Int → Prop) : Nat → Int → Prop
  | 0, t => src t
  | l + 1, t => ∃ s m w, (0 ≤ m ∧ m < P) ∧ (0 ≤ w ∧ w < n) ∧ fpt P n sc src l s ∧ sc s m w = t ∧ t ≠ -1
section CBF
variable {N P n : Int} {sc : Int → Int → Int → Int} {src : Int → Prop}
def CBI (N P n : Int) (sc : Int → Int → Int → Int) (src : Int → Prop) (k m w : Int) (q : CQ) : Prop :=
  (0 ≤ k ∧ k ≤ q.1) ∧
  (∀ i, 0 ≤ i → i < q.1 → (0 ≤ q.2.1 i ∧ q.2.1 i < N) ∧ 0 ≤ q.2.2 (q.2.1 i) ∧ q.2.2 (q.2.1 i) ≤ i) ∧
  (∀ s, 0 ≤ s → s < N → q.2.2 s = -1 ∨ (0 ≤ q.2.2 s ∧ fpt P n sc src (q.2.2 s).toNat s ∧ ∃ i, 0 ≤ i ∧ i < q.1 ∧ q.2.1 i = s)) ∧
  cntB (fun s => decide (0 ≤ q.2.2 s)) N.toNat = q.1 ∧
  (∀ i j, 0 ≤ i → i ≤ j → j < q.1 → q.2.2 (q.2.1 i) ≤ q.2.2 (q.2.1 j)) ∧
  (k < q.1 → ∀ j, 0 ≤ j → j < q.1 → q.2.2 (q.2.1 j) ≤ q.2.2 (q.2.1 k) + 1) ∧
  (∀ j m' w', 0 ≤ j → (0 ≤ m' ∧ m' < P) → (0 ≤ w' ∧ w' < n) → bef j m' w' k m w → sc (q.2.1 j) m' w' = -1 ∨ (0 ≤ q.2.2 (sc (q.2.1 j) m' w') ∧ q.2.2 (sc (q.2.1 j) m' w') ≤ q.2.2 (q.2.1 j) + 1)) ∧
  ∀ s, src s → (0 ≤ s ∧ s < N) ∧ q.2.2 s = 0
theorem CBI.le {k m w : Int} {q : CQ} (h : CBI N P n sc src k m w q) : q.1 ≤ N ∨ q.1 = 0 := by
  have h4 := h.2.2.2.1
  have := cntB_b (fun s => decide (0 ≤ q.2.2 s)) N.toNat
  omega
theorem CBI.lt {k m w : Int} {q : CQ} (h : CBI N P n sc src k m w q) {t : Int} (t0 : 0 ≤ t) (t1 : t < N) (ht : q.2.2 t = -1) : q.1 < N := by
  have h4 := h.2.2.2.1
  have := cntB_full (p := fun s => decide (0 ≤ q.2.2 s)) t0 (decide_eq_false (by omega)) N.toNat (by omega)
  omega
theorem CBI.rg {k m w : Int} {q : CQ} (h : CBI N P n sc src k m w q) {t : Int} (t0 : 0 ≤ t) (t1 : t < N) : -1 ≤ q.2.2 t ∧ q.2.2 t < N := by
  rcases h.2.2.1 t t0 t1 with x | ⟨x1, x2, i, i0, i1, i2⟩
  · omega
  · have h2 := h.2.1 i i0 i1
    rw [i2] at h2
    rcases h.le with y | y <;> omega
theorem CBI.nil {qu st : Int → Int} (hs : ∀ s, 0 ≤ s → s < N → st s = -1) (hn : ∀ s, ¬ src s) : CBI N P n sc src 0 0 0 (0, qu, st) := by
  refine ⟨⟨Int.le_refl _, Int.le_refl _⟩, fun i i0 i1 => ?_, fun s s0 s1 => Or.inl (hs s s0 s1), ?_, fun i j i0 ij j1 => ?_, fun k => ?_, fun j m w j0 _ _ hb => ?_, fun s h => absurd h (hn s)⟩
  · have i1 : i < 0 := i1
    omega
  · show cntB (fun s => decide (0 ≤ st s)) N.toNat = 0
    have : cntB (fun s => decide (0 ≤ st s)) N.toNat = cntB (fun _ => false) N.toNat := cntB_congr _ (fun i a b => by rw [hs i a (by omega)]; rfl)
    rw [this]
    have z : ∀ n : Nat, cntB (fun _ => false) n = 0 := by
      intro n
      induction n with
      | zero => rfl
      | succ n ih => show cntB _ n + _ = 0; rw [ih]; rfl
    exact z _
  · have j1 : j < 0 := j1
    omega
  · have k : (0 : Int) < 0 := k
    omega
  · unfold bef at hb; omega
theorem fpt.mono {src' : Int → Prop} (hs : ∀ s, src s → src' s) : ∀ (l : Nat) (t : Int), fpt P n sc src l t → fpt P n sc src' l t
  | 0, t, h => hs t h
  | l + 1, t, ⟨s, m, w, a, b, c, e⟩ => ⟨s, m, w, a, b, fpt.mono hs l s c, e⟩
/-- a state is queued anew -/
theorem CBI.add {k m w w2 t l : Int} {q : CQ} {src' : Int → Prop} (h : CBI N P n sc src k m w q) (t0 : 0 ≤ t) (t1 : t < N) (ht : q.2.2 t = -1) (hl : 0 ≤ l ∧ l ≤ q.1) (hsrc : ∀ s, src s → src' s) (hf : fpt P n sc src' l.toNat t) (hmax : ∀ j, 0 ≤ j → j < q.1 → q.2.2 (q.2.1 j) ≤ l) (hk : k < q.1 → l ≤ q.2.2 (q.2.1 k) + 1) (hk0 : q.1 ≤ k → l = 0)
    (hb : ∀ j m' w', 0 ≤ j → (0 ≤ m' ∧ m' < P) → (0 ≤ w' ∧ w' < n) → bef j m' w' k m w2 → bef j m' w' k m w ∨ (j < q.1 ∧ sc (q.2.1 j) m' w' = t ∧ l ≤ q.2.2 (q.2.1 j) + 1)) (hbq : ∀ j m' w', 0 ≤ j → (0 ≤ m' ∧ m' < P) → (0 ≤ w' ∧ w' < n) → bef j m' w' k m w → j < q.1)
    (hs' : ∀ s, src' s → src s ∨ (s = t ∧ l = 0)) : CBI N P n sc src' k m w2 (q.1 + 1, upF q.2.1 q.1 t, upF q.2.2 t l) := by
  obtain ⟨⟨k0, kc⟩, h2, h3, h4, h5, h6, h7, h8⟩ := h
  have qx : ∀ i, i < q.1 → upF q.2.1 q.1 t i = q.2.1 i := fun i hi => upF_ne (by omega)
  have qn : upF q.2.1 q.1 t q.1 = t := upF_self
  have sx : ∀ s, 0 ≤ q.2.2 s → upF q.2.2 t l s = q.2.2 s := fun s hs => upF_ne (fun e => by rw [e, ht] at hs; omega)
  have sn : upF q.2.2 t l t = l := upF_self
  have sq : ∀ i, 0 ≤ i → i < q.1 → upF q.2.2 t l (upF q.2.1 q.1 t i) = q.2.2 (q.2.1 i) := fun i i0 i1 => by rw [qx i i1, sx _ (h2 i i0 i1).2.1]
  refine ⟨⟨k0, by show k ≤ q.1 + 1; omega⟩, fun i i0 i1 => ?_, fun s s0 s1 => ?_, ?_, fun i j i0 ij j1 => ?_, fun kk j j0 j1 => ?_, fun j m' w' j0 hm' hw' hbb => ?_, fun s hs => ?_⟩
  · have i1 : i < q.1 + 1 := i1
    show (0 ≤ upF q.2.1 q.1 t i ∧ upF q.2.1 q.1 t i < N) ∧ 0 ≤ upF q.2.2 t l (upF q.2.1 q.1 t i) ∧ upF q.2.2 t l (upF q.2.1 q.1 t i) ≤ i
    by_cases e : i = q.1
    · rw [e, qn, sn]; omega
    · rw [sq i i0 (by omega), qx i (by omega)]; exact h2 i i0 (by omega)
  · show upF q.2.2 t l s = -1 ∨ (0 ≤ upF q.2.2 t l s ∧ fpt P n sc src' (upF q.2.2 t l s).toNat s ∧ ∃ i, 0 ≤ i ∧ i < q.1 + 1 ∧ upF q.2.1 q.1 t i = s)
    by_cases e : s = t
    · right
      rw [e, sn]
      exact ⟨hl.1, hf, q.1, by omega, by omega, qn⟩
    · rw [upF_ne e]
      rcases h3 s s0 s1 with x | ⟨x1, x2, i, i0, i1, i2⟩
      · exact Or.inl x
      · exact Or.inr ⟨x1, fpt.mono hsrc _ _ x2, i, i0, by omega, by rw [qx i i1]; exact i2⟩
  · show cntB (fun s => decide (0 ≤ upF q.2.2 t l s)) N.toNat = q.1 + 1
    rw [cntB_add (p := fun s => decide (0 ≤ q.2.2 s)) (b := t) (fun i hi => by simp only [upF_ne hi]) (decide_eq_false (by omega)) (decide_eq_true (by rw [upF_self]; omega)) t0 (by omega), h4]
  · have j1 : j < q.1 + 1 := j1
    show upF q.2.2 t l (upF q.2.1 q.1 t i) ≤ upF q.2.2 t l (upF q.2.1 q.1 t j)
    by_cases e : j = q.1
    · rw [e, qn, sn]
      by_cases e2 : i = q.1
      · rw [e2, qn, sn]; omega
      · rw [sq i i0 (by omega)]; exact hmax i i0 (by omega)
    · rw [sq i i0 (by omega), sq j (by omega) (by omega)]
      exact h5 i j i0 ij (by omega)
  · have kk : k < q.1 + 1 := kk
    have j1 : j < q.1 + 1 := j1
    show upF q.2.2 t l (upF q.2.1 q.1 t j) ≤ upF q.2.2 t l (upF q.2.1 q.1 t k) + 1
    by_cases ek : k = q.1
    · have hl0 := hk0 (by omega)
      rw [ek, qn, sn]
      by_cases e : j = q.1
      · rw [e, qn, sn]; omega
      · rw [sq j j0 (by omega)]
        have := hmax j j0 (by omega)
        omega
    · rw [sq k k0 (by omega)]
      by_cases e : j = q.1
      · rw [e, qn, sn]; exact hk (by omega)
      · rw [sq j j0 (by omega)]; exact h6 (by omega) j j0 (by omega)
  · show sc (upF q.2.1 q.1 t j) m' w' = -1 ∨ (0 ≤ upF q.2.2 t l (sc (upF q.2.1 q.1 t j) m' w') ∧ upF q.2.2 t l (sc (upF q.2.1 q.1 t j) m' w') ≤ upF q.2.2 t l (upF q.2.1 q.1 t j) + 1)
    rcases hb j m' w' j0 hm' hw' hbb with x | ⟨x1, x2, x3⟩
    · have hj := hbq j m' w' j0 hm' hw' x
      rw [sq j j0 hj, qx j hj]
      rcases h7 j m' w' j0 hm' hw' x with y | ⟨y1, y2⟩
      · exact Or.inl y
      · right
        rw [sx _ y1]
        exact ⟨y1, y2⟩
    · right
      rw [sq j j0 x1, qx j x1, x2, sn]
      exact ⟨hl.1, x3⟩
  · rcases hs' s hs with x | ⟨x1, x2⟩
    · obtain ⟨a, b⟩ := h8 s x
      refine ⟨a, ?_⟩
      show upF q.2.2 t l s = 0
      rw [sx s (by omega)]; exact b
    · refine ⟨by omega, ?_⟩
      show upF q.2.2 t l s = 0
      rw [x1, sn]; exact x2
/-- one source more, ahead of the search -/
theorem CBI.more {t : Int} {q : CQ} {src' : Int → Prop} (h : CBI N P n sc src 0 0 0 q) (hz : ∀ j, 0 ≤ j → j < q.1 → q.2.2 (q.2.1 j) = 0) (t0 : 0 ≤ t) (t1 : t < N) (ht : q.2.2 t = -1) (hs : ∀ s, src' s ↔ src s ∨ s = t) : CBI N P n sc src' 0 0 0 (cput q t 0) ∧ (∀ j, 0 ≤ j → j < (cput q t 0).1 → (cput q t 0).2.2 ((cput q t 0).2.1 j) = 0) ∧ (cput q t 0).1 = q.1 + 1 ∧ ∀ s, s ≠ t → (cput q t 0).2.2 s = q.2.2 s := by
  have e : cput q t 0 = (q.1 + 1, upF q.2.1 q.1 t, upF q.2.2 t 0) := by
    unfold cput
    rw [if_neg (by omega)]
  rw [e]
  have hq := h.1
  refine ⟨h.add (w2 := 0) t0 t1 ht (by omega) (fun s x => (hs s).mpr (Or.inl x)) ((hs t).mpr (Or.inr rfl)) (fun j j0 j1 => by rw [hz j j0 j1]; omega) (fun c => by rw [hz 0 (by omega) c]; omega) (fun _ => rfl) (fun j m' w' j0 _ _ hb => Or.inl hb) (fun j m' w' j0 _ _ hb => by unfold bef at hb; omega) (fun s x => ?_), fun j j0 j1 => ?_, rfl, fun s hn => upF_ne hn⟩
  · rcases (hs s).mp x with y | y
    · exact Or.inl y
    · exact Or.inr ⟨y, rfl⟩
  · have j1 : j < q.1 + 1 := j1
    show upF q.2.2 t 0 (upF q.2.1 q.1 t j) = 0
    by_cases c : j = q.1
    · rw [c, upF_self, upF_self]
    · rw [upF_ne (show j ≠ q.1 from c), upF_ne (fun z => by
        have := (h.2.1 j j0 (by omega)).2.1
        rw [z, ht] at this; omega)]
      exact hz j j0 (by omega)
/-- one going looked at -/
theorem CBI.step {k m w : Int} {q : CQ} (h : CBI N P n sc src k m w q) (hk : k < q.1) (hm : 0 ≤ m ∧ m < P) (hw : 0 ≤ w ∧ w < n) (hsc : ∀ s m w, (0 ≤ s ∧ s < N) → (0 ≤ m ∧ m < P) → (0 ≤ w ∧ w < n) → sc s m w = -1 ∨ (0 ≤ sc s m w ∧ sc s m w < N)) {t : Int} (ht : sc (q.2.1 k) m w = t) : CBI N P n sc src k m (w + 1) (cput q t (q.2.2 (q.2.1 k) + 1)) := by
  have hk2 := h.2.1 k h.1.1 hk
  have ht1 : t = -1 ∨ (0 ≤ t ∧ t < N) := by
    rw [← ht]
    exact hsc _ _ _ hk2.1 hm hw
  have hbef : ∀ {j m' w'}, bef j m' w' k m (w + 1) → bef j m' w' k m w ∨ (j = k ∧ m' = m ∧ w' = w) := by
    intro j m' w' hb
    unfold bef at hb ⊢
    omega
  by_cases c : t = -1 ∨ q.2.2 t ≠ -1
  · have e : cput q t (q.2.2 (q.2.1 k) + 1) = q := if_pos c
    rw [e]
    obtain ⟨h1, h2, h3, h4, h5, h6, h7, h8⟩ := h
    refine ⟨h1, h2, h3, h4, h5, h6, fun j m' w' j0 hm' hw' hb => ?_, h8⟩
    rcases hbef hb with x | ⟨rfl, rfl, rfl⟩
    · exact h7 j m' w' j0 hm' hw' x
    · rw [ht]
      rcases c with c | c
      · exact Or.inl c
      · by_cases c1 : t = -1
        · exact Or.inl c1
        · right
          rcases h3 t (by omega) (by omega) with x | ⟨x1, x2, i, i0, i1, i2⟩
          · exact absurd x c
          · refine ⟨x1, ?_⟩
            rw [← i2]
            exact h6 hk i i0 i1
  · have e : cput q t (q.2.2 (q.2.1 k) + 1) = (q.1 + 1, upF q.2.1 q.1 t, upF q.2.2 t (q.2.2 (q.2.1 k) + 1)) := if_neg c
    have c1 : t ≠ -1 := fun z => c (Or.inl z)
    have c2 : q.2.2 t = -1 := by
      by_cases z : q.2.2 t = -1
      · exact z
      · exact absurd (Or.inr z) c
    rw [e]
    have hkf : fpt P n sc src (q.2.2 (q.2.1 k)).toNat (q.2.1 k) := by
      rcases h.2.2.1 (q.2.1 k) hk2.1.1 hk2.1.2 with x | ⟨-, x, -⟩
      · omega
      · exact x
    refine h.add (by omega) (by omega) c2 (by omega) (fun _ x => x) ?_ (fun j j0 j1 => h.2.2.2.2.2.1 hk j j0 j1) (fun _ => Int.le_refl _) (fun z => by omega) (fun j m' w' j0 hm' hw' hb => ?_) (fun j m' w' j0 _ _ hb => ?_) (fun s x => Or.inl x)
    · rw [show (q.2.2 (q.2.1 k) + 1).toNat = (q.2.2 (q.2.1 k)).toNat + 1 by omega]
      exact ⟨q.2.1 k, m, w, hm, hw, hkf, ht, c1⟩
    · rcases hbef hb with x | ⟨rfl, rfl, rfl⟩
      · exact Or.inl x
      · exact Or.inr ⟨hk, ht, Int.le_refl _⟩
    · unfold bef at hb; omega
theorem CBI.nextM {k m w : Int} {q : CQ} (h : CBI N P n sc src k m w q) (hw : n ≤ w) : CBI N P n sc src k (m + 1) 0 q := by
  obtain ⟨h1, h2, h3, h4, h5, h6, h7, h8⟩ := h
  refine ⟨h1, h2, h3, h4, h5, h6, fun j m' w' j0 hm' hw' hb => h7 j m' w' j0 hm' hw' ?_, h8⟩
  unfold bef at hb ⊢
  omega
theorem CBI.nextK {k m w : Int} {q : CQ} (h : CBI N P n sc src k m w q) (hm : P ≤ m) (hk : k < q.1) : CBI N P n sc src (k + 1) 0 0 q := by
  obtain ⟨h1, h2, h3, h4, h5, h6, h7, h8⟩ := h
  refine ⟨by omega, h2, h3, h4, h5, fun kk j j0 j1 => ?_, fun j m' w' j0 hm' hw' hb => h7 j m' w' j0 hm' hw' ?_, h8⟩
  · have a := h6 hk j j0 j1
    have b := h5 k (k + 1) h1.1 (by omega) kk
    omega
  · unfold bef at hb ⊢
    omega
/-- what is met behind the search -/
theorem CBI.fin {k m w : Int} {q : CQ} (h : CBI N P n sc src k m w q) (hk : q.1 ≤ k) (hsc : ∀ s m w, (0 ≤ s ∧ s < N) → (0 ≤ m ∧ m < P) → (0 ≤ w ∧ w < n) → sc s m w = -1 ∨ (0 ≤ sc s m w ∧ sc s m w < N)) : ∀ (l : Nat) (t : Int), fpt P n sc src l t → (0 ≤ t ∧ t < N) ∧ 0 ≤ q.2.2 t ∧ q.2.2 t ≤ l
  | 0, t, hf => by
    obtain ⟨a, b⟩ := h.2.2.2.2.2.2.2 t hf
    exact ⟨a, by omega, by omega⟩
  | l + 1, t, ⟨s, m', w', hm', hw', hf, ht, hn⟩ => by
    obtain ⟨a, b, c⟩ := CBI.fin h hk hsc l s hf
    have hr := hsc s m' w' a hm' hw'
    rw [ht] at hr
    rcases h.2.2.1 s a.1 a.2 with x | ⟨x1, x2, i, i0, i1, i2⟩
    · omega
    · have := h.2.2.2.2.2.2.1 i m' w' i0 hm' hw' (Or.inl (by omega))
      rw [i2, ht] at this
      omega
theorem CBI.end {k m w : Int} {q : CQ} (h : CBI N P n sc src k m w q) (hk : q.1 ≤ k) (hsc : ∀ s m w, (0 ≤ s ∧ s < N) → (0 ≤ m ∧ m < P) → (0 ≤ w ∧ w < n) → sc s m w = -1 ∨ (0 ≤ sc s m w ∧ sc s m w < N)) {t : Int} (t0 : 0 ≤ t) (t1 : t < N) : (q.2.2 t = -1 ∧ ∀ l, ¬ fpt P n sc src l t) ∨ ∃ l : Nat, q.2.2 t = l ∧ fpt P n sc src l t ∧ ∀ l', l' < l → ¬ fpt P n sc src l' t := by
  rcases h.2.2.1 t t0 t1 with x | ⟨x1, x2, -⟩
  · exact Or.inl ⟨x, fun l hl => by have := (h.fin hk hsc l t hl).2; omega⟩
  · exact Or.inr ⟨(q.2.2 t).toNat, by omega, x2, fun l' hl' hf => by have := (h.fin hk hsc l' t hf).2; omega⟩
/-- goings undo themselves: to sources and from them -/
theorem fpt_rev {hm : Int → Bool} (hsc : ∀ s m w, (0 ≤ s ∧ s < N) → (0 ≤ m ∧ m < P) → (0 ≤ w ∧ w < n) → sc s m w = -1 ∨ (0 ≤ sc s m w ∧ sc s m w < N)) (hrv : ∀ s m w, (0 ≤ s ∧ s < N) → (0 ≤ m ∧ m < P) → (0 ≤ w ∧ w < n) → sc s m w ≠ -1 → sc (sc s m w) m w = s) (hsrc : ∀ s, src s ↔ (0 ≤ s ∧ s < N) ∧ hm s = true) : ∀ (l : Nat) (t : Int), (0 ≤ t ∧ t < N) → (fpt P n sc src l t ↔ hpt P n sc hm l t)
  | 0, t, ht => ⟨fun h => ((hsrc t).mp h).2, fun h => (hsrc t).mpr ⟨ht, h⟩⟩
  | l + 1, t, ht => by
    have rg : ∀ (l : Nat) (s : Int), fpt P n sc src l s → 0 ≤ s ∧ s < N := by
      intro l
      induction l with
      | zero => intro s h; exact ((hsrc s).mp h).1
      | succ l ih =>
        rintro s ⟨u, m, w, a, b, c, e, e2⟩
        have := hsc u m w (ih u c) a b
        rw [e] at this
        omega
    constructor
    · rintro ⟨s, m, w, a, b, c, e, e2⟩
      have hs := rg l s c
      have hb : sc t m w = s := by rw [← e]; exact hrv s m w hs a b (by rw [e]; exact e2)
      exact ⟨m, w, a, b, by rw [hb]; omega, by rw [hb]; exact (fpt_rev hsc hrv hsrc l s hs).mp c⟩
    · rintro ⟨m, w, a, b, c, e⟩
      have hs : 0 ≤ sc t m w ∧ sc t m w < N := by
        rcases hsc t m w ht a b with x | x
        · exact absurd x c
        · exact x
      exact ⟨sc t m w, m, w, a, b, (fpt_rev hsc hrv hsrc l _ hs).mpr e, hrv t m w ht a b c, by omega⟩
/-- forward: from one source -/
theorem fpt_app {s0 : Int} {hm : Int → Bool} : ∀ (l : Nat), hpt P n sc hm l s0 ↔ ∃ t, hm t = true ∧ fpt P n sc (fun s => s = s0) l t := by
  have key : ∀ (l a : Nat) (s : Int), fpt P n sc (fun s => s = s0) a s → hpt P n sc hm l s → ∃ t, hm t = true ∧ fpt P n sc (fun s => s = s0) (a + l) t := by
    intro l
    induction l with
    | zero => intro a s h1 h2; exact ⟨s, h2, h1⟩
    | succ l ih =>
      rintro a s h1 ⟨m, w, b1, b2, b3, b4⟩
      obtain ⟨t, t1, t2⟩ := ih (a + 1) (sc s m w) ⟨s, m, w, b1, b2, h1, rfl, b3⟩ b4
      exact ⟨t, t1, by rw [show a + (l + 1) = a + 1 + l by omega]; exact t2⟩
  have key2 : ∀ (l b : Nat) (s : Int), fpt P n sc (fun s => s = s0) l s → hpt P n sc hm b s → hpt P n sc hm (l + b) s0 := by
    intro l
    induction l with
    | zero =>
      intro b s h1 h2
      have h1 : s = s0 := h1
      subst h1
      rw [Nat.zero_add]; exact h2
    | succ l ih =>
      rintro b s ⟨u, m, w, a1, a2, a3, a4, a5⟩ h2
      have := ih (b + 1) u a3 ⟨m, w, a1, a2, by rw [a4]; exact a5, by rw [a4]; exact h2⟩
      rw [show l + 1 + b = l + (b + 1) by omega]
      exact this
  intro l
  constructor
  · intro h
    obtain ⟨t, a, b⟩ := key l 0 s0 rfl h
    rw [Nat.zero_add] at b
    exact ⟨t, a, b⟩
  · rintro ⟨t, a, b⟩
    have := key2 l 0 t b a
    exact this
end CBF
