/-! SEARCHES: what the row of states tells -/
set_option maxRecDepth 100000
/-- from s one comes in l goings to a state with hm -/
def hpt (P n : Int) (sc : Int → Int → Int → Int) (hm : Int → Bool) : Nat → Int → Prop
  | 0, s => hm s = true
  | l + 1, s => ∃ m w, (0 ≤ m ∧ m < P) ∧ (0 ≤ w ∧ w < n) ∧ sc s m w ≠ -1 ∧ hpt P n sc hm l (sc s m w)
def isD (P n : Int) (sc : Int → Int → Int → Int) (hm : Int → Bool) (s : Int) (l : Nat) : Prop := hpt P n sc hm l s ∧ ∀ l', l' < l → ¬ hpt P n sc hm l' s
theorem isD_uniq {P n : Int} {sc : Int → Int → Int → Int} {hm : Int → Bool} {s : Int} {a b : Nat} (ha : isD P n sc hm s a) (hb : isD P n sc hm s b) : a = b := by
  rcases Nat.lt_trichotomy a b with c | c | c
  · exact absurd ha.1 (hb.2 a c)
  · exact c
  · exact absurd hb.1 (ha.2 b c)
def dpt (fr : Int → Int) : Nat → Int → Int
  | 0, _ => 0
  | n + 1, i => if fr i < 0 then 0 else dpt fr n (fr i) + 1
def dp (q : QS) (i : Int) : Int := dpt q.2.2.1 (i.toNat + 1) i
section BFT
variable {N P n s0 k m w : Int} {sc : Int → Int → Int → Int} {q : QS} {hm : Int → Bool}
theorem dpt_fuel (h : BFI N P n s0 sc k m w q) : ∀ (a b : Nat) (i : Int), 0 ≤ i → i < q.1 → i < a → i < b → dpt q.2.2.1 a i = dpt q.2.2.1 b i
  | 0, _, i, h0, _, h2, _ => by omega
  | _ + 1, 0, i, h0, _, _, h3 => by omega
  | a + 1, b + 1, i, h0, h1, h2, h3 => by
    unfold dpt
    by_cases c : q.2.2.1 i < 0
    · rw [if_pos c, if_pos c]
    · rw [if_neg c, if_neg c]
      have hi : 1 ≤ i := by
        by_cases e : i = 0
        · subst e
          have := h.1.2.2.2.2
          omega
        · omega
      have h5 := (h.2.2.2.2.1 i hi h1).1
      rw [dpt_fuel h a b (q.2.2.1 i) h5.1 (by omega) (by omega) (by omega)]
theorem dp_0 (h : BFI N P n s0 sc k m w q) : dp q 0 = 0 := by
  unfold dp
  show dpt q.2.2.1 1 0 = 0
  unfold dpt
  rw [if_pos (by have := h.1.2.2.2.2; omega)]
theorem dp_s (h : BFI N P n s0 sc k m w q) {i : Int} (h0 : 1 ≤ i) (h1 : i < q.1) : dp q i = dp q (q.2.2.1 i) + 1 := by
  have h5 := (h.2.2.2.2.1 i h0 h1).1
  unfold dp
  show (if q.2.2.1 i < 0 then 0 else dpt q.2.2.1 i.toNat (q.2.2.1 i) + 1) = _
  rw [if_neg (by omega), dpt_fuel h i.toNat ((q.2.2.1 i).toNat + 1) _ h5.1 (by omega) (by omega) (by omega)]
theorem dp_nn (h : BFI N P n s0 sc k m w q) : ∀ (a : Nat) (i : Int), 0 ≤ i → i < a → i < q.1 → 0 ≤ dp q i ∧ dp q i ≤ i
  | 0, i, h0, h1, _ => by omega
  | a + 1, i, h0, h1, h2 => by
    by_cases e : i = 0
    · subst e; rw [dp_0 h]; decide
    · have h5 := (h.2.2.2.2.1 i (by omega) h2).1
      rw [dp_s h (by omega) h2]
      have := dp_nn h a (q.2.2.1 i) h5.1 (by omega) (by omega)
      omega
theorem dp_rg (h : BFI N P n s0 sc k m w q) {i : Int} (h0 : 0 ≤ i) (h1 : i < q.1) : 0 ≤ dp q i ∧ dp q i ≤ i := dp_nn h (i.toNat + 1) i h0 (by omega) h1
theorem dp_mono (h : BFI N P n s0 sc k m w q) : ∀ (a : Nat) (i i' : Int), 0 ≤ i → i ≤ i' → i' < a → i' < q.1 → dp q i ≤ dp q i'
  | 0, i, i', h0, h1, h2, _ => by omega
  | a + 1, i, i', h0, h1, h2, h3 => by
    by_cases e : i = 0
    · subst e; rw [dp_0 h]; exact (dp_rg h (by omega) h3).1
    · have h5 := (h.2.2.2.2.1 i (by omega) (by omega)).1
      have h5' := (h.2.2.2.2.1 i' (by omega) h3).1
      have h7 := h.2.2.2.2.2.2 i i' (by omega) h1 h3
      rw [dp_s h (by omega) (by omega), dp_s h (by omega) h3]
      have := dp_mono h a (q.2.2.1 i) (q.2.2.1 i') h5.1 h7 (by omega) (by omega)
      omega
theorem dp_le (h : BFI N P n s0 sc k m w q) {i i' : Int} (h0 : 0 ≤ i) (h1 : i ≤ i') (h2 : i' < q.1) : dp q i ≤ dp q i' := dp_mono h (i'.toNat + 1) i i' h0 h1 (by omega) h2
theorem hpt_up (h : BFI N P n s0 sc k m w q) : ∀ (a : Nat) (i : Int) (l : Nat), 0 ≤ i → i < a → i < q.1 → hpt P n sc hm l (q.2.1 i) → hpt P n sc hm ((dp q i).toNat + l) s0
  | 0, i, l, h0, h1, _, _ => by omega
  | a + 1, i, l, h0, h1, h2, hl => by
    by_cases e : i = 0
    · subst e
      rw [dp_0 h, ← h.1.2.2.2.1]
      show hpt P n sc hm (0 + l) _
      rw [Nat.zero_add]
      exact hl
    · obtain ⟨h5, m', w', b1, b2, b3, -, -⟩ := h.2.2.2.2.1 i (by omega) h2
      have hd := dp_rg h h5.1 (by omega)
      have hst := (h.2.1 i h0 h2).1
      have := hpt_up h a (q.2.2.1 i) (l + 1) h5.1 (by omega) (by omega) ⟨m', w', b1, b2, by rw [b3]; omega, by rw [b3]; exact hl⟩
      rw [dp_s h (by omega) h2, show (dp q (q.2.2.1 i) + 1).toNat + l = (dp q (q.2.2.1 i)).toNat + (l + 1) by omega]
      exact this
/-- a state met from one that has been gone through stands early enough -/
theorem met_dp (h : BFI N P n s0 sc k m w q) {i i2 m1 w1 : Int} (i0 : 0 ≤ i) (i1 : i < q.1) (hm1 : 0 ≤ m1 ∧ m1 < P) (hw1 : 0 ≤ w1 ∧ w1 < n) (j0 : 0 ≤ i2) (j1 : i2 < q.1) (e : sc (q.2.1 i) m1 w1 = q.2.1 i2) : dp q i2 ≤ dp q i + 1 := by
  have hd := dp_rg h i0 i1
  by_cases e0 : i2 = 0
  · subst e0; rw [dp_0 h]; omega
  · obtain ⟨h5, m', w', b1, b2, b3, b4, b5⟩ := h.2.2.2.2.1 i2 (by omega) j1
    rw [dp_s h (by omega) j1]
    have hle : q.2.2.1 i2 ≤ i := by
      rcases Int.lt_or_le i (q.2.2.1 i2) with c | c
      · have h2 := h.2.1 i2 j0 j1
        rcases b5 i m1 w1 i0 hm1 hw1 (Or.inl c) with x | x
        · rw [e] at x; omega
        · rw [e, h2.2] at x; omega
      · exact c
    have := dp_le h h5.1 hle i1
    omega
theorem hpt_fwd (h : BFI N P n s0 sc k 0 0 q) (hsc : ∀ s m w, (0 ≤ s ∧ s < N) → (0 ≤ m ∧ m < P) → (0 ≤ w ∧ w < n) → sc s m w = -1 ∨ (0 ≤ sc s m w ∧ sc s m w < N)) (hno : ∀ i, 0 ≤ i → i < k → hm (q.2.1 i) = false) : ∀ (l : Nat) (i : Int), 0 ≤ i → i < q.1 → hpt P n sc hm l (q.2.1 i) → ∃ i', k ≤ i' ∧ i' < q.1 ∧ dp q i' ≤ dp q i + l
  | 0, i, i0, i1, hl => by
    refine ⟨i, ?_, i1, by omega⟩
    rcases Int.lt_or_le i k with c | c
    · have := hno i i0 c
      have hl : hm (q.2.1 i) = true := hl
      rw [hl] at this; cases this
    · exact c
  | l + 1, i, i0, i1, hl => by
    rcases Int.lt_or_le i k with c | c
    · obtain ⟨m1, w1, a1, a2, a3, a4⟩ := hl
      have hst := (h.2.1 i i0 i1).1
      have hr : 0 ≤ sc (q.2.1 i) m1 w1 ∧ sc (q.2.1 i) m1 w1 < N := by
        rcases hsc _ _ _ hst a1 a2 with x | x
        · exact absurd x a3
        · exact x
      have hmt : 0 < q.2.2.2 (sc (q.2.1 i) m1 w1) := by
        rcases h.2.2.2.2.2.1 i m1 w1 i0 a1 a2 (Or.inl c) with x | x
        · exact absurd x a3
        · exact x
      obtain ⟨y1, y2, y3⟩ : 1 ≤ q.2.2.2 (sc (q.2.1 i) m1 w1) ∧ q.2.2.2 (sc (q.2.1 i) m1 w1) ≤ q.1 ∧ q.2.1 (q.2.2.2 (sc (q.2.1 i) m1 w1) - 1) = sc (q.2.1 i) m1 w1 := by
        rcases h.2.2.1 _ hr.1 hr.2 with x | x
        · omega
        · exact x
      have hdp := met_dp h i0 i1 a1 a2 (i2 := q.2.2.2 (sc (q.2.1 i) m1 w1) - 1) (by omega) (by omega) y3.symm
      obtain ⟨i', z1, z2, z3⟩ := hpt_fwd h hsc hno l (q.2.2.2 (sc (q.2.1 i) m1 w1) - 1) (by omega) (by omega) (by rw [y3]; exact a4)
      exact ⟨i', z1, z2, by omega⟩
    · exact ⟨i, c, i1, by omega⟩
/-- the search went to its end: none is come to -/
theorem bfs_none (h : BFI N P n s0 sc k 0 0 q) (hsc : ∀ s m w, (0 ≤ s ∧ s < N) → (0 ≤ m ∧ m < P) → (0 ≤ w ∧ w < n) → sc s m w = -1 ∨ (0 ≤ sc s m w ∧ sc s m w < N)) (hk : q.1 ≤ k) (hno : ∀ i, 0 ≤ i → i < q.1 → hm (q.2.1 i) = false) (l : Nat) : ¬ hpt P n sc hm l s0 := by
  intro hl
  have h1 := h.1
  obtain ⟨i', a, b, -⟩ := hpt_fwd (hm := hm) h hsc (fun i i0 i1 => hno i i0 (by omega)) l 0 (by omega) (by omega) (by rw [h1.2.2.2.1]; exact hl)
  omega
/-- the search stopped at the first -/
theorem bfs_found (h : BFI N P n s0 sc k 0 0 q) (hsc : ∀ s m w, (0 ≤ s ∧ s < N) → (0 ≤ m ∧ m < P) → (0 ≤ w ∧ w < n) → sc s m w = -1 ∨ (0 ≤ sc s m w ∧ sc s m w < N)) (hk : k < q.1) (hno : ∀ i, 0 ≤ i → i < k → hm (q.2.1 i) = false) (hy : hm (q.2.1 k) = true) : isD P n sc hm s0 (dp q k).toNat := by
  have h1 := h.1
  have hd := dp_rg h h1.1 hk
  refine ⟨?_, fun l' hl' hp => ?_⟩
  · have := hpt_up (hm := hm) h (k.toNat + 1) k 0 h1.1 (by omega) hk hy
    exact this
  · obtain ⟨i', a, b, c⟩ := hpt_fwd (hm := hm) h hsc hno l' 0 (by omega) (by omega) (by rw [h1.2.2.2.1]; exact hp)
    have := dp_le h h1.1 a b
    rw [dp_0 h] at c
    omega
/-- K stands l goings behind y, by those ahead -/
def chn (fr : Int → Int) : Nat → Int → Int → Prop
  | 0, K, y => K = y
  | l + 1, K, y => ∃ y', chn fr l K y' ∧ 1 ≤ y' ∧ y = fr y'
theorem chn_rg (h : BFI N P n s0 sc k m w q) {K : Int} (hK : K < q.1) (hK0 : 0 ≤ K) : ∀ (l : Nat) (y : Int), chn q.2.2.1 l K y → 0 ≤ y ∧ y ≤ K ∧ dp q K = dp q y + l
  | 0, y, e => by
    have : K = y := e
    subst this
    omega
  | l + 1, y, ⟨y', e, y1, ey⟩ => by
    obtain ⟨a, b, c⟩ := chn_rg h hK hK0 l y' e
    have h5 := (h.2.2.2.2.1 y' y1 (by omega)).1
    have := dp_s h y1 (by omega)
    subst ey
    omega
theorem bfs_first (h : BFI N P n s0 sc k 0 0 q) (hsc : ∀ s m w, (0 ≤ s ∧ s < N) → (0 ≤ m ∧ m < P) → (0 ≤ w ∧ w < n) → sc s m w = -1 ∨ (0 ≤ sc s m w ∧ sc s m w < N)) (hk : k < q.1) (hno : ∀ i, 0 ≤ i → i < k → hm (q.2.1 i) = false) : ∀ (l : Nat) (x y : Int), 0 ≤ x → x < y → chn q.2.2.1 l k y → ¬ hpt P n sc hm l (q.2.1 x)
  | 0, x, y, x0, xy, e, hl => by
    have e : k = y := e
    subst e
    have := hno x x0 xy
    have hl : hm (q.2.1 x) = true := hl
    rw [hl] at this; cases this
  | l + 1, x, y, x0, xy, ⟨y', e, y1, ey⟩, ⟨m1, w1, a1, a2, a3, a4⟩ => by
    obtain ⟨c1, c2, c3⟩ := chn_rg h hk h.1.1 l y' e
    obtain ⟨h5, m', w', b1, b2, b3, b4, b5⟩ := h.2.2.2.2.1 y' y1 (by omega)
    have hst := (h.2.1 x x0 (by omega)).1
    have hr : 0 ≤ sc (q.2.1 x) m1 w1 ∧ sc (q.2.1 x) m1 w1 < N := by
      rcases hsc _ _ _ hst a1 a2 with z | z
      · exact absurd z a3
      · exact z
    rcases b5 x m1 w1 x0 a1 a2 (Or.inl (by omega)) with z | ⟨z1, z2⟩
    · exact a3 z
    · rcases h.2.2.1 _ hr.1 hr.2 with u | ⟨u1, u2, u3⟩
      · omega
      · exact bfs_first h hsc hk hno l (q.2.2.2 (sc (q.2.1 x) m1 w1) - 1) y' (by omega) (by omega) e (by rw [u3]; exact a4)
end BFT
/-- the first going from s that comes nearer: l goings are left behind it -/
def lm (P n : Int) (sc : Int → Int → Int → Int) (hm : Int → Bool) (l : Nat) (s m w : Int) : Prop := (0 ≤ m ∧ m < P) ∧ (0 ≤ w ∧ w < n) ∧ sc s m w ≠ -1 ∧ hpt P n sc hm l (sc s m w) ∧ ∀ m' w', (0 ≤ m' ∧ m' < P) → (0 ≤ w' ∧ w' < n) → (m' < m ∨ (m' = m ∧ w' < w)) → sc s m' w' = -1 ∨ ¬ hpt P n sc hm l (sc s m' w')
theorem lm_uniq {P n : Int} {sc : Int → Int → Int → Int} {hm : Int → Bool} {l : Nat} {s m w m' w' : Int} (h : lm P n sc hm l s m w) (h' : lm P n sc hm l s m' w') : m = m' ∧ w = w' := by
  obtain ⟨a1, a2, a3, a4, a5⟩ := h
  obtain ⟨b1, b2, b3, b4, b5⟩ := h'
  by_cases c : m < m' ∨ (m = m' ∧ w < w')
  · rcases b5 m w a1 a2 c with x | x
    · exact absurd x a3
    · exact absurd a4 x
  · by_cases d : m' < m ∨ (m' = m ∧ w' < w)
    · rcases a5 m' w' b1 b2 d with x | x
      · exact absurd x b3
      · exact absurd b4 x
    · omega
/-- the state behind i such goings, of L -/
def grp (P n : Int) (sc : Int → Int → Int → Int) (hm : Int → Bool) (s0 : Int) (L : Nat) : Nat → Int → Prop
  | 0, t => t = s0
  | i + 1, t => ∃ s m w, grp P n sc hm s0 L i s ∧ lm P n sc hm (L - i - 1) s m w ∧ t = sc s m w
theorem grp_uniq {P n : Int} {sc : Int → Int → Int → Int} {hm : Int → Bool} {s0 : Int} {L : Nat} : ∀ (i : Nat) (t t' : Int), grp P n sc hm s0 L i t → grp P n sc hm s0 L i t' → t = t'
  | 0, t, t', h, h' => by
    have h : t = s0 := h
    have h' : t' = s0 := h'
    omega
  | i + 1, t, t', ⟨s, m, w, a, b, c⟩, ⟨s', m', w', a', b', c'⟩ => by
    have e := grp_uniq i s s' a a'
    subst e
    obtain ⟨rfl, rfl⟩ := lm_uniq b b'
    rw [c, c']
/-- the going number k of the first of the shortest rows: mover m by way w -/
def sp_mv (P n : Int) (sc : Int → Int → Int → Int) (hm : Int → Bool) (s0 : Int) (L k : Nat) (m w : Int) : Prop := ∃ s, grp P n sc hm s0 L k s ∧ lm P n sc hm (L - k - 1) s m w
theorem sp_mv_uniq {P n : Int} {sc : Int → Int → Int → Int} {hm : Int → Bool} {s0 : Int} {L k : Nat} {m w m' w' : Int} (h : sp_mv P n sc hm s0 L k m w) (h' : sp_mv P n sc hm s0 L k m' w') : m = m' ∧ w = w' := by
  obtain ⟨s, a, b⟩ := h
  obtain ⟨s', a', b'⟩ := h'
  have e := grp_uniq k s s' a a'
  subst e
  exact lm_uniq b b'
section BFG
variable {N P n s0 k : Int} {sc : Int → Int → Int → Int} {q : QS} {hm : Int → Bool}
theorem bfs_lm (h : BFI N P n s0 sc k 0 0 q) (hsc : ∀ s m w, (0 ≤ s ∧ s < N) → (0 ≤ m ∧ m < P) → (0 ≤ w ∧ w < n) → sc s m w = -1 ∨ (0 ≤ sc s m w ∧ sc s m w < N)) (hk : k < q.1) (hno : ∀ i, 0 ≤ i → i < k → hm (q.2.1 i) = false) (hy : hm (q.2.1 k) = true) {l : Nat} {y : Int} (y1 : 1 ≤ y) (hc : chn q.2.2.1 l k y) : ∃ m w, lm P n sc hm l (q.2.1 (q.2.2.1 y)) m w ∧ sc (q.2.1 (q.2.2.1 y)) m w = q.2.1 y := by
  obtain ⟨c1, c2, c3⟩ := chn_rg h hk h.1.1 l y hc
  obtain ⟨h5, m', w', b1, b2, b3, b4, b5⟩ := h.2.2.2.2.1 y y1 (by omega)
  have hst := (h.2.1 y c1 (by omega)).1
  have hp : ∀ (l : Nat) (y : Int), chn q.2.2.1 l k y → hpt P n sc hm l (q.2.1 y) := by
    intro l
    induction l with
    | zero =>
      intro y e
      have e : k = y := e
      subst e
      exact hy
    | succ l ih =>
      rintro y ⟨y', e, y1', rfl⟩
      obtain ⟨d1, d2, d3⟩ := chn_rg h hk h.1.1 l y' e
      obtain ⟨g5, m1, w1, g1, g2, g3, -, -⟩ := h.2.2.2.2.1 y' y1' (by omega)
      have hs2 := (h.2.1 y' d1 (by omega)).1
      exact ⟨m1, w1, g1, g2, by rw [g3]; omega, by rw [g3]; exact ih y' e⟩
  refine ⟨m', w', ⟨b1, b2, by rw [b3]; omega, by rw [b3]; exact hp l y hc, fun m2 w2 hm2 hw2 hb => ?_⟩, b3⟩
  have hsj := (h.2.1 (q.2.2.1 y) h5.1 (by omega)).1
  rcases b5 (q.2.2.1 y) m2 w2 h5.1 hm2 hw2 (Or.inr ⟨rfl, hb⟩) with x | ⟨x1, x2⟩
  · exact Or.inl x
  · rcases hsc _ _ _ hsj hm2 hw2 with r | r
    · exact Or.inl r
    · right
      rcases h.2.2.1 _ r.1 r.2 with u | ⟨u1, u2, u3⟩
      · omega
      · have := bfs_first h hsc hk hno l (q.2.2.2 (sc (q.2.1 (q.2.2.1 y)) m2 w2) - 1) y (by omega) (by omega) hc
        rw [u3] at this
        exact this
theorem bfs_grp (h : BFI N P n s0 sc k 0 0 q) (hsc : ∀ s m w, (0 ≤ s ∧ s < N) → (0 ≤ m ∧ m < P) → (0 ≤ w ∧ w < n) → sc s m w = -1 ∨ (0 ≤ sc s m w ∧ sc s m w < N)) (hk : k < q.1) (hno : ∀ i, 0 ≤ i → i < k → hm (q.2.1 i) = false) (hy : hm (q.2.1 k) = true) : ∀ (i : Nat) (y : Int) (l : Nat), l + i = (dp q k).toNat → chn q.2.2.1 l k y → grp P n sc hm s0 (dp q k).toNat i (q.2.1 y)
  | 0, y, l, hl, hc => by
    obtain ⟨c1, c2, c3⟩ := chn_rg h hk h.1.1 l y hc
    have hd := dp_rg h h.1.1 hk
    have : y = 0 := by
      by_cases e : y = 0
      · exact e
      · have := dp_s h (i := y) (by omega) (by omega)
        have h5 := (h.2.2.2.2.1 y (by omega) (by omega)).1
        have := dp_rg h h5.1 (by omega)
        omega
    subst this
    exact h.1.2.2.2.1
  | i + 1, y, l, hl, hc => by
    obtain ⟨c1, c2, c3⟩ := chn_rg h hk h.1.1 l y hc
    have hd := dp_rg h h.1.1 hk
    have y1 : 1 ≤ y := by
      by_cases e : y = 0
      · subst e; rw [dp_0 h] at c3; omega
      · omega
    obtain ⟨m, w, h1, h2⟩ := bfs_lm h hsc hk hno hy y1 hc
    refine ⟨q.2.1 (q.2.2.1 y), m, w, ?_, ?_, h2.symm⟩
    · exact bfs_grp h hsc hk hno hy i (q.2.2.1 y) (l + 1) (by omega) ⟨y, hc, y1, rfl⟩
    · rw [show (dp q k).toNat - i - 1 = l by omega]
      exact h1
end BFG
