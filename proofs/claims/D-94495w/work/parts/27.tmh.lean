/-! THE TWIN's methods: settles -/
set_option maxRecDepth 100000
/-- the least of those below n; none: -1 -/
def lst (p : Int → Bool) : Nat → Int
  | 0 => -1
  | n + 1 => if 0 ≤ lst p n then lst p n else if p (n : Int) = true then (n : Int) else -1
theorem lst_spec (p : Int → Bool) : ∀ n : Nat, (lst p n = -1 ∧ ∀ i : Int, 0 ≤ i → i < n → p i = false) ∨ (0 ≤ lst p n ∧ lst p n < n ∧ p (lst p n) = true ∧ ∀ i : Int, 0 ≤ i → i < lst p n → p i = false)
  | 0 => Or.inl ⟨rfl, fun i h0 h1 => by omega⟩
  | n + 1 => by
    unfold lst
    rcases lst_spec p n with ⟨h1, h2⟩ | ⟨h1, h2, h3, h4⟩
    · rw [if_neg (by omega)]
      by_cases c : p (n : Int) = true
      · rw [if_pos c]
        exact Or.inr ⟨by omega, by omega, c, fun i i0 i1 => h2 i i0 i1⟩
      · rw [if_neg c]
        refine Or.inl ⟨rfl, fun i i0 i1 => ?_⟩
        by_cases e : i = n
        · subst e; simpa using c
        · exact h2 i i0 (by omega)
    · rw [if_pos h1]
      exact Or.inr ⟨h1, by omega, h3, h4⟩
theorem lst_congr {p q : Int → Bool} : ∀ (n : Nat), (∀ i : Int, 0 ≤ i → i < n → p i = q i) → lst p n = lst q n
  | 0, _ => rfl
  | n + 1, h => by
    unfold lst
    rw [lst_congr n (fun i a b => h i a (by omega)), h n (by omega) (by omega)]
theorem cntB_mono {p q : Int → Bool} : ∀ (n : Nat), (∀ i : Int, 0 ≤ i → i < n → p i = true → q i = true) → cntB p n ≤ cntB q n
  | 0, _ => Int.le_refl 0
  | n + 1, h => by
    have h1 := cntB_mono n (fun i a b => h i a (by omega))
    have h2 := h n (by omega) (by omega)
    show cntB p n + _ ≤ cntB q n + _
    by_cases c : p (n : Int) = true
    · rw [if_pos c, if_pos (h2 c)]; omega
    · rw [if_neg c]; split <;> omega
theorem cntB_lt {p q : Int → Bool} {o : Int} (ho : 0 ≤ o) (hp : p o = false) (hq : q o = true) : ∀ (n : Nat), o < n → (∀ i : Int, 0 ≤ i → i < n → p i = true → q i = true) → cntB p n < cntB q n
  | 0, h, _ => by omega
  | n + 1, h, hm => by
    have h2 := hm n (by omega) (by omega)
    show cntB p n + _ < cntB q n + _
    by_cases e : o = n
    · subst e
      have h1 := cntB_mono n (fun i a b => hm i a (by omega))
      rw [if_neg (by rw [hp]; decide), if_pos hq]; omega
    · have h1 := cntB_lt ho hp hq n (by omega) (fun i a b => hm i a (by omega))
      by_cases c : p (n : Int) = true
      · rw [if_pos c, if_pos (h2 c)]; omega
      · rw [if_neg c]; split <;> omega
-- ===== orders of lasts =====
def frst (la : Int → Int) (o : Int) : Bool := !anyB (fun z => la z == la o) o.toNat
def drk (la : Int → Int) (n w : Int) : Int := cntB (fun o => decide (la o < la w) && frst la o) n.toNat
def ordB (n : Int) (la lb : Int → Int) : Bool := allB (fun i => allB (fun j => decide (la i < la j) == decide (lb i < lb j)) n.toNat) n.toNat
theorem ordB_iff {n : Int} {la lb : Int → Int} : ordB n la lb = true ↔ ∀ i, 0 ≤ i → i < n → ∀ j, 0 ≤ j → j < n → (la i < la j ↔ lb i < lb j) := by
  unfold ordB
  rw [allB_iff]
  constructor
  · intro h i i0 i1 j j0 j1
    have := allB_iff.mp (h i i0 (by omega)) j j0 (by omega)
    simpa using this
  · intro h i i0 i1
    rw [allB_iff]
    intro j j0 j1
    have := h i i0 (by omega) j j0 (by omega)
    simpa using this
theorem drk_lt {la : Int → Int} {n i j : Int} (i0 : 0 ≤ i) (i1 : i < n) (j0 : 0 ≤ j) (j1 : j < n) : drk la n i < drk la n j ↔ la i < la j := by
  constructor
  · intro h
    by_cases c : la i < la j
    · exact c
    · have : drk la n j ≤ drk la n i := cntB_mono _ (fun o o0 o1 ho => by
        simp only [Bool.and_eq_true, decide_eq_true_eq] at ho ⊢
        exact ⟨by omega, ho.2⟩)
      omega
  · intro h
    rcases lst_spec (fun z => la z == la i) (i + 1).toNat with ⟨h1, h2⟩ | ⟨h1, h2, h3, h4⟩
    · have := h2 i i0 (by omega)
      simp at this
    · generalize lst (fun z => la z == la i) (i + 1).toNat = o at *
      have e : la o = la i := by simpa using h3
      refine cntB_lt (o := o) h1 ?_ ?_ n.toNat (by omega) (fun q q0 q1 hq => ?_)
      · simp only [Bool.and_eq_false_iff, decide_eq_false_iff_not]
        left; omega
      · simp only [Bool.and_eq_true, decide_eq_true_eq]
        refine ⟨by omega, ?_⟩
        unfold frst
        rw [Bool.not_eq_true']
        cases hc : anyB (fun z => la z == la o) o.toNat
        · rfl
        · obtain ⟨z, z0, z1, hz⟩ := anyB_iff.mp hc
          have := h4 z z0 (by omega)
          rw [e] at hz
          rw [hz] at this; cases this
      · simp only [Bool.and_eq_true, decide_eq_true_eq] at hq ⊢
        exact ⟨by omega, hq.2⟩
theorem drk_ord {la lb : Int → Int} {n : Int} : (∀ w, 0 ≤ w → w < n → drk la n w = drk lb n w) ↔ ordB n la lb = true := by
  rw [ordB_iff]
  constructor
  · intro h i i0 i1 j j0 j1
    rw [← drk_lt (la := la) i0 i1 j0 j1, ← drk_lt (la := lb) i0 i1 j0 j1, h i i0 i1, h j j0 j1]
  · intro h w w0 w1
    refine cntB_congr _ (fun o o0 o1 => ?_)
    have h1 := h o o0 (by omega) w w0 w1
    have hf : frst la o = frst lb o := by
      unfold frst
      congr 1
      have : ∀ z, 0 ≤ z → z < o → ((la z == la o) = (lb z == lb o)) := by
        intro z z0 z1
        have a := h z z0 (by omega) o o0 (by omega)
        have b := h o o0 (by omega) z z0 (by omega)
        by_cases c : la z = la o
        · have h9 : lb z = lb o := by omega
          rw [show (la z == la o) = true by simpa using c, show (lb z == lb o) = true by simpa using h9]
        · have h9 : lb z ≠ lb o := by omega
          rw [show (la z == la o) = false by simpa using c, show (lb z == lb o) = false by simpa using h9]
      cases hc : anyB (fun z => lb z == lb o) o.toNat
      · cases hd : anyB (fun z => la z == la o) o.toNat
        · rfl
        · obtain ⟨z, z0, z1, hz⟩ := anyB_iff.mp hd
          have e : anyB (fun z => lb z == lb o) o.toNat = true := anyB_iff.mpr ⟨z, z0, z1, by rw [← this z z0 (by omega)]; exact hz⟩
          rw [hc] at e; cases e
      · obtain ⟨z, z0, z1, hz⟩ := anyB_iff.mp hc
        exact anyB_iff.mpr ⟨z, z0, z1, by rw [this z z0 (by omega)]; exact hz⟩
    rw [hf]
    by_cases c : la o < la w
    · rw [decide_eq_true c, decide_eq_true (h1.mp c)]
    · rw [decide_eq_false c, decide_eq_false (fun z => c (h1.mpr z))]
/-- digits to the base 16 -/
def dgI (r : Int → Int) : Nat → Int
  | 0 => 0
  | n + 1 => dgI r n * 16 + r (n : Int)
theorem dgI_rg {r : Int → Int} : ∀ n : Nat, (∀ i : Int, 0 ≤ i → i < n → 0 ≤ r i ∧ r i ≤ 15) → 0 ≤ dgI r n ∧ dgI r n < 16 ^ n
  | 0, _ => by show 0 ≤ (0 : Int) ∧ (0 : Int) < 1; decide
  | n + 1, h => by
    have h1 := dgI_rg n (fun g a b => h g a (by omega))
    have h2 := h n (by omega) (by omega)
    have e : (16 : Int) ^ (n + 1) = 16 ^ n * 16 := rfl
    show 0 ≤ dgI r n * 16 + _ ∧ dgI r n * 16 + _ < _
    rw [e]
    omega
theorem dgI_inj {r q : Int → Int} : ∀ n : Nat, (∀ i : Int, 0 ≤ i → i < n → 0 ≤ r i ∧ r i ≤ 15) → (∀ i : Int, 0 ≤ i → i < n → 0 ≤ q i ∧ q i ≤ 15) → (dgI r n = dgI q n ↔ ∀ i : Int, 0 ≤ i → i < n → r i = q i)
  | 0, _, _ => ⟨fun _ i a b => by omega, fun _ => rfl⟩
  | n + 1, ha, hb => by
    have ih := dgI_inj (r := r) (q := q) n (fun g a b => ha g a (by omega)) (fun g a b => hb g a (by omega))
    have h1 := ha n (by omega) (by omega)
    have h2 := hb n (by omega) (by omega)
    show dgI r n * 16 + _ = dgI q n * 16 + _ ↔ _
    constructor
    · intro h
      have e1 : dgI r n = dgI q n := by omega
      have e2 : r n = q n := by omega
      intro g g0 g1
      by_cases c : g = n
      · subst c; exact e2
      · exact ih.mp e1 g g0 (by omega)
    · intro h
      rw [ih.mpr (fun g g0 g1 => h g g0 (by omega)), h n (by omega) (by omega)]
theorem drk_rg {la : Int → Int} {n w : Int} (h0 : 0 ≤ n) (hn : n ≤ 14) : 0 ≤ drk la n w ∧ drk la n w ≤ 15 := by
  have := cntB_le (fun o => decide (la o < la w) && frst la o) h0
  unfold drk
  omega
/-- the twin's number for an order -/
def ordI (n : Int) (la : Int → Int) : Int64 := Int64.ofInt (dgI (drk la n) n.toNat)
theorem ordI_iff {n : Int} (h0 : 0 ≤ n) (hn : n ≤ 14) {la lb : Int → Int} : ordI n la = ordI n lb ↔ ordB n la lb = true := by
  have r1 := dgI_rg (r := drk la n) n.toNat (fun i _ _ => drk_rg h0 hn)
  have r2 := dgI_rg (r := drk lb n) n.toNat (fun i _ _ => drk_rg h0 hn)
  have hp : (16 : Int) ^ n.toNat ≤ 16 ^ 14 := by
    have : (16 : Nat) ^ n.toNat ≤ 16 ^ 14 := Nat.pow_le_pow_right (by decide) (by omega)
    have e : ((16 ^ n.toNat : Nat) : Int) = (16 : Int) ^ n.toNat := by simp
    rw [← e]
    exact Int.le_trans (Int.ofNat_le.mpr this) (by decide)
  unfold ordI
  rw [← Int64.toInt_inj, Int64.toInt_ofInt_of_le (by omega) (by omega), Int64.toInt_ofInt_of_le (by omega) (by omega), dgI_inj n.toNat (fun i _ _ => drk_rg h0 hn) (fun i _ _ => drk_rg h0 hn), ← drk_ord]
  exact ⟨fun h w w0 w1 => h w w0 (by omega), fun h w w0 w1 => h w w0 (by omega)⟩
section TMH
variable {S : SS} {B : SB} {K : Int}
theorem tm_orderOf {a : WS} {M : Int} (hM : M ≤ 2000000000) (h : LI K (S 23)) (hV : wsVd (S 23) M a) : vt_M 79 [me] (vt_lg S a) B (vt_eq (some (ll (ordI (S 23 0) a.2.2.2))) (vt_lg S a) B) := by
  refine vt_start rfl rfl (Nat.le_of_ble_eq_true rfl) (fun X hX => ?_)
  have n0 := h.nW
  have hgo := hV.2.2.1
  have l3 : ∀ (m : Nat) (od : Int64) (w ls o z : Int), 0 ≤ w → w < S 23 0 → 0 ≤ o → o < S 23 0 → 0 ≤ z → z + m = o →
      vt_J 79 (vt_eq (some (ll (ordI (S 23 0) a.2.2.2))) (vt_lg S a) B) X 99 [(0, me), (1, ll od), (3, ii w), (4, ii ls), (5, ii o), (6, ii (bI (decide (a.2.2.2 o < a.2.2.2 w) && frst a.2.2.2 o)))] [] (vt_lg S a) B →
      vt_J 79 (vt_eq (some (ll (ordI (S 23 0) a.2.2.2))) (vt_lg S a) B) X 57 [(0, me), (1, ll od), (3, ii w), (4, ii ls), (5, ii o), (6, ii (bI (decide (a.2.2.2 o < a.2.2.2 w) && !anyB (fun z => a.2.2.2 z == a.2.2.2 o) z.toNat))), (7, ii z)] [] (vt_lg S a) B := by
    intro m
    induction m with
    | zero =>
      intro od w ls o z w0 w1 o0 o1 z0 zm hJ
      refine vt_walk hX tk_orderOf [(99, [0, 1, 3, 4, 5, 6])] 60 ?_
      refine ⟨by omega, fun _ => ?_, fun c => absurd c (by omega)⟩
      rw [show z = o by omega]
      exact hJ
    | succ m ih =>
      intro od w ls o z w0 w1 o0 o1 z0 zm hJ
      have hb := bI_rg (decide (a.2.2.2 o < a.2.2.2 w) && !anyB (fun z => a.2.2.2 z == a.2.2.2 o) z.toNat)
      have v1 := hV.2.2.2 z z0 (by omega)
      have v2 := hV.2.2.2 o o0 (by omega)
      refine vt_walk hX tk_orderOf [(99, [0, 1, 3, 4, 5, 6]), (57, [0, 1, 3, 4, 5, 6, 7])] 60 ?_
      refine ⟨by omega, fun c => absurd c (by omega), fun _ => ?_⟩
      refine ⟨by omega, fun c => ?_, fun c => ?_⟩
      · have e : (decide (a.2.2.2 o < a.2.2.2 w) && frst a.2.2.2 o) = false := by
          have c1 := bI_0.mp c
          rw [Bool.and_eq_false_iff] at c1 ⊢
          rcases c1 with c1 | c1
          · exact Or.inl c1
          · right
            rw [Bool.not_eq_false'] at c1
            unfold frst
            rw [Bool.not_eq_false']
            obtain ⟨q, q0, q1, hq⟩ := anyB_iff.mp c1
            exact anyB_iff.mpr ⟨q, q0, by omega, hq⟩
        rw [e] at hJ
        rw [bI_0.mp c]
        exact hJ
      · have c1 := bI_n0.mp c
        simp only [Bool.and_eq_true, Bool.not_eq_true'] at c1
        have hi := ih od w ls o (z + 1) w0 w1 o0 o1 (by omega) (by omega) hJ
        rw [anyB_s z0, c1.1, c1.2] at hi
        refine ⟨by omega, by omega, by rw [lg_36]; omega, fun d => ?_, fun d => ?_⟩ <;> rw [lg_36] at d
        · rw [show (a.2.2.2 z == a.2.2.2 o) = true by simpa using d] at hi
          exact hi
        · rw [show (a.2.2.2 z == a.2.2.2 o) = false by simpa using d] at hi
          exact hi
  have l2 : ∀ (m : Nat) (od : Int64) (w o : Int), 0 ≤ w → w < S 23 0 → 0 ≤ o → o + m = S 23 0 →
      vt_J 79 (vt_eq (some (ll (ordI (S 23 0) a.2.2.2))) (vt_lg S a) B) X 120 [(0, me), (1, ll od), (3, ii w), (4, ii (drk a.2.2.2 (S 23 0) w))] [] (vt_lg S a) B →
      vt_J 79 (vt_eq (some (ll (ordI (S 23 0) a.2.2.2))) (vt_lg S a) B) X 20 [(0, me), (1, ll od), (3, ii w), (4, ii (cntB (fun o => decide (a.2.2.2 o < a.2.2.2 w) && frst a.2.2.2 o) o.toNat)), (5, ii o)] [] (vt_lg S a) B := by
    intro m
    induction m with
    | zero =>
      intro od w o w0 w1 o0 om hJ
      refine vt_walk hX tk_orderOf [(120, [0, 1, 3, 4])] 60 ?_
      refine ⟨by omega, by rw [lg_23]; omega, fun _ => ?_, fun c => absurd c (by rw [lg_23]; omega)⟩
      rw [show o = S 23 0 by omega]
      exact hJ
    | succ m ih =>
      intro od w o w0 w1 o0 om hJ
      have v1 := hV.2.2.2 w w0 (by omega)
      have v2 := hV.2.2.2 o o0 (by omega)
      have hi := ih od w (o + 1) w0 w1 (by omega) (by omega) hJ
      rw [cntB_s o0] at hi
      have k3 := l3 o.toNat od w (cntB (fun o => decide (a.2.2.2 o < a.2.2.2 w) && frst a.2.2.2 o) o.toNat) o 0 w0 w1 o0 (by omega) (by omega) (by omega) (by
        have hb := bI_rg (decide (a.2.2.2 o < a.2.2.2 w) && frst a.2.2.2 o)
        refine vt_walk hX tk_orderOf [(20, [0, 1, 3, 4, 5])] 60 ?_
        refine ⟨by omega, fun c => ?_, fun c => ?_⟩
        · rw [if_neg (by rw [bI_0.mp c]; decide)] at hi
          exact hi
        · rw [if_pos (bI_n0.mp c)] at hi
          exact hi)
      refine vt_walk hX tk_orderOf [(57, [0, 1, 3, 4, 5, 6, 7])] 60 ?_
      refine ⟨by omega, by rw [lg_23]; omega, fun c => absurd c (by rw [lg_23]; omega), fun _ => ?_⟩
      refine ⟨by omega, by omega, by rw [lg_36]; omega, fun d => ?_, fun d => ?_⟩ <;> rw [lg_36] at d
      · rw [decide_eq_false (by omega)] at k3
        exact k3
      · rw [decide_eq_true d] at k3
        exact k3
  have l1 : ∀ (m : Nat) (w : Int), 0 ≤ w → w + m = S 23 0 → vt_J 79 (vt_eq (some (ll (ordI (S 23 0) a.2.2.2))) (vt_lg S a) B) X 4 [(0, me), (1, ll (Int64.ofInt (dgI (drk a.2.2.2 (S 23 0)) w.toNat))), (3, ii w)] [] (vt_lg S a) B := by
    intro m
    induction m with
    | zero =>
      intro w w0 wm
      refine vt_walk hX tk_orderOf [] 60 ?_
      refine ⟨by omega, by rw [lg_23]; omega, fun _ => ?_, fun c => absurd c (by rw [lg_23]; omega)⟩
      rw [show w = S 23 0 by omega]
      exact ⟨rfl, rfl, rfl⟩
    | succ m ih =>
      intro w w0 wm
      have hi := ih (w + 1) (by omega) (by omega)
      rw [show (w + 1).toNat = w.toNat + 1 by omega, show dgI (drk a.2.2.2 (S 23 0)) (w.toNat + 1) = dgI (drk a.2.2.2 (S 23 0)) w.toNat * 16 + drk a.2.2.2 (S 23 0) ((w.toNat : Nat) : Int) from rfl, show ((w.toNat : Nat) : Int) = w by omega, Int64.ofInt_add, Int64.ofInt_mul] at hi
      have hdr := drk_rg (la := a.2.2.2) (w := w) n0.1 n0.2
      have k2 := l2 (S 23 0).toNat (Int64.ofInt (dgI (drk a.2.2.2 (S 23 0)) w.toNat)) w 0 w0 (by omega) (by omega) (by omega) (by
        refine vt_walk hX tk_orderOf [(4, [0, 1, 3])] 60 ?_
        exact ⟨by omega, hi⟩)
      refine vt_walk hX tk_orderOf [(20, [0, 1, 3, 4, 5])] 60 ?_
      refine ⟨by omega, by rw [lg_23]; omega, fun c => absurd c (by rw [lg_23]; omega), fun _ => ?_⟩
      exact k2
  refine vt_walk hX tk_orderOf [(4, [0, 1, 3])] 60 ?_
  exact l1 (S 23 0).toNat 0 (by omega) (by omega)
/-- what stays of the twin: all that isn't scratch -/
def vt_kp (S S' : SS) : Prop := (∀ j, j ∈ [0, 3, 5, 6, 23, 26, 28, 41, 42] → S' j = S j) ∧ ∀ i : Int, i ∈ [1, 2, 29] → S' 43 i = S 43 i
theorem vt_kp.rf : vt_kp S S := ⟨fun _ _ => rfl, fun _ _ => rfl⟩
theorem vt_kp.tr {S1 S2 : SS} (h : vt_kp S S1) (h2 : vt_kp S1 S2) : vt_kp S S2 := ⟨fun j hj => (h2.1 j hj).trans (h.1 j hj), fun i hi => (h2.2 i hi).trans (h.2 i hi)⟩
theorem lg_kp {a : WS} : vt_kp S (vt_lg S a) := by
  refine ⟨fun j hj => lg_x ?_ ?_, fun i hi => lg_43x ?_ ?_ ?_⟩
  · rintro rfl; revert hj; decide
  · rintro rfl; revert hj; decide
  · rintro rfl; revert hi; decide
  · rintro rfl; revert hi; decide
  · rintro rfl; revert hi; decide
theorem rw_kp {st : RS} : vt_kp S (vt_rw S st) := by
  refine ⟨fun j hj => ?_, fun i hi => ?_⟩
  · unfold vt_rw
    rw [vt_st_ne (by rintro rfl; revert hj; decide), vt_st_ne (by rintro rfl; revert hj; decide)]
  · unfold vt_rw
    rw [vt_st_at, upF_ne (by rintro rfl; revert hi; decide)]
/-- whether two situations are alike -/
def sitB (n : Int) (a b : WS) : Bool := (a.1 == b.1) && (a.2.1 == b.2.1) && ordB n a.2.2.2 b.2.2.2
def stl (f : Int → Int) : Nat → Int → (Int → WS) → WS → Option (Int × Int)
  | 0, _, _, _ => none
  | n + 1, k, hs, a => if 0 ≤ lst (fun i => sitB (f 0) (hs i) a) k.toNat then some (lst (fun i => sitB (f 0) (hs i) a) k.toNat, k) else match wst f a with
    | some b => stl f n (k + 1) (fun i => if i = k then a else hs i) b
    | none => none
def sp_sv (o : Option (Int × Int)) (k : Int) : Int := match o with
  | some (e, t) => if k = 0 then e else t - e
  | none => -2
def sp_set (f : Int → Int) (g k : Int) : Int := if sCanT f g = true ∧ sIn k 0 1 = true then sp_sv (stl f 2001 0 (fun _ => (0, 0, 0, fun _ => 0)) (ws0 f g)) k else -1
theorem or8 {d p : Int} (hd : 0 ≤ d ∧ d < 16384) (hp : 0 ≤ p ∧ p ≤ 7) : vt_or (d * 2 ^ (3 : Int).toNat) p = 8 * d + p := by
  have e : d * 2 ^ (3 : Int).toNat = ((8 * d.toNat : Nat) : Int) := by
    show d * 8 = _
    omega
  rw [e, bt_or (by omega) (by omega), Int.toNat_natCast]
  have := Nat.two_pow_add_eq_or_of_lt (i := 3) (b := p.toNat) (by omega) d.toNat
  rw [show (2 : Nat) ^ 3 = 8 by rfl] at this
  rw [← this]
  omega
theorem ordB_congr {n : Int} {a b c d : Int → Int} (h1 : ∀ w, 0 ≤ w → w < n → a w = b w) (h2 : ∀ w, 0 ≤ w → w < n → c w = d w) : ordB n a c = ordB n b d := by
  cases hb : ordB n b d
  · cases ha : ordB n a c
    · rfl
    · have : ordB n b d = true := ordB_iff.mpr (fun i i0 i1 j j0 j1 => by rw [← h1 i i0 i1, ← h1 j j0 j1, ← h2 i i0 i1, ← h2 j j0 j1]; exact ordB_iff.mp ha i i0 i1 j j0 j1)
      rw [hb] at this; cases this
  · exact ordB_iff.mpr (fun i i0 i1 j j0 j1 => by rw [h1 i i0 i1, h1 j j0 j1, h2 i i0 i1, h2 j j0 j1]; exact ordB_iff.mp hb i i0 i1 j j0 j1)
theorem sitB_E {n : Int} {a a' b b' : WS} (h1 : wsE n a a') (h2 : wsE n b b') : sitB n a b = sitB n a' b' := by
  unfold sitB
  rw [h1.1, h1.2.1, h2.1, h2.2.1, ordB_congr h1.2.2.2 h2.2.2.2]
end TMH
