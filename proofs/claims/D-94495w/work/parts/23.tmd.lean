/-! THE TWIN's methods: go, turn, seed, count, row, images -/
set_option maxRecDepth 100000
section TMD
variable {S : SS} {B : SB} {K : Int}
def sCanGo (f : Int → Int) (g w : Int) : Bool := sStd f g && sIsW f w && (sE f (f 2) w 0 == sG f g 0) && (sOn f w == 0)
theorem sOn_rg {f : Int → Int} (h : LI K f) (w : Int) : 0 ≤ sOn f w ∧ sOn f w ≤ 6 := by
  have := cntB_le (fun g => sG f g 3 == w) h.nG.1
  have := h.nG
  unfold sOn
  omega
theorem tm_canGo {g w : Int} (hg : -2147483648 ≤ g ∧ g ≤ 2147483647) (hw : -2147483648 ≤ w ∧ w ≤ 2147483647) (h : LI K (S 23)) : vt_M 49 [me, ii g, ii w] S B (vt_eq (some (ii (bI (sCanGo (S 23) g w)))) S B) := by
  refine vt_start rfl rfl (Nat.le_of_ble_eq_true rfl) (fun X hX => ?_)
  refine vt_walk hX tk_canGo [] 80 ?_
  have n0 := h.nW
  have n1 := h.nG
  have hd := h.dir
  have hb := bI_rg (sStd (S 23) g)
  have hb2 := bI_rg (sIsW (S 23) w)
  have ho := sOn_rg h w
  refine vt_k (tm_stands hg h) ?_
  refine ⟨by omega, fun c => ?_, fun c => ?_⟩
  · refine ⟨Or.inl rfl, ?_, rfl, rfl⟩
    unfold sCanGo
    rw [bI_0.mp c]; rfl
  have c1 := bI_n0.mp c
  refine vt_k (tm_isWay hw h) ?_
  refine ⟨by omega, fun d => ?_, fun d => ?_⟩
  · refine ⟨Or.inl rfl, ?_, rfl, rfl⟩
    unfold sCanGo
    rw [c1, bI_0.mp d]; rfl
  have d1 := bI_n0.mp d
  have d2 := of_decide_eq_true d1
  have cg : 0 ≤ g ∧ g < S 23 1 := of_decide_eq_true ((Bool.and_eq_true _ _).mp c1).1
  have hp := (h.g cg.1 cg.2).place
  have he := (h.w d2.1 d2.2).end (d := S 23 2) (Or.inl rfl)
  refine ⟨by omega, vt_k (tm_endOf (by omega) (by omega) (Or.inl rfl)) ?_⟩
  refine vt_k (tm_goerOf (by omega)) ?_
  refine ⟨by omega, fun e => ?_, fun e => ?_⟩
  · refine ⟨Or.inl rfl, ?_, rfl, rfl⟩
    unfold sCanGo
    rw [c1, d1, show (sE (S 23) (S 23 2) w 0 == sG (S 23) g 0) = false by simpa using e]; rfl
  · refine vt_k (tm_onWay hw h) ?_
    refine ⟨by omega, fun k => ?_, fun k => ?_⟩
    · refine ⟨Or.inl rfl, ?_, rfl, rfl⟩
      unfold sCanGo
      rw [c1, d1, show (sE (S 23) (S 23 2) w 0 == sG (S 23) g 0) = true by simpa using e, show (sOn (S 23) w == 0) = false by simpa using k]; rfl
    · refine ⟨Or.inr rfl, ?_, rfl, rfl⟩
      unfold sCanGo
      rw [c1, d1, show (sE (S 23) (S 23 2) w 0 == sG (S 23) g 0) = true by simpa using e, show (sOn (S 23) w == 0) = true by simpa using k]; rfl
/-- go: what it answers, and the state behind it -/
def sp_go (f : Int → Int) (g w : Int) : Int × (Int → Int) := if sCanGo f g w = true then (sE f (f 2) w 1, sp_arr f g w (sE f (f 2) w 1) (f 4)) else (-1, f)
theorem tm_go {g w : Int} (hg : -2147483648 ≤ g ∧ g ≤ 2147483647) (hw : -2147483648 ≤ w ∧ w ≤ 2147483647) (h : LI K (S 23)) : vt_M 48 [me, ii g, ii w] S B (vt_eq (some (ii (sp_go (S 23) g w).1)) (vt_st S 23 (sp_go (S 23) g w).2) B) := by
  refine vt_start rfl rfl (Nat.le_of_ble_eq_true rfl) (fun X hX => ?_)
  refine vt_walk hX tk_go [] 80 ?_
  have n0 := h.nW
  have n1 := h.nG
  have hd := h.dir
  have hb := bI_rg (sCanGo (S 23) g w)
  refine vt_k (tm_canGo hg hw h) ?_
  refine ⟨by omega, fun c => ?_, fun c => ?_⟩
  · have c1 := bI_n0.mp c
    have c0 := c1
    unfold sCanGo sStd at c1
    simp only [Bool.and_eq_true] at c1
    obtain ⟨⟨⟨⟨c1, -⟩, c2⟩, -⟩, -⟩ := c1
    have cg : 0 ≤ g ∧ g < S 23 1 := of_decide_eq_true c1
    have cw : 0 ≤ w ∧ w < S 23 0 := of_decide_eq_true c2
    have he := (h.w cw.1 cw.2).end (d := S 23 2) (Or.inr rfl)
    refine ⟨by omega, vt_k (tm_endOf (by omega) (by omega) (Or.inr rfl)) ?_⟩
    refine ⟨by omega, vt_k (tm_arrives cg cw he h) ?_⟩
    refine vt_k (tm_goerOf (by omega)) ?_
    unfold sp_go
    rw [if_pos c0]
    refine ⟨?_, rfl, rfl⟩
    rw [vt_st_at, arr_G (by omega) (by omega) (by omega) (by decide), if_pos rfl, if_pos rfl]
  · unfold sp_go
    rw [if_neg (by rw [bI_0.mp c]; decide), vt_st_self]
    exact ⟨rfl, rfl, rfl⟩
theorem sAny_f {f : Int → Int} (h : sAny f = false) {g : Int} (h0 : 0 ≤ g) (h1 : g < f 1) : sG f g 3 = -1 := by
  by_cases c : sG f g 3 = -1
  · exact c
  · have : sAny f = true := anyB_iff.mpr ⟨g, h0, by omega, by simpa using c⟩
    rw [h] at this; cases this
def sp_turn (f : Int → Int) (d : Int) : Int × (Int → Int) := if (0 ≤ d ∧ d < 2 ^ (f 0).toNat) ∧ sAny f = false then (f 2, upF f 2 d) else (-1, f)
theorem tm_turn {d : Int} (hd : -2147483648 ≤ d ∧ d ≤ 2147483647) (h : LI K (S 23)) : vt_M 52 [me, ii d] S B (vt_eq (some (ii (sp_turn (S 23) d).1)) (vt_st S 23 (sp_turn (S 23) d).2) B) := by
  refine vt_start rfl rfl (Nat.le_of_ble_eq_true rfl) (fun X hX => ?_)
  have n0 := h.nW
  have hp := pow14 n0.2
  have hb := bI_rg (sAny (S 23))
  have hp0 : (0 : Int) < 2 ^ (S 23 0).toNat := Int.pow_pos (by decide)
  refine vt_walk hX tk_turn [] 80 ?_
  refine ⟨by omega, fun c => ?_, fun c => ?_⟩
  · unfold sp_turn
    rw [if_neg (by omega), vt_st_self]
    exact ⟨rfl, rfl, rfl⟩
  refine ⟨by omega, by omega, by omega, fun c2 => ?_, fun c2 => ?_⟩
  · unfold sp_turn
    rw [if_neg (by omega), vt_st_self]
    exact ⟨rfl, rfl, rfl⟩
  refine vt_k (tm_isAnyOnWay h) ?_
  refine ⟨by omega, fun c3 => ?_, fun c3 => ?_⟩
  · refine ⟨by omega, by omega, ?_⟩
    unfold sp_turn
    rw [if_pos ⟨by omega, bI_0.mp c3⟩]
    exact ⟨rfl, rfl, rfl⟩
  · unfold sp_turn
    rw [if_neg (fun z => by rw [z.2] at c3; exact c3 rfl), vt_st_self]
    exact ⟨rfl, rfl, rfl⟩
def sp_seed (f : Int → Int) (x : Int) : Int × (Int → Int) := if 0 ≤ x then (f 7, upF f 7 x) else (-1, f)
theorem tm_seed {x : Int} (hx : -2147483648 ≤ x ∧ x ≤ 2147483647) : vt_M 105 [me, ii x] S B (vt_eq (some (ii (sp_seed (S 23) x).1)) (vt_st S 23 (sp_seed (S 23) x).2) B) := by
  refine vt_start rfl rfl (Nat.le_of_ble_eq_true rfl) (fun X hX => ?_)
  refine vt_walk hX tk_seed [] 80 ?_
  unfold sp_seed
  refine ⟨by omega, fun c => ?_, fun c => ?_⟩
  · rw [if_pos c]
    exact ⟨by omega, by omega, rfl, rfl, rfl⟩
  · rw [if_neg (by omega), vt_st_self]
    exact ⟨rfl, rfl, rfl⟩
/-- count: nr rules, tp taped -/
def sp_count (f : Int → Int) (nr tp k : Int) : Int := if k = 0 ∨ k = 1 then f k else if k = 2 then nr else if 3 ≤ k ∧ k ≤ 8 then f (k - 1) else if k = 9 then tp else -1
theorem tm_count {k : Int} (hk : -2147483648 ≤ k ∧ k ≤ 2147483647) : vt_M 107 [me, ii k] S B (vt_eq (some (ii (sp_count (S 23) (S 43 2) (S 43 1) k))) S B) := by
  refine vt_start rfl rfl (Nat.le_of_ble_eq_true rfl) (fun X hX => ?_)
  refine vt_walk hX tk_count [] 80 ?_
  unfold sp_count
  refine ⟨by omega, fun c => ?_, fun c => ?_, fun c => ?_, fun c => ?_, fun c => ?_, fun c => ?_, fun c => ?_, fun c => ?_, fun c => ?_, fun c => ?_, fun c => ?_, trivial⟩
  · rw [if_neg (by omega), if_neg (by omega), if_neg (by omega), if_neg (by omega)]
    exact ⟨rfl, rfl, rfl⟩
  · rw [if_pos (by omega)]
    exact ⟨by omega, rfl, rfl, rfl⟩
  · rw [if_pos (by omega)]
    exact ⟨by omega, rfl, rfl, rfl⟩
  · rw [if_neg (by omega), if_pos (by omega)]
    exact ⟨rfl, rfl, rfl⟩
  · rw [if_neg (by omega), if_neg (by omega), if_pos (by omega)]
    exact ⟨by omega, rfl, rfl, rfl⟩
  · rw [if_neg (by omega), if_neg (by omega), if_pos (by omega)]
    exact ⟨by omega, rfl, rfl, rfl⟩
  · rw [if_neg (by omega), if_neg (by omega), if_pos (by omega)]
    exact ⟨by omega, rfl, rfl, rfl⟩
  · rw [if_neg (by omega), if_neg (by omega), if_pos (by omega)]
    exact ⟨by omega, rfl, rfl, rfl⟩
  · rw [if_neg (by omega), if_neg (by omega), if_pos (by omega)]
    exact ⟨by omega, rfl, rfl, rfl⟩
  · rw [if_neg (by omega), if_neg (by omega), if_pos (by omega)]
    exact ⟨by omega, rfl, rfl, rfl⟩
  · rw [if_neg (by omega), if_neg (by omega), if_neg (by omega), if_pos (by omega)]
    exact ⟨rfl, rfl, rfl⟩
def sp_row (f : Int → Int) (g w : Int) : Int × (Int → Int) := if g = -1 then (0, upF f 6 0) else if sIsG f g = true ∧ sIsW f w = true ∧ f 6 ≠ 40 then (f 6 + 1, upF (upF (upF f (122 + 2 * f 6) g) (122 + 2 * f 6 + 1) w) 6 (f 6 + 1)) else (-2, f)
theorem tm_row {g w : Int} (hg : -2147483648 ≤ g ∧ g ≤ 2147483647) (hw : -2147483648 ≤ w ∧ w ≤ 2147483647) (h : LI K (S 23)) : vt_M 80 [me, ii g, ii w] S B (vt_eq (some (ii (sp_row (S 23) g w).1)) (vt_st S 23 (sp_row (S 23) g w).2) B) := by
  refine vt_start rfl rfl (Nat.le_of_ble_eq_true rfl) (fun X hX => ?_)
  have n6 := h.rows
  have hb := bI_rg (sIsG (S 23) g)
  have hb2 := bI_rg (sIsW (S 23) w)
  refine vt_walk hX tk_row [(46, [0, 1, 2])] 80 ?_
  unfold sp_row
  refine ⟨by omega, fun c => ?_, fun c => ?_⟩
  · rw [if_neg c]
    refine vt_k (tm_isGoer hg h) ?_
    refine ⟨by omega, fun d => ?_, fun d => ?_⟩
    · rw [if_neg (by rw [bI_0.mp d]; simp), vt_st_self]
      exact ⟨rfl, rfl, rfl⟩
    refine vt_k (tm_isWay hw h) ?_
    refine ⟨by omega, fun e => ?_, fun e => ?_⟩
    · rw [if_neg (by rw [bI_0.mp e]; simp), vt_st_self]
      exact ⟨rfl, rfl, rfl⟩
    refine ⟨by omega, by omega, fun k => ?_, fun k => ?_⟩
    · rw [if_pos ⟨bI_n0.mp d, bI_n0.mp e, k⟩]
      refine vt_walk hX tk_row [(64, [0, 1, 2])] 80 ?_
      refine ⟨by omega, by omega, ?_⟩
      simp only [vt_up_0]
      have e6 : vt_st S 23 (upF (S 23) (122 + 2 * S 23 6) g) 23 6 = S 23 6 := by rw [vt_st_at, upF_ne (by omega)]
      refine vt_walk hX tk_row [(84, [0, 1, 2])] 80 ?_
      refine ⟨by omega, by rw [e6]; omega, ?_⟩
      simp (disch := omega) only [vt_up_0, vt_st_st, vt_st_at, upF_ne]
      refine vt_walk hX tk_row [(95, [0, 1, 2])] 80 ?_
      refine ⟨by omega, by omega, ?_⟩
      simp (disch := omega) only [vt_up_0, vt_st_st, vt_st_at, upF_ne]
      refine vt_walk hX tk_row [] 80 ?_
      refine ⟨by omega, ?_, rfl, rfl⟩
      rw [vt_st_at, upF_self]
    · rw [if_neg (by omega), vt_st_self]
      exact ⟨rfl, rfl, rfl⟩
  · rw [if_pos c]
    exact ⟨by omega, rfl, rfl, rfl⟩
/-- copying: what stands behind i cells -/
def cpF (f g : Int → Int) (a n : Int) : Int → Int := fun j => if a ≤ j ∧ j < a + n then g (j - a) else f j
theorem cpF_s {f g : Int → Int} {a i : Int} (hi : 0 ≤ i) : upF (cpF f g a i) (a + i) (g i) = cpF f g a (i + 1) := by
  funext j
  unfold upF cpF
  by_cases e : j = a + i
  · rw [if_pos e, if_pos (by omega), show j - a = i by omega]
  · rw [if_neg e]
    by_cases c : a ≤ j ∧ j < a + i
    · rw [if_pos c, if_pos (by omega)]
    · rw [if_neg c, if_neg (by omega)]
theorem cpF_0 {f g : Int → Int} {a : Int} : cpF f g a 0 = f := by
  funext j
  unfold cpF
  rw [if_neg (by omega)]
theorem vt_eta {S : SS} {k : Nat} : vt_st S k (S k) = S := vt_st_self
theorem tm_image {k : Int} (hk : -2147483648 ≤ k ∧ k ≤ 2147483647) (h : LI K (S 23)) : vt_M 108 [me, ii k] S B (vt_eq (some (ii (if sIn k 0 3 = true then S 23 4 else -1))) (if sIn k 0 3 = true then vt_st (vt_st S 42 (upF (S 42) k 1)) 41 (cpF (S 41) (S 23) (202 * k) 202) else S) B) := by
  refine vt_start rfl rfl (Nat.le_of_ble_eq_true rfl) (fun X hX => ?_)
  have hb := bI_rg (sIn k 0 3)
  have n4 := h.clock
  refine vt_walk hX tk_image [(23, [0, 1, 2])] 80 ?_
  refine ⟨hk, vt_k (tm_in (by omega) (by omega) (by omega)) ?_⟩
  refine ⟨by omega, fun c => ?_, fun c => ?_⟩
  · have c1 := bI_n0.mp c
    have c2 := of_decide_eq_true c1
    rw [if_pos c1, if_pos c1]
    have loop : ∀ (n : Nat) (i : Int), 0 ≤ i → i + n = 202 → vt_J 108 (vt_eq (some (ii (S 23 4))) (vt_st (vt_st S 42 (upF (S 42) k 1)) 41 (cpF (S 41) (S 23) (202 * k) 202)) B) X 23 [(0, me), (1, ii k), (2, ii i)] [] (vt_st (vt_st S 42 (upF (S 42) k 1)) 41 (cpF (S 41) (S 23) (202 * k) i)) B := by
      intro n
      induction n with
      | zero =>
        intro i hi hn
        refine vt_walk hX tk_image [(23, [0, 1, 2])] 80 ?_
        refine ⟨by omega, fun _ => ?_, fun z => absurd z (by omega)⟩
        rw [show i = 202 by omega]
        exact ⟨by omega, rfl, rfl, rfl⟩
      | succ n ih =>
        intro i hi hn
        refine vt_walk hX tk_image [(23, [0, 1, 2])] 80 ?_
        refine ⟨by omega, fun z => absurd z (by omega), fun _ => ?_⟩
        refine ⟨by omega, by omega, ?_⟩
        have hi2 := ih (i + 1) (by omega) (by omega)
        rw [← cpF_s hi] at hi2
        rw [vt_up_st]
        exact hi2
    refine ⟨⟨by omega, Or.inr rfl⟩, ?_⟩
    have h1 := loop 202 0 (by omega) (by omega)
    rw [cpF_0] at h1
    have e : vt_st (vt_st S 42 (upF (S 42) k 1)) 41 (S 41) = vt_up S 42 k 1 := by
      rw [vt_up_0]
      funext j
      by_cases e : j = 41
      · subst e; rw [vt_st_at, vt_st_ne (by decide)]
      · rw [vt_st_ne e]
    rw [e] at h1
    exact h1
  · rw [bI_0.mp c]
    exact ⟨rfl, rfl, rfl⟩
theorem tm_back {k : Int} (hk : -2147483648 ≤ k ∧ k ≤ 2147483647) (hm : ∀ k, 0 ≤ k → k ≤ 3 → S 42 k = 0 ∨ S 42 k = 1) : vt_M 109 [me, ii k] S B (vt_eq (some (ii (if sIn k 0 3 = true ∧ S 42 k = 1 then S 41 (202 * k + 4) else -1))) (if sIn k 0 3 = true ∧ S 42 k = 1 then vt_st S 23 (cpF (S 23) (fun i => S 41 (202 * k + i)) 0 202) else S) B) := by
  refine vt_start rfl rfl (Nat.le_of_ble_eq_true rfl) (fun X hX => ?_)
  have hb := bI_rg (sIn k 0 3)
  refine vt_walk hX tk_back [(25, [0, 1, 2])] 80 ?_
  refine ⟨hk, vt_k (tm_in (by omega) (by omega) (by omega)) ?_⟩
  refine ⟨by omega, fun c => ?_, fun c => ?_⟩
  · rw [bI_0.mp c]
    exact ⟨rfl, rfl, rfl⟩
  · have c1 := bI_n0.mp c
    have c2 := of_decide_eq_true c1
    have hm1 := hm k c2.1 c2.2
    refine ⟨by omega, by omega, fun d => ?_, fun d => ?_⟩
    · rw [if_pos ⟨c1, by omega⟩, if_pos ⟨c1, by omega⟩]
      have loop : ∀ (n : Nat) (i : Int), 0 ≤ i → i + n = 202 → vt_J 109 (vt_eq (some (ii (S 41 (202 * k + 4)))) (vt_st S 23 (cpF (S 23) (fun i => S 41 (202 * k + i)) 0 202)) B) X 25 [(0, me), (1, ii k), (2, ii i)] [] (vt_st S 23 (cpF (S 23) (fun i => S 41 (202 * k + i)) 0 i)) B := by
        intro n
        induction n with
        | zero =>
          intro i hi hn
          refine vt_walk hX tk_back [(25, [0, 1, 2])] 80 ?_
          refine ⟨by omega, fun _ => ?_, fun z => absurd z (by omega)⟩
          rw [show i = 202 by omega]
          exact ⟨by omega, rfl, rfl, rfl⟩
        | succ n ih =>
          intro i hi hn
          refine vt_walk hX tk_back [(25, [0, 1, 2])] 80 ?_
          refine ⟨by omega, fun z => absurd z (by omega), fun _ => ?_⟩
          refine ⟨by omega, by omega, ?_⟩
          have hi2 := ih (i + 1) (by omega) (by omega)
          rw [← cpF_s hi, Int.zero_add] at hi2
          rw [vt_up_st]
          exact hi2
      have h1 := loop 202 0 (by omega) (by omega)
      rw [cpF_0, vt_st_self] at h1
      exact h1
    · rw [if_neg (by omega), if_neg (by omega)]
      exact ⟨rfl, rfl, rfl⟩
theorem tm_keeps : vt_M 100 [me] S B (vt_eq none (vt_st S 24 (cpF (S 24) (S 23) 0 202)) B) := by
  refine vt_start rfl rfl (Nat.le_of_ble_eq_true rfl) (fun X hX => ?_)
  have loop : ∀ (n : Nat) (i : Int), 0 ≤ i → i + n = 202 → vt_J 100 (vt_eq none (vt_st S 24 (cpF (S 24) (S 23) 0 202)) B) X 2 [(0, me), (1, ii i)] [] (vt_st S 24 (cpF (S 24) (S 23) 0 i)) B := by
    intro n
    induction n with
    | zero =>
      intro i hi hn
      refine vt_walk hX tk_keeps [(2, [0, 1])] 80 ?_
      refine ⟨by omega, fun _ => ?_, fun z => absurd z (by omega)⟩
      rw [show i = 202 by omega]
      exact ⟨rfl, rfl, rfl⟩
    | succ n ih =>
      intro i hi hn
      refine vt_walk hX tk_keeps [(2, [0, 1])] 80 ?_
      refine ⟨by omega, fun z => absurd z (by omega), fun _ => ?_⟩
      refine ⟨by omega, by omega, ?_⟩
      have hi2 := ih (i + 1) (by omega) (by omega)
      rw [← cpF_s hi, Int.zero_add] at hi2
      rw [vt_up_st]
      exact hi2
  refine vt_walk hX tk_keeps [(2, [0, 1])] 80 ?_
  have h1 := loop 202 0 (by omega) (by omega)
  rw [cpF_0, vt_st_self] at h1
  exact h1
theorem tm_putsBack : vt_M 102 [me] S B (vt_eq none (vt_st S 23 (cpF (S 23) (S 24) 0 202)) B) := by
  refine vt_start rfl rfl (Nat.le_of_ble_eq_true rfl) (fun X hX => ?_)
  have loop : ∀ (n : Nat) (i : Int), 0 ≤ i → i + n = 202 → vt_J 102 (vt_eq none (vt_st S 23 (cpF (S 23) (S 24) 0 202)) B) X 2 [(0, me), (1, ii i)] [] (vt_st S 23 (cpF (S 23) (S 24) 0 i)) B := by
    intro n
    induction n with
    | zero =>
      intro i hi hn
      refine vt_walk hX tk_putsBack [(2, [0, 1])] 80 ?_
      refine ⟨by omega, fun _ => ?_, fun z => absurd z (by omega)⟩
      rw [show i = 202 by omega]
      exact ⟨rfl, rfl, rfl⟩
    | succ n ih =>
      intro i hi hn
      refine vt_walk hX tk_putsBack [(2, [0, 1])] 80 ?_
      refine ⟨by omega, fun z => absurd z (by omega), fun _ => ?_⟩
      refine ⟨by omega, by omega, ?_⟩
      have hi2 := ih (i + 1) (by omega) (by omega)
      rw [← cpF_s hi, Int.zero_add] at hi2
      rw [vt_up_st]
      exact hi2
  refine vt_walk hX tk_putsBack [(2, [0, 1])] 80 ?_
  have h1 := loop 202 0 (by omega) (by omega)
  rw [cpF_0, vt_st_self] at h1
  exact h1
def sArr (f : Int → Int) : Int := cntB (fun g => sG f g 0 == sG f g 1) (f 1).toNat
theorem tm_arrived (h : LI K (S 23)) : vt_M 101 [me] S B (vt_eq (some (ii (sArr (S 23)))) S B) := by
  refine vt_start rfl rfl (Nat.le_of_ble_eq_true rfl) (fun X hX => ?_)
  have h0 := h.nG
  have loop : ∀ (n : Nat) (g : Int), 0 ≤ g → g + n = S 23 1 → vt_J 101 (vt_eq (some (ii (sArr (S 23)))) S B) X 4 [(0, me), (1, ii (cntB (fun g => sG (S 23) g 0 == sG (S 23) g 1) g.toNat)), (2, ii g)] [] S B := by
    intro n
    induction n with
    | zero =>
      intro g hg hn
      refine vt_walk hX tk_arrived [(4, [0, 1, 2])] 60 ?_
      refine ⟨by omega, by omega, fun _ => ?_, fun z => absurd z (by omega)⟩
      rw [show g = S 23 1 by omega]
      exact ⟨rfl, rfl, rfl⟩
    | succ n ih =>
      intro g hg hn
      refine vt_walk hX tk_arrived [(4, [0, 1, 2])] 60 ?_
      refine ⟨by omega, by omega, fun z => absurd z (by omega), fun _ => ?_⟩
      refine vt_k (tm_goerOf (by omega)) ?_
      refine vt_k (tm_goerOf (by omega)) ?_
      have hG := h.g hg (by omega)
      have hr := hG.place
      have hr2 := hG.1
      have hi := ih (g + 1) (by omega) (by omega)
      rw [cntB_s hg] at hi
      refine ⟨by omega, fun c => ?_, fun c => ?_⟩
      · rw [if_neg (by simpa using c)] at hi
        exact hi
      · rw [if_pos (by simpa using c)] at hi
        exact hi
  refine vt_walk hX tk_arrived [(4, [0, 1, 2])] 60 ?_
  exact loop (S 23 1).toNat 0 (by omega) (by omega)
-- ===== the tape =====
theorem i2b_rg (x : Int) : -128 ≤ vt_i2b x ∧ vt_i2b x ≤ 127 := by
  have h1 := Int8.toInt_lt (Int32.ofInt x).toInt8
  have h2 := Int8.le_toInt (Int32.ofInt x).toInt8
  unfold vt_i2b
  omega
/-- four bytes of v laid at t -/
def tp4 (tp : Int → Int) (t v : Int) : Int → Int := upF (upF (upF (upF tp t (vt_i2b (v / 2 ^ 24))) (t + 1) (vt_i2b (v / 2 ^ 16))) (t + 2) (vt_i2b (v / 2 ^ 8))) (t + 3) (vt_i2b (v / 2 ^ 0))
/-- the tape tp and how much of it is told -/
def vt_tp (S : SS) (tp : Int → Int) (t : Int) : SS := vt_st (vt_st S 0 tp) 43 (upF (S 43) 1 t)
theorem tm_four {v : Int} (hv : -2147483648 ≤ v ∧ v ≤ 2147483647) (ht : 0 ≤ S 43 1 ∧ S 43 1 ≤ 396) : vt_M 2 [me, ii v] S B (vt_eq none (vt_tp S (tp4 (S 0) (S 43 1) v) (S 43 1 + 4)) B) := by
  refine vt_start rfl rfl (Nat.le_of_ble_eq_true rfl) (fun X hX => ?_)
  have step : ∀ (tp : Int → Int) (t k : Int), 0 ≤ t → t ≤ 399 → 0 ≤ k → k ≤ 24 → vt_J 2 (vt_eq none (vt_tp S (tp4 (S 0) (S 43 1) v) (S 43 1 + 4)) B) X 3 [(0, me), (1, ii v), (2, ii (k + -8))] [] (vt_tp S (upF tp t (vt_i2b (v / 2 ^ k.toNat))) (t + 1)) B → vt_J 2 (vt_eq none (vt_tp S (tp4 (S 0) (S 43 1) v) (S 43 1 + 4)) B) X 3 [(0, me), (1, ii v), (2, ii k)] [] (vt_tp S tp t) B := by
    intro tp t k t0 t1 k0 k1 hJ
    have et : vt_tp S tp t 43 1 = t := by unfold vt_tp; rw [vt_st_at, upF_self]
    have e0 : vt_tp S tp t 0 = tp := by unfold vt_tp; rw [vt_st_ne (by decide), vt_st_at]
    refine vt_walk hX tk_four [(20, [0, 1, 2]), (3, [0, 1, 2])] 80 ?_
    refine ⟨by omega, fun c => absurd c (by omega), fun _ => ?_⟩
    refine ⟨by omega, ⟨by rw [et]; omega, i2b_rg _⟩, ?_⟩
    rw [et]
    refine vt_walk hX tk_four [(3, [0, 1, 2])] 80 ?_
    rw [show vt_tp S (upF tp t (vt_i2b (v / 2 ^ k.toNat))) (t + 1) = vt_up (vt_up (vt_tp S tp t) 0 t (vt_i2b (v / 2 ^ k.toNat))) 43 1 (vt_up (vt_tp S tp t) 0 t (vt_i2b (v / 2 ^ k.toNat)) 43 1 + 1) by
      rw [vt_up_ne (by decide), et, vt_up_0, vt_up_0, e0]
      unfold vt_tp
      funext j
      by_cases e43 : j = 43
      · subst e43
        rw [vt_st_at, vt_st_at, vt_st_ne (by decide), vt_st_at]
        funext i
        by_cases ei : i = 1
        · subst ei; rw [upF_self, upF_self]
        · rw [upF_ne ei, upF_ne ei, upF_ne ei]
      · rw [vt_st_ne e43, vt_st_ne e43]
        by_cases e0 : j = 0
        · subst e0; rw [vt_st_at, vt_st_at]
        · rw [vt_st_ne e0, vt_st_ne e0, vt_st_ne e43, vt_st_ne e0]] at hJ
    exact hJ
  refine vt_walk hX tk_four [(3, [0, 1, 2])] 80 ?_
  have e : S = vt_tp S (S 0) (S 43 1) := by
    unfold vt_tp
    rw [vt_st_self]
    funext j
    by_cases e43 : j = 43
    · subst e43
      rw [vt_st_at]
      funext i
      by_cases ei : i = 1
      · subst ei; rw [upF_self]
      · rw [upF_ne ei]
    · rw [vt_st_ne e43]
  have h1 := step (S 0) (S 43 1) 24 (by omega) (by omega) (by decide) (by decide) (step _ (S 43 1 + 1) (24 + -8) (by omega) (by omega) (by decide) (by decide) (step _ (S 43 1 + 1 + 1) (24 + -8 + -8) (by omega) (by omega) (by decide) (by decide) (step _ (S 43 1 + 1 + 1 + 1) (24 + -8 + -8 + -8) (by omega) (by omega) (by decide) (by decide) (by
    refine vt_walk hX tk_four [] 80 ?_
    refine ⟨by omega, fun _ => ?_, fun c => absurd c (by decide)⟩
    refine ⟨rfl, ?_, rfl⟩
    unfold tp4
    rw [show S 43 1 + 1 + 1 = S 43 1 + 2 by omega, show S 43 1 + 2 + 1 = S 43 1 + 3 by omega, show S 43 1 + 3 + 1 = S 43 1 + 4 by omega]
    rfl))))
  rw [← e] at h1
  exact h1
def sp_feed (tp : Int → Int) (t a b c d e : Int) : Int × (Int → Int) × Int := if t + 20 > 400 then (-1, tp, t) else (t + 20, tp4 (tp4 (tp4 (tp4 (tp4 tp t a) (t + 4) b) (t + 8) c) (t + 12) d) (t + 16) e, t + 20)
theorem tp_43 {S : SS} {tp : Int → Int} {t : Int} : vt_tp S tp t 43 1 = t := by unfold vt_tp; rw [vt_st_at, upF_self]
theorem tp_0 {S : SS} {tp : Int → Int} {t : Int} : vt_tp S tp t 0 = tp := by unfold vt_tp; rw [vt_st_ne (by decide), vt_st_at]
theorem tp_tp {S : SS} {tp tp' : Int → Int} {t t' : Int} : vt_tp (vt_tp S tp t) tp' t' = vt_tp S tp' t' := by
  unfold vt_tp
  funext j
  by_cases e43 : j = 43
  · subst e43
    rw [vt_st_at, vt_st_at, vt_st_at]
    funext i
    by_cases ei : i = 1
    · subst ei; rw [upF_self, upF_self]
    · rw [upF_ne ei, upF_ne ei, upF_ne ei]
  · rw [vt_st_ne e43, vt_st_ne e43]
    by_cases e0 : j = 0
    · subst e0; rw [vt_st_at, vt_st_at]
    · rw [vt_st_ne e0, vt_st_ne e0, vt_st_ne e43, vt_st_ne e0]
theorem tp_self {S : SS} : vt_tp S (S 0) (S 43 1) = S := by
  unfold vt_tp
  rw [vt_st_self]
  funext j
  by_cases e43 : j = 43
  · subst e43
    rw [vt_st_at]
    funext i
    by_cases ei : i = 1
    · subst ei; rw [upF_self]
    · rw [upF_ne ei]
  · rw [vt_st_ne e43]
theorem tm_feed {a b c d e : Int} (ha : -2147483648 ≤ a ∧ a ≤ 2147483647) (hb : -2147483648 ≤ b ∧ b ≤ 2147483647) (hc : -2147483648 ≤ c ∧ c ≤ 2147483647) (hd : -2147483648 ≤ d ∧ d ≤ 2147483647) (he : -2147483648 ≤ e ∧ e ≤ 2147483647) (ht : 0 ≤ S 43 1 ∧ S 43 1 ≤ 400) :
    vt_M 1 [me, ii a, ii b, ii c, ii d, ii e] S B (vt_eq (some (ii (sp_feed (S 0) (S 43 1) a b c d e).1)) (vt_tp S (sp_feed (S 0) (S 43 1) a b c d e).2.1 (sp_feed (S 0) (S 43 1) a b c d e).2.2) B) := by
  refine vt_start rfl rfl (Nat.le_of_ble_eq_true rfl) (fun X hX => ?_)
  refine vt_walk hX tk_feed [] 80 ?_
  unfold sp_feed
  refine ⟨by omega, fun z => ?_, fun z => ?_⟩
  · rw [if_neg (by omega)]
    refine vt_k (tm_four ha (by omega)) ?_
    refine vt_k (tm_four hb (by rw [tp_43]; omega)) ?_
    refine vt_k (tm_four hc (by rw [tp_43, tp_43]; omega)) ?_
    refine vt_k (tm_four hd (by rw [tp_43, tp_43, tp_43]; omega)) ?_
    refine vt_k (tm_four he (by rw [tp_43, tp_43, tp_43, tp_43]; omega)) ?_
    simp only [tp_43, tp_0, tp_tp]
    rw [show S 43 1 + 4 + 4 = S 43 1 + 8 by omega, show S 43 1 + 8 + 4 = S 43 1 + 12 by omega, show S 43 1 + 12 + 4 = S 43 1 + 16 by omega, show S 43 1 + 16 + 4 = S 43 1 + 20 by omega]
    refine ⟨?_, rfl, rfl⟩
    rw [tp_43]
  · rw [if_pos (by omega), tp_self]
    exact ⟨rfl, rfl, rfl⟩
theorem tm_end {n : Int} (hn : -2147483648 ≤ n ∧ n ≤ 2147483647) (ht : 0 ≤ S 43 1 ∧ S 43 1 ≤ 400) : vt_M 3 [me, ii n] S B (vt_eq (some (ii (if 0 ≤ n ∧ n ≤ S 43 1 then n else -1))) (vt_tp S (S 0) (if 0 ≤ n ∧ n ≤ S 43 1 then n else S 43 1)) B) := by
  refine vt_start rfl rfl (Nat.le_of_ble_eq_true rfl) (fun X hX => ?_)
  refine vt_walk hX tk_end [] 80 ?_
  refine ⟨by omega, fun c => ?_, fun c => ?_⟩
  · rw [if_neg (by omega), if_neg (by omega), tp_self]
    exact ⟨rfl, rfl, rfl⟩
  · refine ⟨by omega, fun d => ?_, fun d => ?_⟩
    · rw [if_pos (by omega), if_pos (by omega)]
      refine ⟨rfl, ?_, rfl⟩
      unfold vt_tp
      rw [vt_st_self, vt_up_0]
    · rw [if_neg (by omega), if_neg (by omega), tp_self]
      exact ⟨rfl, rfl, rfl⟩
end TMD
