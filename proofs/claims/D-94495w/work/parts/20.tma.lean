/-! THE TWIN's methods: readers -/
set_option maxRecDepth 100000
/-- a post: just this answer and this state -/
abbrev vt_eq (r : Option AV) (S : SS) (B : SB) : vt_Po := fun r' S' B' => r = r' ∧ S = S' ∧ B = B'
theorem vt_k {mt : Nat} {as : List AV} {S S1 : SS} {B B1 : SB} {r : Option AV} {Q : vt_Po} (h : vt_M mt as S B (vt_eq r S1 B1)) (k : Q r S1 B1) : ∃ P', vt_M mt as S B P' ∧ ∀ r S' B', P' r S' B' → Q r S' B' := ⟨_, h, by rintro _ _ _ ⟨rfl, rfl, rfl⟩; exact k⟩
section TMA
variable {S : SS} {B : SB} {K : Int}
theorem tm_in {x lo hi : Int} (hx : -9223372036854775808 ≤ x ∧ x ≤ 9223372036854775807) (hl : -9223372036854775808 ≤ lo ∧ lo ≤ 9223372036854775807) (hh : -9223372036854775808 ≤ hi ∧ hi ≤ 9223372036854775807) : vt_M 15 [ll (Int64.ofInt x), ll (Int64.ofInt lo), ll (Int64.ofInt hi)] S B (vt_eq (some (ii (bI (sIn x lo hi)))) S B) := by
  refine vt_start rfl rfl (Nat.le_of_ble_eq_true rfl) (fun X hX => ?_)
  refine vt_walk hX tk_in [] 40 ?_
  have r1 := cmp_rg (Int64.ofInt x) (Int64.ofInt lo)
  have r2 := cmp_rg (Int64.ofInt x) (Int64.ofInt hi)
  have e1 : vt_cmp (Int64.ofInt x) (Int64.ofInt lo) < 0 ↔ ¬ lo ≤ x := by rw [cmp_lt0, ← lg_le hl hx]; exact Int64.not_le.symm
  have e2 : 0 < vt_cmp (Int64.ofInt x) (Int64.ofInt hi) ↔ ¬ x ≤ hi := by rw [cmp_gt0, ← lg_le hx hh]; exact Int64.not_le.symm
  refine ⟨by omega, fun c => ?_, fun c => ?_⟩
  · refine ⟨Or.inl rfl, ?_, rfl, rfl⟩
    have : sIn x lo hi = false := decide_eq_false (fun z => e1.mp c z.1)
    rw [this]; rfl
  · refine ⟨by omega, fun c2 => ?_, fun c2 => ?_⟩
    · refine ⟨Or.inl rfl, ?_, rfl, rfl⟩
      have : sIn x lo hi = false := decide_eq_false (fun z => e2.mp c2 z.2)
      rw [this]; rfl
    · refine ⟨Or.inr rfl, ?_, rfl, rfl⟩
      have : sIn x lo hi = true := decide_eq_true ⟨by omega, by omega⟩
      rw [this]; rfl
theorem tm_isWay {w : Int} (hw : -2147483648 ≤ w ∧ w ≤ 2147483647) (h : LI K (S 23)) : vt_M 35 [me, ii w] S B (vt_eq (some (ii (bI (sIsW (S 23) w)))) S B) := by
  refine vt_start rfl rfl (Nat.le_of_ble_eq_true rfl) (fun X hX => ?_)
  refine vt_walk hX tk_isWay [] 40 ?_
  have h0 := h.nW
  refine ⟨hw, fun c => ?_, fun c => ?_⟩
  · refine ⟨Or.inl rfl, ?_, rfl, rfl⟩
    rw [show sIsW (S 23) w = false from decide_eq_false (by omega)]; rfl
  · refine ⟨by omega, by omega, fun c2 => ?_, fun c2 => ?_⟩
    · refine ⟨Or.inl rfl, ?_, rfl, rfl⟩
      rw [show sIsW (S 23) w = false from decide_eq_false (by omega)]; rfl
    · refine ⟨Or.inr rfl, ?_, rfl, rfl⟩
      rw [show sIsW (S 23) w = true from decide_eq_true (by omega)]; rfl
theorem tm_isGoer {g : Int} (hg : -2147483648 ≤ g ∧ g ≤ 2147483647) (h : LI K (S 23)) : vt_M 41 [me, ii g] S B (vt_eq (some (ii (bI (sIsG (S 23) g)))) S B) := by
  refine vt_start rfl rfl (Nat.le_of_ble_eq_true rfl) (fun X hX => ?_)
  refine vt_walk hX tk_isGoer [] 40 ?_
  have h0 := h.nG
  refine ⟨hg, fun c => ?_, fun c => ?_⟩
  · refine ⟨Or.inl rfl, ?_, rfl, rfl⟩
    rw [show sIsG (S 23) g = false from decide_eq_false (by omega)]; rfl
  · refine ⟨by omega, by omega, fun c2 => ?_, fun c2 => ?_⟩
    · refine ⟨Or.inl rfl, ?_, rfl, rfl⟩
      rw [show sIsG (S 23) g = false from decide_eq_false (by omega)]; rfl
    · refine ⟨Or.inr rfl, ?_, rfl, rfl⟩
      rw [show sIsG (S 23) g = true from decide_eq_true (by omega)]; rfl
theorem tm_isPlace {p : Int} (hp : -2147483648 ≤ p ∧ p ≤ 2147483647) : vt_M 43 [ii p] S B (vt_eq (some (ii (bI (sIsP p)))) S B) := by
  refine vt_start rfl rfl (Nat.le_of_ble_eq_true rfl) (fun X hX => ?_)
  refine vt_walk hX tk_isPlace [] 40 ?_
  refine ⟨hp, fun c => ?_, fun c => ?_⟩
  · refine ⟨Or.inl rfl, ?_, rfl, rfl⟩
    rw [show sIsP p = false from decide_eq_false (by omega)]; rfl
  · refine ⟨by omega, fun c2 => ?_, fun c2 => ?_⟩
    · refine ⟨Or.inl rfl, ?_, rfl, rfl⟩
      rw [show sIsP p = false from decide_eq_false (by omega)]; rfl
    · refine ⟨Or.inr rfl, ?_, rfl, rfl⟩
      rw [show sIsP p = true from decide_eq_true (by omega)]; rfl
theorem tm_isRule {k : Int} (hk : -2147483648 ≤ k ∧ k ≤ 2147483647) (hr : 0 ≤ S 43 2 ∧ S 43 2 ≤ 6) : vt_M 88 [me, ii k] S B (vt_eq (some (ii (bI (decide (0 ≤ k ∧ k < S 43 2))))) S B) := by
  refine vt_start rfl rfl (Nat.le_of_ble_eq_true rfl) (fun X hX => ?_)
  refine vt_walk hX tk_isRule [] 40 ?_
  refine ⟨hk, fun c => ?_, fun c => ?_⟩
  · refine ⟨Or.inl rfl, ?_, rfl, rfl⟩
    rw [decide_eq_false (by omega)]; rfl
  · refine ⟨by omega, fun c2 => ?_, fun c2 => ?_⟩
    · refine ⟨Or.inl rfl, ?_, rfl, rfl⟩
      rw [decide_eq_false (by omega)]; rfl
    · refine ⟨Or.inr rfl, ?_, rfl, rfl⟩
      rw [decide_eq_true (by omega)]; rfl
theorem tm_goerOf {g k : Int} (h : 0 ≤ 80 + 7 * g + k ∧ 80 + 7 * g + k < 202) : vt_M 39 [me, ii g, ii k] S B (vt_eq (some (ii (sG (S 23) g k))) S B) := by
  refine vt_start rfl rfl (Nat.le_of_ble_eq_true rfl) (fun X hX => ?_)
  refine vt_walk hX tk_goerOf [] 40 ?_
  exact ⟨h, rfl, rfl, rfl⟩
theorem tm_wayOf {w k : Int} (h : 0 ≤ 10 + 5 * w + k ∧ 10 + 5 * w + k < 202) : vt_M 37 [me, ii w, ii k] S B (vt_eq (some (ii (sW (S 23) w k))) S B) := by
  refine vt_start rfl rfl (Nat.le_of_ble_eq_true rfl) (fun X hX => ?_)
  refine vt_walk hX tk_wayOf [] 40 ?_
  exact ⟨h, rfl, rfl, rfl⟩
theorem tm_endOf {d w e : Int} (hd : 0 ≤ d ∧ d ≤ 2147483647) (hw : 0 ≤ w ∧ w ≤ 13) (he : e = 0 ∨ e = 1) : vt_M 36 [me, ii d, ii w, ii e] S B (vt_eq (some (ii (sE (S 23) d w e))) S B) := by
  refine vt_start rfl rfl (Nat.le_of_ble_eq_true rfl) (fun X hX => ?_)
  refine vt_walk hX tk_endOf [] 40 ?_
  have hb := bt_bit (w := w) hd
  by_cases c : d.toNat.testBit w.toNat = true
  · rw [if_pos c] at hb
    refine ⟨by omega, by omega, fun z => absurd hb z, fun _ => ?_⟩
    refine vt_k (tm_wayOf (by omega)) ?_
    refine ⟨?_, rfl, rfl⟩
    unfold sE
    rw [if_pos c]
  · rw [if_neg c] at hb
    refine ⟨by omega, by omega, fun _ => ?_, fun z => absurd z (by omega)⟩
    refine vt_k (tm_wayOf (by omega)) ?_
    refine ⟨?_, rfl, rfl⟩
    unfold sE
    rw [if_neg c]
theorem tm_onWay {w : Int} (hw : -2147483648 ≤ w ∧ w ≤ 2147483647) (h : LI K (S 23)) : vt_M 38 [me, ii w] S B (vt_eq (some (ii (sOn (S 23) w))) S B) := by
  refine vt_start rfl rfl (Nat.le_of_ble_eq_true rfl) (fun X hX => ?_)
  have h0 := h.nG
  have h1 := h.nW
  have loop : ∀ (n : Nat) (g : Int), 0 ≤ g → g + n = S 23 1 → vt_J 38 (vt_eq (some (ii (sOn (S 23) w))) S B) X 4 [(0, me), (1, ii w), (2, ii (cntB (fun g => sG (S 23) g 3 == w) g.toNat)), (3, ii g)] [] S B := by
    intro n
    induction n with
    | zero =>
      intro g hg hn
      refine vt_walk hX tk_onWay [(4, [0, 1, 2, 3])] 60 ?_
      refine ⟨by omega, by omega, fun _ => ?_, fun z => absurd z (by omega)⟩
      rw [show g = S 23 1 by omega]
      exact ⟨rfl, rfl, rfl⟩
    | succ n ih =>
      intro g hg hn
      refine vt_walk hX tk_onWay [(4, [0, 1, 2, 3])] 60 ?_
      refine ⟨by omega, by omega, fun z => absurd z (by omega), fun _ => ?_⟩
      refine vt_k (tm_goerOf (by omega)) ?_
      have hr := (h.g hg (by omega)).way h1.2
      have hi := ih (g + 1) (by omega) (by omega)
      rw [cntB_s hg] at hi
      refine ⟨by omega, fun c => ?_, fun c => ?_⟩
      · rw [if_neg (by simpa using c)] at hi
        exact hi
      · rw [if_pos (by simpa using c)] at hi
        exact hi
  refine vt_walk hX tk_onWay [(4, [0, 1, 2, 3])] 60 ?_
  exact loop (S 23 1).toNat 0 (by omega) (by omega)
theorem tm_standing {p : Int} (hp : -2147483648 ≤ p ∧ p ≤ 2147483647) (h : LI K (S 23)) : vt_M 45 [me, ii p] S B (vt_eq (some (ii (sSt (S 23) p))) S B) := by
  refine vt_start rfl rfl (Nat.le_of_ble_eq_true rfl) (fun X hX => ?_)
  have h0 := h.nG
  have loop : ∀ (n : Nat) (g : Int), 0 ≤ g → g + n = S 23 1 → vt_J 45 (vt_eq (some (ii (sSt (S 23) p))) S B) X 4 [(0, me), (1, ii p), (2, ii (cntB (fun g => sG (S 23) g 0 == p) g.toNat)), (3, ii g)] [] S B := by
    intro n
    induction n with
    | zero =>
      intro g hg hn
      refine vt_walk hX tk_standing [(4, [0, 1, 2, 3])] 60 ?_
      refine ⟨by omega, by omega, fun _ => ?_, fun z => absurd z (by omega)⟩
      rw [show g = S 23 1 by omega]
      exact ⟨rfl, rfl, rfl⟩
    | succ n ih =>
      intro g hg hn
      refine vt_walk hX tk_standing [(4, [0, 1, 2, 3])] 60 ?_
      refine ⟨by omega, by omega, fun z => absurd z (by omega), fun _ => ?_⟩
      refine vt_k (tm_goerOf (by omega)) ?_
      have hr := (h.g hg (by omega)).place
      have hi := ih (g + 1) (by omega) (by omega)
      rw [cntB_s hg] at hi
      refine ⟨by omega, fun c => ?_, fun c => ?_⟩
      · rw [if_neg (by simpa using c)] at hi
        exact hi
      · rw [if_pos (by simpa using c)] at hi
        exact hi
  refine vt_walk hX tk_standing [(4, [0, 1, 2, 3])] 60 ?_
  exact loop (S 23 1).toNat 0 (by omega) (by omega)
theorem tm_leading {d p e : Int} (hd : 0 ≤ d ∧ d ≤ 2147483647) (hp : -2147483648 ≤ p ∧ p ≤ 2147483647) (he : e = 0 ∨ e = 1) (h : LI K (S 23)) : vt_M 44 [me, ii d, ii p, ii e] S B (vt_eq (some (ii (sLd (S 23) d p e))) S B) := by
  refine vt_start rfl rfl (Nat.le_of_ble_eq_true rfl) (fun X hX => ?_)
  have h0 := h.nW
  have loop : ∀ (n : Nat) (w : Int), 0 ≤ w → w + n = S 23 0 → vt_J 44 (vt_eq (some (ii (sLd (S 23) d p e))) S B) X 6 [(0, me), (1, ii d), (2, ii p), (3, ii e), (4, ii (cntB (fun w => sE (S 23) d w e == p) w.toNat)), (5, ii w)] [] S B := by
    intro n
    induction n with
    | zero =>
      intro g hg hn
      refine vt_walk hX tk_leading [(6, [0, 1, 2, 3, 4, 5])] 60 ?_
      refine ⟨by omega, by omega, fun _ => ?_, fun z => absurd z (by omega)⟩
      rw [show g = S 23 0 by omega]
      exact ⟨rfl, rfl, rfl⟩
    | succ n ih =>
      intro g hg hn
      refine vt_walk hX tk_leading [(6, [0, 1, 2, 3, 4, 5])] 60 ?_
      refine ⟨by omega, by omega, fun z => absurd z (by omega), fun _ => ?_⟩
      refine vt_k (tm_endOf hd (by omega) he) ?_
      have hr := (h.w hg (by omega)).end (d := d) he
      have hi := ih (g + 1) (by omega) (by omega)
      rw [cntB_s hg] at hi
      refine ⟨by omega, fun c => ?_, fun c => ?_⟩
      · rw [if_neg (by simpa using c)] at hi
        exact hi
      · rw [if_pos (by simpa using c)] at hi
        exact hi
  refine vt_walk hX tk_leading [(6, [0, 1, 2, 3, 4, 5])] 60 ?_
  exact loop (S 23 0).toNat 0 (by omega) (by omega)
theorem tm_isAnyOnWay (h : LI K (S 23)) : vt_M 53 [me] S B (vt_eq (some (ii (bI (sAny (S 23))))) S B) := by
  refine vt_start rfl rfl (Nat.le_of_ble_eq_true rfl) (fun X hX => ?_)
  have h0 := h.nG
  have h1 := h.nW
  have loop : ∀ (n : Nat) (g : Int), 0 ≤ g → g + n = S 23 1 → anyB (fun g => sG (S 23) g 3 != -1) g.toNat = false → vt_J 53 (vt_eq (some (ii (bI (sAny (S 23))))) S B) X 2 [(0, me), (1, ii g)] [] S B := by
    intro n
    induction n with
    | zero =>
      intro g hg hn ha
      refine vt_walk hX tk_isAnyOnWay [(2, [0, 1])] 60 ?_
      refine ⟨by omega, by omega, fun _ => ?_, fun z => absurd z (by omega)⟩
      rw [show g = S 23 1 by omega] at ha
      refine ⟨Or.inl rfl, ?_, rfl, rfl⟩
      unfold sAny
      rw [ha]; rfl
    | succ n ih =>
      intro g hg hn ha
      refine vt_walk hX tk_isAnyOnWay [(2, [0, 1])] 60 ?_
      refine ⟨by omega, by omega, fun z => absurd z (by omega), fun _ => ?_⟩
      refine vt_k (tm_goerOf (by omega)) ?_
      have hr := (h.g hg (by omega)).way h1.2
      refine ⟨by omega, fun c => ?_, fun c => ?_⟩
      · exact ih (g + 1) (by omega) (by omega) (by rw [anyB_s hg, ha]; simpa using c)
      · refine ⟨Or.inr rfl, ?_, rfl, rfl⟩
        have : sAny (S 23) = true := anyB_iff.mpr ⟨g, hg, by omega, by simpa using c⟩
        rw [this]; rfl
  refine vt_walk hX tk_isAnyOnWay [(2, [0, 1])] 60 ?_
  exact loop (S 23 1).toNat 0 (by omega) (by omega) rfl
theorem tm_stands {g : Int} (hg : -2147483648 ≤ g ∧ g ≤ 2147483647) (h : LI K (S 23)) : vt_M 50 [me, ii g] S B (vt_eq (some (ii (bI (sStd (S 23) g)))) S B) := by
  refine vt_start rfl rfl (Nat.le_of_ble_eq_true rfl) (fun X hX => ?_)
  refine vt_walk hX tk_stands [] 60 ?_
  have h0 := h.nG
  have h1 := h.nW
  refine vt_k (tm_isGoer hg h) ?_
  have hb := bI_rg (sIsG (S 23) g)
  refine ⟨by omega, fun c => ?_, fun c => ?_⟩
  · refine ⟨Or.inl rfl, ?_, rfl, rfl⟩
    unfold sStd
    rw [bI_0.mp c]; rfl
  · have hc := bI_n0.mp c
    have hc2 := of_decide_eq_true hc
    refine vt_k (tm_goerOf (by omega)) ?_
    have hr := (h.g hc2.1 hc2.2).way h1.2
    refine ⟨by omega, fun c => ?_, fun c => ?_⟩
    · refine ⟨Or.inl rfl, ?_, rfl, rfl⟩
      unfold sStd
      rw [hc, show (sG (S 23) g 3 == -1) = false by simpa using c]; rfl
    · refine ⟨Or.inr rfl, ?_, rfl, rfl⟩
      unfold sStd
      rw [hc, show (sG (S 23) g 3 == -1) = true by simpa using c]; rfl
def sp_way (f : Int → Int) (w k : Int) : Int := if sIsW f w = true ∧ sIn k 0 5 = true then (if k < 2 then sE f (f 2) w k else if k < 5 then sW f w k else sOn f w) else -1
theorem tm_way {w k : Int} (hw : -2147483648 ≤ w ∧ w ≤ 2147483647) (hk : -2147483648 ≤ k ∧ k ≤ 2147483647) (h : LI K (S 23)) : vt_M 34 [me, ii w, ii k] S B (vt_eq (some (ii (sp_way (S 23) w k))) S B) := by
  refine vt_start rfl rfl (Nat.le_of_ble_eq_true rfl) (fun X hX => ?_)
  refine vt_walk hX tk_way [] 60 ?_
  have h0 := h.nW
  have h1 := h.dir
  refine vt_k (tm_isWay hw h) ?_
  have hb := bI_rg (sIsW (S 23) w)
  refine ⟨by omega, fun c => ?_, fun c => ?_⟩
  · refine ⟨?_, rfl, rfl⟩
    unfold sp_way
    rw [bI_0.mp c, if_neg (by simp)]
  have c1 := bI_n0.mp c
  have c2 := of_decide_eq_true c1
  refine ⟨hk, vt_k (tm_in (by omega) (by omega) (by omega)) ?_⟩
  have hb2 := bI_rg (sIn k 0 5)
  refine ⟨by omega, fun d => ?_, fun d => ?_⟩
  · have d1 := bI_n0.mp d
    have d2 := of_decide_eq_true d1
    refine ⟨by omega, fun e => ?_, fun e => ?_⟩
    · refine ⟨by omega, fun e2 => ?_, fun e2 => ?_⟩
      · refine vt_k (tm_onWay hw h) ?_
        refine ⟨?_, rfl, rfl⟩
        unfold sp_way
        rw [if_pos ⟨c1, d1⟩, if_neg (by omega), if_neg (by omega)]
      · refine vt_k (tm_wayOf (by omega)) ?_
        refine ⟨?_, rfl, rfl⟩
        unfold sp_way
        rw [if_pos ⟨c1, d1⟩, if_neg (by omega), if_pos (by omega)]
    · refine ⟨by omega, vt_k (tm_endOf (by omega) (by omega) (by omega)) ?_⟩
      refine ⟨?_, rfl, rfl⟩
      unfold sp_way
      rw [if_pos ⟨c1, d1⟩, if_pos (by omega)]
  · refine ⟨?_, rfl, rfl⟩
    unfold sp_way
    rw [bI_0.mp d, if_neg (by simp)]
def sp_goer (f : Int → Int) (g k : Int) : Int := if sIsG f g = true ∧ sIn k 0 6 = true then sG f g k else -2
theorem tm_goer {g k : Int} (hg : -2147483648 ≤ g ∧ g ≤ 2147483647) (hk : -2147483648 ≤ k ∧ k ≤ 2147483647) (h : LI K (S 23)) : vt_M 40 [me, ii g, ii k] S B (vt_eq (some (ii (sp_goer (S 23) g k))) S B) := by
  refine vt_start rfl rfl (Nat.le_of_ble_eq_true rfl) (fun X hX => ?_)
  refine vt_walk hX tk_goer [] 60 ?_
  have h0 := h.nG
  refine vt_k (tm_isGoer hg h) ?_
  have hb := bI_rg (sIsG (S 23) g)
  refine ⟨by omega, fun c => ?_, fun c => ?_⟩
  · refine ⟨?_, rfl, rfl⟩
    unfold sp_goer
    rw [bI_0.mp c, if_neg (by simp)]
  have c1 := bI_n0.mp c
  have c2 := of_decide_eq_true c1
  refine ⟨hk, vt_k (tm_in (by omega) (by omega) (by omega)) ?_⟩
  have hb2 := bI_rg (sIn k 0 6)
  refine ⟨by omega, fun d => ?_, fun d => ?_⟩
  · refine ⟨?_, rfl, rfl⟩
    unfold sp_goer
    rw [bI_0.mp d, if_neg (by simp)]
  · have d1 := bI_n0.mp d
    have d2 := of_decide_eq_true d1
    refine vt_k (tm_goerOf (by omega)) ?_
    refine ⟨?_, rfl, rfl⟩
    unfold sp_goer
    rw [if_pos ⟨c1, d1⟩]
end TMA
