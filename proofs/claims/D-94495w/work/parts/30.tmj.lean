/-! THE TWIN's methods: sets of goers; directions with the same sums -/
set_option maxRecDepth 100000
def sBit (s i : Int) : Bool := s.toNat.testBit i.toNat
def pc6 (s : Int) : Int := cntB (fun i => sBit s i) 6
theorem pc6_step : ∀ n : Nat, n < 64 → n ≠ 0 → pc6 ((n &&& (n - 1) : Nat) : Int) + 1 = pc6 (n : Int) ∧ n &&& (n - 1) < n := by decide +kernel
theorem pc6_rg (s : Int) : 0 ≤ pc6 s ∧ pc6 s ≤ 6 := by
  have := cntB_b (fun i => sBit s i) 6
  unfold pc6
  have e : ((6 : Nat) : Int) = 6 := rfl
  omega
def sAre (f : Int → Int) (s : Int) : Bool := decide (1 ≤ s ∧ s < 2 ^ (f 1).toNat) && decide (f 0 + 3 * pc6 s ≤ 20) && allB (fun g => !sBit s g || sStd f g) (f 1).toNat
theorem pow6 {n : Int} (h : n ≤ 6) : (2 : Int) ^ n.toNat ≤ 64 := by
  have : (2 : Nat) ^ n.toNat ≤ 2 ^ 6 := Nat.pow_le_pow_right (by decide) (by omega)
  have e : ((2 ^ n.toNat : Nat) : Int) = (2 : Int) ^ n.toNat := by simp
  rw [← e]
  omega
section TMJ
variable {S : SS} {B : SB} {K : Int}
theorem tm_bits {s : Int} (hs : 0 ≤ s ∧ s < 64) : vt_M 56 [ii s] S B (vt_eq (some (ii (pc6 s))) S B) := by
  refine vt_start rfl rfl (Nat.le_of_ble_eq_true rfl) (fun X hX => ?_)
  have loop : ∀ (m : Nat) (n : Nat) (a : Int), n < m → n < 64 → 0 ≤ a → a + pc6 (n : Int) = pc6 s → vt_J 56 (vt_eq (some (ii (pc6 s))) S B) X 4 [(0, ii s), (1, ii a), (2, ii (n : Int))] [] S B := by
    intro m
    induction m with
    | zero => intro n a h; omega
    | succ m ih =>
      intro n a hm hn ha he
      refine vt_walk hX tk_bits [(4, [0, 1, 2])] 60 ?_
      refine ⟨by omega, fun c => ?_, fun c => ?_⟩
      · have : n = 0 := by omega
        subst this
        have e0 : pc6 ((0 : Nat) : Int) = 0 := by decide +kernel
        rw [e0] at he
        exact ⟨by rw [← he, Int.add_zero], rfl, rfl⟩
      · have hst := pc6_step n hn (by omega)
        show vt_J _ _ _ _ _ _ _ _
        have e : vt_and (n : Int) ((n : Int) - 1) = ((n &&& (n - 1) : Nat) : Int) := by
          rw [bt_and (by omega) (by omega), Int.toNat_natCast, show ((n : Int) - 1).toNat = n - 1 by omega]
        rw [e]
        exact ih (n &&& (n - 1)) (a + 1) (by omega) (by omega) (by omega) (by omega)
  refine vt_walk hX tk_bits [(4, [0, 1, 2])] 60 ?_
  obtain ⟨n, rfl⟩ := Int.eq_ofNat_of_zero_le hs.1
  exact loop 64 n 0 (by omega) (by omega) (by omega) (by omega)
theorem tm_fits {m : Int} (hm : 0 ≤ m ∧ m ≤ 7) (h : LI K (S 23)) : vt_M 57 [me, ii m] S B (vt_eq (some (ii (bI (decide (S 23 0 + 3 * m ≤ 20))))) S B) := by
  refine vt_start rfl rfl (Nat.le_of_ble_eq_true rfl) (fun X hX => ?_)
  have n0 := h.nW
  refine vt_walk hX tk_fits [] 60 ?_
  refine ⟨by omega, by omega, fun c => ?_, fun c => ?_⟩
  · rw [decide_eq_false (by omega)]
    exact ⟨Or.inl rfl, rfl, rfl, rfl⟩
  · rw [decide_eq_true (by omega)]
    exact ⟨Or.inr rfl, rfl, rfl, rfl⟩
theorem tm_areGoers {s : Int} (hs : -2147483648 ≤ s ∧ s ≤ 2147483647) (h : LI K (S 23)) : vt_M 55 [me, ii s] S B (vt_eq (some (ii (bI (sAre (S 23) s)))) S B) := by
  refine vt_start rfl rfl (Nat.le_of_ble_eq_true rfl) (fun X hX => ?_)
  have n1 := h.nG
  have hp := pow6 n1.2
  have hp0 : (0 : Int) < 2 ^ (S 23 1).toNat := Int.pow_pos (by decide)
  have no : ¬ (1 ≤ s ∧ s < 2 ^ (S 23 1).toNat) → sAre (S 23) s = false := by
    intro c
    unfold sAre
    rw [decide_eq_false c]; rfl
  refine vt_walk hX tk_areGoers [(32, [0, 1, 2])] 60 ?_
  refine ⟨by omega, fun c => ?_, fun c => ?_⟩
  · rw [no (by omega)]
    exact ⟨Or.inl rfl, rfl, rfl, rfl⟩
  refine ⟨by omega, by omega, by omega, fun c2 => ?_, fun c2 => ?_⟩
  · rw [no (by omega)]
    exact ⟨Or.inl rfl, rfl, rfl, rfl⟩
  have hr := pc6_rg s
  have hb := bI_rg (decide (S 23 0 + 3 * pc6 s ≤ 20))
  refine vt_k (tm_bits (by omega)) ?_
  refine vt_k (tm_fits (by omega) h) ?_
  refine ⟨by omega, fun c3 => ?_, fun c3 => ?_⟩
  · have c4 := bI_n0.mp c3
    have loop : ∀ (m : Nat) (g : Int), 0 ≤ g → g + m = S 23 1 → (∀ i, 0 ≤ i → i < g → (!sBit s i || sStd (S 23) i) = true) → vt_J 55 (vt_eq (some (ii (bI (sAre (S 23) s)))) S B) X 32 [(0, me), (1, ii s), (2, ii g)] [] S B := by
      intro m
      induction m with
      | zero =>
        intro g g0 gm hp
        refine vt_walk hX tk_areGoers [(32, [0, 1, 2])] 60 ?_
        refine ⟨by omega, by omega, fun _ => ?_, fun z => absurd z (by omega)⟩
        have : sAre (S 23) s = true := by
          unfold sAre
          rw [decide_eq_true (by omega), c4, allB_iff.mpr (fun i i0 i1 => hp i i0 (by omega))]; rfl
        rw [this]
        exact ⟨Or.inr rfl, rfl, rfl, rfl⟩
      | succ m ih =>
        intro g g0 gm hp
        have hbit := bt_bit (d := s) (w := g) (by omega)
        have hbs := bI_rg (sStd (S 23) g)
        have go : (!sBit s g || sStd (S 23) g) = true → vt_J 55 (vt_eq (some (ii (bI (sAre (S 23) s)))) S B) X 32 [(0, me), (1, ii s), (2, ii (g + 1))] [] S B := by
          intro hq
          refine ih (g + 1) (by omega) (by omega) (fun i i0 i1 => ?_)
          by_cases e : i = g
          · subst e; exact hq
          · exact hp i i0 (by omega)
        refine vt_walk hX tk_areGoers [(32, [0, 1, 2])] 60 ?_
        refine ⟨by omega, by omega, fun z => absurd z (by omega), fun _ => ?_⟩
        refine ⟨by omega, by rw [hbit]; split <;> omega, fun d => ?_, fun d => ?_⟩ <;> rw [hbit] at d
        · refine go ?_
          unfold sBit
          split at d
          · exact absurd rfl d
          · rename_i e; rw [Bool.not_eq_true] at e; rw [e]; rfl
        · have db : sBit s g = true := by
            unfold sBit
            split at d
            · assumption
            · cases d
          refine vt_k (tm_stands (by omega) h) ?_
          refine ⟨by omega, fun e => ?_, fun e => ?_⟩
          · exact go (by rw [bI_n0.mp e, Bool.or_true])
          · have : sAre (S 23) s = false := by
              unfold sAre
              rw [Bool.and_eq_false_iff]
              right
              cases hq : allB (fun g => !sBit s g || sStd (S 23) g) (S 23 1).toNat
              · rfl
              · have := allB_iff.mp hq g g0 (by omega)
                simp only [db, bI_0.mp e] at this; cases this
            rw [this]
            exact ⟨Or.inl rfl, rfl, rfl, rfl⟩
    exact loop (S 23 1).toNat 0 (by omega) (by omega) (fun i i0 i1 => by omega)
  · have : sAre (S 23) s = false := by
      unfold sAre
      rw [bI_0.mp c3, Bool.and_false]; rfl
    rw [this]
    exact ⟨Or.inl rfl, rfl, rfl, rfl⟩
-- ===== directions with the same sums =====
theorem sLd_rg {f : Int → Int} (h : LI K f) (d p e : Int) : 0 ≤ sLd f d p e ∧ sLd f d p e ≤ 14 := by
  have := cntB_le (fun w => sE f d w e == p) h.nW.1
  have := h.nW
  unfold sLd
  omega
theorem sSt_rg {f : Int → Int} (h : LI K f) (p : Int) : 0 ≤ sSt f p ∧ sSt f p ≤ 6 := by
  have := cntB_le (fun g => sG f g 0 == p) h.nG.1
  have := h.nG
  unfold sSt
  omega
def alkB (f : Int → Int) (d : Int) : Bool := allB (fun p => sLd f d p 0 == sLd f (f 2) p 0) 8
def sp_alike (f : Int → Int) : Int := cntB (alkB f) (2 ^ (f 0).toNat)
theorem tm_alike (h : LI K (S 23)) : vt_M 69 [me] S B (vt_eq (some (ii (sp_alike (S 23)))) S B) := by
  refine vt_start rfl rfl (Nat.le_of_ble_eq_true rfl) (fun X hX => ?_)
  have n0 := h.nW
  have hdr := h.dir
  have h14 := pow14 n0.2
  have ep : ((2 ^ (S 23 0).toNat : Nat) : Int) = (2 : Int) ^ (S 23 0).toNat := by simp
  have hp0 : (0 : Int) < 2 ^ (S 23 0).toNat := Int.pow_pos (by decide)
  have inner : ∀ (m : Nat) (a d p : Int), 0 ≤ d → d < 16384 → 0 ≤ p → p + m = 8 → vt_J 69 (vt_eq (some (ii (sp_alike (S 23)))) S B) X 68 [(0, me), (1, ii a), (2, ii d), (3, ii (bI (alkB (S 23) d)))] [] S B → vt_J 69 (vt_eq (some (ii (sp_alike (S 23)))) S B) X 21 [(0, me), (1, ii a), (2, ii d), (3, ii (bI (allB (fun p => sLd (S 23) d p 0 == sLd (S 23) (S 23 2) p 0) p.toNat))), (4, ii p)] [] S B := by
    intro m
    induction m with
    | zero =>
      intro a d p d0 d1 p0 pm hJ
      refine vt_walk hX tk_alike [(68, [0, 1, 2, 3])] 60 ?_
      refine ⟨by omega, fun _ => ?_, fun z => absurd z (by omega)⟩
      rw [show p = 8 by omega]
      exact hJ
    | succ m ih =>
      intro a d p d0 d1 p0 pm hJ
      have hb := bI_rg (allB (fun p => sLd (S 23) d p 0 == sLd (S 23) (S 23 2) p 0) p.toNat)
      have r1 := sLd_rg h d p 0
      have r2 := sLd_rg h (S 23 2) p 0
      refine vt_walk hX tk_alike [(68, [0, 1, 2, 3]), (21, [0, 1, 2, 3, 4])] 60 ?_
      refine ⟨by omega, fun z => absurd z (by omega), fun _ => ?_⟩
      refine ⟨by omega, fun c => ?_, fun c => ?_⟩
      · have : alkB (S 23) d = false := by
          cases hq : alkB (S 23) d
          · rfl
          · have := bI_0.mp c
            rw [allB_iff.mpr (fun i i0 i1 => allB_iff.mp hq i i0 (by omega))] at this; cases this
        rw [this] at hJ
        rw [bI_0.mp c]
        exact hJ
      · have hi := ih a d (p + 1) d0 d1 (by omega) (by omega) hJ
        have ea : allB (fun p => sLd (S 23) d p 0 == sLd (S 23) (S 23 2) p 0) (p + 1).toNat = (sLd (S 23) d p 0 == sLd (S 23) (S 23 2) p 0) := by
          have c1 := bI_n0.mp c
          unfold allB at c1 ⊢
          rw [anyB_s p0]
          rw [Bool.not_eq_true'] at c1
          rw [c1, Bool.false_or, Bool.not_not]
        rw [ea] at hi
        refine vt_k (tm_leading (by omega) (by omega) (Or.inl rfl) h) ?_
        refine ⟨by omega, vt_k (tm_leading (by omega) (by omega) (Or.inl rfl) h) ?_⟩
        refine ⟨by omega, fun e => ?_, fun e => ?_⟩
        · rw [show (sLd (S 23) d p 0 == sLd (S 23) (S 23 2) p 0) = false by simpa using e] at hi
          exact hi
        · rw [show (sLd (S 23) d p 0 == sLd (S 23) (S 23 2) p 0) = true by simpa using e] at hi
          exact hi
  have outer : ∀ (m : Nat) (d : Int), 0 ≤ d → d + m = 2 ^ (S 23 0).toNat → vt_J 69 (vt_eq (some (ii (sp_alike (S 23)))) S B) X 4 [(0, me), (1, ii (cntB (alkB (S 23)) d.toNat)), (2, ii d)] [] S B := by
    intro m
    induction m with
    | zero =>
      intro d d0 dm
      refine vt_walk hX tk_alike [] 60 ?_
      refine ⟨by omega, by omega, by omega, fun _ => ?_, fun z => absurd z (by omega)⟩
      refine ⟨?_, rfl, rfl⟩
      unfold sp_alike
      rw [show d.toNat = 2 ^ (S 23 0).toNat by omega]
    | succ m ih =>
      intro d d0 dm
      have hi := ih (d + 1) (by omega) (by omega)
      rw [cntB_s d0] at hi
      refine vt_walk hX tk_alike [(21, [0, 1, 2, 3, 4])] 60 ?_
      refine ⟨by omega, by omega, by omega, fun z => absurd z (by omega), fun _ => ?_⟩
      refine inner 8 _ d 0 d0 (by omega) (by omega) (by omega) ?_
      have hb := bI_rg (alkB (S 23) d)
      refine vt_walk hX tk_alike [(4, [0, 1, 2])] 60 ?_
      refine ⟨by omega, fun c => ?_, fun c => ?_⟩
      · rw [if_neg (by rw [bI_0.mp c]; decide)] at hi
        exact hi
      · rw [if_pos (bI_n0.mp c)] at hi
        exact hi
  refine vt_walk hX tk_alike [(4, [0, 1, 2])] 60 ?_
  exact outer (2 ^ (S 23 0).toNat) 0 (by omega) (by omega)
end TMJ
