/-! THE TWIN's methods: sums; states of directions and places -/
set_option maxRecDepth 100000
def thr (f : Int → Int) (s p : Int) : Int := cntB (fun g => (if sBit s g = true then sG f g 1 else sG f g 0) == p) (f 1).toNat
def smB (f : Int → Int) (s d p : Int) : Bool := sLd f d p 0 - thr f s p == sLd f (f 2) p 0 - sSt f p
def sp_sums (f : Int → Int) (s : Int) : Bool := anyB (fun d => allB (smB f s d) 8) (2 ^ (f 0).toNat)
def mvF (s : Int) : Nat → Int × (Int → Int)
  | 0 => (0, fun _ => 0)
  | n + 1 => if sBit s (n : Int) = true then ((mvF s n).1 + 1, upF (mvF s n).2 (mvF s n).1 (n : Int)) else mvF s n
def mvC (f : Int → Int) (s : Int) : Int := (mvF s (f 1).toNat).1
def mvG (f : Int → Int) (s i : Int) : Int := (mvF s (f 1).toNat).2 i
theorem mvF_s {s g : Int} (h : 0 ≤ g) : mvF s (g + 1).toNat = if sBit s g = true then ((mvF s g.toNat).1 + 1, upF (mvF s g.toNat).2 (mvF s g.toNat).1 g) else mvF s g.toNat := by
  obtain ⟨n, rfl⟩ := Int.eq_ofNat_of_zero_le h
  rw [show ((n : Int) + 1).toNat = n + 1 by omega, Int.toNat_natCast]
  rfl
theorem mvF_rg (s : Int) : ∀ n : Nat, (0 ≤ (mvF s n).1 ∧ (mvF s n).1 ≤ n) ∧ ∀ i : Int, 0 ≤ i → i < (mvF s n).1 → 0 ≤ (mvF s n).2 i ∧ (mvF s n).2 i < n ∧ sBit s ((mvF s n).2 i) = true
  | 0 => ⟨by show 0 ≤ (0 : Int) ∧ (0 : Int) ≤ 0; decide, fun i i0 i1 => by have : i < 0 := i1; omega⟩
  | n + 1 => by
    obtain ⟨h1, h2⟩ := mvF_rg s n
    unfold mvF
    split
    · rename_i hb
      refine ⟨by show 0 ≤ (mvF s n).1 + 1 ∧ (mvF s n).1 + 1 ≤ _; omega, fun i i0 i1 => ?_⟩
      have i1 : i < (mvF s n).1 + 1 := i1
      show 0 ≤ upF _ _ _ i ∧ upF _ _ _ i < _ ∧ sBit s (upF _ _ _ i) = true
      by_cases e : i = (mvF s n).1
      · rw [e, upF_self]; exact ⟨by omega, by omega, hb⟩
      · rw [upF_ne e]
        have := h2 i i0 (by omega)
        exact ⟨this.1, by omega, this.2.2⟩
    · refine ⟨by omega, fun i i0 i1 => ?_⟩
      have := h2 i i0 i1
      exact ⟨this.1, by omega, this.2.2⟩
theorem mvF_cnt (s : Int) : ∀ n : Nat, (mvF s n).1 = cntB (fun i => sBit s i) n
  | 0 => rfl
  | n + 1 => by
    unfold mvF
    show _ = cntB (fun i => sBit s i) n + _
    split
    · show (mvF s n).1 + 1 = _; rw [mvF_cnt s n]
    · rw [mvF_cnt s n]; omega
def plc (n s k : Int) : Int := ((s.toNat / 2 ^ (n + 3 * k).toNat % 8 : Nat) : Int)
theorem plc_rg (n s k : Int) : 0 ≤ plc n s k ∧ plc n s k ≤ 7 := by
  unfold plc
  omega
section TMK
variable {S : SS} {B : SB} {K : Int}
theorem thr_rg {f : Int → Int} (h : LI K f) (s p : Int) : 0 ≤ thr f s p ∧ thr f s p ≤ 6 := by
  have := cntB_le (fun g => (if sBit s g = true then sG f g 1 else sG f g 0) == p) h.nG.1
  have := h.nG
  unfold thr
  omega
theorem tm_hasSums {s : Int} (hs : 0 ≤ s ∧ s < 64) (h : LI K (S 23)) : vt_M 68 [me, ii s] S B (vt_eq (some (ii (bI (sp_sums (S 23) s)))) S B) := by
  refine vt_start rfl rfl (Nat.le_of_ble_eq_true rfl) (fun X hX => ?_)
  have n0 := h.nW
  have n1 := h.nG
  have hdr := h.dir
  have h14 := pow14 n0.2
  have ep : ((2 ^ (S 23 0).toNat : Nat) : Int) = (2 : Int) ^ (S 23 0).toNat := by simp
  have hp0 : (0 : Int) < 2 ^ (S 23 0).toNat := Int.pow_pos (by decide)
  have l3 : ∀ (m : Nat) (d a p g : Int), 0 ≤ p → p ≤ 7 → 0 ≤ g → g + m = S 23 1 → vt_J 68 (vt_eq (some (ii (bI (sp_sums (S 23) s)))) S B) X 95 [(0, me), (1, ii s), (2, ii d), (3, ii a), (4, ii p), (5, ii (thr (S 23) s p))] [] S B → vt_J 68 (vt_eq (some (ii (bI (sp_sums (S 23) s)))) S B) X 36 [(0, me), (1, ii s), (2, ii d), (3, ii a), (4, ii p), (5, ii (cntB (fun g => (if sBit s g = true then sG (S 23) g 1 else sG (S 23) g 0) == p) g.toNat)), (6, ii g)] [] S B := by
    intro m
    induction m with
    | zero =>
      intro d a p g p0 p7 g0 gm hJ
      refine vt_walk hX tk_hasSums [(95, [0, 1, 2, 3, 4, 5])] 60 ?_
      refine ⟨by omega, by omega, fun _ => ?_, fun z => absurd z (by omega)⟩
      rw [show g = S 23 1 by omega]
      exact hJ
    | succ m ih =>
      intro d a p g p0 p7 g0 gm hJ
      have hi := ih d a p (g + 1) p0 p7 (by omega) (by omega) hJ
      rw [cntB_s g0] at hi
      have hG := h.g g0 (by omega)
      have r1 := hG.1
      have r0 := hG.place
      have hbit := bt_bit (d := s) (w := g) (by omega)
      refine vt_walk hX tk_hasSums [(36, [0, 1, 2, 3, 4, 5, 6])] 60 ?_
      refine ⟨by omega, by omega, fun z => absurd z (by omega), fun _ => ?_⟩
      refine ⟨by omega, by rw [hbit]; split <;> omega, fun c => ?_, fun c => ?_⟩ <;> rw [hbit] at c
      · have cb : sBit s g = false := by
          unfold sBit
          split at c
          · exact absurd rfl c
          · rename_i e; simpa using e
        simp only [cb] at hi
        refine vt_k (tm_goerOf (by omega)) ?_
        refine ⟨by omega, fun e => ?_, fun e => ?_⟩
        · rw [if_neg (by simpa using e)] at hi
          exact hi
        · rw [if_pos (by simpa using e)] at hi
          exact hi
      · have cb : sBit s g = true := by
          unfold sBit
          split at c
          · assumption
          · cases c
        simp only [cb, if_true] at hi
        refine vt_k (tm_goerOf (by omega)) ?_
        refine ⟨by omega, fun e => ?_, fun e => ?_⟩
        · rw [if_neg (by simpa using e)] at hi
          exact hi
        · rw [if_pos (by simpa using e)] at hi
          exact hi
  have l2 : ∀ (m : Nat) (d p : Int), 0 ≤ d → d < 16384 → 0 ≤ p → p + m = 8 → vt_J 68 (vt_eq (some (ii (bI (sp_sums (S 23) s)))) S B) X 141 [(0, me), (1, ii s), (2, ii d), (3, ii (bI (allB (smB (S 23) s d) 8)))] [] S B → vt_J 68 (vt_eq (some (ii (bI (sp_sums (S 23) s)))) S B) X 19 [(0, me), (1, ii s), (2, ii d), (3, ii (bI (allB (smB (S 23) s d) p.toNat))), (4, ii p)] [] S B := by
    intro m
    induction m with
    | zero =>
      intro d p d0 d1 p0 pm hJ
      refine vt_walk hX tk_hasSums [(141, [0, 1, 2, 3])] 60 ?_
      refine ⟨by omega, fun _ => ?_, fun z => absurd z (by omega)⟩
      rw [show p = 8 by omega]
      exact hJ
    | succ m ih =>
      intro d p d0 d1 p0 pm hJ
      have hb := bI_rg (allB (smB (S 23) s d) p.toNat)
      have r1 := sLd_rg h d p 0
      have r2 := sLd_rg h (S 23 2) p 0
      have r3 := thr_rg h s p
      have r4 := sSt_rg h p
      refine vt_walk hX tk_hasSums [(141, [0, 1, 2, 3]), (36, [0, 1, 2, 3, 4, 5, 6])] 60 ?_
      refine ⟨by omega, fun z => absurd z (by omega), fun _ => ?_⟩
      refine ⟨by omega, fun c => ?_, fun c => ?_⟩
      · have : allB (smB (S 23) s d) 8 = false := by
          cases hq : allB (smB (S 23) s d) 8
          · rfl
          · have := bI_0.mp c
            rw [allB_iff.mpr (fun i i0 i1 => allB_iff.mp hq i i0 (by omega))] at this; cases this
        rw [this] at hJ
        rw [bI_0.mp c]
        exact hJ
      · have hi := ih d (p + 1) d0 d1 (by omega) (by omega) hJ
        have ea : allB (smB (S 23) s d) (p + 1).toNat = smB (S 23) s d p := by
          have c1 := bI_n0.mp c
          unfold allB at c1 ⊢
          rw [anyB_s p0]
          rw [Bool.not_eq_true'] at c1
          rw [c1, Bool.false_or, Bool.not_not]
        rw [ea] at hi
        refine l3 (S 23 1).toNat d _ p 0 p0 (by omega) (by omega) (by omega) ?_
        refine vt_walk hX tk_hasSums [(19, [0, 1, 2, 3, 4])] 60 ?_
        refine vt_k (tm_leading (by omega) (by omega) (Or.inl rfl) h) ?_
        refine ⟨by omega, vt_k (tm_leading (by omega) (by omega) (Or.inl rfl) h) ?_⟩
        refine vt_k (tm_standing (by omega) h) ?_
        refine ⟨by omega, fun e => ?_, fun e => ?_⟩
        · rw [show smB (S 23) s d p = false by unfold smB; simpa using e] at hi
          exact hi
        · rw [show smB (S 23) s d p = true by unfold smB; simpa using e] at hi
          exact hi
  have l1 : ∀ (m : Nat) (d : Int), 0 ≤ d → d + m = 2 ^ (S 23 0).toNat → anyB (fun d => allB (smB (S 23) s d) 8) d.toNat = false → vt_J 68 (vt_eq (some (ii (bI (sp_sums (S 23) s)))) S B) X 2 [(0, me), (1, ii s), (2, ii d)] [] S B := by
    intro m
    induction m with
    | zero =>
      intro d d0 dm ha
      refine vt_walk hX tk_hasSums [] 60 ?_
      refine ⟨by omega, by omega, by omega, fun _ => ?_, fun z => absurd z (by omega)⟩
      have : sp_sums (S 23) s = false := by
        unfold sp_sums
        rw [show 2 ^ (S 23 0).toNat = d.toNat by omega, ha]
      rw [this]
      exact ⟨Or.inl rfl, rfl, rfl, rfl⟩
    | succ m ih =>
      intro d d0 dm ha
      refine vt_walk hX tk_hasSums [(19, [0, 1, 2, 3, 4])] 60 ?_
      refine ⟨by omega, by omega, by omega, fun z => absurd z (by omega), fun _ => ?_⟩
      refine l2 8 d 0 d0 (by omega) (by omega) (by omega) ?_
      have hb := bI_rg (allB (smB (S 23) s d) 8)
      refine vt_walk hX tk_hasSums [(2, [0, 1, 2])] 60 ?_
      refine ⟨by omega, fun c => ?_, fun c => ?_⟩
      · exact ih (d + 1) (by omega) (by omega) (by rw [anyB_s d0, ha, bI_0.mp c]; rfl)
      · have : sp_sums (S 23) s = true := anyB_iff.mpr ⟨d, d0, by omega, bI_n0.mp c⟩
        rw [this]
        exact ⟨Or.inr rfl, rfl, rfl, rfl⟩
  refine vt_walk hX tk_hasSums [(2, [0, 1, 2])] 60 ?_
  exact l1 (2 ^ (S 23 0).toNat) 0 (by omega) (by omega) rfl
theorem and7 {x : Int} (hx : 0 ≤ x ∧ x ≤ 2147483647) (k : Nat) : vt_and (x / 2 ^ k) 7 = ((x.toNat / 2 ^ k % 8 : Nat) : Int) := by
  obtain ⟨n, rfl⟩ := Int.eq_ofNat_of_zero_le hx.1
  have e : (n : Int) / 2 ^ k = ((n / 2 ^ k : Nat) : Int) := by simp
  have hle : n / 2 ^ k ≤ n := Nat.div_le_self _ _
  rw [e, bt_and ⟨Int.natCast_nonneg _, Int.le_trans (Int.ofNat_le.mpr hle) hx.2⟩ (by decide), Int.toNat_natCast, Int.toNat_natCast]
  show ((n / 2 ^ k &&& (2 ^ 3 - 1) : Nat) : Int) = _
  rw [Nat.and_two_pow_sub_one_eq_mod]
theorem tm_placeIn {s k : Int} (hs : 0 ≤ s ∧ s ≤ 2147483647) (hk : 0 ≤ k ∧ k ≤ 5) (h : LI K (S 23)) : vt_M 63 [me, ii s, ii k] S B (vt_eq (some (ii (plc (S 23 0) s k))) S B) := by
  refine vt_start rfl rfl (Nat.le_of_ble_eq_true rfl) (fun X hX => ?_)
  have n0 := h.nW
  refine vt_walk hX tk_placeIn [] 60 ?_
  refine ⟨by omega, by omega, ?_, rfl, rfl⟩
  rw [and7 hs]
  rfl
end TMK
