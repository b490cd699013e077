/-! THE TWIN's methods: decoys -/
set_option maxRecDepth 100000
def orb (s g : Int) : Int := ((s.toNat ||| 2 ^ g.toNat : Nat) : Int)
def bel (s g : Int) : Int := ((s.toNat &&& (2 ^ g.toNat - 1) : Nat) : Int)
theorem dc_cnt : ∀ s : Nat, s < 64 → ∀ g : Nat, g < 6 → (s.testBit g = false → pc6 ((s ||| 2 ^ g : Nat) : Int) = pc6 (s : Int) + 1) ∧ s ||| 2 ^ g < 64 ∧ s &&& (2 ^ g - 1) < 64 := by decide +kernel
theorem dc_bel : ∀ s : Nat, s < 64 → ∀ g : Nat, g < 6 → ∀ n : Nat, n < 7 → g < n → pc6 ((s &&& (2 ^ g - 1) : Nat) : Int) < cntB (fun i => sBit ((s ||| 2 ^ g : Nat) : Int) i) n := by decide +kernel
/-- whether g comes to his aim with the others of s -/
noncomputable def dcB (f : Int → Int) (g s : Int) : Bool := sAre f (orb s g) && pB (∃ l, hpt (mvC f (orb s g)) (f 0) (scc f) (hmO f (mvG f (orb s g)) (pc6 (bel s g))) l (sst f (mvC f (orb s g)) (mvG f (orb s g))))
noncomputable def dcQ (f : Int → Int) (g m s : Int) : Bool := (pc6 s == m) && (!sBit s g) && dcB f g s
noncomputable def dcm (f : Int → Int) (g m : Int) : Int := lst (dcQ f g m) (2 ^ (f 1).toNat)
noncomputable def sp_dec (f : Int → Int) (g : Int) : Int := if sStd f g = true then (if 0 ≤ lst (fun m => decide (0 ≤ dcm f g m)) 6 then dcm f g (lst (fun m => decide (0 ≤ dcm f g m)) 6) else -2) else -1
theorem hmM_o {f : Int → Int} {c o : Int} {mv : Int → Int} (h : 0 ≤ o) : hmM f c mv 1 o = hmO f mv o := by
  funext s
  unfold hmM
  rw [if_neg (by omega)]
  rfl
section TMQ
variable {S : SS} {B : SB} {K : Int}
theorem vt_kq.tr {S1 S2 : SS} (h : vt_kq S S1) (h2 : vt_kq S1 S2) : vt_kq S S2 := ⟨fun j hj => (h2.1 j hj).trans (h.1 j hj), fun i hi => (h2.2.1 i hi).trans (h.2.1 i hi), h2.2.2⟩
theorem tm_decoys {g : Int} (hg : -2147483648 ≤ g ∧ g ≤ 2147483647) (h : LI K (S 23)) (hI : INVS S) : vt_M 70 [me, ii g] S B (fun r S' B' => some (ii (sp_dec (S 23) g)) = r ∧ vt_kq S S') := by
  refine vt_start rfl rfl (Nat.le_of_ble_eq_true rfl) (fun X hX => ?_)
  have n0 := h.nW
  have n1 := h.nG
  have hp6 := pow6 n1.2
  have hp0 : (0 : Int) < 2 ^ (S 23 1).toNat := Int.pow_pos (by decide)
  have ep : ((2 ^ (S 23 1).toNat : Nat) : Int) = (2 : Int) ^ (S 23 1).toNat := by simp
  have hb := bI_rg (sStd (S 23) g)
  refine vt_walk hX tk_decoys [(12, [0, 1, 2])] 80 ?_
  refine vt_k (tm_stands hg h) ?_
  unfold sp_dec
  refine ⟨by omega, fun c => ?_, fun c => ?_⟩
  rotate_left
  · simp only [bI_0.mp c]
    exact ⟨rfl, vt_kq.rf hI⟩
  have c1 := bI_n0.mp c
  have cg : 0 ≤ g ∧ g < S 23 1 := by
    have := c1
    unfold sStd at this
    simp only [Bool.and_eq_true] at this
    exact of_decide_eq_true this.1
  rw [if_pos c1]
  generalize hR : (if 0 ≤ lst (fun m => decide (0 ≤ dcm (S 23) g m)) 6 then dcm (S 23) g (lst (fun m => decide (0 ≤ dcm (S 23) g m)) 6) else -2) = R
  have dcQr : ∀ m, dcm (S 23) g m = -1 ∨ (0 ≤ dcm (S 23) g m ∧ dcm (S 23) g m < 2 ^ (S 23 1).toNat ∧ dcQ (S 23) g m (dcm (S 23) g m) = true ∧ ∀ i, 0 ≤ i → i < dcm (S 23) g m → dcQ (S 23) g m i = false) := by
    intro m
    rcases lst_spec (dcQ (S 23) g m) (2 ^ (S 23 1).toNat) with ⟨x, -⟩ | ⟨x1, x2, x3, x4⟩
    · exact Or.inl x
    · exact Or.inr ⟨x1, by show lst _ _ < _; omega, x3, x4⟩
  have found : ∀ m s, 0 ≤ m → m < 6 → (∀ i, 0 ≤ i → i < m → dcm (S 23) g i = -1) → 0 ≤ s → s < 2 ^ (S 23 1).toNat → (∀ i, 0 ≤ i → i < s → dcQ (S 23) g m i = false) → dcQ (S 23) g m s = true → R = s := by
    intro m s m0 m6 hm s0 s1 hs hq
    have e1 : dcm (S 23) g m = s := by
      show lst (dcQ (S 23) g m) (2 ^ (S 23 1).toNat) = s
      rcases lst_spec (dcQ (S 23) g m) (2 ^ (S 23 1).toNat) with ⟨x, y⟩ | ⟨x1, x2, x3, x4⟩
      · rw [y s s0 (by omega)] at hq; cases hq
      · rcases Int.lt_trichotomy (lst (dcQ (S 23) g m) (2 ^ (S 23 1).toNat)) s with z | z | z
        · rw [hs _ x1 z] at x3; cases x3
        · exact z
        · rw [x4 s s0 z] at hq; cases hq
    have e2 : lst (fun m => decide (0 ≤ dcm (S 23) g m)) 6 = m := by
      rcases lst_spec (fun m => decide (0 ≤ dcm (S 23) g m)) 6 with ⟨x, y⟩ | ⟨x1, x2, x3, x4⟩
      · have := y m m0 (by omega)
        have := of_decide_eq_false this
        omega
      · rcases Int.lt_trichotomy (lst (fun m => decide (0 ≤ dcm (S 23) g m)) 6) m with z | z | z
        · have := hm _ x1 z
          have := of_decide_eq_true x3
          omega
        · exact z
        · have := of_decide_eq_false (x4 m m0 z)
          omega
    rw [← hR, e2, if_pos m0, e1]
  have nofound : (∀ m, 0 ≤ m → m < 6 → dcm (S 23) g m = -1) → R = -2 := by
    intro hm
    have e2 : lst (fun m => decide (0 ≤ dcm (S 23) g m)) 6 = -1 := by
      rcases lst_spec (fun m => decide (0 ≤ dcm (S 23) g m)) 6 with ⟨x, y⟩ | ⟨x1, x2, x3, x4⟩
      · exact x
      · have := of_decide_eq_true x3
        have := hm _ x1 (by omega)
        omega
    rw [← hR, e2, if_neg (by decide)]
  have inner : ∀ (a : Nat) (m s : Int) (T : SS) (BB : SB), 0 ≤ m → m < 6 → (∀ i, 0 ≤ i → i < m → dcm (S 23) g i = -1) → 0 ≤ s → s + a = 2 ^ (S 23 1).toNat → vt_kq S T → (∀ i, 0 ≤ i → i < s → dcQ (S 23) g m i = false) →
      (∀ T BB, vt_kq S T → dcm (S 23) g m = -1 → vt_J 70 (fun r S' B' => some (ii R) = r ∧ vt_kq S S') X 12 [(0, me), (1, ii g), (2, ii (m + 1))] [] T BB) → vt_J 70 (fun r S' B' => some (ii R) = r ∧ vt_kq S S') X 30 [(0, me), (1, ii g), (2, ii m), (3, ii s)] [] T BB := by
    intro a
    induction a with
    | zero =>
      intro m s T BB m0 m6 hm s0 sa hT hs hJ
      have e23 : T 23 = S 23 := hT.1 23 (by decide)
      refine vt_walk hX tk_decoys [(12, [0, 1, 2])] 80 ?_
      refine ⟨by omega, by rw [e23]; omega, by rw [e23]; omega, fun _ => ?_, fun z => absurd z (by rw [e23]; omega)⟩
      refine hJ T BB hT ?_
      rcases lst_spec (dcQ (S 23) g m) (2 ^ (S 23 1).toNat) with ⟨x, y⟩ | ⟨x1, x2, x3, x4⟩
      · exact x
      · rw [hs _ x1 (by omega)] at x3; cases x3
    | succ a ih =>
      intro m s T BB m0 m6 hm s0 sa hT hs hJ
      have e23 : T 23 = S 23 := hT.1 23 (by decide)
      have hLI : LI K (T 23) := by rw [e23]; exact h
      have go : ∀ T BB, vt_kq S T → dcQ (S 23) g m s = false → vt_J 70 (fun r S' B' => some (ii R) = r ∧ vt_kq S S') X 30 [(0, me), (1, ii g), (2, ii m), (3, ii (s + 1))] [] T BB := by
        intro T BB hT hq
        refine ih m (s + 1) T BB m0 m6 hm (by omega) (by omega) hT (fun i i0 i1 => ?_) hJ
        by_cases e : i = s
        · subst e; exact hq
        · exact hs i i0 (by omega)
      have hpc := pc6_rg s
      have hbit := bt_bit (d := s) (w := g) (by omega)
      obtain ⟨q1, q2, q3⟩ := dc_cnt s.toNat (by omega) g.toNat (by omega)
      have hpw := pw_rg (w := g) (by omega)
      have eor : vt_or s (1 * 2 ^ g.toNat) = orb s g := by
        rw [pw_1, bt_or (by omega) ⟨hpw.1, by omega⟩, Int.toNat_natCast]
        rfl
      have hp1 : 1 ≤ 2 ^ g.toNat := Nat.one_le_two_pow
      have ebel : vt_and s (1 * 2 ^ g.toNat - 1) = bel s g := by
        rw [pw_1, show ((2 ^ g.toNat : Nat) : Int) - 1 = ((2 ^ g.toNat - 1 : Nat) : Int) by omega, bt_and (by omega) ⟨Int.natCast_nonneg _, by omega⟩, Int.toNat_natCast]
        rfl
      have hor : 0 ≤ orb s g ∧ orb s g < 64 := ⟨Int.natCast_nonneg _, Int.ofNat_lt.mpr q2⟩
      have hbl : 0 ≤ bel s g ∧ bel s g < 64 := ⟨Int.natCast_nonneg _, Int.ofNat_lt.mpr q3⟩
      refine vt_walk hX tk_decoys [(30, [0, 1, 2, 3])] 80 ?_
      refine ⟨by omega, by rw [e23]; omega, by rw [e23]; omega, fun z => absurd z (by rw [e23]; omega), fun _ => ?_⟩
      refine vt_k (tm_bits (by omega)) ?_
      refine ⟨by omega, fun d => ?_, fun d => ?_⟩
      · exact go T BB hT (by unfold dcQ; rw [show (pc6 s == m) = false by simpa using d]; rfl)
      refine ⟨by omega, by rw [hbit]; split <;> omega, fun d2 => ?_, fun d2 => ?_⟩ <;> rw [hbit] at d2
      · have : sBit s g = true := by
          unfold sBit
          split at d2
          · assumption
          · cases d2
        exact go T BB hT (by unfold dcQ; rw [this]; simp)
      have nb : sBit s g = false := by
        unfold sBit
        split at d2
        · exact absurd rfl d2
        · rename_i e; simpa using e
      have hba := bI_rg (sAre (S 23) (orb s g))
      refine ⟨by omega, ?_⟩
      have har : vt_M 55 [me, ii (vt_or s (1 * 2 ^ g.toNat))] T BB (vt_eq (some (ii (bI (sAre (S 23) (orb s g))))) T BB) := by
        rw [eor]
        have := tm_areGoers (S := T) (B := BB) (s := orb s g) (by omega) hLI
        rw [e23] at this
        exact this
      refine vt_k har ?_
      refine ⟨by omega, fun d3 => ?_, fun d3 => ?_⟩
      · have d4 := bI_n0.mp d3
        obtain ⟨a1, a2, a3, a4⟩ := sAre_spec h d4
        have hrd : vt_M 58 [me, ii (vt_or s (1 * 2 ^ g.toNat))] T BB (fun r S' B' => none = r ∧ BB = B' ∧ S' 23 = T 23 ∧ Sch S' (mvC (T 23) (orb s g)) (mvG (T 23) (orb s g)) ∧ S' 43 29 = 0 ∧ (∀ t, 0 ≤ t → t < 1048576 → S' 28 t = 0) ∧ vt_but [28, 30, 32, 43] T S' ∧ ∀ i : Int, i ≠ 29 → i ≠ 31 → S' 43 i = T 43 i) := by
          rw [eor]
          exact tm_ready hLI hT.2.2 (by rw [e23]; exact d4)
        refine ⟨by omega, _, hrd, ?_⟩
        rintro _ S1 _ ⟨rfl, rfl, f23, hS, h29, h28, t1, t2⟩
        rw [e23] at f23 hS
        have h1 : LI K (S1 23) := by rw [f23]; exact h
        have hbt : vt_M 56 [ii (vt_and s (1 * 2 ^ g.toNat - 1))] S1 BB (vt_eq (some (ii (pc6 (bel s g)))) S1 BB) := by
          rw [ebel]
          exact tm_bits (by omega)
        have hpb := pc6_rg (bel s g)
        have hol : pc6 (bel s g) < mvC (S 23) (orb s g) := by
          have := dc_bel s.toNat (by omega) g.toNat (by omega) (S 23 1).toNat (by omega) (by omega)
          unfold mvC
          rw [mvF_cnt]
          exact this
        refine ⟨by omega, vt_k hbt ?_⟩
        refine ⟨_, tm_searches (st := 1) (o := pc6 (bel s g)) h1 hS h28 h29 (Or.inr rfl) (by omega), ?_⟩
        rintro _ _ _ ⟨rfl, q, k0, rfl, hB, hcase⟩
        rw [f23, hmM_o hpb.1] at hcase
        rw [f23] at hB
        have hsc := scc_rg20 h a3
        have hq0 := hB.1
        have hqq : q.1 ≤ 1048576 := by
          have := (BFI.inv (S := S1) hB).1.2
          rw [q_29] at this
          exact this
        have hT2 : vt_kq S (vt_q S1 q) := hT.tr (kq_of hB t1 t2)
        rcases hcase with ⟨rfl, hkk, hno⟩ | ⟨rfl, hkk, hno, hy⟩
        · refine ⟨by omega, fun _ => ?_, fun z => absurd z (by decide)⟩
          refine go _ _ hT2 ?_
          unfold dcQ dcB
          rw [pB_f.mpr (fun ⟨l, hl⟩ => bfs_none hB hsc hkk hno l hl), Bool.and_false, Bool.and_false]
        · refine ⟨by omega, fun z => absurd z (by omega), fun _ => ?_⟩
          have hq : dcQ (S 23) g m s = true := by
            unfold dcQ dcB
            rw [show (pc6 s == m) = true by simpa using d, nb, d4, pB_t.mpr ⟨_, (bfs_found hB hsc hkk hno hy).1⟩]
            rfl
          rw [found m s m0 m6 hm s0 (by omega) hs hq]
          exact ⟨rfl, hT2⟩
      · exact go T BB hT (by unfold dcQ dcB; rw [bI_0.mp d3]; simp)
  have outer : ∀ (a : Nat) (m : Int) (T : SS) (BB : SB), 0 ≤ m → m + a = 6 → (∀ i, 0 ≤ i → i < m → dcm (S 23) g i = -1) → vt_kq S T → vt_J 70 (fun r S' B' => some (ii R) = r ∧ vt_kq S S') X 12 [(0, me), (1, ii g), (2, ii m)] [] T BB := by
    intro a
    induction a with
    | zero =>
      intro m T BB m0 ma hm hT
      refine vt_walk hX tk_decoys [] 80 ?_
      refine ⟨by omega, fun _ => ?_, fun z => absurd z (by omega)⟩
      rw [nofound (fun i i0 i1 => hm i i0 (by omega))]
      exact ⟨rfl, hT⟩
    | succ a ih =>
      intro m T BB m0 ma hm hT
      have e23 : T 23 = S 23 := hT.1 23 (by decide)
      have hLI : LI K (T 23) := by rw [e23]; exact h
      have hbf := bI_rg (decide (S 23 0 + 3 * (m + 1) ≤ 20))
      refine vt_walk hX tk_decoys [(30, [0, 1, 2, 3])] 80 ?_
      refine ⟨by omega, fun z => absurd z (by omega), fun _ => ?_⟩
      refine vt_k (tm_fits (by omega) hLI) ?_
      rw [e23]
      refine ⟨by omega, fun d => ?_, fun d => ?_⟩
      · have d1 := of_decide_eq_false (bI_0.mp d)
        rw [nofound (fun i i0 i1 => ?_)]
        · exact ⟨rfl, hT⟩
        by_cases ci : i < m
        · exact hm i i0 ci
        · rcases dcQr i with x | ⟨x1, x2, x3, x4⟩
          · exact x
          · exfalso
            unfold dcQ dcB at x3
            simp only [Bool.and_eq_true, beq_iff_eq, Bool.not_eq_true'] at x3
            obtain ⟨⟨y1, y2⟩, y3, -⟩ := x3
            unfold sAre at y3
            simp only [Bool.and_eq_true, decide_eq_true_eq] at y3
            have := (dc_cnt (dcm (S 23) g i).toNat (by omega) g.toNat (by omega)).1 y2
            have e9 : (((dcm (S 23) g i).toNat : Nat) : Int) = dcm (S 23) g i := by omega
            rw [e9] at this
            have y4 := y3.1.2
            have e10 : pc6 (orb (dcm (S 23) g i) g) = pc6 (dcm (S 23) g i) + 1 := this
            omega
      · refine inner (2 ^ (S 23 1).toNat) m 0 T BB m0 (by omega) hm (by omega) (by omega) hT (fun i i0 i1 => by omega) (fun T' BB' hT' hd => ?_)
        refine ih (m + 1) T' BB' (by omega) (by omega) (fun i i0 i1 => ?_) hT'
        by_cases e : i = m
        · subst e; exact hd
        · exact hm i i0 (by omega)
  exact outer 6 0 S B (by omega) (by omega) (fun i i0 i1 => by omega) (vt_kq.rf hI)
end TMQ
