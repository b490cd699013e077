/-! THE TWIN's methods: minutes and what is asked of them -/
set_option maxRecDepth 100000
noncomputable def sp_mns (f : Int → Int) (r : RU1) : Nat → Int → Int
  | 0 => f
  | n + 1 => sp_min (sp_mns f r n) r
theorem mns_s {f : Int → Int} {r : RU1} {g : Int} (h : 0 ≤ g) : sp_mns f r (g + 1).toNat = sp_min (sp_mns f r g.toNat) r := by
  obtain ⟨n, rfl⟩ := Int.eq_ofNat_of_zero_le h
  rw [show ((n : Int) + 1).toNat = n + 1 by omega, Int.toNat_natCast]
  rfl
theorem LI.mns {K : Int} {f : Int → Int} {r : RU1} (h : LI K f) (hK : K + 6 ≤ 100000) : ∀ n : Nat, f 4 + n ≤ 100700 → LI K (sp_mns f r n) ∧ smn f (sp_mns f r n) ∧ sp_mns f r n 4 = f 4 + n
  | 0, _ => ⟨h, smn.rf, by show f 4 = f 4 + ((0 : Nat) : Int); omega⟩
  | n + 1, hn => by
    obtain ⟨a1, a2, a3⟩ := h.mns (r := r) hK n (by omega)
    obtain ⟨b1, b2, b3⟩ := a1.min (r := r) hK (by omega)
    exact ⟨b1, a2.tr b2, by show sp_min (sp_mns f r n) r 4 = _; rw [b3]; omega⟩
theorem mkp.kp {S S' : SS} {B B' : SB} (h : mkp S B S' B') : (∀ j, j ∈ [0, 3, 5, 6, 24, 26, 28, 41, 42] → S' j = S j) ∧ ∀ i : Int, i ∈ [1, 2, 29] → S' 43 i = S 43 i := by
  refine ⟨fun j hj => h.1 j (by revert hj; simp only [List.mem_cons, List.not_mem_nil, or_false]; omega), fun i hi => h.2.1 i (by revert hi; simp only [List.mem_cons, List.not_mem_nil, or_false]; omega)⟩
/-- what stays across what asks of minutes -/
def vt_km (S S' : SS) : Prop := (∀ j, j ∈ [0, 3, 5, 6, 26, 28, 41, 42] → S' j = S j) ∧ ∀ i : Int, i ∈ [1, 2, 29] → S' 43 i = S 43 i
theorem vt_km.rf {S : SS} : vt_km S S := ⟨fun _ _ => rfl, fun _ _ => rfl⟩
theorem vt_km.tr {S S1 S2 : SS} (h : vt_km S S1) (h2 : vt_km S1 S2) : vt_km S S2 := ⟨fun j hj => (h2.1 j hj).trans (h.1 j hj), fun i hi => (h2.2 i hi).trans (h.2 i hi)⟩
theorem vt_km.st {S S1 : SS} (h : vt_km S S1) {k : Nat} {F : Int → Int} (hk : k = 23 ∨ k = 24) : vt_km S (vt_st S1 k F) := ⟨fun j hj => by rw [vt_st_ne (by rintro rfl; revert hj; rcases hk with rfl | rfl <;> decide)]; exact h.1 j hj, fun i hi => by rw [vt_st_ne (by omega)]; exact h.2 i hi⟩
theorem mkp.km {S S' : SS} {B B' : SB} (h : mkp S B S' B') : vt_km S S' := ⟨fun j hj => h.kp.1 j (by revert hj; simp only [List.mem_cons, List.not_mem_nil, or_false]; omega), h.kp.2⟩
theorem vt_km.kp {S S' : SS} (h : vt_km S S') (h23 : S' 23 = S 23) : vt_kp S S' := ⟨fun j hj => by
  by_cases e : j = 23
  · rw [e]; exact h23
  · exact h.1 j (by revert hj; simp only [List.mem_cons, List.not_mem_nil, or_false]; omega), h.2⟩
theorem RuT1.km {S S' : SS} {t : Int} {r : RU1} (h : RuT1 S t r) (hk : vt_km S S') : RuT1 S' t r := h.of (hk.1 3 (by decide)) (hk.1 5 (by decide)) (hk.1 6 (by decide))
/-- laid back: as it was -/
theorem cp_back {k f F : Int → Int} (h : ∀ i, i < 0 ∨ 202 ≤ i → F i = f i) : cpF F (cpF k f 0 202) 0 202 = f := by
  funext i
  unfold cpF
  by_cases c : 0 ≤ i ∧ i < 0 + 202
  · rw [if_pos c, if_pos (by omega)]
    congr 1
    omega
  · rw [if_neg c]
    exact h i (by omega)
section TMW
variable {S : SS} {B : SB} {K : Int}
theorem tm_minutes {t n : Int} {r : RU1} (ht : 0 ≤ t ∧ t ≤ 5) (hn : 0 ≤ n ∧ n ≤ 600) (h : LI K (S 23)) (hK : K + 6 ≤ 100000) (h4 : S 23 4 + n ≤ 100700) (hR : RuT1 S t r) : vt_M 89 [me, ii t, ii n] S B (fun rr S' B' => none = rr ∧ mkp S B S' B' ∧ S' 23 = sp_mns (S 23) r n.toNat) := by
  refine vt_start rfl rfl (Nat.le_of_ble_eq_true rfl) (fun X hX => ?_)
  have loop : ∀ (a : Nat) (k : Int) (T : SS) (BB : SB), 0 ≤ k → k + a = n → mkp S B T BB → T 23 = sp_mns (S 23) r k.toNat → vt_J 89 (fun rr S' B' => none = rr ∧ mkp S B S' B' ∧ S' 23 = sp_mns (S 23) r n.toNat) X 2 [(0, me), (1, ii t), (2, ii n), (3, ii k)] [] T BB := by
    intro a
    induction a with
    | zero =>
      intro k T BB k0 ka hT hF
      refine vt_walk hX tk_minutes [] 60 ?_
      refine ⟨by omega, fun _ => ?_, fun z => absurd z (by omega)⟩
      exact ⟨rfl, hT, by rw [hF, show k = n by omega]⟩
    | succ a ih =>
      intro k T BB k0 ka hT hF
      obtain ⟨c1, c2, c3⟩ := h.mns (r := r) hK k.toNat (by omega)
      refine vt_walk hX tk_minutes [(2, [0, 1, 2, 3])] 60 ?_
      refine ⟨by omega, fun z => absurd z (by omega), fun _ => ?_⟩
      refine ⟨_, tm_minute ht (by rw [hF]; exact c1) hK (hR.km hT.km), ?_⟩
      rintro _ T2 B2 ⟨rfl, k1, k2⟩
      exact ih (k + 1) T2 B2 (by omega) (by omega) (hT.tr k1) (by rw [k2, hF, mns_s k0])
  refine vt_walk hX tk_minutes [(2, [0, 1, 2, 3])] 60 ?_
  exact loop n.toNat 0 S B (by omega) (by omega) mkp.rf rfl
/-- R: the rules, nr of them -/
noncomputable def sp_tick (f : Int → Int) (R : RU) (nr t n : Int) : Int × (Int → Int) := if (0 ≤ t ∧ t < nr) ∧ (1 ≤ n ∧ n ≤ 600) ∧ f 4 + n ≤ 99999 then (f 4 + n, sp_mns f (R t) n.toNat) else (-1, f)
theorem tm_tick {t n : Int} {R : RU} (ht : -2147483648 ≤ t ∧ t ≤ 2147483647) (hn : -2147483648 ≤ n ∧ n ≤ 2147483647) (h : LI K (S 23)) (hK : K + 6 ≤ 100000) (hR : RuT S R) : vt_M 87 [me, ii t, ii n] S B (fun rr S' B' => some (ii (sp_tick (S 23) R (S 43 2) t n).1) = rr ∧ S' 23 = (sp_tick (S 23) R (S 43 2) t n).2 ∧ vt_km S S') := by
  refine vt_start rfl rfl (Nat.le_of_ble_eq_true rfl) (fun X hX => ?_)
  have h4 := h.clock
  have hnr := hR.1
  have hb := bI_rg (decide (0 ≤ t ∧ t < S 43 2))
  have hb2 := bI_rg (sIn n 1 600)
  have hno : ¬ ((0 ≤ t ∧ t < S 43 2) ∧ (1 ≤ n ∧ n ≤ 600) ∧ S 23 4 + n ≤ 99999) → (some (ii (sp_tick (S 23) R (S 43 2) t n).1) = some (ii (-1)) ∧ S 23 = (sp_tick (S 23) R (S 43 2) t n).2 ∧ vt_km S S) := by
    intro z
    unfold sp_tick
    rw [if_neg z]
    exact ⟨rfl, rfl, vt_km.rf⟩
  refine vt_walk hX tk_tick [] 60 ?_
  refine vt_k (tm_isRule ht hnr) ?_
  refine ⟨by omega, fun c => ?_, fun c => ?_⟩
  · exact hno (fun z => of_decide_eq_false (bI_0.mp c) z.1)
  have c := of_decide_eq_true (bI_n0.mp c)
  refine ⟨by omega, vt_k (tm_in (by omega) (by omega) (by omega)) ?_⟩
  refine ⟨by omega, fun c2 => ?_, fun c2 => ?_⟩
  · exact hno (fun z => of_decide_eq_false (bI_0.mp c2) z.2.1)
  have c2 := of_decide_eq_true (bI_n0.mp c2)
  refine ⟨by omega, by omega, fun c3 => ?_, fun c3 => ?_⟩
  · refine ⟨_, tm_minutes (by omega) (by omega) h hK (by omega) (hR.2 t c.1 c.2), ?_⟩
    rintro _ T2 B2 ⟨rfl, k1, k2⟩
    obtain ⟨m1, m2, m3⟩ := h.mns (r := R t) hK n.toNat (by omega)
    refine ⟨by omega, ?_⟩
    unfold sp_tick
    rw [if_pos ⟨c, c2, c3⟩]
    refine ⟨?_, k2, k1.km⟩
    rw [k2, m3]
    show some (ii (S 23 4 + n)) = _
    rw [show ((n.toNat : Nat) : Int) = n by omega]
  · exact hno (fun z => by omega)
noncomputable def sp_ahd (f : Int → Int) (R : RU) (nr t n k : Int) : Int := if (0 ≤ t ∧ t < nr) ∧ (0 ≤ n ∧ n ≤ 600) ∧ (0 ≤ k ∧ k ≤ 3) then (if k = 0 then sArr (sp_mns f (R t) n.toNat) else if k = 1 then sp_mns f (R t) n.toNat 5 - f 5 else if k = 2 then sp_mns f (R t) n.toNat 3 - f 3 else sp_mns f (R t) n.toNat 2) else -1
theorem smn.out {f f' : Int → Int} (h : smn f f') : ∀ i, i < 0 ∨ 202 ≤ i → f' i = f i := fun i hi => h.1 i (by omega)
theorem tm_ahead {t n k : Int} {R : RU} (ht : -2147483648 ≤ t ∧ t ≤ 2147483647) (hn : -2147483648 ≤ n ∧ n ≤ 2147483647) (hk : -2147483648 ≤ k ∧ k ≤ 2147483647) (h : LI K (S 23)) (hK : K + 6 ≤ 100000) (h4 : S 23 4 ≤ 99999) (hR : RuT S R) : vt_M 99 [me, ii t, ii n, ii k] S B (fun rr S' B' => some (ii (sp_ahd (S 23) R (S 43 2) t n k)) = rr ∧ vt_kp S S') := by
  refine vt_start rfl rfl (Nat.le_of_ble_eq_true rfl) (fun X hX => ?_)
  have hnr := hR.1
  have hb := bI_rg (decide (0 ≤ t ∧ t < S 43 2))
  have hb2 := bI_rg (sIn n 0 600)
  have hb3 := bI_rg (sIn k 0 3)
  have hno : ¬ ((0 ≤ t ∧ t < S 43 2) ∧ (0 ≤ n ∧ n ≤ 600) ∧ (0 ≤ k ∧ k ≤ 3)) → (some (ii (sp_ahd (S 23) R (S 43 2) t n k)) = some (ii (-1)) ∧ vt_kp S S) := by
    intro z
    unfold sp_ahd
    rw [if_neg z]
    exact ⟨rfl, vt_kp.rf⟩
  refine vt_walk hX tk_ahead [(103, [0])] 60 ?_
  refine vt_k (tm_isRule ht hnr) ?_
  refine ⟨by omega, fun c => ?_, fun c => ?_⟩
  · exact hno (fun z => of_decide_eq_false (bI_0.mp c) z.1)
  have c := of_decide_eq_true (bI_n0.mp c)
  refine ⟨by omega, vt_k (tm_in (by omega) (by omega) (by omega)) ?_⟩
  refine ⟨by omega, fun c2 => ?_, fun c2 => ?_⟩
  · exact hno (fun z => of_decide_eq_false (bI_0.mp c2) z.2.1)
  have c2 := of_decide_eq_true (bI_n0.mp c2)
  refine ⟨by omega, vt_k (tm_in (by omega) (by omega) (by omega)) ?_⟩
  refine ⟨by omega, fun c3 => ?_, fun c3 => ?_⟩
  rotate_left
  · exact hno (fun z => of_decide_eq_false (bI_0.mp c3) z.2.2)
  have c3 := of_decide_eq_true (bI_n0.mp c3)
  refine vt_k tm_keeps ?_
  generalize hS1 : vt_st S 24 (cpF (S 24) (S 23) 0 202) = S1
  have s1 : vt_km S S1 := by rw [← hS1]; exact vt_km.rf.st (Or.inr rfl)
  have s23 : S1 23 = S 23 := by rw [← hS1]; exact vt_st_ne (by decide)
  have s24 : S1 24 = cpF (S 24) (S 23) 0 202 := by rw [← hS1]; exact vt_st_at
  have sk : ∀ i, 0 ≤ i → i < 202 → S1 24 i = S 23 i := fun i a b => by
    rw [s24]
    unfold cpF
    rw [if_pos (by omega), Int.sub_zero]
  refine ⟨_, tm_minutes (r := R t) (by omega) (by omega) (by rw [s23]; exact h) hK (by rw [s23]; omega) ((hR.2 t c.1 c.2).km s1), ?_⟩
  rintro _ T2 B2 ⟨rfl, k1, k2⟩
  rw [s23] at k2
  obtain ⟨m1, m2, m3⟩ := h.mns (r := R t) hK n.toNat (by omega)
  have t24 : T2 24 = S1 24 := k1.1 24 (by decide)
  have fin : ∀ v, v = sp_ahd (S 23) R (S 43 2) t n k → vt_J 99 (fun rr S' B' => some (ii (sp_ahd (S 23) R (S 43 2) t n k)) = rr ∧ vt_kp S S') X 103 [(0, me)] [ii v] T2 B2 := by
    intro v hv
    refine vt_walk hX tk_ahead [] 60 ?_
    refine vt_k tm_putsBack ?_
    refine ⟨by rw [hv], ?_⟩
    refine vt_km.kp (S := S) ((s1.tr k1.km).st (Or.inl rfl)) ?_
    rw [vt_st_at, t24, s24]
    exact cp_back (fun i hi => by rw [k2]; exact m2.out i hi)
  have hp : sp_ahd (S 23) R (S 43 2) t n k = if k = 0 then sArr (sp_mns (S 23) (R t) n.toNat) else if k = 1 then sp_mns (S 23) (R t) n.toNat 5 - S 23 5 else if k = 2 then sp_mns (S 23) (R t) n.toNat 3 - S 23 3 else sp_mns (S 23) (R t) n.toNat 2 := by
    unfold sp_ahd
    rw [if_pos ⟨c, c2, c3⟩]
  refine ⟨by omega, fun d => ?_, fun d => ?_⟩
  · refine ⟨by omega, fun d1 => ?_, fun d1 => ?_⟩
    · refine ⟨by omega, fun d2 => ?_, fun d2 => ?_⟩
      · refine ⟨by omega, fin _ ?_⟩
        rw [hp, if_neg d, if_neg d1, if_neg d2, k2]
      · refine ⟨by omega, by omega, fin _ ?_⟩
        rw [hp, if_neg d, if_neg d1, if_pos d2, k2, t24, sk 3 (by decide) (by decide)]
    · refine ⟨by omega, by omega, fin _ ?_⟩
      rw [hp, if_neg d, if_pos d1, k2, t24, sk 5 (by decide) (by decide)]
  · refine vt_k (tm_arrived (by rw [k2]; exact m1)) ?_
    refine fin _ ?_
    rw [hp, if_pos d, k2]
noncomputable def fnS (f : Int → Int) (R : RU) (n k : Int) (a : Int × Int × Int) : Int × Int × Int := if 0 ≤ a.1 ∧ (sArr (sp_mns f (R k) n.toNat) < a.2.1 ∨ (sArr (sp_mns f (R k) n.toNat) = a.2.1 ∧ a.2.2 ≤ sp_mns f (R k) n.toNat 5)) then a else (k, sArr (sp_mns f (R k) n.toNat), sp_mns f (R k) n.toNat 5)
noncomputable def fnF (f : Int → Int) (R : RU) (n : Int) : Nat → Int × Int × Int
  | 0 => (-2, 0, 0)
  | k + 1 => fnS f R n k (fnF f R n k)
noncomputable def sp_fin (f : Int → Int) (R : RU) (nr n : Int) : Int := if 0 ≤ n ∧ n ≤ 600 then (fnF f R n nr.toNat).1 else -1
theorem fnF_s {f : Int → Int} {R : RU} {n g : Int} (h : 0 ≤ g) : fnF f R n (g + 1).toNat = fnS f R n g (fnF f R n g.toNat) := by
  obtain ⟨m, rfl⟩ := Int.eq_ofNat_of_zero_le h
  rw [show ((m : Int) + 1).toNat = m + 1 by omega, Int.toNat_natCast]
  rfl
theorem sArr_rg {f : Int → Int} (h : LI K f) : 0 ≤ sArr f ∧ sArr f ≤ 6 := by
  have := cntB_b (fun g => sG f g 0 == sG f g 1) (f 1).toNat
  have n1 := h.nG
  unfold sArr
  omega
theorem fnF_rg {f : Int → Int} {R : RU} {n : Int} (h : LI K f) (hK : K + 6 ≤ 100000) (h4 : f 4 + n ≤ 100700) (hn : 0 ≤ n) : ∀ k : Nat, -2 ≤ (fnF f R n k).1 ∧ (fnF f R n k).1 < k ∧ (0 ≤ (fnF f R n k).2.1 ∧ (fnF f R n k).2.1 ≤ 6) ∧ (0 ≤ (fnF f R n k).2.2 ∧ (fnF f R n k).2.2 ≤ 1600000)
  | 0 => by show -2 ≤ (-2 : Int) ∧ (-2 : Int) < ((0 : Nat) : Int) ∧ (0 ≤ (0 : Int) ∧ (0 : Int) ≤ 6) ∧ (0 ≤ (0 : Int) ∧ (0 : Int) ≤ 1600000); decide
  | k + 1 => by
    have ih := fnF_rg (R := R) h hK h4 hn k
    obtain ⟨m1, m2, m3⟩ := h.mns (r := R k) hK n.toNat (by omega)
    have ha := sArr_rg m1
    have h5 := m1.met
    have hc := m1.clock
    show -2 ≤ (fnS f R n k (fnF f R n k)).1 ∧ _
    have hu : fnF f R n (k + 1) = fnS f R n k (fnF f R n k) := rfl
    rw [hu]
    unfold fnS
    split
    · exact ⟨ih.1, by omega, ih.2.2⟩
    · exact ⟨by show -2 ≤ (k : Int); omega, by show (k : Int) < _; omega, ha, by show 0 ≤ sp_mns f (R k) n.toNat 5 ∧ sp_mns f (R k) n.toNat 5 ≤ 1600000; omega⟩
theorem tm_finest {n : Int} {R : RU} (hn : -2147483648 ≤ n ∧ n ≤ 2147483647) (h : LI K (S 23)) (hK : K + 6 ≤ 100000) (h4 : S 23 4 ≤ 99999) (hR : RuT S R) : vt_M 103 [me, ii n] S B (fun rr S' B' => some (ii (sp_fin (S 23) R (S 43 2) n)) = rr ∧ vt_kp S S') := by
  refine vt_start rfl rfl (Nat.le_of_ble_eq_true rfl) (fun X hX => ?_)
  have hnr := hR.1
  have hb2 := bI_rg (sIn n 0 600)
  refine vt_walk hX tk_finest [(29, [0, 1, 2, 3, 4, 5])] 60 ?_
  refine ⟨by omega, vt_k (tm_in (by omega) (by omega) (by omega)) ?_⟩
  refine ⟨by omega, fun c2 => ?_, fun c2 => ?_⟩
  rotate_left
  · refine ⟨?_, vt_kp.rf⟩
    unfold sp_fin
    rw [if_neg (of_decide_eq_false (bI_0.mp c2))]
  have c2 := of_decide_eq_true (bI_n0.mp c2)
  have hp : sp_fin (S 23) R (S 43 2) n = (fnF (S 23) R n (S 43 2).toNat).1 := if_pos c2
  refine vt_k tm_keeps ?_
  have sk : vt_km S (vt_st S 24 (cpF (S 24) (S 23) 0 202)) := vt_km.rf.st (Or.inr rfl)
  have loop : ∀ (a : Nat) (k : Int) (T : SS) (BB : SB), 0 ≤ k → k + a = S 43 2 → vt_km S T → T 23 = S 23 → T 24 = cpF (S 24) (S 23) 0 202 → vt_J 103 (fun rr S' B' => some (ii (sp_fin (S 23) R (S 43 2) n)) = rr ∧ vt_kp S S') X 29 [(0, me), (1, ii n), (2, ii (fnF (S 23) R n k.toNat).1), (3, ii (fnF (S 23) R n k.toNat).2.1), (4, ii (fnF (S 23) R n k.toNat).2.2), (5, ii k)] [] T BB := by
    intro a
    induction a with
    | zero =>
      intro k T BB k0 ka hT h23 h24
      have e2 : T 43 2 = S 43 2 := hT.2 2 (by decide)
      refine vt_walk hX tk_finest [] 60 ?_
      refine ⟨by omega, fun _ => ?_, fun z => absurd z (by omega)⟩
      exact ⟨by rw [hp, show k = S 43 2 by omega], hT.kp h23⟩
    | succ a ih =>
      intro k T BB k0 ka hT h23 h24
      have e2 : T 43 2 = S 43 2 := hT.2 2 (by decide)
      have hs := fnF_s (f := S 23) (R := R) (n := n) k0
      have hrg := fnF_rg (R := R) h hK (by omega) c2.1 k.toNat
      obtain ⟨m1, m2, m3⟩ := h.mns (r := R k) hK n.toNat (by omega)
      have ha := sArr_rg m1
      have h5 := m1.met
      have hc := m1.clock
      refine vt_walk hX tk_finest [(99, [0, 1, 2, 3, 4, 5])] 60 ?_
      refine ⟨by omega, fun z => absurd z (by omega), fun _ => ?_⟩
      refine ⟨_, tm_minutes (r := R k) (by omega) c2 (by rw [h23]; exact h) hK (by rw [h23]; omega) ((hR.2 k k0 (by omega)).km hT), ?_⟩
      rintro _ T2 B2 ⟨rfl, k1, k2⟩
      rw [h23] at k2
      have t24 : T2 24 = T 24 := k1.1 24 (by decide)
      refine vt_k (tm_arrived (by rw [k2]; exact m1)) ?_
      rw [k2]
      refine ⟨by omega, vt_k tm_putsBack ?_⟩
      have back : cpF (T2 23) (T2 24) 0 202 = S 23 := by
        rw [t24, h24]
        exact cp_back (fun i hi => by rw [k2]; exact m2.out i hi)
      rw [k2]
      rw [k2] at back
      rw [back]
      have go : ∀ q, fnS (S 23) R n k (fnF (S 23) R n k.toNat) = q → vt_J 103 (fun rr S' B' => some (ii (sp_fin (S 23) R (S 43 2) n)) = rr ∧ vt_kp S S') X 99 [(0, me), (1, ii n), (2, ii q.1), (3, ii q.2.1), (4, ii q.2.2), (5, ii k)] [] (vt_st T2 23 (S 23)) B2 := by
        intro q hq
        have K := ih (k + 1) (vt_st T2 23 (S 23)) B2 (by omega) (by omega) ((hT.tr k1.km).st (Or.inl rfl)) vt_st_at (by rw [vt_st_ne (by decide), t24, h24])
        rw [hs, hq] at K
        exact vt_walk hX tk_finest [(29, [0, 1, 2, 3, 4, 5])] 20 K
      have win : ¬ (0 ≤ (fnF (S 23) R n k.toNat).1 ∧ (sArr (sp_mns (S 23) (R k) n.toNat) < (fnF (S 23) R n k.toNat).2.1 ∨ (sArr (sp_mns (S 23) (R k) n.toNat) = (fnF (S 23) R n k.toNat).2.1 ∧ (fnF (S 23) R n k.toNat).2.2 ≤ sp_mns (S 23) (R k) n.toNat 5))) → fnS (S 23) R n k (fnF (S 23) R n k.toNat) = (k, sArr (sp_mns (S 23) (R k) n.toNat), sp_mns (S 23) (R k) n.toNat 5) := fun z => if_neg z
      have los : (0 ≤ (fnF (S 23) R n k.toNat).1 ∧ (sArr (sp_mns (S 23) (R k) n.toNat) < (fnF (S 23) R n k.toNat).2.1 ∨ (sArr (sp_mns (S 23) (R k) n.toNat) = (fnF (S 23) R n k.toNat).2.1 ∧ (fnF (S 23) R n k.toNat).2.2 ≤ sp_mns (S 23) (R k) n.toNat 5))) → fnS (S 23) R n k (fnF (S 23) R n k.toNat) = fnF (S 23) R n k.toNat := fun z => if_pos z
      refine ⟨by omega, fun d => ?_, fun d => ?_⟩
      · exact go _ (win (by omega))
      · refine ⟨by omega, fun d1 => ?_, fun d1 => ?_⟩
        · exact go _ (los ⟨d, Or.inl d1⟩)
        · refine ⟨by omega, fun d2 => ?_, fun d2 => ?_⟩
          · exact go _ (win (by omega))
          · refine ⟨by omega, fun d3 => ?_, fun d3 => ?_⟩
            · exact go _ (win (by omega))
            · exact go _ (los ⟨d, Or.inr ⟨d2, d3⟩⟩)
  exact loop (S 43 2).toNat 0 _ B (by omega) (by omega) sk (vt_st_ne (by decide)) vt_st_at
noncomputable def sp_home (f : Int → Int) (R : RU) (nr t n : Int) : Int := if (0 ≤ t ∧ t < nr) ∧ (0 ≤ n ∧ n ≤ 600) then (if 0 ≤ lst (fun k => sArr (sp_mns f (R t) k.toNat) == f 1) (n + 1).toNat then lst (fun k => sArr (sp_mns f (R t) k.toNat) == f 1) (n + 1).toNat else -2) else -1
theorem tm_home {t n : Int} {R : RU} (ht : -2147483648 ≤ t ∧ t ≤ 2147483647) (hn : -2147483648 ≤ n ∧ n ≤ 2147483647) (h : LI K (S 23)) (hK : K + 6 ≤ 100000) (h4 : S 23 4 ≤ 99999) (hR : RuT S R) : vt_M 104 [me, ii t, ii n] S B (fun rr S' B' => some (ii (sp_home (S 23) R (S 43 2) t n)) = rr ∧ vt_kp S S') := by
  refine vt_start rfl rfl (Nat.le_of_ble_eq_true rfl) (fun X hX => ?_)
  have hnr := hR.1
  have n1 := h.nG
  have hb := bI_rg (decide (0 ≤ t ∧ t < S 43 2))
  have hb2 := bI_rg (sIn n 0 600)
  have hno : ¬ ((0 ≤ t ∧ t < S 43 2) ∧ (0 ≤ n ∧ n ≤ 600)) → (some (ii (sp_home (S 23) R (S 43 2) t n)) = some (ii (-1)) ∧ vt_kp S S) := by
    intro z
    unfold sp_home
    rw [if_neg z]
    exact ⟨rfl, vt_kp.rf⟩
  refine vt_walk hX tk_home [(32, [0, 1, 2, 3, 4])] 60 ?_
  refine vt_k (tm_isRule ht hnr) ?_
  refine ⟨by omega, fun c => ?_, fun c => ?_⟩
  · exact hno (fun z => of_decide_eq_false (bI_0.mp c) z.1)
  have c := of_decide_eq_true (bI_n0.mp c)
  refine ⟨by omega, vt_k (tm_in (by omega) (by omega) (by omega)) ?_⟩
  refine ⟨by omega, fun c2 => ?_, fun c2 => ?_⟩
  rotate_left
  · exact hno (fun z => of_decide_eq_false (bI_0.mp c2) z.2)
  have c2 := of_decide_eq_true (bI_n0.mp c2)
  have hsp := lst_spec (fun k => sArr (sp_mns (S 23) (R t) k.toNat) == S 23 1) (n + 1).toNat
  have hp : sp_home (S 23) R (S 43 2) t n = if 0 ≤ lst (fun k => sArr (sp_mns (S 23) (R t) k.toNat) == S 23 1) (n + 1).toNat then lst (fun k => sArr (sp_mns (S 23) (R t) k.toNat) == S 23 1) (n + 1).toNat else -2 := if_pos ⟨c, c2⟩
  refine vt_k tm_keeps ?_
  have sk : vt_km S (vt_st S 24 (cpF (S 24) (S 23) 0 202)) := vt_km.rf.st (Or.inr rfl)
  have fin : ∀ (v k : Int) (T : SS) (BB : SB), v = sp_home (S 23) R (S 43 2) t n → (0 ≤ v ∨ n < k) → (-2 ≤ v ∧ v ≤ 1000) → (0 ≤ k ∧ k ≤ 1000) → vt_km S T → (∀ i, i < 0 ∨ 202 ≤ i → T 23 i = S 23 i) → T 24 = cpF (S 24) (S 23) 0 202 → vt_J 104 (fun rr S' B' => some (ii (sp_home (S 23) R (S 43 2) t n)) = rr ∧ vt_kp S S') X 32 [(0, me), (1, ii t), (2, ii n), (3, ii v), (4, ii k)] [] T BB := by
    intro v k T BB hv hd vr kr hT h23 h24
    have done : (some (ii (sp_home (S 23) R (S 43 2) t n)) = some (ii v) ∧ vt_kp S (vt_st T 23 (cpF (T 23) (T 24) 0 202))) := by
      refine ⟨by rw [hv], (hT.st (Or.inl rfl)).kp ?_⟩
      rw [vt_st_at, h24]
      exact cp_back h23
    refine vt_walk hX tk_home [] 60 ?_
    refine ⟨by omega, fun _ => ?_, fun _ => ?_⟩
    · exact vt_k tm_putsBack done
    · refine ⟨by omega, fun _ => ?_, fun z => absurd z (by omega)⟩
      exact vt_k tm_putsBack done
  have loop : ∀ (a : Nat) (k : Int) (T : SS) (BB : SB), 0 ≤ k → k + a = n → vt_km S T → T 23 = sp_mns (S 23) (R t) k.toNat → T 24 = cpF (S 24) (S 23) 0 202 → (∀ i, 0 ≤ i → i < k → (sArr (sp_mns (S 23) (R t) i.toNat) == S 23 1) = false) → vt_J 104 (fun rr S' B' => some (ii (sp_home (S 23) R (S 43 2) t n)) = rr ∧ vt_kp S S') X 32 [(0, me), (1, ii t), (2, ii n), (3, ii (-2)), (4, ii k)] [] T BB := by
    intro a
    induction a with
    | zero =>
      intro k T BB k0 ka hT h23 h24 hno
      obtain ⟨m1, m2, m3⟩ := h.mns (r := R t) hK k.toNat (by omega)
      have ha := sArr_rg m1
      have x1 : T 23 1 = S 23 1 := by rw [h23]; exact m2.1 1 (by omega)
      have ho : ∀ i, i < 0 ∨ 202 ≤ i → T 23 i = S 23 i := fun i hi => by rw [h23]; exact m2.out i hi
      refine vt_walk hX tk_home [(32, [0, 1, 2, 3, 4])] 60 ?_
      refine ⟨by omega, fun z => absurd z (by omega), fun _ => ?_⟩
      refine ⟨by omega, fun z => absurd z (by omega), fun _ => ?_⟩
      refine vt_k (tm_arrived (by rw [h23]; exact m1)) ?_
      refine ⟨by omega, by rw [h23] at x1 ⊢; omega, fun d => ?_, fun d => ?_⟩ <;> rw [x1, h23] at d
      · refine ⟨by omega, fun _ => ?_, fun z => absurd z (by omega)⟩
        refine fin (-2) (k + 1) T BB ?_ (Or.inr (by omega)) (by omega) (by omega) hT ho h24
        rw [hp]
        rcases hsp with ⟨x, -⟩ | ⟨y1, y2, y3, -⟩
        · rw [x]; rfl
        · exfalso
          generalize lst (fun k => sArr (sp_mns (S 23) (R t) k.toNat) == S 23 1) (n + 1).toNat = L at *
          by_cases e : L = k
          · subst e; exact d (by simpa using y3)
          · rw [hno L y1 (by omega)] at y3; cases y3
      · refine fin k (k + 1) T BB ?_ (Or.inl k0) (by omega) (by omega) hT ho h24
        rw [hp]
        rcases hsp with ⟨-, x⟩ | ⟨y1, y2, y3, y4⟩
        · have := x k k0 (by omega)
          simp only [beq_eq_false_iff_ne] at this
          exact absurd d this
        · generalize lst (fun k => sArr (sp_mns (S 23) (R t) k.toNat) == S 23 1) (n + 1).toNat = L at *
          rw [if_pos y1]
          by_cases e : L = k
          · exact e.symm
          · rw [hno L y1 (by omega)] at y3; cases y3
    | succ a ih =>
      intro k T BB k0 ka hT h23 h24 hno
      obtain ⟨m1, m2, m3⟩ := h.mns (r := R t) hK k.toNat (by omega)
      have ha := sArr_rg m1
      have x1 : T 23 1 = S 23 1 := by rw [h23]; exact m2.1 1 (by omega)
      have ho : ∀ i, i < 0 ∨ 202 ≤ i → T 23 i = S 23 i := fun i hi => by rw [h23]; exact m2.out i hi
      refine vt_walk hX tk_home [(32, [0, 1, 2, 3, 4])] 60 ?_
      refine ⟨by omega, fun z => absurd z (by omega), fun _ => ?_⟩
      refine ⟨by omega, fun z => absurd z (by omega), fun _ => ?_⟩
      refine vt_k (tm_arrived (by rw [h23]; exact m1)) ?_
      refine ⟨by omega, by rw [h23] at x1 ⊢; omega, fun d => ?_, fun d => ?_⟩ <;> rw [x1, h23] at d
      · refine ⟨by omega, fun z => absurd z (by omega), fun _ => ?_⟩
        refine ⟨_, tm_minute (r := R t) (by omega) (by rw [h23]; exact m1) hK ((hR.2 t c.1 c.2).km hT), ?_⟩
        rintro _ T2 B2 ⟨rfl, k1, k2⟩
        refine ih (k + 1) T2 B2 (by omega) (by omega) (hT.tr k1.km) (by rw [k2, h23, mns_s k0]) (by rw [k1.1 24 (by decide), h24]) (fun i i0 i1 => ?_)
        by_cases e : i = k
        · subst e; simpa using d
        · exact hno i i0 (by omega)
      · refine fin k (k + 1) T BB ?_ (Or.inl k0) (by omega) (by omega) hT ho h24
        rw [hp]
        rcases hsp with ⟨-, x⟩ | ⟨y1, y2, y3, y4⟩
        · have := x k k0 (by omega)
          simp only [beq_eq_false_iff_ne] at this
          exact absurd d this
        · generalize lst (fun k => sArr (sp_mns (S 23) (R t) k.toNat) == S 23 1) (n + 1).toNat = L at *
          rw [if_pos y1]
          rcases Int.lt_trichotomy L k with z | z | z
          · rw [hno L y1 z] at y3; cases y3
          · exact z.symm
          · have := y4 k k0 z
            simp only [beq_eq_false_iff_ne] at this
            exact absurd d this
  exact loop n.toNat 0 _ B (by omega) (by omega) sk (vt_st_ne (by decide)) vt_st_at (fun i i0 i1 => by omega)
end TMW
