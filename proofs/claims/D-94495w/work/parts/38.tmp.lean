/-! THE TWIN's methods: step, decoys -/
set_option maxRecDepth 100000
theorem nxt_bit {f : Int → Int} {s m w : Int} (hw : w.toNat < (f 0 + 3 * m).toNat) (he : 0 ≤ sE f s w 1 ∧ sE f s w 1 ≤ 7) (i : Nat) : (nxt f s m w).toNat.testBit i = if (f 0 + 3 * m).toNat ≤ i ∧ i < (f 0 + 3 * m).toNat + 3 then (sE f s w 1).toNat.testBit (i - (f 0 + 3 * m).toNat) else (s.toNat.testBit i ^^ decide (w.toNat = i)) := by
  unfold nxt
  rw [Int.toNat_natCast]
  generalize (f 0 + 3 * m).toNat = a at *
  rw [Nat.testBit_or, Nat.testBit_xor, Nat.testBit_and, Nat.testBit_xor, Nat.testBit_two_pow, Nat.testBit_mul_two_pow, Nat.testBit_mul_two_pow]
  have e7 : ∀ j : Nat, (7 : Nat).testBit j = decide (j < 3) := fun j => Nat.testBit_two_pow_sub_one (n := 3) (i := j)
  rw [e7]
  by_cases c : a ≤ i ∧ i < a + 3
  · rw [if_pos c, decide_eq_true c.1, decide_eq_true (by omega : i - a < 3)]
    cases s.toNat.testBit i <;> cases decide (w.toNat = i) <;> simp
  · rw [if_neg c]
    by_cases ca : a ≤ i
    · have hb : (sE f s w 1).toNat.testBit (i - a) = false := bit_hi (n := 3) (by omega) (by omega)
      rw [hb, decide_eq_false (by omega : ¬ i - a < 3)]
      simp
    · rw [decide_eq_false ca]
      simp
theorem plc_bit {n s k : Int} (j : Nat) : (plc n s k).toNat.testBit j = (decide (j < 3) && s.toNat.testBit ((n + 3 * k).toNat + j)) := by
  unfold plc
  rw [Int.toNat_natCast, show (8 : Nat) = 2 ^ 3 from rfl, Nat.testBit_mod_two_pow, Nat.testBit_div_two_pow, Nat.add_comm]
theorem plc_ext {n s s' k : Int} (h : ∀ j : Nat, j < 3 → s.toNat.testBit ((n + 3 * k).toNat + j) = s'.toNat.testBit ((n + 3 * k).toNat + j)) : plc n s k = plc n s' k := by
  have h1 := plc_rg n s k
  have h2 := plc_rg n s' k
  have : (plc n s k).toNat = (plc n s' k).toNat := by
    apply Nat.eq_of_testBit_eq
    intro j
    rw [plc_bit, plc_bit]
    by_cases c : j < 3
    · rw [h j c]
    · rw [decide_eq_false c]; rfl
  omega
section NXS
variable {K : Int} {f : Int → Int} {s m w : Int}
theorem nxt_plc (h : LI K f) (hm : 0 ≤ m) (hw : 0 ≤ w ∧ w < f 0) : plc (f 0) (nxt f s m w) m = sE f s w 1 := by
  have he := (h.w hw.1 hw.2).end (d := s) (Or.inr rfl)
  have hr := plc_rg (f 0) (nxt f s m w) m
  have : (plc (f 0) (nxt f s m w) m).toNat = (sE f s w 1).toNat := by
    apply Nat.eq_of_testBit_eq
    intro j
    rw [plc_bit, nxt_bit (by omega) he]
    by_cases c : j < 3
    · rw [if_pos (by omega), decide_eq_true c, Nat.add_sub_cancel_left]; rfl
    · rw [decide_eq_false c, Bool.false_and]
      exact (bit_hi (n := 3) (by omega) (by omega)).symm
  omega
theorem nxt_plo (h : LI K f) (hm : 0 ≤ m) (hw : 0 ≤ w ∧ w < f 0) {k : Int} (hk : 0 ≤ k) (hne : k ≠ m) : plc (f 0) (nxt f s m w) k = plc (f 0) s k := by
  have he := (h.w hw.1 hw.2).end (d := s) (Or.inr rfl)
  have n0 := h.nW
  apply plc_ext
  intro j hj
  rw [nxt_bit (by omega) he, if_neg (by omega), decide_eq_false (by omega), Bool.xor_false]
theorem nxt_dir (h : LI K f) (hm : 0 ≤ m) (hw : 0 ≤ w ∧ w < f 0) {i : Int} (hi : 0 ≤ i ∧ i < f 0) : (nxt f s m w).toNat.testBit i.toNat = (s.toNat.testBit i.toNat ^^ decide (w = i)) := by
  have he := (h.w hw.1 hw.2).end (d := s) (Or.inr rfl)
  rw [nxt_bit (by omega) he, if_neg (by omega)]
  by_cases c : w = i
  · rw [decide_eq_true c, decide_eq_true (by rw [c])]
  · rw [decide_eq_false c, decide_eq_false (by omega)]
end NXS
def sp_step (f : Int → Int) (s k v : Int) : Prop := if sAre f s = true ∧ sIn k 0 999 = true then
  (v = -2 ∧ ((∀ l, ¬ hpt (mvC f s) (f 0) (scc f) (hmA f (mvC f s) (mvG f s)) l (sst f (mvC f s) (mvG f s))) ∨ ∃ L : Nat, isD (mvC f s) (f 0) (scc f) (hmA f (mvC f s) (mvG f s)) (sst f (mvC f s) (mvG f s)) L ∧ (L : Int) ≤ k)) ∨
  (∃ (L : Nat) (m w : Int), isD (mvC f s) (f 0) (scc f) (hmA f (mvC f s) (mvG f s)) (sst f (mvC f s) (mvG f s)) L ∧ k < L ∧ sp_mv (mvC f s) (f 0) (scc f) (hmA f (mvC f s) (mvG f s)) (sst f (mvC f s) (mvG f s)) L k.toNat m w ∧ v = 16 * mvG f s m + w) else v = -1
section TMP
variable {S : SS} {B : SB} {K : Int}
theorem tm_step {s k : Int} (hs : -2147483648 ≤ s ∧ s ≤ 2147483647) (hk : -2147483648 ≤ k ∧ k ≤ 2147483647) (h : LI K (S 23)) (hI : INVS S) : vt_M 65 [me, ii s, ii k] S B (fun r S' B' => (∃ v, some (ii v) = r ∧ sp_step (S 23) s k v) ∧ vt_kq S S') := by
  refine vt_start rfl rfl (Nat.le_of_ble_eq_true rfl) (fun X hX => ?_)
  have n0 := h.nW
  have hb := bI_rg (sAre (S 23) s)
  have hb2 := bI_rg (sIn k 0 999)
  refine vt_walk hX tk_step [(64, [0, 3, 4, 5])] 80 ?_
  refine vt_k (tm_areGoers hs h) ?_
  unfold sp_step
  refine ⟨by omega, fun c => ?_, fun c => ?_⟩
  · simp only [bI_0.mp c]
    exact ⟨⟨_, rfl, rfl⟩, vt_kq.rf hI⟩
  have c1 := bI_n0.mp c
  obtain ⟨a1, a2, a3, a4⟩ := sAre_spec h c1
  refine ⟨by omega, vt_k (tm_in (by omega) (by omega) (by omega)) ?_⟩
  refine ⟨by omega, fun c2 => ?_, fun c2 => ?_⟩
  rotate_left
  · simp only [bI_0.mp c2, c1]
    exact ⟨⟨_, rfl, rfl⟩, vt_kq.rf hI⟩
  have c3 := bI_n0.mp c2
  have ck : 0 ≤ k ∧ k ≤ 999 := of_decide_eq_true c3
  simp only [c1, c3, and_self, if_true]
  refine ⟨_, tm_ready h hI c1, ?_⟩
  rintro _ S1 _ ⟨rfl, rfl, e23, hS, h29, h28, t1, t2⟩
  have h1 : LI K (S1 23) := by rw [e23]; exact h
  refine ⟨_, tm_searches (st := 1) (o := -1) h1 hS h28 h29 (Or.inr rfl) (by omega), ?_⟩
  rintro _ _ _ ⟨rfl, q, k0, rfl, hB, hcase⟩
  rw [e23, hmM_1] at hcase
  rw [e23] at hB
  have hsc := scc_rg20 h a3
  have hq0 := hB.1
  have hqq : q.1 ≤ 1048576 := by
    have := (BFI.inv (S := S1) hB).1.2
    rw [q_29] at this
    exact this
  rcases hcase with ⟨rfl, hkk, hno⟩ | ⟨rfl, hkk, hno, hy⟩
  · refine ⟨by omega, fun _ => ?_, fun z => absurd z (by decide)⟩
    exact ⟨⟨_, rfl, Or.inl ⟨rfl, Or.inl (fun l => bfs_none hB hsc hkk hno l)⟩⟩, kq_of hB t1 t2⟩
  have hdr := dp_rg hB hq0.1 hkk
  have hD := bfs_found hB hsc hkk hno hy
  have hlen := tm_lengthTo (S := S1) (B := B) hB (Int.le_refl _) hq0.1 hkk
  refine ⟨by omega, fun z => absurd z (by omega), fun _ => ?_⟩
  refine vt_k hlen ?_
  refine ⟨by omega, fun e => ?_, fun e => ?_⟩
  rotate_left
  · exact ⟨⟨_, rfl, Or.inl ⟨rfl, Or.inr ⟨(dp q k0).toNat, hD, by omega⟩⟩⟩, kq_of hB t1 t2⟩
  generalize hPost : (fun (r : Option AV) (S' : SS) (B' : SB) => (∃ v, some (ii v) = r ∧ ((v = -2 ∧ ((∀ l, ¬ hpt (mvC (S 23) s) (S 23 0) (scc (S 23)) (hmA (S 23) (mvC (S 23) s) (mvG (S 23) s)) l (sst (S 23) (mvC (S 23) s) (mvG (S 23) s))) ∨ ∃ L : Nat, isD (mvC (S 23) s) (S 23 0) (scc (S 23)) (hmA (S 23) (mvC (S 23) s) (mvG (S 23) s)) (sst (S 23) (mvC (S 23) s) (mvG (S 23) s)) L ∧ (L : Int) ≤ k)) ∨
    (∃ (L : Nat) (m w : Int), isD (mvC (S 23) s) (S 23 0) (scc (S 23)) (hmA (S 23) (mvC (S 23) s) (mvG (S 23) s)) (sst (S 23) (mvC (S 23) s) (mvG (S 23) s)) L ∧ k < L ∧ sp_mv (mvC (S 23) s) (S 23 0) (scc (S 23)) (hmA (S 23) (mvC (S 23) s) (mvG (S 23) s)) (sst (S 23) (mvC (S 23) s) (mvG (S 23) s)) L k.toNat m w ∧ v = 16 * mvG (S 23) s m + w))) ∧ vt_kq S S') = Post
  refine vt_k hlen ?_
  have loop : ∀ (a : Nat) (i at' : Int), 0 ≤ i → i + a = dp q k0 - 1 - k → chn q.2.2.1 i.toNat k0 at' → vt_J 65 Post X 64 [(0, me), (3, ii at'), (4, ii (dp q k0 - 1 - k)), (5, ii i)] [] (vt_q S1 q) B := by
    intro a
    induction a with
    | zero =>
      intro i at' i0 ia hc
      obtain ⟨b1, b2, b3⟩ := chn_rg hB hkk hq0.1 i.toNat at' hc
      have at1 : 1 ≤ at' := by
        by_cases ee : at' = 0
        · subst ee; rw [dp_0 hB] at b3; omega
        · omega
      obtain ⟨g1, -⟩ := hB.2.2.2.2.1 at' at1 (by omega)
      obtain ⟨m, w, hl, he⟩ := bfs_lm hB hsc hkk hno hy at1 hc
      obtain ⟨back, hback⟩ : ∃ b : Nat, b = i.toNat := ⟨_, rfl⟩
      rw [← hback] at hl
      have hgr := bfs_grp hB hsc hkk hno hy k.toNat (q.2.2.1 at') (i.toNat + 1) (by omega) ⟨at', hc, at1, rfl⟩
      have hst1 := (hB.2.1 at' b1 (by omega)).1
      have hst2 := (hB.2.1 (q.2.2.1 at') g1.1 (by omega)).1
      have hl' := hl
      obtain ⟨hm, hw, hne, -, -⟩ := hl
      have hcond : sOn (S 23) w = 0 ∧ sE (S 23) (q.2.1 (q.2.2.1 at')) w 0 = plc (S 23 0) (q.2.1 (q.2.2.1 at')) m := by
        by_cases cc : sOn (S 23) w = 0 ∧ sE (S 23) (q.2.1 (q.2.2.1 at')) w 0 = plc (S 23 0) (q.2.1 (q.2.2.1 at')) m
        · exact cc
        · exact absurd (if_neg cc) hne
      have enx : nxt (S 23) (q.2.1 (q.2.2.1 at')) m w = q.2.1 at' := by
        rw [← he]
        exact (if_pos hcond).symm
      have hfin : vt_J 65 Post X 136 [(0, me), (5, ii (q.2.1 at')), (6, ii (q.2.1 (q.2.2.1 at'))), (7, ii m), (8, ii 0)] [] (vt_q S1 q) B := by
        have lw : ∀ (b : Nat) (i : Int), 0 ≤ i → i + b = w → vt_J 65 Post X 136 [(0, me), (5, ii (q.2.1 at')), (6, ii (q.2.1 (q.2.2.1 at'))), (7, ii m), (8, ii i)] [] (vt_q S1 q) B := by
          intro b
          induction b with
          | zero =>
            intro i i0 ib
            have ei : i = w := by omega
            subst ei
            have hbit1 := bt_bit (d := q.2.1 at') (w := i) (by omega)
            have hbit2 := bt_bit (d := q.2.1 (q.2.2.1 at')) (w := i) (by omega)
            have hnd := nxt_dir (s := q.2.1 (q.2.2.1 at')) h hm.1 hw (i := i) hw
            rw [enx, decide_eq_true rfl, Bool.xor_true] at hnd
            rw [hnd] at hbit1
            have hneq : vt_and (q.2.1 at' / 2 ^ i.toNat) 1 ≠ vt_and (q.2.1 (q.2.2.1 at') / 2 ^ i.toNat) 1 := by
              rw [hbit1, hbit2]
              cases (q.2.1 (q.2.2.1 at')).toNat.testBit i.toNat <;> decide
            have hr1 : 0 ≤ vt_and (q.2.1 at' / 2 ^ i.toNat) 1 ∧ vt_and (q.2.1 at' / 2 ^ i.toNat) 1 ≤ 1 := by rw [hbit1]; split <;> omega
            have hr2 : 0 ≤ vt_and (q.2.1 (q.2.2.1 at') / 2 ^ i.toNat) 1 ∧ vt_and (q.2.1 (q.2.2.1 at') / 2 ^ i.toNat) 1 ≤ 1 := by rw [hbit2]; split <;> omega
            refine vt_walk hX tk_step [] 80 ?_
            refine ⟨by omega, by omega, by omega, fun _ => ?_, fun z => absurd z hneq⟩
            refine ⟨by omega, ?_⟩
            show Post _ _ _
            rw [q_30, (hS.2.2.2.1 m hm.1 hm.2).1, ← hPost]
            exact ⟨⟨_, rfl, Or.inr ⟨(dp q k0).toNat, m, i, hD, by omega, ⟨_, hgr, by rw [show (dp q k0).toNat - k.toNat - 1 = back by omega]; exact hl'⟩, rfl⟩⟩, kq_of hB t1 t2⟩
          | succ b ih =>
            intro i i0 ib
            have hbit1 := bt_bit (d := q.2.1 at') (w := i) (by omega)
            have hbit2 := bt_bit (d := q.2.1 (q.2.2.1 at')) (w := i) (by omega)
            have hnd := nxt_dir (s := q.2.1 (q.2.2.1 at')) h hm.1 hw (i := i) (by omega)
            rw [enx, decide_eq_false (by omega), Bool.xor_false] at hnd
            have heq : vt_and (q.2.1 at' / 2 ^ i.toNat) 1 = vt_and (q.2.1 (q.2.2.1 at') / 2 ^ i.toNat) 1 := by
              rw [hbit1, hbit2, hnd]
            have hr2 : 0 ≤ vt_and (q.2.1 (q.2.2.1 at') / 2 ^ i.toNat) 1 ∧ vt_and (q.2.1 (q.2.2.1 at') / 2 ^ i.toNat) 1 ≤ 1 := by rw [hbit2]; split <;> omega
            refine vt_walk hX tk_step [(136, [0, 5, 6, 7, 8])] 80 ?_
            refine ⟨by omega, by omega, by omega, fun z => absurd heq z, fun _ => ?_⟩
            exact ih (i + 1) (by omega) (by omega)
        exact lw w.toNat 0 (by omega) (by omega)
      have lg : ∀ (b : Nat) (g : Int), 0 ≤ g → g + b = m → vt_J 65 Post X 108 [(0, me), (5, ii (q.2.1 at')), (6, ii (q.2.1 (q.2.2.1 at'))), (7, ii g)] [] (vt_q S1 q) B := by
        intro b
        have hLI : LI K (vt_q S1 q 23) := by rw [q_23, e23]; exact h
        induction b with
        | zero =>
          intro g g0 gb
          have eg : g = m := by omega
          subst eg
          have p1 := nxt_plc (s := q.2.1 (q.2.2.1 at')) h hm.1 hw
          rw [enx] at p1
          have pr1 := plc_rg (S 23 0) (q.2.1 at') g
          have pr2 := plc_rg (S 23 0) (q.2.1 (q.2.2.1 at')) g
          have wne := (h.w hw.1 hw.2).ne (d := q.2.1 (q.2.2.1 at'))
          refine vt_walk hX tk_step [(136, [0, 5, 6, 7, 8])] 80 ?_
          refine vt_k (tm_placeIn (by omega) (by omega) hLI) ?_
          refine vt_k (tm_placeIn (by omega) (by omega) hLI) ?_
          rw [q_23, e23]
          refine ⟨by omega, fun _ => hfin, fun z => absurd ?_ wne⟩
          rw [hcond.2, ← z, p1]
        | succ b ih =>
          intro g g0 gb
          have p1 := nxt_plo (s := q.2.1 (q.2.2.1 at')) h hm.1 hw g0 (show g ≠ m by omega)
          rw [enx] at p1
          have pr2 := plc_rg (S 23 0) (q.2.1 (q.2.2.1 at')) g
          refine vt_walk hX tk_step [(108, [0, 5, 6, 7])] 80 ?_
          refine vt_k (tm_placeIn (by omega) (by omega) hLI) ?_
          refine vt_k (tm_placeIn (by omega) (by omega) hLI) ?_
          rw [q_23, e23]
          refine ⟨by omega, fun z => absurd p1 z, fun _ => ?_⟩
          exact ih (g + 1) (by omega) (by omega)
      refine vt_walk hX tk_step [(108, [0, 5, 6, 7])] 80 ?_
      refine ⟨by omega, fun _ => ?_, fun z => absurd z (by omega)⟩
      refine ⟨by omega, by omega, by rw [q_27]; omega, ?_⟩
      show vt_J _ _ _ _ _ _ _ _
      rw [q_27, q_26]
      exact lg m.toNat 0 (by omega) (by omega)
    | succ a ih =>
      intro i at' i0 ia hc
      obtain ⟨b1, b2, b3⟩ := chn_rg hB hkk hq0.1 i.toNat at' hc
      have at1 : 1 ≤ at' := by
        by_cases ee : at' = 0
        · subst ee; rw [dp_0 hB] at b3; omega
        · omega
      refine vt_walk hX tk_step [(64, [0, 3, 4, 5])] 80 ?_
      refine ⟨by omega, fun z => absurd z (by omega), fun _ => ?_⟩
      refine ⟨by omega, ?_⟩
      show vt_J _ _ _ _ _ _ _ _
      rw [q_27]
      refine ih (i + 1) _ (by omega) (by omega) ?_
      rw [show (i + 1).toNat = i.toNat + 1 by omega]
      exact ⟨at', hc, at1, rfl⟩
  exact loop (dp q k0 - 1 - k).toNat 0 k0 (by omega) (by omega) rfl
end TMP
