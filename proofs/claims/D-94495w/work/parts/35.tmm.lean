/-! THE TWIN's methods: searches -/
set_option maxRecDepth 100000
theorem pwI {a b : Int} (h0 : 0 ≤ a) (h : a ≤ 7) (hb : 0 ≤ b ∧ b ≤ 20) : a * 2 ^ b.toNat = ((a.toNat * 2 ^ b.toNat : Nat) : Int) ∧ ((a.toNat * 2 ^ b.toNat : Nat) : Int) ≤ 7340032 := by
  have e20 : 2 ^ b.toNat ≤ 2 ^ 20 := Nat.pow_le_pow_right (by decide) (by omega)
  have hml : a.toNat * 2 ^ b.toNat ≤ 7 * 2 ^ 20 := Nat.mul_le_mul (by omega) e20
  constructor
  · have : ((a.toNat : Nat) : Int) = a := by omega
    simp [this]
  · exact Int.le_trans (Int.ofNat_le.mpr hml) (by decide)
theorem nxt_eq {f : Int → Int} {s m w e : Int} (hs : 0 ≤ s ∧ s < 1048576) (hw : 0 ≤ w ∧ w ≤ 13) (ha : 0 ≤ f 0 + 3 * m ∧ f 0 + 3 * m ≤ 20) (he : 0 ≤ e ∧ e ≤ 7) (ee : e = sE f s w 1) : vt_or (vt_and (vt_xor s (1 * 2 ^ w.toNat)) (vt_xor (7 * 2 ^ (f 0 + 3 * m).toNat) (-1))) (e * 2 ^ (f 0 + 3 * m).toNat) = nxt f s m w := by
  have p7 := pwI (a := 7) (by decide) (by decide) ha
  have pe := pwI he.1 he.2 ha
  have hx : s.toNat ^^^ 2 ^ w.toNat < 2 ^ 20 := xor_lt (by omega) (by omega)
  have hx2 : (s.toNat ^^^ 2 ^ w.toNat) &&& (7 * 2 ^ (f 0 + 3 * m).toNat) < 2 ^ 20 := Nat.lt_of_le_of_lt Nat.and_le_left hx
  have hx3 := Nat.xor_lt_two_pow hx hx2
  rw [xorp (by omega) (by omega), p7.1, bt_andn ⟨Int.natCast_nonneg _, by omega⟩ ⟨Int.natCast_nonneg _, by omega⟩, pe.1, Int.toNat_natCast, Int.toNat_natCast]
  rw [show (7 : Int).toNat = 7 from rfl]
  rw [bt_or ⟨Int.natCast_nonneg _, by omega⟩ ⟨Int.natCast_nonneg _, by omega⟩, Int.toNat_natCast, Int.toNat_natCast, ee]
  rfl
theorem nxt_rg20 {K : Int} {f : Int → Int} (h : LI K f) {s m w : Int} (hc : f 0 + 3 * m + 3 ≤ 20) (hs : 0 ≤ s ∧ s < 1048576) (hm : 0 ≤ m) (hw : 0 ≤ w ∧ w < f 0) : 0 ≤ nxt f s m w ∧ nxt f s m w < 1048576 := by
  have n0 := h.nW
  have he := (h.w hw.1 hw.2).end (d := s) (Or.inr rfl)
  unfold nxt
  refine ⟨Int.natCast_nonneg _, Int.ofNat_lt.mpr ?_⟩
  show _ < 2 ^ 20
  have h1 : s.toNat ^^^ 2 ^ w.toNat < 2 ^ 20 := xor_lt (by omega) (by omega)
  have h2 : (s.toNat ^^^ 2 ^ w.toNat) &&& (7 * 2 ^ (f 0 + 3 * m).toNat) < 2 ^ 20 := Nat.lt_of_le_of_lt Nat.and_le_left h1
  have h3 : (sE f s w 1).toNat * 2 ^ (f 0 + 3 * m).toNat < 2 ^ 20 := by
    have e : 2 ^ (f 0 + 3 * m).toNat ≤ 2 ^ 17 := Nat.pow_le_pow_right (by decide) (by omega)
    have : (sE f s w 1).toNat * 2 ^ (f 0 + 3 * m).toNat ≤ 7 * 2 ^ 17 := Nat.mul_le_mul (by omega) e
    omega
  exact Nat.or_lt_two_pow (Nat.xor_lt_two_pow h1 h2) h3
theorem scc_rg20 {K : Int} {f : Int → Int} (h : LI K f) {c : Int} (hc : f 0 + 3 * c ≤ 20) : ∀ s m w, (0 ≤ s ∧ s < 1048576) → (0 ≤ m ∧ m < c) → (0 ≤ w ∧ w < f 0) → scc f s m w = -1 ∨ (0 ≤ scc f s m w ∧ scc f s m w < 1048576) := by
  intro s m w hs hm hw
  unfold scc
  split
  · exact Or.inr (nxt_rg20 h (by omega) hs hm.1 hw)
  · exact Or.inl rfl
/-- what the search stops at: st whether it stops at all; o: at one mover's aim, or (-1) at all aims -/
def hmM (f : Int → Int) (c : Int) (mv : Int → Int) (st o s : Int) : Bool := (st == 1) && (if o < 0 then hmA f c mv s else hmO f mv o s)
section TMM
variable {S : SS} {B : SB} {K : Int}
theorem tm_searches {c st o : Int} {mv : Int → Int} (h : LI K (S 23)) (hS : Sch S c mv) (h28 : ∀ s, 0 ≤ s → s < 1048576 → S 28 s = 0) (h29 : S 43 29 = 0) (hst : st = 0 ∨ st = 1) (ho : -1 ≤ o ∧ o < c ∧ o ≤ 5) :
    vt_M 59 [me, ii st, ii o] S B (fun r S' B' => B = B' ∧ ∃ (q : QS) (k : Int), S' = vt_q S q ∧ BFI 1048576 c (S 23 0) (sst (S 23) c mv) (scc (S 23)) k 0 0 q ∧
      ((some (ii (-1)) = r ∧ q.1 ≤ k ∧ ∀ i, 0 ≤ i → i < q.1 → hmM (S 23) c mv st o (q.2.1 i) = false) ∨ (some (ii k) = r ∧ k < q.1 ∧ (∀ i, 0 ≤ i → i < k → hmM (S 23) c mv st o (q.2.1 i) = false) ∧ hmM (S 23) c mv st o (q.2.1 k) = true))) := by
  refine vt_start rfl rfl (Nat.le_of_ble_eq_true rfl) (fun X hX => ?_)
  have n0 := h.nW
  have n1 := h.nG
  have hS0 := hS
  obtain ⟨e31, hc, h20, hmv, hbar⟩ := hS0
  have hsc := scc_rg20 h h20
  generalize hPost : (fun (r : Option AV) (S' : SS) (B' : SB) => B = B' ∧ ∃ (q : QS) (k : Int), S' = vt_q S q ∧ BFI 1048576 c (S 23 0) (sst (S 23) c mv) (scc (S 23)) k 0 0 q ∧
      ((some (ii (-1)) = r ∧ q.1 ≤ k ∧ ∀ i, 0 ≤ i → i < q.1 → hmM (S 23) c mv st o (q.2.1 i) = false) ∨ (some (ii k) = r ∧ k < q.1 ∧ (∀ i, 0 ≤ i → i < k → hmM (S 23) c mv st o (q.2.1 i) = false) ∧ hmM (S 23) c mv st o (q.2.1 k) = true))) = Post
  have qle : ∀ {k m w : Int} {q : QS}, BFI (1048576 : Int) c (S 23 0) (sst (S 23) c mv) (scc (S 23)) k m w q → q.1 ≤ (1048576 : Int) := by
    intro k m w q hI
    have := (cntB_b (fun s => decide (0 < q.2.2.2 s)) (1048576 : Int).toNat).2
    rw [hI.2.2.2.1] at this
    have := hI.1.2.1
    omega
  have lw : ∀ (a : Nat) (k m w s : Int) (q : QS), k < q.1 → (0 ≤ m ∧ m < c) → 0 ≤ w → w + a = S 23 0 → s = q.2.1 k → BFI (1048576 : Int) c (S 23 0) (sst (S 23) c mv) (scc (S 23)) k m w q →
      (∀ q', q'.2.1 k = s → q.1 ≤ q'.1 → (∀ i, 0 ≤ i → i < q.1 → q'.2.1 i = q.2.1 i) → BFI (1048576 : Int) c (S 23 0) (sst (S 23) c mv) (scc (S 23)) k (m + 1) 0 q' → vt_J 59 Post X 83 [(0, me), (1, ii st), (2, ii o), (4, ii k), (5, ii s), (6, ii (m + 1))] [] (vt_q S q') B) →
      vt_J 59 Post X 95 [(0, me), (1, ii st), (2, ii o), (4, ii k), (5, ii s), (6, ii m), (7, ii w)] [] (vt_q S q) B := by
    intro a
    induction a with
    | zero =>
      intro k m w s q hk hm w0 wa es hI hJ
      refine vt_walk hX tk_searches [(83, [0, 1, 2, 4, 5, 6])] 60 ?_
      refine ⟨by omega, by rw [q_23]; omega, fun _ => ?_, fun z => absurd z (by rw [q_23]; omega)⟩
      exact hJ q es.symm (Int.le_refl _) (fun _ _ _ => rfl) (hI.nextM (by omega))
    | succ a ih =>
      intro k m w s q hk hm w0 wa es hI hJ
      have hr := (hI.2.1 k hI.1.1 hk).1
      rw [← es] at hr
      have hb := hbar w w0 (by omega)
      have hwI := h.w w0 (by omega)
      have he0 := hwI.end (d := s) (Or.inl rfl)
      have he1 := hwI.end (d := s) (Or.inr rfl)
      have hp := plc_rg (S 23 0) s m
      have ho2 := sOn_rg h w
      have hLI : LI K (vt_q S q 23) := by rw [q_23]; exact h
      have hstep := hI.step hk hm ⟨w0, by omega⟩ hsc rfl
      rw [← es] at hstep
      have skip : scc (S 23) s m w = -1 → vt_J 59 Post X 95 [(0, me), (1, ii st), (2, ii o), (4, ii k), (5, ii s), (6, ii m), (7, ii (w + 1))] [] (vt_q S q) B := by
        intro e
        rw [if_pos e] at hstep
        exact ih k m (w + 1) s q hk hm (by omega) (by omega) es hstep hJ
      have hbb := bI_rg (decide (0 < sOn (S 23) w))
      refine vt_walk hX tk_searches [(95, [0, 1, 2, 4, 5, 6, 7])] 80 ?_
      refine ⟨by omega, by rw [q_23]; omega, fun z => absurd z (by rw [q_23]; omega), fun _ => ?_⟩
      refine ⟨by omega, by rw [q_32, hb]; omega, fun d => ?_, fun d => ?_⟩ <;> rw [q_32, hb] at d
      · have := of_decide_eq_true (bI_n0.mp d)
        exact skip (if_neg (fun z => by omega))
      have d1 := of_decide_eq_false (bI_0.mp d)
      refine vt_k (tm_endOf (by omega) (by omega) (Or.inl rfl)) ?_
      refine vt_k (tm_placeIn (by omega) (by omega) hLI) ?_
      rw [q_23]
      refine ⟨by omega, fun e => ?_, fun e => ?_⟩
      · have es2 : scc (S 23) s m w = nxt (S 23) s m w := if_pos ⟨by omega, e⟩
        have hnr := nxt_rg20 h (by omega) hr hm.1 ⟨w0, by omega⟩
        rw [es2, if_neg (by omega)] at hstep
        have e230 : vt_q S q 23 0 = S 23 0 := by rw [q_23]
        refine ⟨by omega, by omega, by omega, vt_k (tm_endOf (by omega) (by omega) (Or.inr rfl)) ?_⟩
        rw [q_23]
        refine ⟨by omega, ?_⟩
        have en := nxt_eq (f := S 23) (s := s) (m := m) (w := w) (e := sE (S 23) s w 1) (by omega) (by omega) (by omega) he1 rfl
        have hmt : 0 ≤ q.2.2.2 (nxt (S 23) s m w) ∧ q.2.2.2 (nxt (S 23) s m w) ≤ q.1 := by
          have := hI.1.2.1
          rcases hI.2.2.1 _ hnr.1 hnr.2 with x | x <;> omega
        have hq := qle hI
        have hq1 := hI.1.2.1
        have hme := tm_meets (S := S) (B := B) (q := q) (s := nxt (S 23) s m w) (b := k) (by omega) (by omega) (by omega) (fun z => by have := hI.lt hnr.1 hnr.2 z; omega)
        rw [← en] at hme
        refine vt_k hme ?_
        rw [en]
        show vt_J _ _ _ _ _ _ _ _
        have hkeep : (qmeet q (nxt (S 23) s m w) k).2.1 k = s ∧ q.1 ≤ (qmeet q (nxt (S 23) s m w) k).1 ∧ ∀ i, 0 ≤ i → i < q.1 → (qmeet q (nxt (S 23) s m w) k).2.1 i = q.2.1 i := by
          unfold qmeet
          split
          · exact ⟨es.symm, Int.le_refl _, fun _ _ _ => rfl⟩
          · refine ⟨?_, by show q.1 ≤ q.1 + 1; omega, fun i i0 i1 => ?_⟩
            · show upF q.2.1 q.1 _ k = s; rw [upF_ne (by omega)]; exact es.symm
            · show upF q.2.1 q.1 _ i = _; rw [upF_ne (by omega)]
        exact ih k m (w + 1) s _ (by omega) hm (by omega) (by omega) hkeep.1.symm hstep (fun q' a1 a2 a3 a4 => hJ q' a1 (by omega) (fun i i0 i1 => by rw [a3 i i0 (by omega), hkeep.2.2 i i0 i1]) a4)
      · exact skip (if_neg (fun z => e z.2))
  have lm' : ∀ (a : Nat) (k m s : Int) (q : QS), k < q.1 → 0 ≤ m → m + a = c → s = q.2.1 k → BFI (1048576 : Int) c (S 23 0) (sst (S 23) c mv) (scc (S 23)) k m 0 q →
      (∀ q', q.1 ≤ q'.1 → (∀ i, 0 ≤ i → i < q.1 → q'.2.1 i = q.2.1 i) → BFI (1048576 : Int) c (S 23 0) (sst (S 23) c mv) (scc (S 23)) (k + 1) 0 0 q' → vt_J 59 Post X 14 [(0, me), (1, ii st), (2, ii o), (4, ii (k + 1))] [] (vt_q S q') B) →
      vt_J 59 Post X 83 [(0, me), (1, ii st), (2, ii o), (4, ii k), (5, ii s), (6, ii m)] [] (vt_q S q) B := by
    intro a
    induction a with
    | zero =>
      intro k m s q hk m0 ma es hI hJ
      refine vt_walk hX tk_searches [(14, [0, 1, 2, 4])] 60 ?_
      refine ⟨by rw [q_31, e31]; omega, fun _ => ?_, fun z => absurd z (by rw [q_31, e31]; omega)⟩
      exact hJ q (Int.le_refl _) (fun _ _ _ => rfl) (hI.nextK (by omega) hk)
    | succ a ih =>
      intro k m s q hk m0 ma es hI hJ
      refine vt_walk hX tk_searches [(95, [0, 1, 2, 4, 5, 6, 7])] 60 ?_
      refine ⟨by rw [q_31, e31]; omega, fun z => absurd z (by rw [q_31, e31]; omega), fun _ => ?_⟩
      refine lw (S 23 0).toNat k m 0 s q hk ⟨m0, by omega⟩ (by omega) (by omega) es hI (fun q' a1 a2 a3 a4 => ?_)
      exact ih k (m + 1) s q' (by omega) (by omega) (by omega) a1.symm a4 (fun q2 b1 b2 b3 => hJ q2 (by omega) (fun i i0 i1 => by rw [b2 i i0 (by omega), a3 i i0 i1]) b3)
  have lk : ∀ (a : Nat) (k : Int) (q : QS), k + a = (1048576 : Int) + 1 → BFI (1048576 : Int) c (S 23 0) (sst (S 23) c mv) (scc (S 23)) k 0 0 q → (∀ i, 0 ≤ i → i < k → hmM (S 23) c mv st o (q.2.1 i) = false) → vt_J 59 Post X 14 [(0, me), (1, ii st), (2, ii o), (4, ii k)] [] (vt_q S q) B := by
    intro a
    induction a with
    | zero =>
      intro k q ka hI hno
      have := qle hI
      have := hI.1.2.2.1
      omega
    | succ a ih =>
      intro k q ka hI hno
      have hq := qle hI
      have h1 := hI.1
      by_cases ck : k < q.1
      · have hr := (hI.2.1 k h1.1 ck).1
        have hLI : LI K (vt_q S q 23) := by rw [q_23]; exact h
        have hSq : Sch (vt_q S q) c mv := hS.q
        have goon : hmM (S 23) c mv st o (q.2.1 k) = false → vt_J 59 Post X 80 [(0, me), (1, ii st), (2, ii o), (4, ii k), (5, ii (q.2.1 k))] [] (vt_q S q) B := by
          intro hf
          refine vt_walk hX tk_searches [(83, [0, 1, 2, 4, 5, 6])] 60 ?_
          refine lm' c.toNat k 0 (q.2.1 k) q ck (by omega) (by omega) rfl hI (fun q' b1 b2 b3 => ?_)
          refine ih (k + 1) q' (by omega) b3 (fun i i0 i1 => ?_)
          rw [b2 i i0 (by omega)]
          by_cases e : i = k
          · subst e; exact hf
          · exact hno i i0 (by omega)
        have stop : hmM (S 23) c mv st o (q.2.1 k) = true → Post (some (ii k)) (vt_q S q) B := by
          intro hf
          rw [← hPost]
          exact ⟨rfl, q, k, rfl, hI, Or.inr ⟨rfl, ck, hno, hf⟩⟩
        refine vt_walk hX tk_searches [(80, [0, 1, 2, 4, 5])] 60 ?_
        refine ⟨by rw [q_29]; omega, fun z => absurd z (by rw [q_29]; omega), fun _ => ?_⟩
        refine ⟨by omega, ?_⟩
        rw [q_26]
        rcases hst with rfl | rfl
        · refine ⟨by omega, fun _ => ?_, fun z => absurd rfl z⟩
          exact goon rfl
        · refine ⟨by omega, fun z => absurd z (by decide), fun _ => ?_⟩
          refine ⟨by omega, fun d => ?_, fun d => ?_⟩
          · obtain ⟨a1, a2, a3⟩ := hmv o d ho.2.1
            have hG := (h.g a2.1 a2.2).1
            have hp := plc_rg (S 23 0) (q.2.1 k) o
            have e9 : hmM (S 23) c mv 1 o (q.2.1 k) = (plc (S 23 0) (q.2.1 k) o == sG (S 23) (mv o) 1) := by
              unfold hmM hmO
              rw [if_neg (by omega)]
              rfl
            refine vt_k (tm_placeIn (by omega) (by omega) hLI) ?_
            rw [q_23]
            refine ⟨by omega, ?_⟩
            rw [q_30, a1]
            refine vt_k (tm_goerOf (by omega)) ?_
            rw [q_23]
            refine ⟨by omega, fun e => ?_, fun e => ?_⟩
            · exact goon (by rw [e9]; simpa using e)
            · exact stop (by rw [e9]; simpa using e)
          · have e9 : hmM (S 23) c mv 1 o (q.2.1 k) = hmA (S 23) c mv (q.2.1 k) := by
              unfold hmM
              rw [if_pos d]
              rfl
            have hb := bI_rg (hmA (S 23) c mv (q.2.1 k))
            have hah : vt_M 62 [me, ii (q.2.1 k), ii (vt_q S q 43 31)] (vt_q S q) B (vt_eq (some (ii (bI (hmA (vt_q S q 23) c mv (q.2.1 k))))) (vt_q S q) B) := by
              rw [q_31, e31]
              exact tm_areHome (by omega) hLI hSq
            refine vt_k hah ?_
            rw [q_23]
            refine ⟨by omega, fun e => ?_, fun e => ?_⟩
            · exact goon (by rw [e9]; exact bI_0.mp e)
            · exact stop (by rw [e9]; exact bI_n0.mp e)
      · refine vt_walk hX tk_searches [] 60 ?_
        refine ⟨by rw [q_29]; omega, fun _ => ?_, fun z => absurd z (by rw [q_29]; omega)⟩
        show Post _ _ _
        rw [← hPost]
        exact ⟨rfl, q, k, rfl, hI, Or.inl ⟨rfl, by omega, fun i i0 i1 => hno i i0 (by omega)⟩⟩
  have hs0 : 0 ≤ sst (S 23) c mv ∧ sst (S 23) c mv < (1048576 : Int) := by
    unfold sst
    refine ⟨Int.natCast_nonneg _, ?_⟩
    have hdd := h.dirs
    have hd2 : (S 23 2).toNat < 2 ^ (S 23 0).toNat := by
      have e : ((2 ^ (S 23 0).toNat : Nat) : Int) = (2 : Int) ^ (S 23 0).toNat := by simp
      rw [← e] at hdd
      omega
    have := bgS_lt hd2 c.toNat (pl := fun k => sG (S 23) (mv k) 0) (fun i i0 i1 => by
      obtain ⟨-, a2, a3⟩ := hmv i i0 (by omega)
      obtain ⟨-, -, -, q | q⟩ := h.g a2.1 a2.2 <;> omega)
    have e20 : 2 ^ ((S 23 0).toNat + 3 * c.toNat) ≤ 2 ^ 20 := Nat.pow_le_pow_right (by decide) (by omega)
    exact Int.ofNat_lt.mpr (Nat.lt_of_lt_of_le this e20)
  have hini := BFI.start (N := 1048576) (P := c) (n := S 23 0) (sc := scc (S 23)) (mt := S 28) (st := S 26) (fr := S 27) hs0.1 hs0.2 (fun s a b => h28 s a (by omega))
  have hSq : S = vt_q S (0, S 26, S 27, S 28) := by rw [← h29]; exact q_self.symm
  refine vt_walk hX tk_searches [(14, [0, 1, 2, 4])] 60 ?_
  refine vt_k (tm_begun h hS) ?_
  have hme : vt_M 61 [me, ii (sst (S 23) c mv), ii (-1)] S B (vt_eq none (vt_q S (qmeet (0, S 26, S 27, S 28) (sst (S 23) c mv) (-1))) B) := by
    have := tm_meets (S := S) (B := B) (q := (0, S 26, S 27, S 28)) (s := sst (S 23) c mv) (b := -1) (by omega) (by show 0 ≤ (0 : Int) ∧ (0 : Int) ≤ 1048576; decide) (by show 0 ≤ S 28 _ ∧ S 28 _ ≤ _; rw [h28 _ hs0.1 (by omega)]; decide) (fun _ => by show (0 : Int) < 1048576; decide)
    rw [← hSq] at this
    exact this
  refine vt_k hme ?_
  exact lk ((1048576 : Int) + 1).toNat 0 _ (by omega) hini (fun i i0 i1 => by omega)
theorem tm_lengthTo {N P n s0 k m w : Int} {sc : Int → Int → Int → Int} {q : QS} {i : Int} (hI : BFI N P n s0 sc k m w q) (hN : N ≤ 1048576) (i0 : 0 ≤ i) (i1 : i < q.1) : vt_M 64 [me, ii i] (vt_q S q) B (vt_eq (some (ii (dp q i))) (vt_q S q) B) := by
  refine vt_start rfl rfl (Nat.le_of_ble_eq_true rfl) (fun X hX => ?_)
  have hq : q.1 ≤ 1048576 := by
    have := (cntB_b (fun s => decide (0 < q.2.2.2 s)) N.toNat).2
    rw [hI.2.2.2.1] at this
    have := hI.1.2.1
    omega
  have ifr : ∀ j, 0 ≤ j → j < q.1 → -1 ≤ q.2.2.1 j ∧ q.2.2.1 j < j := by
    intro j j0 j1
    by_cases e : j = 0
    · subst e; have := hI.1.2.2.2.2; omega
    · have := (hI.2.2.2.2.1 j (by omega) j1).1; omega
  have loop : ∀ (a : Nat) (j t : Int), 0 ≤ j → j < a → j < q.1 → 0 ≤ t → t + dp q j = dp q i → vt_J 64 (vt_eq (some (ii (dp q i))) (vt_q S q) B) X 9 [(0, me), (1, ii i), (2, ii t), (3, ii (q.2.2.1 j))] [] (vt_q S q) B := by
    intro a
    induction a with
    | zero => intro j t j0 ja; omega
    | succ a ih =>
      intro j t j0 ja j1 t0 he
      have hf := ifr j j0 j1
      refine vt_walk hX tk_lengthTo [(9, [0, 1, 2, 3])] 60 ?_
      refine ⟨by omega, fun c => ?_, fun c => ?_⟩
      · have : j = 0 := by
          by_cases e : j = 0
          · exact e
          · have := (hI.2.2.2.2.1 j (by omega) j1).1; omega
        subst this
        rw [dp_0 hI] at he
        exact ⟨by rw [← he, Int.add_zero], rfl, rfl⟩
      · have j2 : 1 ≤ j := by
          by_cases e : j = 0
          · subst e; have := hI.1.2.2.2.2; omega
          · omega
        have := dp_s hI j2 j1
        refine ⟨by omega, ?_⟩
        show vt_J _ _ _ _ _ _ _ _
        rw [q_27]
        exact ih (q.2.2.1 j) (t + 1) c (by omega) (by omega) (by omega) (by omega)
  refine vt_walk hX tk_lengthTo [(9, [0, 1, 2, 3])] 60 ?_
  refine ⟨by omega, ?_⟩
  show vt_J _ _ _ _ _ _ _ _
  rw [q_27]
  exact loop (i.toNat + 1) i 0 i0 (by omega) i1 (by omega) (by omega)
end TMM
