/-! THE TWIN's methods: post -/
set_option maxRecDepth 100000
/-- directions, nine bits; his place, three; where he was, eight -/
def pnx (f : Int → Int) (s w : Int) : Int := vt_or (vt_or (vt_and (vt_xor s (1 * 2 ^ w.toNat)) (-3585)) (sE f s w 1 * 2 ^ (9 : Int).toNat)) (1 * 2 ^ (12 + sE f s w 1).toNat)
def psc (f : Int → Int) (s _m w : Int) : Int := if sOn f w = 0 ∧ sE f s w 0 = plc 9 s 0 then pnx f s w else -1
def pst (f : Int → Int) (g : Int) : Int := vt_or (vt_or (f 2) (sG f g 0 * 2 ^ (9 : Int).toNat)) (1 * 2 ^ (12 + sG f g 0).toNat)
def phm (pl bk home s : Int) : Bool := (vt_and pl (vt_xor (s / 2 ^ (12 : Int).toNat) (-1)) == 0) && (bk == 0 || plc 9 s 0 == home)
theorem p_small {e : Int} (he : 0 ≤ e ∧ e ≤ 7) : (0 ≤ e * 2 ^ (9 : Int).toNat ∧ e * 2 ^ (9 : Int).toNat < 4096) ∧ (0 ≤ (1 : Int) * 2 ^ (12 + e).toNat ∧ (1 : Int) * 2 ^ (12 + e).toNat ≤ 524288) := by
  constructor
  · show 0 ≤ e * 512 ∧ e * 512 < 4096
    omega
  · rw [pw_1]
    have : 2 ^ (12 + e).toNat ≤ 2 ^ 19 := Nat.pow_le_pow_right (by decide) (by omega)
    exact ⟨Int.natCast_nonneg _, Int.ofNat_le.mpr this⟩
theorem p_or {x y : Int} (hx : 0 ≤ x ∧ x < 1048576) (hy : 0 ≤ y ∧ y < 1048576) : 0 ≤ vt_or x y ∧ vt_or x y < 1048576 := by
  rw [bt_or (by omega) (by omega)]
  have : x.toNat ||| y.toNat < 2 ^ 20 := Nat.or_lt_two_pow (by omega) (by omega)
  exact ⟨Int.natCast_nonneg _, Int.ofNat_lt.mpr this⟩
theorem e3585 : (-3585 : Int) = vt_xor 3584 (-1) := by decide +kernel
theorem pnx_rg {K : Int} {f : Int → Int} (h : LI K f) {s w : Int} (hs : 0 ≤ s ∧ s < 1048576) (hw : 0 ≤ w ∧ w < f 0) : 0 ≤ pnx f s w ∧ pnx f s w < 1048576 := by
  have n0 := h.nW
  have he := (h.w hw.1 hw.2).end (d := s) (Or.inr rfl)
  obtain ⟨p1, p2⟩ := p_small he
  unfold pnx
  refine p_or (p_or ?_ (by omega)) (by omega)
  have hx : s.toNat ^^^ 2 ^ w.toNat < 2 ^ 20 := xor_lt (by omega) (by omega)
  rw [e3585, xorp (by omega) (by omega), bt_andn ⟨Int.natCast_nonneg _, by omega⟩ (by decide), Int.toNat_natCast]
  refine ⟨Int.natCast_nonneg _, Int.ofNat_lt.mpr ?_⟩
  exact Nat.xor_lt_two_pow hx (Nat.lt_of_le_of_lt Nat.and_le_left hx)
theorem psc_rg {K : Int} {f : Int → Int} (h : LI K f) : ∀ s m w, (0 ≤ s ∧ s < 1048576) → (0 ≤ m ∧ m < 1) → (0 ≤ w ∧ w < f 0) → psc f s m w = -1 ∨ (0 ≤ psc f s m w ∧ psc f s m w < 1048576) := by
  intro s m w hs hm hw
  unfold psc
  split
  · exact Or.inr (pnx_rg h hs hw)
  · exact Or.inl rfl
def sp_post (f : Int → Int) (g pl bk v : Int) : Prop := if sStd f g = true ∧ sIn pl 0 255 = true ∧ f 0 ≤ 9 then (v = -2 ∧ ∀ l, ¬ hpt 1 (f 0) (psc f) (phm pl bk (sG f g 0)) l (pst f g)) ∨ ∃ l : Nat, v = l ∧ isD 1 (f 0) (psc f) (phm pl bk (sG f g 0)) (pst f g) l else v = -1
section TMR
variable {S : SS} {B : SB} {K : Int}
theorem tm_post {g pl bk : Int} (hg : -2147483648 ≤ g ∧ g ≤ 2147483647) (hpl : -2147483648 ≤ pl ∧ pl ≤ 2147483647) (hbk : bk = 0 ∨ bk = 1) (h : LI K (S 23)) (hI : INVS S) : vt_M 71 [me, ii g, ii pl, ii bk] S B (fun r S' B' => (∃ v, some (ii v) = r ∧ sp_post (S 23) g pl bk v) ∧ vt_kq S S') := by
  refine vt_start rfl rfl (Nat.le_of_ble_eq_true rfl) (fun X hX => ?_)
  have n0 := h.nW
  have n1 := h.nG
  have hdir := h.dir
  have hb := bI_rg (sStd (S 23) g)
  have hb2 := bI_rg (sIn pl 0 255)
  refine vt_walk hX tk_post [(76, [0, 2, 3, 4, 5])] 80 ?_
  refine vt_k (tm_stands hg h) ?_
  unfold sp_post
  refine ⟨by omega, fun c => ?_, fun c => ?_⟩
  · simp only [bI_0.mp c]
    exact ⟨⟨_, rfl, rfl⟩, vt_kq.rf hI⟩
  have c1 := bI_n0.mp c
  refine ⟨by omega, vt_k (tm_in (by omega) (by omega) (by omega)) ?_⟩
  refine ⟨by omega, fun c2 => ?_, fun c2 => ?_⟩
  · simp only [c1, bI_0.mp c2]
    exact ⟨⟨_, rfl, rfl⟩, vt_kq.rf hI⟩
  have c3 := bI_n0.mp c2
  have cpl : 0 ≤ pl ∧ pl ≤ 255 := of_decide_eq_true c3
  refine ⟨by omega, by omega, fun c4 => ?_, fun c4 => ?_⟩
  rotate_left
  · exact ⟨⟨_, rfl, by rw [if_neg (fun z => by omega)]⟩, vt_kq.rf hI⟩
  simp only [c1, c3, c4, and_self, if_true]
  have cg : 0 ≤ g ∧ g < S 23 1 := by
    have := c1
    unfold sStd at this
    simp only [Bool.and_eq_true] at this
    exact of_decide_eq_true this.1
  have hst3 : sG (S 23) g 3 = -1 := by
    have := c1
    unfold sStd at this
    simp only [Bool.and_eq_true] at this
    simpa using this.2
  have hp7 : 0 ≤ sG (S 23) g 0 ∧ sG (S 23) g 0 ≤ 7 := by
    obtain ⟨-, -, -, q | q⟩ := h.g cg.1 cg.2 <;> omega
  have hpw := pw_rg (w := g) (by omega)
  have hg64 : 0 ≤ (1 : Int) * 2 ^ g.toNat ∧ (1 : Int) * 2 ^ g.toNat < 64 := by
    rw [pw_1]
    have : 2 ^ g.toNat ≤ 2 ^ 5 := Nat.pow_le_pow_right (by decide) (by omega)
    exact ⟨Int.natCast_nonneg _, Int.lt_of_le_of_lt (Int.ofNat_le.mpr this) (by decide)⟩
  refine ⟨by omega, _, tm_begins hg64 h hI, ?_⟩
  rintro _ S1 _ ⟨rfl, rfl, t1, t2, h29, -, -, h32, h28⟩
  have e23 : S1 23 = S 23 := t1 23 (by decide)
  generalize hhome : sG (S 23) g 0 = home at *
  generalize hPost : (fun (r : Option AV) (S' : SS) (B' : SB) => (∃ v, some (ii v) = r ∧ ((v = -2 ∧ ∀ l, ¬ hpt 1 (S 23 0) (psc (S 23)) (phm pl bk home) l (pst (S 23) g)) ∨ ∃ l : Nat, v = l ∧ isD 1 (S 23 0) (psc (S 23)) (phm pl bk home) (pst (S 23) g) l)) ∧ vt_kq S S') = Post
  have hsc := psc_rg h
  have qle : ∀ {k m w : Int} {q : QS}, BFI 1048576 1 (S 23 0) (pst (S 23) g) (psc (S 23)) k m w q → q.1 ≤ 1048576 := by
    intro k m w q hB
    have := (BFI.inv (S := S1) hB).1.2
    rw [q_29] at this
    exact this
  obtain ⟨p1, p2⟩ := p_small hp7
  have lw : ∀ (a : Nat) (k w s : Int) (q : QS), k < q.1 → 0 ≤ w → w + a = S 23 0 → s = q.2.1 k → BFI 1048576 1 (S 23 0) (pst (S 23) g) (psc (S 23)) k 0 w q →
      (∀ q', q.1 ≤ q'.1 → (∀ i, 0 ≤ i → i < q.1 → q'.2.1 i = q.2.1 i) → BFI 1048576 1 (S 23 0) (pst (S 23) g) (psc (S 23)) (k + 1) 0 0 q' → vt_J 71 Post X 76 [(0, me), (2, ii pl), (3, ii bk), (4, ii home), (5, ii (k + 1))] [] (vt_q S1 q') B) →
      vt_J 71 Post X 137 [(0, me), (2, ii pl), (3, ii bk), (4, ii home), (5, ii k), (6, ii s), (7, ii (plc 9 s 0)), (8, ii w)] [] (vt_q S1 q) B := by
    intro a
    induction a with
    | zero =>
      intro k w s q hk w0 wa es hB hJ
      have e230 : vt_q S1 q 23 0 = S 23 0 := by rw [q_23, e23]
      refine vt_walk hX tk_post [(76, [0, 2, 3, 4, 5])] 80 ?_
      refine ⟨by omega, by omega, fun _ => ?_, fun z => absurd z (by omega)⟩
      exact hJ q (Int.le_refl _) (fun _ _ _ => rfl) ((hB.nextM (by omega)).nextK (by omega) hk)
    | succ a ih =>
      intro k w s q hk w0 wa es hB hJ
      have e230 : vt_q S1 q 23 0 = S 23 0 := by rw [q_23, e23]
      have hr := (hB.2.1 k hB.1.1 hk).1
      rw [← es] at hr
      have hbr := h32 w w0 (by omega)
      have hwI := h.w w0 (by omega)
      have he0 := hwI.end (d := s) (Or.inl rfl)
      have he1 := hwI.end (d := s) (Or.inr rfl)
      have hpr := plc_rg 9 s 0
      have ho2 := sOn_rg h w
      have hstep := hB.step hk (by decide) ⟨w0, by omega⟩ hsc rfl
      rw [← es] at hstep
      have skip : psc (S 23) s 0 w = -1 → vt_J 71 Post X 137 [(0, me), (2, ii pl), (3, ii bk), (4, ii home), (5, ii k), (6, ii s), (7, ii (plc 9 s 0)), (8, ii (w + 1))] [] (vt_q S1 q) B := by
        intro e
        rw [if_pos e] at hstep
        exact ih k (w + 1) s q hk (by omega) (by omega) es hstep hJ
      have hbb := bI_rg (decide (0 < sOn (S 23) w))
      refine vt_walk hX tk_post [(137, [0, 2, 3, 4, 5, 6, 7, 8])] 80 ?_
      refine ⟨by omega, by omega, fun z => absurd z (by omega), fun _ => ?_⟩
      refine ⟨by omega, by rw [q_32, hbr]; omega, fun d => ?_, fun d => ?_⟩ <;> rw [q_32, hbr] at d
      · have := of_decide_eq_true (bI_n0.mp d)
        exact skip (if_neg (fun z => by omega))
      have d1 := of_decide_eq_false (bI_0.mp d)
      refine vt_k (tm_endOf (by omega) (by omega) (Or.inl rfl)) ?_
      rw [q_23, e23]
      refine ⟨by omega, fun e => ?_, fun e => ?_⟩
      · have es2 : psc (S 23) s 0 w = pnx (S 23) s w := if_pos ⟨by omega, e⟩
        have hnr := pnx_rg h hr ⟨w0, by omega⟩
        rw [es2, if_neg (by omega)] at hstep
        obtain ⟨r1, r2⟩ := p_small he1
        refine vt_k (tm_endOf (by omega) (by omega) (Or.inr rfl)) ?_
        rw [q_23, e23]
        have hmt : 0 ≤ q.2.2.2 (pnx (S 23) s w) ∧ q.2.2.2 (pnx (S 23) s w) ≤ q.1 := by
          have := hB.1.2.1
          rcases hB.2.2.1 _ hnr.1 hnr.2 with x | x <;> omega
        have hq := qle hB
        have hq1 := hB.1.2.1
        refine ⟨by omega, by omega, by omega, vt_k (tm_meets (S := S1) (B := B) (q := q) (s := pnx (S 23) s w) (b := k) (by omega) (by omega) (by omega) (fun z => hB.lt hnr.1 hnr.2 z)) ?_⟩
        have hkeep : (qmeet q (pnx (S 23) s w) k).2.1 k = s ∧ q.1 ≤ (qmeet q (pnx (S 23) s w) k).1 ∧ ∀ i, 0 ≤ i → i < q.1 → (qmeet q (pnx (S 23) s w) k).2.1 i = q.2.1 i := by
          unfold qmeet
          split
          · exact ⟨es.symm, Int.le_refl _, fun _ _ _ => rfl⟩
          · refine ⟨?_, by show q.1 ≤ q.1 + 1; omega, fun i i0 i1 => ?_⟩
            · show upF q.2.1 q.1 _ k = s; rw [upF_ne (by omega)]; exact es.symm
            · show upF q.2.1 q.1 _ i = _; rw [upF_ne (by omega)]
        exact ih k (w + 1) s _ (by omega) (by omega) (by omega) hkeep.1.symm hstep (fun q' a2 a3 a4 => hJ q' (by omega) (fun i i0 i1 => by rw [a3 i i0 (by omega), hkeep.2.2 i i0 i1]) a4)
      · exact skip (if_neg (fun z => e z.2))
  have lk : ∀ (a : Nat) (k : Int) (q : QS), k + a = 1048577 → BFI 1048576 1 (S 23 0) (pst (S 23) g) (psc (S 23)) k 0 0 q → (∀ i, 0 ≤ i → i < k → phm pl bk home (q.2.1 i) = false) → vt_J 71 Post X 76 [(0, me), (2, ii pl), (3, ii bk), (4, ii home), (5, ii k)] [] (vt_q S1 q) B := by
    intro a
    induction a with
    | zero =>
      intro k q ka hB hno
      have := qle hB
      have := hB.1.2.2.1
      omega
    | succ a ih =>
      intro k q ka hB hno
      have hq := qle hB
      have h1 := hB.1
      by_cases ck : k < q.1
      · have hr := (hB.2.1 k h1.1 ck).1
        have hpr := plc_rg 9 (q.2.1 k) 0
        have hpp : vt_and (q.2.1 k / 2 ^ (9 : Int).toNat) 7 = plc 9 (q.2.1 k) 0 := by
          rw [and7 (by omega)]
          rfl
        have hs12 : 0 ≤ q.2.1 k / 2 ^ (12 : Int).toNat ∧ q.2.1 k / 2 ^ (12 : Int).toNat ≤ 255 := by
          show 0 ≤ q.2.1 k / 4096 ∧ q.2.1 k / 4096 ≤ 255
          omega
        have hva : 0 ≤ vt_and pl (vt_xor (q.2.1 k / 2 ^ (12 : Int).toNat) (-1)) ∧ vt_and pl (vt_xor (q.2.1 k / 2 ^ (12 : Int).toNat) (-1)) ≤ 2147483647 := by
          rw [bt_andn (by omega) (by omega)]
          have hl : pl.toNat &&& (q.2.1 k / 2 ^ (12 : Int).toNat).toNat ≤ pl.toNat := Nat.and_le_left
          have : pl.toNat ^^^ (pl.toNat &&& (q.2.1 k / 2 ^ (12 : Int).toNat).toNat) < 2 ^ 8 := Nat.xor_lt_two_pow (by omega) (by omega)
          exact ⟨Int.natCast_nonneg _, by omega⟩
        have goon : phm pl bk home (q.2.1 k) = false → vt_J 71 Post X 134 [(0, me), (2, ii pl), (3, ii bk), (4, ii home), (5, ii k), (6, ii (q.2.1 k)), (7, ii (plc 9 (q.2.1 k) 0))] [] (vt_q S1 q) B := by
          intro hf
          refine vt_walk hX tk_post [(137, [0, 2, 3, 4, 5, 6, 7, 8])] 60 ?_
          refine lw (S 23 0).toNat k 0 (q.2.1 k) q ck (by omega) (by omega) rfl hB (fun q' b1 b2 b3 => ?_)
          refine ih (k + 1) q' (by omega) b3 (fun i i0 i1 => ?_)
          rw [b2 i i0 (by omega)]
          by_cases e : i = k
          · subst e; exact hf
          · exact hno i i0 (by omega)
        have stop : phm pl bk home (q.2.1 k) = true → vt_J 71 Post X 127 [(0, me), (2, ii pl), (3, ii bk), (4, ii home), (5, ii k), (6, ii (q.2.1 k)), (7, ii (plc 9 (q.2.1 k) 0))] [] (vt_q S1 q) B := by
          intro hf
          have hdr := dp_rg hB h1.1 ck
          refine vt_walk hX tk_post [] 60 ?_
          refine vt_k (tm_lengthTo hB (Int.le_refl _) h1.1 ck) ?_
          show Post _ _ _
          rw [← hPost]
          exact ⟨⟨_, rfl, Or.inr ⟨(dp q k).toNat, by omega, bfs_found hB hsc ck hno hf⟩⟩, kq_of hB t1 t2⟩
        refine vt_walk hX tk_post [(104, [0, 2, 3, 4, 5, 6, 7])] 80 ?_
        refine ⟨by rw [q_29]; omega, fun z => absurd z (by rw [q_29]; omega), fun _ => ?_⟩
        refine ⟨by omega, by rw [q_26]; omega, ?_⟩
        show vt_J _ _ _ _ _ _ _ _
        rw [q_26, hpp]
        refine vt_walk hX tk_post [(134, [0, 2, 3, 4, 5, 6, 7]), (127, [0, 2, 3, 4, 5, 6, 7])] 80 ?_
        refine ⟨by omega, by omega, fun d => ?_, fun d => ?_⟩
        · refine goon ?_
          unfold phm
          rw [show (vt_and pl (vt_xor (q.2.1 k / 2 ^ (12 : Int).toNat) (-1)) == 0) = false by simpa using d]
          rfl
        · have d1 : (vt_and pl (vt_xor (q.2.1 k / 2 ^ (12 : Int).toNat) (-1)) == 0) = true := by simpa using d
          refine ⟨by omega, fun e => ?_, fun e => ?_⟩
          · refine stop ?_
            unfold phm
            rw [d1, e]
            rfl
          · have e1 : (bk == 0) = false := by simpa using e
            refine ⟨by omega, fun u => ?_, fun u => ?_⟩
            · refine goon ?_
              unfold phm
              rw [d1, e1, show (plc 9 (q.2.1 k) 0 == home) = false by simpa using u]
              rfl
            · refine stop ?_
              unfold phm
              rw [d1, e1, show (plc 9 (q.2.1 k) 0 == home) = true by simpa using u]
              rfl
      · refine vt_walk hX tk_post [] 80 ?_
        refine ⟨by rw [q_29]; omega, fun _ => ?_, fun z => absurd z (by rw [q_29]; omega)⟩
        show Post _ _ _
        rw [← hPost]
        exact ⟨⟨_, rfl, Or.inl ⟨rfl, fun l => bfs_none hB hsc (by omega) (fun i i0 i1 => hno i i0 (by omega)) l⟩⟩, kq_of hB t1 t2⟩
  have hs0 : 0 ≤ pst (S 23) g ∧ pst (S 23) g < 1048576 := by
    unfold pst
    rw [hhome]
    exact p_or (p_or (by omega) (by omega)) (by omega)
  have hini := BFI.start (N := 1048576) (P := 1) (n := S 23 0) (sc := psc (S 23)) (mt := S1 28) (st := S1 26) (fr := S1 27) hs0.1 hs0.2 (fun s a b => h28 s a b)
  have hSq : S1 = vt_q S1 (0, S1 26, S1 27, S1 28) := by rw [← h29]; exact q_self.symm
  refine vt_k (tm_goerOf (by omega)) ?_
  rw [e23, hhome]
  refine ⟨by omega, by omega, by omega, ?_⟩
  rw [e23]
  have hme : vt_M 61 [me, ii (vt_or (vt_or (S 23 2) (home * 2 ^ (9 : Int).toNat)) (1 * 2 ^ (12 + home).toNat)), ii (-1)] S1 B (vt_eq none (vt_q S1 (qmeet (0, S1 26, S1 27, S1 28) (pst (S 23) g) (-1))) B) := by
    have := tm_meets (S := S1) (B := B) (q := (0, S1 26, S1 27, S1 28)) (s := pst (S 23) g) (b := -1) (by omega) (by show 0 ≤ (0 : Int) ∧ (0 : Int) ≤ 1048576; decide) (by show 0 ≤ S1 28 _ ∧ S1 28 _ ≤ _; rw [h28 _ hs0.1 (by omega)]; decide) (fun _ => by show (0 : Int) < 1048576; decide)
    rw [← hSq] at this
    unfold pst at this
    rw [hhome] at this
    unfold pst
    rw [hhome]
    exact this
  refine vt_k hme ?_
  exact lk 1048577 0 _ (by omega) hini (fun i i0 i1 => by omega)
end TMR
