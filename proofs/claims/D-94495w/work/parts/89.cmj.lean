/-! THE COMPONENT's methods: goings, directions, rows -/
set_option maxRecDepth 100000
theorem ob_up {Lw : List Nat} {S : SS} {r r' : Nat} {c i v : Int} (h : vc_ob Lw S r c) (hi : i ≠ -2) : vc_ob Lw (vt_up S r' i v) r c := ⟨h.1, by rw [up_ne (Or.inr (fun z => hi z.symm))]; exact h.2⟩
theorem ob_ne {Lw : List Nat} {S : SS} {r r' : Nat} {c c' : Int} (h : vc_ob Lw S r c) (h' : vc_ob Lw S r' c') (hc : c ≠ c') : r ≠ r' := by
  rintro rfl
  exact hc (h.2.symm.trans h'.2)
/-- cells of ways are apart, those of goers too -/
def CIj (f : Int → Int) (wr gr : Int → Nat) : Prop := (∀ i j, 0 ≤ i → i < f 0 → 0 ≤ j → j < f 0 → wr i = wr j → i = j) ∧ ∀ i j, 0 ≤ i → i < f 1 → 0 ≤ j → j < f 1 → gr i = gr j → i = j
/-- behind gone -/
def gnS (S : SS) (o rg rw : Nat) (to t : Int) : SS := if S rg 6 = -1 ∧ S rg 3 = -1 ∧ to = S rg 0 then vt_up (vt_up (vt_up (vt_up (vt_up (vt_up S rg 2 to) rw 5 (1 - S rw 5)) rw 3 (S rw 3 + 1)) o 2 (S o 2 + 1)) rw 4 (S o 2 + 1)) rg 6 t else vt_up (vt_up (vt_up (vt_up (vt_up S rg 2 to) rw 5 (1 - S rw 5)) rw 3 (S rw 3 + 1)) o 2 (S o 2 + 1)) rw 4 (S o 2 + 1)
theorem gnS_rd {S : SS} {o rg rw : Nat} {to t : Int} {r : Nat} {i : Int} : gnS S o rg rw to t r i = if r = rg ∧ i = 6 ∧ S rg 6 = -1 ∧ S rg 3 = -1 ∧ to = S rg 0 then t else if r = rw ∧ i = 4 then S o 2 + 1 else if r = o ∧ i = 2 then S o 2 + 1 else if r = rw ∧ i = 3 then S rw 3 + 1 else if r = rw ∧ i = 5 then 1 - S rw 5 else if r = rg ∧ i = 2 then to else S r i := by
  unfold gnS
  by_cases c : S rg 6 = -1 ∧ S rg 3 = -1 ∧ to = S rg 0
  · rw [if_pos c, up_rd, up_rd, up_rd, up_rd, up_rd, up_rd]
    by_cases c2 : r = rg ∧ i = 6
    · rw [if_pos c2, if_pos ⟨c2.1, c2.2, c⟩]
    · rw [if_neg c2, if_neg (fun z : r = rg ∧ i = 6 ∧ S rg 6 = -1 ∧ S rg 3 = -1 ∧ to = S rg 0 => c2 ⟨z.1, z.2.1⟩)]
  · rw [if_neg c, up_rd, up_rd, up_rd, up_rd, up_rd, if_neg (fun z : r = rg ∧ i = 6 ∧ S rg 6 = -1 ∧ S rg 3 = -1 ∧ to = S rg 0 => c z.2.2)]
section CMJ
variable {Lw : List Nat} {S0 S : SS} {B : SB} {d o : Nat} {τ : Nat → Nat} {f : Int → Int} {wr gr : Int → Nat} {lt : Int → Int} {K : Int}
theorem cm_gone {rg rw : Nat} {to t : Int} (h0 : vc_ob Lw S o 0) (hg : vc_ob Lw S rg 5) (hw : vc_ob Lw S rw 4) (h5 : S rw 5 = 0 ∨ S rw 5 = 1) (h3 : -1 ≤ S rg 3 ∧ S rg 3 ≤ 13) (hto : 0 ≤ to ∧ to ≤ 7) (ha : 0 ≤ S rg 0 ∧ S rg 0 ≤ 7) (h6 : -1 ≤ S rg 6 ∧ S rg 6 ≤ 200000) : vc_M (d + 3) 0 0 24 [.inr (.inr o), .inr (.inr rg), .inr (.inr rw), ii to, ii t] Lw S B (vc_eq none Lw (gnS S o rg rw to t) B) := by
  refine vc_start rfl rfl (Nat.le_of_ble_eq_true rfl) (fun X hX hd => ?_)
  have ngw : rg ≠ rw := ob_ne hg hw (by decide)
  have ngo : rg ≠ o := ob_ne hg h0 (by decide)
  have nwo : rw ≠ o := ob_ne hw h0 (by decide)
  have fin : ∀ b : Int, (b = 0 ∨ b = 1) → b = 1 - S rw 5 → vc_J 24 (vc_eq none Lw (gnS S o rg rw to t) B) X 18 [(0, .inr (.inr o)), (1, .inr (.inr rg)), (2, .inr (.inr rw)), (4, ii t)] [ii b, .inr (.inr rw)] Lw (vt_up S rg 2 to) B 0 0 := by
    intro b hb he
    subst he
    have q1 : vc_ob Lw (vt_up S rg 2 to) rw 4 := ob_up hw (by decide)
    have q2 : vc_ob Lw (vt_up (vt_up S rg 2 to) rw 5 (1 - S rw 5)) rw 4 := ob_up q1 (by decide)
    have r2 : vt_up (vt_up S rg 2 to) rw 5 (1 - S rw 5) rw 3 = S rw 3 := by rw [up_ne (Or.inr (by decide)), up_ne (Or.inr (by decide))]
    refine vc_walk hX ck_X0_gone [] 40 hd ?_
    refine ⟨⟨q1, hb⟩, q2, q2, ?_⟩
    rw [r2]
    have q3 : vc_ob Lw (vt_up (vt_up (vt_up S rg 2 to) rw 5 (1 - S rw 5)) rw 3 (S rw 3 + 1)) o 0 := ob_up (ob_up (ob_up h0 (by decide)) (by decide)) (by decide)
    have r3 : vt_up (vt_up (vt_up S rg 2 to) rw 5 (1 - S rw 5)) rw 3 (S rw 3 + 1) o 2 = S o 2 := by rw [up_ne (Or.inr (by decide)), up_ne (Or.inr (by decide)), up_ne (Or.inl (fun z => ngo z.symm))]
    refine ⟨q3, q3, ?_⟩
    rw [r3]
    have q4 : vc_ob Lw (vt_up (vt_up (vt_up (vt_up S rg 2 to) rw 5 (1 - S rw 5)) rw 3 (S rw 3 + 1)) o 2 (S o 2 + 1)) o 0 := ob_up q3 (by decide)
    have q5 : vc_ob Lw (vt_up (vt_up (vt_up (vt_up S rg 2 to) rw 5 (1 - S rw 5)) rw 3 (S rw 3 + 1)) o 2 (S o 2 + 1)) rw 4 := ob_up (ob_up q2 (by decide)) (by decide)
    refine ⟨q4, q5, ?_⟩
    rw [show vt_up (vt_up (vt_up (vt_up S rg 2 to) rw 5 (1 - S rw 5)) rw 3 (S rw 3 + 1)) o 2 (S o 2 + 1) o 2 = S o 2 + 1 from vt_up_self]
    have q6 : vc_ob Lw (vt_up (vt_up (vt_up (vt_up (vt_up S rg 2 to) rw 5 (1 - S rw 5)) rw 3 (S rw 3 + 1)) o 2 (S o 2 + 1)) rw 4 (S o 2 + 1)) rg 5 := ob_up (ob_up (ob_up (ob_up (ob_up hg (by decide)) (by decide)) (by decide)) (by decide)) (by decide)
    have rr : ∀ i, i ≠ 2 → (vt_up (vt_up (vt_up (vt_up (vt_up S rg 2 to) rw 5 (1 - S rw 5)) rw 3 (S rw 3 + 1)) o 2 (S o 2 + 1)) rw 4 (S o 2 + 1)) rg i = S rg i := fun i hi => by
      rw [up_ne (Or.inl ngw), up_ne (Or.inl ngo), up_ne (Or.inl ngw), up_ne (Or.inl ngw), up_ne (Or.inr hi)]
    have r2 : (vt_up (vt_up (vt_up (vt_up (vt_up S rg 2 to) rw 5 (1 - S rw 5)) rw 3 (S rw 3 + 1)) o 2 (S o 2 + 1)) rw 4 (S o 2 + 1)) rg 2 = to := by
      rw [up_ne (Or.inl ngw), up_ne (Or.inl ngo), up_ne (Or.inl ngw), up_ne (Or.inl ngw), vt_up_self]
    refine vc_kv q6 (cm_standsAt (d := d) q6 (by rw [rr 3 (by decide)]; exact h3) (by rw [r2]; omega) (by rw [rr 0 (by decide)]; omega) (by rw [rr 6 (by decide)]; exact h6)) ⟨Nat.le_refl _, Nat.le_refl _⟩ ?_
    refine ⟨⟨Nat.le_refl _, Nat.le_refl _⟩, rfl, rfl, ?_, rfl⟩
    rw [rr 6 (by decide), rr 3 (by decide), rr 0 (by decide), r2]
    rfl
  refine vc_walk hX ck_X0_gone [(18, [0, 1, 2, 4])] 40 hd ?_
  have r1 : vt_up S rg 2 to rw 5 = S rw 5 := up_ne (Or.inr (by decide))
  refine ⟨hg, ob_up hw (by decide), by omega, fun c => ?_, fun c => ?_⟩
  · exact fin 0 (Or.inl rfl) (by omega)
  · exact fin 1 (Or.inr rfl) (by omega)
theorem xb {x : Nat} {w v : Int} (hw : 0 ≤ w) (hv : 0 ≤ v) : (x ^^^ 2 ^ w.toNat).testBit v.toNat = if v = w then !x.testBit w.toNat else x.testBit v.toNat := by
  rw [Nat.testBit_xor, Nat.testBit_two_pow]
  by_cases c : v = w
  · subst c
    rw [if_pos rfl, decide_eq_true rfl, Bool.xor_true]
  · rw [if_neg c, decide_eq_false (fun z : w.toNat = v.toNat => c (by omega)), Bool.xor_false]
theorem li_of {S' : SS} {r : Nat} {n : Int} {g : Int → Nat} (h : vc_li Lw S r n g) (e : ∀ q c, vc_ob Lw S q c → c = 15 ∨ c = 103 → ∀ i, S' q i = S q i) : vc_li Lw S' r n g := by
  obtain ⟨h1, h2, h3, h4, h5⟩ := h
  have e1 := e r 15 h1 (Or.inl rfl)
  have e2 := e _ 103 h3 (Or.inr rfl)
  unfold vc_li vc_ob
  rw [e1, e1, e1, e2, e2]
  exact ⟨h1, h2, h3, h4, fun i i0 i1 => by rw [e2]; exact h5 i i0 i1⟩
theorem CLd.arr {g w to ck : Int} (h : CLd Lw S o f wr gr lt) (hj : CIj f wr gr) (hl : LI K f) (hg : 0 ≤ g ∧ g < f 1) (hw : 0 ≤ w ∧ w < f 0) (ht : 0 ≤ to ∧ to ≤ 7) {S' : SS} (e : ∀ r i, r ≠ gr g → r ≠ wr w → (r ≠ o ∨ i ≠ 2) → S' r i = S r i) (eo : S' o 2 = f 3 + 1) (ew : ∀ i, i ≠ 3 → i ≠ 4 → i ≠ 5 → S' (wr w) i = S (wr w) i) (ew3 : S' (wr w) 3 = sW f w 3 + 1) (ew4 : S' (wr w) 4 = f 3 + 1) (ew5 : S' (wr w) 5 = 1 - S (wr w) 5) (eg : ∀ i, i < 2 ∨ 6 < i → S' (gr g) i = S (gr g) i) (eg2 : S' (gr g) 2 = to) (eg3 : S' (gr g) 3 = -1) (eg4 : S' (gr g) 4 = 0) (eg5 : S' (gr g) 5 = -1) (eg6 : S' (gr g) 6 = if to = sG f g 1 ∧ sG f g 5 = -1 then ck else sG f g 5) : CLd Lw S' o (sp_arr f g w to ck) wr gr lt := by
  obtain ⟨h1, h2, h3, h4, h5, h6, h7, h8, h9, h10⟩ := h
  have n0 := hl.nW
  have n1 := hl.nG
  have hg5 : 0 ≤ g ∧ g ≤ 5 := by omega
  have hw13 : 0 ≤ w ∧ w ≤ 13 := by omega
  have oG := (h5 g hg.1 hg.2).1
  have oW := (h4 w hw.1 hw.2).1
  have no1 : o ≠ gr g := ob_ne h1 oG (by decide)
  have no2 : o ≠ wr w := ob_ne h1 oW (by decide)
  have eoo : ∀ i, i ≠ 2 → S' o i = S o i := fun i hi => e o i no1 no2 (Or.inr hi)
  have ek : ∀ q c, vc_ob Lw S q c → c = 15 ∨ c = 103 → ∀ i, S' q i = S q i := fun q c hq hc i => e q i (ob_ne hq oG (by omega)) (ob_ne hq oW (by omega)) (Or.inl (ob_ne hq h1 (by omega)))
  refine ⟨⟨h1.1, by rw [eoo _ (by decide)]; exact h1.2⟩, ?_, ?_, fun v v0 v1 => ?_, fun v v0 v1 => ?_, ?_, ?_, ?_, ?_, ?_⟩
  · rw [eoo 0 (by decide), arr_x hg5 hw13 (by omega)]
    exact li_of h2 ek
  · rw [eoo 1 (by decide), arr_x hg5 hw13 (by omega)]
    exact li_of h3 ek
  · rw [arr_x hg5 hw13 (by omega)] at v1
    obtain ⟨a0, a1, a2, a3, a4, a5, a6⟩ := h4 v v0 v1
    have hv : 0 ≤ v ∧ v ≤ 13 := by omega
    unfold CW
    rw [arr_W hg5 hw13 hv (by decide), arr_W hg5 hw13 hv (by decide), arr_W hg5 hw13 hv (by decide), arr_W hg5 hw13 hv (by decide), arr_W hg5 hw13 hv (by decide), arr_2 hg5 hw13, Int.toNat_natCast, xb hw.1 v0]
    simp only [show ((0 : Int) = 3) = False by decide, show ((0 : Int) = 4) = False by decide, show ((1 : Int) = 3) = False by decide, show ((1 : Int) = 4) = False by decide, show ((2 : Int) = 3) = False by decide, show ((2 : Int) = 4) = False by decide, show ((4 : Int) = 3) = False by decide, show ((3 : Int) = 4) = False by decide, and_false, if_false, and_true]
    by_cases c : v = w
    · subst c
      simp only [if_true]
      refine ⟨⟨a0.1, by rw [ew _ (by decide) (by decide) (by decide)]; exact a0.2⟩, by rw [ew _ (by decide) (by decide) (by decide)]; exact a1, by rw [ew _ (by decide) (by decide) (by decide)]; exact a2, by rw [ew _ (by decide) (by decide) (by decide)]; exact a3, ew3, ew4, ?_⟩
      rw [ew5, a6]
      cases (f 2).toNat.testBit v.toNat <;> rfl
    · simp only [c, if_false]
      have ev : ∀ i, S' (wr v) i = S (wr v) i := fun i => e _ i (ob_ne a0 oG (by decide)) (fun z => c (hj.1 v w v0 v1 hw.1 hw.2 z)) (Or.inl (ob_ne a0 h1 (by decide)))
      unfold vc_ob
      rw [ev, ev, ev, ev, ev, ev, ev]
      exact ⟨a0, a1, a2, a3, a4, a5, a6⟩
  · rw [arr_x hg5 hw13 (by omega)] at v1
    obtain ⟨a0, a1, a2, a3, a4, a5, a6, a7, a8⟩ := h5 v v0 v1
    have hv : 0 ≤ v ∧ v ≤ 5 := by omega
    unfold CG
    rw [arr_G hg5 hw13 hv (by decide), arr_G hg5 hw13 hv (by decide), arr_G hg5 hw13 hv (by decide), arr_G hg5 hw13 hv (by decide), arr_G hg5 hw13 hv (by decide), arr_G hg5 hw13 hv (by decide), arr_G hg5 hw13 hv (by decide)]
    by_cases c : v = g
    · subst c
      rw [if_pos (rfl : v = v), if_pos (rfl : v = v), if_pos (rfl : v = v), if_pos (rfl : v = v), if_pos (rfl : v = v), if_pos (rfl : v = v), if_pos (rfl : v = v)]
      refine ⟨⟨a0.1, by rw [eg _ (by decide)]; exact a0.2⟩, by rw [eg _ (by decide)]; exact a1, by rw [eg _ (by decide)]; exact a2, ⟨by rw [eg2]; exact ht, fun _ => eg2⟩, eg3, eg4, eg5, eg6, by rw [eg _ (by decide)]; exact a8⟩
    · rw [if_neg c, if_neg c, if_neg c, if_neg c, if_neg c, if_neg c, if_neg c]
      have ev : ∀ i, S' (gr v) i = S (gr v) i := fun i => e _ i (fun z => c (hj.2 v g v0 v1 hg.1 hg.2 z)) (ob_ne a0 oW (by decide)) (Or.inl (ob_ne a0 h1 (by decide)))
      unfold vc_ob
      rw [ev, ev, ev, ev, ev, ev, ev, ev, ev]
      exact ⟨a0, a1, a2, a3, a4, a5, a6, a7, a8⟩
  · rw [eo, arr_3 hg5 hw13]
  · rw [eoo _ (by decide), arr_x hg5 hw13 (by omega)]; exact h7
  · rw [eoo _ (by decide), arr_x hg5 hw13 (by omega)]; exact h8
  · rw [eoo _ (by decide), arr_x hg5 hw13 (by omega)]; exact h9
  · rw [eoo _ (by decide), arr_x hg5 hw13 (by omega)]; exact h10
theorem gnS_ag {rg rw : Nat} {to t : Int} (hg : S0 rg (-2) = 5) (hw : S0 rw (-2) = 4) (h : Ag (qW S0 o τ) S0 S) : Ag (qW S0 o τ) S0 (gnS S o rg rw to t) := by
  have a1 : ∀ i, 2 ≤ i → i ≤ 6 → qW S0 o τ rg i := fun i h1 h2 => Or.inr (Or.inr (Or.inr ⟨hg, h1, h2⟩))
  have a2 : ∀ i, 3 ≤ i → i ≤ 5 → qW S0 o τ rw i := fun i h1 h2 => Or.inr (Or.inr (Or.inl ⟨hw, h1, h2⟩))
  have a3 : qW S0 o τ o 2 := Or.inr (Or.inl ⟨rfl, by decide, by decide⟩)
  unfold gnS
  have a5 := ((((h.up (v := to) (a1 2 (by decide) (by decide))).up (v := 1 - S rw 5) (a2 5 (by decide) (by decide))).up (v := S rw 3 + 1) (a2 3 (by decide) (by decide))).up (v := S o 2 + 1) a3).up (v := S o 2 + 1) (a2 4 (by decide) (by decide))
  split
  · exact a5.up (a1 6 (by decide) (by decide))
  · exact a5
/-- a goer who stands goes by a way -/
theorem CLd.gone {g w to ck : Int} (h : CLd Lw S o f wr gr lt) (hj : CIj f wr gr) (hl : LI K f) (hg : 0 ≤ g ∧ g < f 1) (hw : 0 ≤ w ∧ w < f 0) (ht : 0 ≤ to ∧ to ≤ 7) (hs : sG f g 3 = -1) : CLd Lw (gnS S o (gr g) (wr w) to ck) o (sp_arr f g w to ck) wr gr lt := by
  have hG := h.2.2.2.2.1 g hg.1 hg.2
  have hW := h.2.2.2.1 w hw.1 hw.2
  obtain ⟨-, -, -, hi | hi⟩ := hl.g hg.1 hg.2
  rotate_left
  · omega
  obtain ⟨g0, g1, g2, g3, g4, g5, g6, g7, g8⟩ := hG
  obtain ⟨w0, w1, w2, w3, w4, w5, w6⟩ := hW
  have ngw : gr g ≠ wr w := ob_ne g0 w0 (by decide)
  have ngo : gr g ≠ o := ob_ne g0 h.1 (by decide)
  have nwo : wr w ≠ o := ob_ne w0 h.1 (by decide)
  refine h.arr hj hl hg hw ht (fun r i c1 c2 c3 => ?_) ?_ (fun i c1 c2 c3 => ?_) ?_ ?_ ?_ (fun i c => ?_) ?_ ?_ ?_ ?_ ?_
  · rw [gnS_rd, if_neg (fun z => c1 z.1), if_neg (fun z => c2 z.1), if_neg (by omega), if_neg (fun z => c2 z.1), if_neg (fun z => c2 z.1), if_neg (fun z => c1 z.1)]
  · rw [gnS_rd, if_neg (fun z => ngo z.1.symm), if_neg (fun z => nwo z.1.symm), if_pos ⟨rfl, rfl⟩, h.2.2.2.2.2.1]
  · rw [gnS_rd, if_neg (fun z => ngw z.1.symm), if_neg (by omega), if_neg (fun z => nwo z.1), if_neg (by omega), if_neg (by omega), if_neg (fun z => ngw z.1.symm)]
  · rw [gnS_rd, if_neg (fun z => ngw z.1.symm), if_neg (by omega), if_neg (fun z => nwo z.1), if_pos ⟨rfl, rfl⟩, w4]
  · rw [gnS_rd, if_neg (fun z => ngw z.1.symm), if_pos ⟨rfl, rfl⟩, h.2.2.2.2.2.1]
  · rw [gnS_rd, if_neg (fun z => ngw z.1.symm), if_neg (by omega), if_neg (fun z => nwo z.1), if_neg (by omega), if_pos ⟨rfl, rfl⟩]
  · rw [gnS_rd, if_neg (by omega), if_neg (fun z => ngw z.1), if_neg (fun z => ngo z.1), if_neg (fun z => ngw z.1), if_neg (fun z => ngw z.1), if_neg (by omega)]
  · rw [gnS_rd, if_neg (by omega), if_neg (fun z => ngw z.1), if_neg (fun z => ngo z.1), if_neg (fun z => ngw z.1), if_neg (fun z => ngw z.1), if_pos ⟨rfl, rfl⟩]
  · rw [gnS_rd, if_neg (by omega), if_neg (fun z => ngw z.1), if_neg (fun z => ngo z.1), if_neg (fun z => ngw z.1), if_neg (fun z => ngw z.1), if_neg (by omega), g4, hs]
  · rw [gnS_rd, if_neg (by omega), if_neg (fun z => ngw z.1), if_neg (fun z => ngo z.1), if_neg (fun z => ngw z.1), if_neg (fun z => ngw z.1), if_neg (by omega), g5, hi.2.1]
  · rw [gnS_rd, if_neg (by omega), if_neg (fun z => ngw z.1), if_neg (fun z => ngo z.1), if_neg (fun z => ngw z.1), if_neg (fun z => ngw z.1), if_neg (by omega), g6, hi.2.2.1]
  · rw [gnS_rd]
    by_cases c : to = sG f g 1 ∧ sG f g 5 = -1
    · rw [if_pos c, if_pos ⟨rfl, rfl, by omega, by omega, by omega⟩]
    · rw [if_neg c, if_neg (by omega), if_neg (fun z => ngw z.1), if_neg (fun z => ngo z.1), if_neg (fun z => ngw z.1), if_neg (fun z => ngw z.1), if_neg (by omega), g7]
theorem cm_go {g w : Int} (hg : -2147483648 ≤ g ∧ g ≤ 2147483647) (hw : -2147483648 ≤ w ∧ w ≤ 2147483647) (h : CLd Lw S o f wr gr lt) (hj : CIj f wr gr) (hl : LI K f) : vc_M (d + 4) 0 0 23 [.inr (.inr o), ii g, ii w] Lw S B (vc_up (fun v Lw' S' B' => v = some (ii (sp_go f g w).1) ∧ Lw = Lw' ∧ Ag (qW S o τ) S S' ∧ CLd Lw S' o (sp_go f g w).2 wr gr lt)) := by
  refine vc_start rfl rfl (Nat.le_of_ble_eq_true rfl) (fun X hX hd => ?_)
  have hC := h
  obtain ⟨h1, h2, h3, h4, h5, h6, h7, -⟩ := h
  have hb := bI_rg (sIsG f g)
  have hb2 := bI_rg (sIsW f w)
  have ho := sOn_rg hl w
  have no : ∀ (b : Bool), b = false → sCanGo f g w = b → vc_J 23 (vc_up (fun v Lw' S' B' => v = some (ii (sp_go f g w).1) ∧ Lw = Lw' ∧ Ag (qW S o τ) S S' ∧ CLd Lw S' o (sp_go f g w).2 wr gr lt)) X 72 [(0, .inr (.inr o)), (1, ii g), (2, ii w)] [] Lw S B 0 0 := by
    intro b hb hs
    subst hb
    have e : sp_go f g w = (-1, f) := by unfold sp_go; rw [hs]; rfl
    rw [e]
    refine vc_walk hX ck_X0_go [] 90 hd ?_
    exact ⟨⟨Nat.le_refl _, Nat.le_refl _⟩, rfl, rfl, Ag.rf, hC⟩
  refine vc_walk hX ck_X0_go [(72, [0, 1, 2]), (74, [0, 1, 2])] 90 hd ?_
  refine vc_kv h1 (cm_isGoer (d := d + 2) hg hC hl) ⟨Nat.le_refl _, Nat.le_refl _⟩ ?_
  refine ⟨by omega, fun c => ?_, fun c => ?_⟩
  · exact no _ rfl (by unfold sCanGo sStd; rw [bI_0.mp c]; rfl)
  have c1 := bI_n0.mp c
  have cg := of_decide_eq_true c1
  refine vc_kv h1 (cm_isWay (d := d + 2) hw hC hl) ⟨Nat.le_refl _, Nat.le_refl _⟩ ?_
  refine ⟨by omega, fun c => ?_, fun c => ?_⟩
  · exact no _ rfl (by unfold sCanGo; rw [bI_0.mp c, Bool.and_false, Bool.false_and, Bool.false_and])
  have c2 := bI_n0.mp c
  have cw := of_decide_eq_true c2
  have hG := h5 g cg.1 cg.2
  have hW := h4 w cw.1 cw.2
  have hgi := hl.g cg.1 cg.2
  have hr := hgi.way hl.nW.2
  have g4 := hG.2.2.2.2.1
  have he := sE_rg (x := f 2) (e := 0) (hl.w cw.1 cw.2) (.inl rfl)
  have he1 := sE_rg (x := f 2) (e := 1) (hl.w cw.1 cw.2) (.inr rfl)
  have hbs := bI_rg (S (gr g) 3 == -1)
  refine ⟨h1, ?_⟩
  refine vc_kv h3.1 (cm_get (d := d + 1) h3 (i := g) cg) ⟨Nat.le_refl _, Nat.le_refl _⟩ ?_
  refine ⟨Or.inr hG.1, ?_⟩
  refine vc_kv hG.1 (cm_stands (d := d + 3) hG.1 (by omega)) ⟨Nat.le_refl _, Nat.le_refl _⟩ ?_
  refine ⟨by omega, fun c => ?_, fun c => ?_⟩
  · have := ne_of_beq_false (bI_0.mp c)
    exact no _ rfl (by unfold sCanGo sStd; rw [show (sG f g 3 == -1) = false from beq_false_of_ne (by omega), Bool.and_false, Bool.false_and, Bool.false_and, Bool.false_and])
  have cs : sG f g 3 = -1 := by have := eq_of_beq (bI_n0.mp c); omega
  have hp := hG.2.2.2.1.2 cs
  have hpr := hG.2.2.2.1.1
  refine ⟨h1, ?_⟩
  refine vc_kv h2.1 (cm_get (d := d + 1) h2 (i := w) cw) ⟨Nat.le_refl _, Nat.le_refl _⟩ ?_
  refine ⟨Or.inr hW.1, ?_⟩
  refine vc_kv hW.1 (cm_from (d := d + 3) hW.1 hW.b) ⟨Nat.le_refl _, Nat.le_refl _⟩ ?_
  rw [hW.from]
  refine ⟨h1, ?_⟩
  refine vc_kv h3.1 (cm_get (d := d + 1) h3 (i := g) cg) ⟨Nat.le_refl _, Nat.le_refl _⟩ ?_
  refine ⟨Or.inr hG.1, hG.1, by omega, fun c => ?_, fun c3 => ?_⟩
  · exact no _ rfl (by unfold sCanGo; rw [show (sE f (f 2) w 0 == sG f g 0) = false from beq_false_of_ne (by omega), Bool.and_false, Bool.false_and])
  refine vc_kv h1 (cm_on (d := d) hw hC hl) ⟨Nat.le_refl _, Nat.le_refl _⟩ ?_
  refine ⟨by omega, fun c4 => ?_, fun c4 => ?_⟩
  rotate_left
  · exact no _ rfl (by unfold sCanGo; rw [show (sOn f w == 0) = false from beq_false_of_ne (by omega), Bool.and_false])
  have hcan : sCanGo f g w = true := by
    unfold sCanGo sStd
    rw [c1, c2, show (sG f g 3 == -1) = true from beq_iff_eq.mpr cs, show (sE f (f 2) w 0 == sG f g 0) = true from beq_iff_eq.mpr (by omega), show (sOn f w == 0) = true from beq_iff_eq.mpr (by omega)]
    rfl
  have esp : sp_go f g w = (sE f (f 2) w 1, sp_arr f g w (sE f (f 2) w 1) (f 4)) := if_pos hcan
  rw [esp]
  have hgn := hC.gone (ck := f 4) hj hl cg cw he1 cs
  have hA : Ag (qW S o τ) S (gnS S o (gr g) (wr w) (sE f (f 2) w 1) (f 4)) := gnS_ag hG.1.2 hW.1.2 Ag.rf
  have g0 := hG.2.1
  have g7 := hG.2.2.2.2.2.2.2.1
  refine vc_walk hX ck_X0_go [] 90 hd ?_
  refine ⟨h1, ?_⟩
  refine vc_kv h3.1 (cm_get (d := d + 1) h3 (i := g) cg) ⟨Nat.le_refl _, Nat.le_refl _⟩ ?_
  refine ⟨Or.inr hG.1, h1, ?_⟩
  refine vc_kv h2.1 (cm_get (d := d + 1) h2 (i := w) cw) ⟨Nat.le_refl _, Nat.le_refl _⟩ ?_
  refine ⟨Or.inr hW.1, h1, ?_⟩
  refine vc_kv h2.1 (cm_get (d := d + 1) h2 (i := w) cw) ⟨Nat.le_refl _, Nat.le_refl _⟩ ?_
  refine ⟨Or.inr hW.1, ?_⟩
  refine vc_kv hW.1 (cm_to (d := d + 3) hW.1 hW.b) ⟨Nat.le_refl _, Nat.le_refl _⟩ ?_
  rw [hW.to]
  refine ⟨h1, ?_⟩
  rw [h7]
  refine vc_kv h1 (cm_gone (d := d) h1 hG.1 hW.1 hW.b (by omega) he1 (by have := hgi.1; omega) (by have := hgi.2.2.1; omega)) ⟨Nat.le_refl _, Nat.le_refl _⟩ ?_
  have hG2 := hgn.2.2.2.2.1 g cg.1 (by rw [arr_x (by have := hl.nG; omega) (by have := hl.nW; omega) (by omega)]; exact cg.2)
  have hli := hgn.2.2.1
  rw [arr_x (by have := hl.nG; omega) (by have := hl.nW; omega) (by omega)] at hli
  refine ⟨hgn.1, ?_⟩
  refine vc_kv hli.1 (cm_get (d := d + 1) hli (i := g) cg) ⟨Nat.le_refl _, Nat.le_refl _⟩ ?_
  refine ⟨Or.inr hG2.1, hG2.1, ⟨Nat.le_refl _, Nat.le_refl _⟩, ?_, rfl, hA, hgn⟩
  rw [gnS_rd, if_neg (by omega), if_neg (fun z => ob_ne hG.1 hW.1 (by decide) z.1), if_neg (fun z => ob_ne hG.1 h1 (by decide) z.1), if_neg (fun z => ob_ne hG.1 hW.1 (by decide) z.1), if_neg (fun z => ob_ne hG.1 hW.1 (by decide) z.1), if_pos ⟨rfl, rfl⟩]
/-- the ways lie by directions x -/
theorem cm_lays {x : Int} (hx : 0 ≤ x ∧ x < 16384) (hA : Ag (pW S0 o τ) S0 S) (h0 : vc_ob Lw S0 o 0) (n0 : 0 ≤ f 0 ∧ f 0 ≤ 14) (h2 : vc_li Lw S0 (S0 o 0).toNat (f 0) wr) (h4 : ∀ w, 0 ≤ w → w < f 0 → vc_ob Lw S0 (wr w) 4) (hj : CIj f wr gr) : vc_M (d + 3) 0 0 28 [.inr (.inr o), ii x] Lw S B (vc_up (fun v Lw' S' B' => v = none ∧ Lw = Lw' ∧ B = B' ∧ Ag (pW S0 o τ) S0 S' ∧ (∀ r i, (i ≠ 5 ∨ ∀ w, 0 ≤ w → w < f 0 → r ≠ wr w) → S' r i = S r i) ∧ ∀ w, 0 ≤ w → w < f 0 → S' (wr w) 5 = bI (x.toNat.testBit w.toNat))) := by
  refine vc_start rfl rfl (Nat.le_of_ble_eq_true rfl) (fun X hX hd => ?_)
  have loop : ∀ (m : Nat) (k : Int) (S1 : SS), 0 ≤ k → k + m = f 0 → Ag (pW S0 o τ) S0 S1 → (∀ r i, (i ≠ 5 ∨ ∀ w, 0 ≤ w → w < f 0 → r ≠ wr w) → S1 r i = S r i) → (∀ w, 0 ≤ w → w < k → S1 (wr w) 5 = bI (x.toNat.testBit w.toNat)) → vc_J 28 (vc_up (fun v Lw' S' B' => v = none ∧ Lw = Lw' ∧ B = B' ∧ Ag (pW S0 o τ) S0 S' ∧ (∀ r i, (i ≠ 5 ∨ ∀ w, 0 ≤ w → w < f 0 → r ≠ wr w) → S' r i = S r i) ∧ ∀ w, 0 ≤ w → w < f 0 → S' (wr w) 5 = bI (x.toNat.testBit w.toNat))) X 2 [(0, .inr (.inr o)), (1, ii x), (2, ii k)] [] Lw S1 B 0 0 := by
    intro m
    induction m with
    | zero =>
      intro k S1 k0 km A1 F1 D1
      have l1 := A1.li h0.2 h2
      have e0 : S1 o 0 = S0 o 0 := A1 o 0 (pW.ob0 h0.2 rfl (by decide))
      rw [← e0] at l1
      have l2 := l1.2.1
      refine vc_walk hX ck_X0_lays [] 60 hd ?_
      refine ⟨A1.ob h0, ?_⟩
      refine vc_kv l1.1 (cm_size (d := d + 2) l1.1) ⟨Nat.le_refl _, Nat.le_refl _⟩ ?_
      refine ⟨by omega, fun _ => ?_, fun c => absurd c (by omega)⟩
      exact ⟨⟨Nat.le_refl _, Nat.le_refl _⟩, rfl, rfl, rfl, A1, F1, fun w w0 w1 => D1 w w0 (by omega)⟩
    | succ m ih =>
      intro k S1 k0 km A1 F1 D1
      have l1 := A1.li h0.2 h2
      have e0 : S1 o 0 = S0 o 0 := A1 o 0 (pW.ob0 h0.2 rfl (by decide))
      rw [← e0] at l1
      have l2 := l1.2.1
      have hk := A1.ob (h4 k k0 (by omega))
      refine vc_walk hX ck_X0_lays [(2, [0, 1, 2])] 60 hd ?_
      refine ⟨A1.ob h0, ?_⟩
      refine vc_kv l1.1 (cm_size (d := d + 2) l1.1) ⟨Nat.le_refl _, Nat.le_refl _⟩ ?_
      refine ⟨by omega, fun c => absurd c (by omega), fun _ => ?_⟩
      refine ⟨A1.ob h0, ?_⟩
      refine vc_kv l1.1 (cm_get (d := d) l1 (i := k) ⟨k0, by omega⟩) ⟨Nat.le_refl _, Nat.le_refl _⟩ ?_
      refine ⟨Or.inr hk, ?_⟩
      refine vc_k (cm_has (d := d + 2) (by omega) ⟨k0, by omega⟩) ⟨Nat.le_refl _, Nat.le_refl _⟩ ?_
      refine ⟨⟨hk, bI_01 _⟩, ?_⟩
      refine ih (k + 1) _ (by omega) (by omega) (A1.up (Or.inr (Or.inr (Or.inl ⟨(h4 k k0 (by omega)).2, by decide, by decide⟩)))) (fun r i c => ?_) (fun w w0 w1 => ?_)
      · rw [up_ne (by
          rcases c with c | c
          · exact Or.inr c
          · exact Or.inl (c k k0 (by omega)))]
        exact F1 r i c
      · by_cases c : w = k
        · subst c; rw [vt_up_self]
        · rw [up_ne (Or.inl (fun z => c (hj.1 w k w0 (by omega) k0 (by omega) z)))]
          exact D1 w w0 (by omega)
  refine vc_walk hX ck_X0_lays [(2, [0, 1, 2])] 60 hd ?_
  exact loop (f 0).toNat 0 S (by decide) (by omega) hA (fun _ _ _ => rfl) (fun w w0 w1 => by omega)
theorem cm_turn {x : Int} (hx : -2147483648 ≤ x ∧ x ≤ 2147483647) (h : CLd Lw S o f wr gr lt) (hj : CIj f wr gr) (hl : LI K f) : vc_M (d + 4) 0 0 25 [.inr (.inr o), ii x] Lw S B (vc_up (fun v Lw' S' B' => v = some (ii (sp_turn f x).1) ∧ Lw = Lw' ∧ Ag (qW S o τ) S S' ∧ CLd Lw S' o (sp_turn f x).2 wr gr lt)) := by
  refine vc_start rfl rfl (Nat.le_of_ble_eq_true rfl) (fun X hX hd => ?_)
  have hC := h
  obtain ⟨h1, h2, h3, h4, h5, h6, h7, h8, h9, h10⟩ := h
  have n0 := hl.nW
  have h14 := pow14 n0.2
  have e2 := h2.2.1
  have hp1 : (0 : Int) < 2 ^ (f 0).toNat := Int.pow_pos (by decide)
  have hb := bI_rg (sIn x 0 (1 * 2 ^ (f 0).toNat - 1))
  have hb2 := bI_rg (!sAny f)
  refine vc_walk hX ck_X0_turn [] 60 hd ?_
  refine ⟨hx, h1, ?_⟩
  refine vc_kv h2.1 (cm_size (d := d + 3) h2.1) ⟨Nat.le_refl _, Nat.le_refl _⟩ ?_
  rw [e2]
  refine ⟨by omega, by omega, ?_⟩
  refine vc_k (cm_in (d := d + 3) (by omega) (by decide) (by omega)) ⟨Nat.le_refl _, Nat.le_refl _⟩ ?_
  refine ⟨by omega, fun c => ?_, fun c => ?_⟩
  · have := of_decide_eq_false (bI_0.mp c)
    have e : sp_turn f x = (-1, f) := if_neg (by omega)
    rw [e]
    exact ⟨⟨Nat.le_refl _, Nat.le_refl _⟩, rfl, rfl, Ag.rf, hC⟩
  have cx : 0 ≤ x ∧ x ≤ 1 * 2 ^ (f 0).toNat - 1 := of_decide_eq_true (bI_n0.mp c)
  refine vc_kv h1 (cm_isQuiet (d := d) hC hl) ⟨Nat.le_refl _, Nat.le_refl _⟩ ?_
  refine ⟨by omega, fun c => ?_, fun c => ?_⟩
  rotate_left
  · have q : sAny f = true := by
      have := (bI_0 (b := !sAny f)).mp (by omega)
      simpa using this
    have e : sp_turn f x = (-1, f) := if_neg (by rw [q]; simp)
    rw [e]
    exact ⟨⟨Nat.le_refl _, Nat.le_refl _⟩, rfl, rfl, Ag.rf, hC⟩
  have q : sAny f = false := by
    have := bI_n0.mp c
    simpa using this
  have e : sp_turn f x = (f 2, upF f 2 x) := if_pos ⟨by omega, q⟩
  rw [e]
  refine vc_kv h1 (cm_directions (d := d) hC hl) ⟨Nat.le_refl _, Nat.le_refl _⟩ ?_
  refine vc_kp h1 (cm_lays (d := d) (τ := τ) (S0 := S) (by omega) Ag.rf h1 n0 h2 (fun w w0 w1 => (h4 w w0 w1).1) hj) ⟨Nat.le_refl _, Nat.le_refl _⟩ ?_
  rintro _ _ S1 _ ⟨rfl, rfl, rfl, A1, F1, D1⟩
  have Aq : Ag (qW S o τ) S S1 := fun r i hn => F1 r i (by
    by_cases c : i = 5
    · right
      rintro w w0 w1 rfl
      exact hn (Or.inr (Or.inr (Or.inl ⟨(h4 w w0 w1).1.2, by omega, by omega⟩)))
    · exact Or.inl c)
  refine ⟨⟨Nat.le_refl _, Nat.le_refl _⟩, rfl, rfl, Aq, ?_⟩
  have ek : ∀ q c, vc_ob Lw S q c → c ≠ 4 → ∀ i, S1 q i = S q i := fun q c hq hc i => F1 q i (Or.inr (fun w w0 w1 => ob_ne hq (h4 w w0 w1).1 hc))
  have eo := ek o 0 h1 (by decide)
  have eW : ∀ w k, 0 ≤ w → 0 ≤ k → sW (upF f 2 x) w k = sW f w k := fun w k a b => upF_ne (by omega)
  have eG : ∀ w k, 0 ≤ w → 0 ≤ k → sG (upF f 2 x) w k = sG f w k := fun w k a b => upF_ne (by omega)
  refine ⟨A1.ob h1, ?_, ?_, fun w w0 w1 => ?_, fun g g0 g1 => ?_, ?_, ?_, ?_, ?_, ?_⟩
  · rw [eo]; exact li_of h2 (fun q c hq hc => ek q c hq (by omega))
  · rw [eo]; exact li_of h3 (fun q c hq hc => ek q c hq (by omega))
  · obtain ⟨a0, a1, a2, a3, a4, a5, a6⟩ := h4 w w0 w1
    refine ⟨A1.ob a0, ?_, ?_, ?_, ?_, ?_, ?_⟩
    · rw [F1 _ _ (Or.inl (by decide)), eW w 0 w0 (by decide)]; exact a1
    · rw [F1 _ _ (Or.inl (by decide)), eW w 1 w0 (by decide)]; exact a2
    · rw [F1 _ _ (Or.inl (by decide)), eW w 2 w0 (by decide)]; exact a3
    · rw [F1 _ _ (Or.inl (by decide)), eW w 3 w0 (by decide)]; exact a4
    · rw [F1 _ _ (Or.inl (by decide)), eW w 4 w0 (by decide)]; exact a5
    · show _ = bI ((upF f 2 x 2).toNat.testBit w.toNat)
      rw [D1 w w0 w1, upF_self]
  · obtain ⟨a0, a1⟩ := h5 g g0 g1
    have ev := ek _ 5 a0 (by decide)
    unfold CG
    rw [eG g 0 g0 (by decide), eG g 1 g0 (by decide), eG g 2 g0 (by decide), eG g 3 g0 (by decide), eG g 4 g0 (by decide), eG g 5 g0 (by decide), eG g 6 g0 (by decide), ev, ev, ev, ev, ev, ev, ev, ev]
    exact ⟨A1.ob a0, a1⟩
  · rw [eo]; exact h6
  · rw [eo]; exact h7
  · rw [eo]; exact h8
  · rw [eo]; exact h9
  · rw [eo]; exact h10
/-- another number of the object's own -/
theorem CLd.ownL {i v : Int} {lt' : Int → Int} {f' : Int → Int} (h : CLd Lw S o f wr gr lt) (hi : 2 ≤ i) (hf : ∀ j, 0 ≤ j → j < 122 → j ≠ 3 → j ≠ 4 → j ≠ 5 → j ≠ 7 → j ≠ 6 → f' j = f j) (n0 : 0 ≤ f 0 ∧ f 0 ≤ 14) (n1 : 0 ≤ f 1 ∧ f 1 ≤ 6) (e2 : vt_up S o i v o 2 = f' 3) (e3 : vt_up S o i v o 3 = f' 4) (e4 : vt_up S o i v o 4 = f' 5) (hlt : ∀ u, 0 ≤ u → lt' u = lt u) (e5 : vt_up S o i v o 5 = f' 7 + lt' (-1)) (e29 : vt_up S o i v o 29 = f' 6) : CLd Lw (vt_up S o i v) o f' wr gr lt' := by
  obtain ⟨h1, h2, h3, h4, h5, h6, h7, h8, h9, h10⟩ := h
  have ek : ∀ q c, vc_ob Lw S q c → c ≠ 0 → ∀ j, vt_up S o i v q j = S q j := fun q c hq hc j => up_ne (Or.inl (ob_ne hq h1 hc))
  have eW : ∀ w k, 0 ≤ w → w ≤ 13 → 0 ≤ k → k ≤ 4 → sW f' w k = sW f w k := fun w k a b a2 b2 => hf _ (by omega) (by omega) (by omega) (by omega) (by omega) (by omega) (by omega)
  have eG : ∀ w k, 0 ≤ w → w ≤ 5 → 0 ≤ k → k ≤ 6 → sG f' w k = sG f w k := fun w k a b a2 b2 => hf _ (by omega) (by omega) (by omega) (by omega) (by omega) (by omega) (by omega)
  have f0 : f' 0 = f 0 := hf 0 (by decide) (by decide) (by decide) (by decide) (by decide) (by decide) (by decide)
  have f1 : f' 1 = f 1 := hf 1 (by decide) (by decide) (by decide) (by decide) (by decide) (by decide) (by decide)
  have f2 : f' 2 = f 2 := hf 2 (by decide) (by decide) (by decide) (by decide) (by decide) (by decide) (by decide)
  refine ⟨ob_up h1 (by omega), ?_, ?_, fun w w0 w1 => ?_, fun g g0 g1 => ?_, e2, e3, e4, e5, e29⟩
  · rw [up_ne (Or.inr (by omega)), f0]; exact li_of h2 (fun q c hq hc => ek q c hq (by omega))
  · rw [up_ne (Or.inr (by omega)), f1]; exact li_of h3 (fun q c hq hc => ek q c hq (by omega))
  · rw [f0] at w1
    obtain ⟨a0, a1⟩ := h4 w w0 w1
    have ev := ek _ 4 a0 (by decide)
    unfold CW
    rw [ev, ev, ev, ev, ev, ev, f2, eW w 0 w0 (by omega) (by decide) (by decide), eW w 1 w0 (by omega) (by decide) (by decide), eW w 2 w0 (by omega) (by decide) (by decide), eW w 3 w0 (by omega) (by decide) (by decide), eW w 4 w0 (by omega) (by decide) (by decide)]
    exact ⟨ob_up a0 (by omega), a1⟩
  · rw [f1] at g1
    obtain ⟨a0, a1⟩ := h5 g g0 g1
    have ev := ek _ 5 a0 (by decide)
    rw [hlt g g0]
    unfold CG
    rw [ev, ev, ev, ev, ev, ev, ev, ev, eG g 0 g0 (by omega) (by decide) (by decide), eG g 1 g0 (by omega) (by decide) (by decide), eG g 2 g0 (by omega) (by decide) (by decide), eG g 3 g0 (by omega) (by decide) (by decide), eG g 4 g0 (by omega) (by decide) (by decide), eG g 5 g0 (by omega) (by decide) (by decide), eG g 6 g0 (by omega) (by decide) (by decide)]
    exact ⟨ob_up a0 (by omega), a1⟩
theorem CLd.own {i v : Int} {f' : Int → Int} (h : CLd Lw S o f wr gr lt) (hi : 2 ≤ i) (hf : ∀ j, 0 ≤ j → j < 122 → j ≠ 3 → j ≠ 4 → j ≠ 5 → j ≠ 7 → j ≠ 6 → f' j = f j) (n0 : 0 ≤ f 0 ∧ f 0 ≤ 14) (n1 : 0 ≤ f 1 ∧ f 1 ≤ 6) (e2 : vt_up S o i v o 2 = f' 3) (e3 : vt_up S o i v o 3 = f' 4) (e4 : vt_up S o i v o 4 = f' 5) (e5 : vt_up S o i v o 5 = f' 7 + lt (-1)) (e29 : vt_up S o i v o 29 = f' 6) : CLd Lw (vt_up S o i v) o f' wr gr lt := h.ownL hi hf n0 n1 e2 e3 e4 (fun _ _ => rfl) e5 e29
theorem cm_seed {x : Int} (hlt : lt (-1) = 0) (hx : -2147483648 ≤ x ∧ x ≤ 2147483647) (h : CLd Lw S o f wr gr lt) (hl : LI K f) : vc_M d 0 0 76 [.inr (.inr o), ii x] Lw S B (vc_up (fun v Lw' S' B' => v = some (ii (sp_seed f x).1) ∧ Lw = Lw' ∧ Ag (qW S o τ) S S' ∧ CLd Lw S' o (sp_seed f x).2 wr gr lt)) := by
  refine vc_start rfl rfl (Nat.le_of_ble_eq_true rfl) (fun X hX hd => ?_)
  have hC := h
  obtain ⟨h1, h2, h3, h4, h5, h6, h7, h8, h9, h10⟩ := h
  refine vc_walk hX ck_X0_seed [] 60 hd ?_
  refine ⟨hx, fun c => ?_, fun c => ?_⟩
  · have e : sp_seed f x = (f 7, upF f 7 x) := if_pos (by omega)
    have e1 : (sp_seed f x).1 = f 7 := by rw [e]
    have e2 : (sp_seed f x).2 = upF f 7 x := by rw [e]
    rw [e1, e2]
    refine ⟨h1, h1, ⟨Nat.le_refl _, Nat.le_refl _⟩, by rw [h9, hlt, Int.add_zero], rfl, Ag.rf.up (Or.inr (Or.inl ⟨rfl, by decide, by decide⟩)), ?_⟩
    refine hC.own (by decide) (fun j _ _ _ _ _ h7 _ => upF_ne h7) hl.nW hl.nG ?_ ?_ ?_ ?_ ?_
    · rw [up_ne (Or.inr (by decide)), upF_ne (by decide)]; exact h6
    · rw [up_ne (Or.inr (by decide)), upF_ne (by decide)]; exact h7
    · rw [up_ne (Or.inr (by decide)), upF_ne (by decide)]; exact h8
    · rw [vt_up_self, upF_self, hlt, Int.add_zero]
    · rw [up_ne (Or.inr (by decide)), upF_ne (by decide)]; exact h10
  · have e : sp_seed f x = (-1, f) := if_neg (by omega)
    rw [e]
    exact ⟨⟨Nat.le_refl _, Nat.le_refl _⟩, rfl, rfl, Ag.rf, hC⟩
end CMJ
