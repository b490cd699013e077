/-! THE COMPONENT's parser: parts, tests (printed by gen_pt.py) -/
set_option maxRecDepth 100000
theorem CCon.bo_a {Lw : List Nat} {S : SS} {r x y k1 k2 k : Nat} {F1 F2 : WF} (ho : vc_ob Lw S r 13) (h0 : S r 0 = (x : Int)) (h1 : S r 1 = (y : Int)) (h2 : S r 2 = 0) (hx : CCon Lw S k1 x F1) (hy : CCon Lw S k2 y F2) (hk : k1 < k ∧ k2 < k) : CCon Lw S k r (jn 12 F1 F2) := by
  obtain ⟨m, rfl⟩ : ∃ m, k = m + 1 := ⟨k - 1, by omega⟩
  exact Or.inr (Or.inr ⟨ho, F1, F2, by rw [h0, Int.toNat_natCast]; exact hx.up (by omega), by rw [h1, Int.toNat_natCast]; exact hy.up (by omega), Or.inl ⟨h2, rfl⟩⟩)
theorem cm_partP {k : Nat} (ihs : ∀ j, j ≤ k → RdC 0 107 8 j) : RdC 1 106 9 (k + 1) := by
  intro Lw S B o pr tp n a cn dp cl mo t q dd h hq hdd
  obtain ⟨hn, ha, hcn, hdp, hcl⟩ := h.rgs
  obtain ⟨d, rfl⟩ : ∃ d, dd = d + 9 := ⟨dd - 9, by omega⟩
  refine vc_start rfl rfl (Nat.le_of_ble_eq_true rfl) (fun X hX hd => ?_)
  have wP := h.wP
  have hsk := sk_spec (tp := tp) (n := n) a
  have hpq := pq_rd (k + 1) 1 a cn dp t q ha.2 hcn.2 hq
  rw [if_pos (by decide), if_pos (by decide)] at hpq
  rw [rd] at hq
  have hE0 := hpq.1
  have loop : ∀ (j : Nat), j ≤ k → ∀ (Lw1 : List Nat) (S1 : SS) (B1 : SB) (a1 cn1 : Int) (F : WF) (v cc sl : Nat), Cur Lw S Lw1 S1 pr o a1 cn1 dp cl → (a < a1 ∧ a1 ≤ n) → (cn < cn1 ∧ cn1 ≤ 60) → CCon Lw1 S1 (cn1 - cn + 10 - dp).toNat v F → (cc : Int) ≤ a1 - a → (sl : Int) ≤ 4 * (a1 - a) → rd tp n j 3 a1 cn1 dp F = some q → vc_J 106 (TrP Lw S pr o (TC cn dp) q) X 5 [(0, .inr (.inr pr)), (1, .inr (.inr v))] [] Lw1 S1 B1 cc sl := by
    intro j
    induction j with
    | zero => intro hj Lw1 S1 B1 a1 cn1 F v cc sl C ra rc hv bc bs hL; cases hL
    | succ j ih =>
      intro hj Lw1 S1 B1 a1 cn1 F v cc sl C ra rc hv bc bs hL
      have hpl := pq_rd (j + 1) 3 a1 cn1 dp F q (by omega) (by omega) hL
      rw [if_neg (by decide), if_neg (by decide)] at hpl
      have hs1 := sk_spec (tp := tp) (n := n) a1
      have hs1n := hs1.2.1 (by omega)
      have hw3 := fun z => wl3 (tp := tp) (n := n) (b := sk tp n a1) (w := wAnd) hs1n z
      obtain ⟨P1, w1⟩ := C.ps h (by omega) (by omega) hdp hcl
      have hT := cm_takes (B := B1) (d := d + 3) (i := 13) (by decide) rfl P1.1 (by omega)
      rw [wd_13] at hT
      rw [rd] at hL
      have hEb := hpl.1
      generalize hb : sk tp n a1 = b at *
      by_cases cw : wl tp n b = wAnd
      · rw [if_pos cw] at hL
        rw [decide_eq_true cw, if_pos cw] at hT
        have hT : vc_M (d + 8) 0 0 104 [.inr (.inr pr), .inr (.inr (S1 0 ((13 : Nat) : Int)).toNat)] Lw1 S1 B1 (vc_eq (some (ii 1)) Lw1 (vt_up S1 pr 1 (b + 3)) B1) := hT
        have hw3 : b + 3 ≤ n := hw3 cw
        have D3 := P1.cur.at_ P1 (b + 3)
        have hsb := sk_spec (tp := tp) (n := n) (b + 3)
        obtain ⟨q1, ht, hqq, hE2⟩ : ∃ q1, rd tp n j 0 (b + 3) cn1 dp F = some q1 ∧ ((∃ e, q1 = .inl e ∧ q = .inl e) ∨ ∃ a2 c2 G, q1 = .inr (a2, c2, G) ∧ rd tp n j 3 a2 c2 dp (jn 12 F G) = some q) ∧ b + 3 + 1 ≤ EE n q1 ∧ EE n q1 ≤ EE n q := by
          rcases pb_inv hL with ⟨e, h1, rfl⟩ | ⟨a2, c2, G, h1, h2⟩
          · exact ⟨_, h1, Or.inl ⟨e, rfl, rfl⟩, by show _ ≤ n + 1; omega, Int.le_refl _⟩
          · have p := pq_rd j 0 (b + 3) cn1 dp F _ (by omega) (by omega) h1
            rw [if_pos (by decide), if_pos (by decide)] at p
            have p2 := p.2 _ rfl
            have p3 : sk tp n (b + 3) + 1 ≤ a2 := p.1
            dsimp only at p2
            have p4 := pq_rd j 3 a2 c2 dp _ q (by omega) (by omega) h2
            rw [if_neg (by decide), if_neg (by decide)] at p4
            have p5 := p4.1
            have hs2 := sk_spec (tp := tp) (n := n) a2
            exact ⟨_, h1, Or.inr ⟨a2, c2, G, rfl, h2⟩, by show _ ≤ a2; omega, by show a2 ≤ _; omega⟩
        have hpv := pq_rd j 0 (b + 3) cn1 dp F q1 (by omega) (by omega) ht
        rw [if_pos (by decide), if_pos (by decide)] at hpv
        refine vc_walk hX ck_X4_part [(5, [0, 1])] 60 hd ?_
        refine vc_kv P1.1.1 hT ⟨by omega, by omega⟩ ?_
        refine ⟨by decide, fun z => absurd z (by decide), fun _ => ?_⟩
        generalize vt_up S1 pr 1 (b + 3) = S3 at *
        refine ⟨(show cc + 0 + 1 ≤ (EE n q - a).toNat ∧ sl + 0 + 3 ≤ (4 * (EE n q - a)).toNat from ⟨by omega, by omega⟩), fun x0 nx0 => ?_⟩
        have D4 := D3.nw (c := ((13 : Nat) : Int)) (l := 0) P1 nx0
        obtain ⟨P4, w4⟩ := D4.ps P1 (by omega) (by omega) hdp hcl
        have ob4 : vc_ob (Lw1 ++ [x0]) (vc_nw S3 (x0 + 1) ((13 : Nat) : Int) 0) (x0 + 1) 13 := nw_new
        have z4 : vc_nw S3 (x0 + 1) ((13 : Nat) : Int) 0 (x0 + 1) 0 = 0 := by rw [vc_nw_at]; rfl
        have bud : cc + 0 + 1 + (EE n q1 - (b + 3)).toNat ≤ (EE n q - a).toNat ∧ sl + 0 + 3 + (4 * (EE n q1 - (b + 3))).toNat ≤ (4 * (EE n q - a)).toNat := ⟨by omega, by omega⟩
        refine ⟨P4.1.1, _, _, _, ihs j (by omega) _ _ _ _ _ _ _ _ _ _ _ _ _ q1 (d + 8) P4 ht (by omega), bud, ?_⟩
        rintro r Lw5 S5 B5 ⟨E5, z5, ⟨a2, c2, G, y, hpe, rfl, v1, v3, v2, v4, hy⟩ | ⟨e, hpe, rfl, ve⟩⟩
        · subst hpe
          have hL : rd tp n j 3 a2 c2 dp (jn 12 F G) = some q := by
            rcases hqq with ⟨e, x, -⟩ | ⟨a2', c2', G', x, y⟩
            · cases x
            · cases x; exact y
          have p2 := hpv.2 _ rfl
          have p3 : sk tp n (b + 3) + 1 ≤ a2 := hpv.1
          dsimp only at p2
          have eE : EE n (.inr (a2, c2, G)) = a2 := rfl
          rw [eE] at bud hE2
          have D5 := D4.tr w4 E5 z5 v1 v3 (v2.trans P4.2.2.1.1) (v4.trans P4.2.2.2.1.1)
          obtain ⟨ob5, e5⟩ := P4.cell E5 ob4 (by decide)
          have D6 := ((D5.oth (x := x0) (i := 0) (v := (v : Int)) P1 nx0).oth (x := x0) (i := 1) (v := (y : Int)) P1 nx0).oth (x := x0) (i := 2) (v := 0) P1 nx0
          have E6 : Ext (fun q _ => q = x0 + 1) Lw5 S5 id Lw5 (vt_up (vt_up (vt_up S5 (x0 + 1) 0 (v : Int)) (x0 + 1) 1 (y : Int)) (x0 + 1) 2 0) id := ((Ext.rf.upW (fun _ => rfl)).upW (fun _ => rfl)).upW (fun _ => rfl)
          have hbl : blW S5 (fun q _ => q = x0 + 1) := fun q i _ _ z => by
            subst z
            exact ⟨by rw [ob5.2]; decide, by rw [e5]; exact z4⟩
          have ob6 : vc_ob Lw5 (vt_up (vt_up (vt_up S5 (x0 + 1) 0 (v : Int)) (x0 + 1) 1 (y : Int)) (x0 + 1) 2 0) (x0 + 1) 13 := ob_up (ob_up (ob_up ob5 (by decide)) (by decide)) (by decide)
          refine vc_k (cm_bothInit (d := d + 6) (b := 0) (by decide) ob5) (show cc + 0 + 1 + (a2 - (b + 3)).toNat + 0 ≤ (EE n q - a).toNat ∧ sl + 0 + 3 + (4 * (a2 - (b + 3))).toNat + 0 ≤ (4 * (EE n q - a)).toNat from ⟨by omega, by omega⟩) ?_
          have f0 : vt_up (vt_up (vt_up S5 (x0 + 1) 0 (v : Int)) (x0 + 1) 1 (y : Int)) (x0 + 1) 2 0 (x0 + 1) 0 = (v : Int) := by rw [up_ne (Or.inr (by decide)), up_ne (Or.inr (by decide)), vt_up_self]
          have f1 : vt_up (vt_up (vt_up S5 (x0 + 1) 0 (v : Int)) (x0 + 1) 1 (y : Int)) (x0 + 1) 2 0 (x0 + 1) 1 = (y : Int) := by rw [up_ne (Or.inr (by decide)), vt_up_self]
          have f2 : vt_up (vt_up (vt_up S5 (x0 + 1) 0 (v : Int)) (x0 + 1) 1 (y : Int)) (x0 + 1) 2 0 (x0 + 1) 2 = 0 := vt_up_self
          generalize vt_up (vt_up (vt_up S5 (x0 + 1) 0 (v : Int)) (x0 + 1) 1 (y : Int)) (x0 + 1) 2 0 = S6 at *
          refine ih (by omega) Lw5 S6 B5 a2 c2 _ (x0 + 1) _ _ (C.tr w1 D6.1 D6.2.1 D6.2.2.1 D6.2.2.2.1 D6.2.2.2.2.1 D6.2.2.2.2.2) (by omega) (by omega) ?_ ?_ ?_ hL
          · exact CCon.bo_a ob6 f0 f1 f2 (hv.keep D6.1 P1.tW) (CCon.keep E6 hbl hy) (by omega)
          · show ((cc + 0 + 1 + (a2 - (b + 3)).toNat + 0 : Nat) : Int) ≤ _
            omega
          · show ((sl + 0 + 3 + (4 * (a2 - (b + 3))).toNat + 0 : Nat) : Int) ≤ _
            omega
        · subst hpe
          have hL : q = .inl e := by
            rcases hqq with ⟨e, x, y⟩ | ⟨a2', c2', G', x, y⟩
            · cases x; exact y
            · cases x
          have w4' := w4.trans w1
          have C4 := C.tr w1 D4.1 D4.2.1 D4.2.2.1 D4.2.2.2.1 D4.2.2.2.2.1 D4.2.2.2.2.2
          rw [w4'] at ve ⊢
          exact ⟨⟨wP, bud⟩, TrP.thr (T2 := TC cn dp) (q1 := q) C4 w4' E5 z5 ve hL⟩
      · rw [if_neg cw] at hL
        have hL := Option.some.inj hL
        rw [decide_eq_false cw, if_neg cw, Int.add_zero] at hT
        have D2 := P1.cur.at_ P1 b
        have D := C.tr w1 D2.1 D2.2.1 D2.2.2.1 D2.2.2.2.1 D2.2.2.2.2.1 D2.2.2.2.2.2
        refine vc_walk hX ck_X4_part [] 60 hd ?_
        refine vc_kv P1.1.1 hT ⟨by omega, by omega⟩ ?_
        refine ⟨by decide, fun _ => ?_, fun z => absurd rfl z⟩
        refine ⟨⟨by omega, by omega⟩, D.1, D.2.1, Or.inl ⟨b, cn1, F, v, hL.symm, rfl, D.2.2.1, D.2.2.2.1, ?_, ?_, ?_⟩⟩
        · rw [D.2.2.2.2.1, h.2.2.1.1]
        · rw [D.2.2.2.2.2, h.2.2.2.1.1]
        · exact hv.keep D2.1 P1.tW
  obtain ⟨q1, ht, hqq, hE2⟩ : ∃ q1, rd tp n k 0 a cn dp t = some q1 ∧ ((∃ e, q1 = .inl e ∧ q = .inl e) ∨ ∃ a2 c2 G, q1 = .inr (a2, c2, G) ∧ rd tp n k 3 a2 c2 dp G = some q) ∧ EE n q1 ≤ EE n q := by
    rcases pb_inv hq with ⟨e, h1, rfl⟩ | ⟨a2, c2, G, h1, h2⟩
    · exact ⟨_, h1, Or.inl ⟨e, rfl, rfl⟩, Int.le_refl _⟩
    · have p := pq_rd k 0 a cn dp t _ (by omega) (by omega) h1
      rw [if_pos (by decide), if_pos (by decide)] at p
      have p2 := p.2 _ rfl
      dsimp only at p2
      have p4 := pq_rd k 3 a2 c2 dp _ q (by omega) (by omega) h2
      rw [if_neg (by decide), if_neg (by decide)] at p4
      have p5 := p4.1
      have hs2 := sk_spec (tp := tp) (n := n) a2
      exact ⟨_, h1, Or.inr ⟨a2, c2, G, rfl, h2⟩, by show a2 ≤ _; omega⟩
  have hpv := pq_rd k 0 a cn dp t q1 (by omega) (by omega) ht
  rw [if_pos (by decide), if_pos (by decide)] at hpv
  refine vc_walk hX ck_X4_part [(5, [0, 1])] 60 hd ?_
  have bud : 0 + (EE n q1 - a).toNat ≤ (EE n q - a).toNat ∧ 0 + (4 * (EE n q1 - a)).toNat ≤ (4 * (EE n q - a)).toNat := ⟨by omega, by omega⟩
  refine ⟨h.1.1, _, _, _, ihs k (Nat.le_refl _) _ _ _ _ _ _ _ _ _ _ _ _ _ q1 (d + 8) h ht (by omega), bud, ?_⟩
  rintro r Lw5 S5 B5 ⟨E5, z5, ⟨a2, c2, G, y, hpe, rfl, v1, v3, v2, v4, hy⟩ | ⟨e, hpe, rfl, ve⟩⟩
  · subst hpe
    have hL : rd tp n k 3 a2 c2 dp G = some q := by
      rcases hqq with ⟨e, x, -⟩ | ⟨a2', c2', G', x, y⟩
      · cases x
      · cases x; exact y
    have p2 := hpv.2 _ rfl
    have p3 : sk tp n a + 1 ≤ a2 := hpv.1
    dsimp only at p2
    refine loop k (Nat.le_refl _) Lw5 S5 B5 a2 c2 G y _ _ ⟨E5, z5, v1, v3, v2.trans h.2.2.1.1, v4.trans h.2.2.2.1.1⟩ (by omega) (by omega) hy ?_ ?_ hL
    · show ((0 + (a2 - a).toNat : Nat) : Int) ≤ _
      omega
    · show ((0 + (4 * (a2 - a)).toNat : Nat) : Int) ≤ _
      omega
  · subst hpe
    have hL : q = .inl e := by
      rcases hqq with ⟨e, x, y⟩ | ⟨a2', c2', G', x, y⟩
      · cases x; exact y
      · cases x
    exact ⟨⟨wP, bud⟩, E5, z5, Or.inr ⟨e, hL, rfl, ve⟩⟩
theorem CCon.bo_b {Lw : List Nat} {S : SS} {r x y k1 k2 k : Nat} {F1 F2 : WF} (ho : vc_ob Lw S r 13) (h0 : S r 0 = (x : Int)) (h1 : S r 1 = (y : Int)) (h2 : S r 2 = 1) (hx : CCon Lw S k1 x F1) (hy : CCon Lw S k2 y F2) (hk : k1 < k ∧ k2 < k) : CCon Lw S k r (jn 13 F1 F2) := by
  obtain ⟨m, rfl⟩ : ∃ m, k = m + 1 := ⟨k - 1, by omega⟩
  exact Or.inr (Or.inr ⟨ho, F1, F2, by rw [h0, Int.toNat_natCast]; exact hx.up (by omega), by rw [h1, Int.toNat_natCast]; exact hy.up (by omega), Or.inr ⟨h2, rfl⟩⟩)
theorem cm_testP {k : Nat} (ihs : ∀ j, j ≤ k → RdC 1 106 9 j) : RdC 2 105 10 (k + 1) := by
  intro Lw S B o pr tp n a cn dp cl mo t q dd h hq hdd
  obtain ⟨hn, ha, hcn, hdp, hcl⟩ := h.rgs
  obtain ⟨d, rfl⟩ : ∃ d, dd = d + 10 := ⟨dd - 10, by omega⟩
  refine vc_start rfl rfl (Nat.le_of_ble_eq_true rfl) (fun X hX hd => ?_)
  have wP := h.wP
  have hsk := sk_spec (tp := tp) (n := n) a
  have hpq := pq_rd (k + 1) 2 a cn dp t q ha.2 hcn.2 hq
  rw [if_pos (by decide), if_pos (by decide)] at hpq
  rw [rd] at hq
  have hE0 := hpq.1
  have loop : ∀ (j : Nat), j ≤ k → ∀ (Lw1 : List Nat) (S1 : SS) (B1 : SB) (a1 cn1 : Int) (F : WF) (v cc sl : Nat), Cur Lw S Lw1 S1 pr o a1 cn1 dp cl → (a < a1 ∧ a1 ≤ n) → (cn < cn1 ∧ cn1 ≤ 60) → CCon Lw1 S1 (cn1 - cn + 10 - dp).toNat v F → (cc : Int) ≤ a1 - a → (sl : Int) ≤ 4 * (a1 - a) → rd tp n j 4 a1 cn1 dp F = some q → vc_J 105 (TrP Lw S pr o (TC cn dp) q) X 5 [(0, .inr (.inr pr)), (1, .inr (.inr v))] [] Lw1 S1 B1 cc sl := by
    intro j
    induction j with
    | zero => intro hj Lw1 S1 B1 a1 cn1 F v cc sl C ra rc hv bc bs hL; cases hL
    | succ j ih =>
      intro hj Lw1 S1 B1 a1 cn1 F v cc sl C ra rc hv bc bs hL
      have hpl := pq_rd (j + 1) 4 a1 cn1 dp F q (by omega) (by omega) hL
      rw [if_neg (by decide), if_neg (by decide)] at hpl
      have hs1 := sk_spec (tp := tp) (n := n) a1
      have hs1n := hs1.2.1 (by omega)
      have hw3 := fun z => wl3 (tp := tp) (n := n) (b := sk tp n a1) (w := wOr) hs1n z
      obtain ⟨P1, w1⟩ := C.ps h (by omega) (by omega) hdp hcl
      have hT := cm_takes (B := B1) (d := d + 4) (i := 14) (by decide) rfl P1.1 (by omega)
      rw [wd_14] at hT
      rw [rd] at hL
      have hEb := hpl.1
      generalize hb : sk tp n a1 = b at *
      by_cases cw : wl tp n b = wOr
      · rw [if_pos cw] at hL
        rw [decide_eq_true cw, if_pos cw] at hT
        have hT : vc_M (d + 9) 0 0 104 [.inr (.inr pr), .inr (.inr (S1 0 ((14 : Nat) : Int)).toNat)] Lw1 S1 B1 (vc_eq (some (ii 1)) Lw1 (vt_up S1 pr 1 (b + 2)) B1) := hT
        have hw3 : b + 2 ≤ n := hw3 cw
        have D3 := P1.cur.at_ P1 (b + 2)
        have hsb := sk_spec (tp := tp) (n := n) (b + 2)
        obtain ⟨q1, ht, hqq, hE2⟩ : ∃ q1, rd tp n j 1 (b + 2) cn1 dp F = some q1 ∧ ((∃ e, q1 = .inl e ∧ q = .inl e) ∨ ∃ a2 c2 G, q1 = .inr (a2, c2, G) ∧ rd tp n j 4 a2 c2 dp (jn 13 F G) = some q) ∧ b + 2 + 1 ≤ EE n q1 ∧ EE n q1 ≤ EE n q := by
          rcases pb_inv hL with ⟨e, h1, rfl⟩ | ⟨a2, c2, G, h1, h2⟩
          · exact ⟨_, h1, Or.inl ⟨e, rfl, rfl⟩, by show _ ≤ n + 1; omega, Int.le_refl _⟩
          · have p := pq_rd j 1 (b + 2) cn1 dp F _ (by omega) (by omega) h1
            rw [if_pos (by decide), if_pos (by decide)] at p
            have p2 := p.2 _ rfl
            have p3 : sk tp n (b + 2) + 1 ≤ a2 := p.1
            dsimp only at p2
            have p4 := pq_rd j 4 a2 c2 dp _ q (by omega) (by omega) h2
            rw [if_neg (by decide), if_neg (by decide)] at p4
            have p5 := p4.1
            have hs2 := sk_spec (tp := tp) (n := n) a2
            exact ⟨_, h1, Or.inr ⟨a2, c2, G, rfl, h2⟩, by show _ ≤ a2; omega, by show a2 ≤ _; omega⟩
        have hpv := pq_rd j 1 (b + 2) cn1 dp F q1 (by omega) (by omega) ht
        rw [if_pos (by decide), if_pos (by decide)] at hpv
        refine vc_walk hX ck_X4_test [(5, [0, 1])] 60 hd ?_
        refine vc_kv P1.1.1 hT ⟨by omega, by omega⟩ ?_
        refine ⟨by decide, fun z => absurd z (by decide), fun _ => ?_⟩
        generalize vt_up S1 pr 1 (b + 2) = S3 at *
        refine ⟨(show cc + 0 + 1 ≤ (EE n q - a).toNat ∧ sl + 0 + 3 ≤ (4 * (EE n q - a)).toNat from ⟨by omega, by omega⟩), fun x0 nx0 => ?_⟩
        have D4 := D3.nw (c := ((13 : Nat) : Int)) (l := 0) P1 nx0
        obtain ⟨P4, w4⟩ := D4.ps P1 (by omega) (by omega) hdp hcl
        have ob4 : vc_ob (Lw1 ++ [x0]) (vc_nw S3 (x0 + 1) ((13 : Nat) : Int) 0) (x0 + 1) 13 := nw_new
        have z4 : vc_nw S3 (x0 + 1) ((13 : Nat) : Int) 0 (x0 + 1) 0 = 0 := by rw [vc_nw_at]; rfl
        have bud : cc + 0 + 1 + (EE n q1 - (b + 2)).toNat ≤ (EE n q - a).toNat ∧ sl + 0 + 3 + (4 * (EE n q1 - (b + 2))).toNat ≤ (4 * (EE n q - a)).toNat := ⟨by omega, by omega⟩
        refine ⟨P4.1.1, _, _, _, ihs j (by omega) _ _ _ _ _ _ _ _ _ _ _ _ _ q1 (d + 9) P4 ht (by omega), bud, ?_⟩
        rintro r Lw5 S5 B5 ⟨E5, z5, ⟨a2, c2, G, y, hpe, rfl, v1, v3, v2, v4, hy⟩ | ⟨e, hpe, rfl, ve⟩⟩
        · subst hpe
          have hL : rd tp n j 4 a2 c2 dp (jn 13 F G) = some q := by
            rcases hqq with ⟨e, x, -⟩ | ⟨a2', c2', G', x, y⟩
            · cases x
            · cases x; exact y
          have p2 := hpv.2 _ rfl
          have p3 : sk tp n (b + 2) + 1 ≤ a2 := hpv.1
          dsimp only at p2
          have eE : EE n (.inr (a2, c2, G)) = a2 := rfl
          rw [eE] at bud hE2
          have D5 := D4.tr w4 E5 z5 v1 v3 (v2.trans P4.2.2.1.1) (v4.trans P4.2.2.2.1.1)
          obtain ⟨ob5, e5⟩ := P4.cell E5 ob4 (by decide)
          have D6 := ((D5.oth (x := x0) (i := 0) (v := (v : Int)) P1 nx0).oth (x := x0) (i := 1) (v := (y : Int)) P1 nx0).oth (x := x0) (i := 2) (v := 1) P1 nx0
          have E6 : Ext (fun q _ => q = x0 + 1) Lw5 S5 id Lw5 (vt_up (vt_up (vt_up S5 (x0 + 1) 0 (v : Int)) (x0 + 1) 1 (y : Int)) (x0 + 1) 2 1) id := ((Ext.rf.upW (fun _ => rfl)).upW (fun _ => rfl)).upW (fun _ => rfl)
          have hbl : blW S5 (fun q _ => q = x0 + 1) := fun q i _ _ z => by
            subst z
            exact ⟨by rw [ob5.2]; decide, by rw [e5]; exact z4⟩
          have ob6 : vc_ob Lw5 (vt_up (vt_up (vt_up S5 (x0 + 1) 0 (v : Int)) (x0 + 1) 1 (y : Int)) (x0 + 1) 2 1) (x0 + 1) 13 := ob_up (ob_up (ob_up ob5 (by decide)) (by decide)) (by decide)
          refine vc_k (cm_bothInit (d := d + 7) (b := 1) (by decide) ob5) (show cc + 0 + 1 + (a2 - (b + 2)).toNat + 0 ≤ (EE n q - a).toNat ∧ sl + 0 + 3 + (4 * (a2 - (b + 2))).toNat + 0 ≤ (4 * (EE n q - a)).toNat from ⟨by omega, by omega⟩) ?_
          have f0 : vt_up (vt_up (vt_up S5 (x0 + 1) 0 (v : Int)) (x0 + 1) 1 (y : Int)) (x0 + 1) 2 1 (x0 + 1) 0 = (v : Int) := by rw [up_ne (Or.inr (by decide)), up_ne (Or.inr (by decide)), vt_up_self]
          have f1 : vt_up (vt_up (vt_up S5 (x0 + 1) 0 (v : Int)) (x0 + 1) 1 (y : Int)) (x0 + 1) 2 1 (x0 + 1) 1 = (y : Int) := by rw [up_ne (Or.inr (by decide)), vt_up_self]
          have f2 : vt_up (vt_up (vt_up S5 (x0 + 1) 0 (v : Int)) (x0 + 1) 1 (y : Int)) (x0 + 1) 2 1 (x0 + 1) 2 = 1 := vt_up_self
          generalize vt_up (vt_up (vt_up S5 (x0 + 1) 0 (v : Int)) (x0 + 1) 1 (y : Int)) (x0 + 1) 2 1 = S6 at *
          refine ih (by omega) Lw5 S6 B5 a2 c2 _ (x0 + 1) _ _ (C.tr w1 D6.1 D6.2.1 D6.2.2.1 D6.2.2.2.1 D6.2.2.2.2.1 D6.2.2.2.2.2) (by omega) (by omega) ?_ ?_ ?_ hL
          · exact CCon.bo_b ob6 f0 f1 f2 (hv.keep D6.1 P1.tW) (CCon.keep E6 hbl hy) (by omega)
          · show ((cc + 0 + 1 + (a2 - (b + 2)).toNat + 0 : Nat) : Int) ≤ _
            omega
          · show ((sl + 0 + 3 + (4 * (a2 - (b + 2))).toNat + 0 : Nat) : Int) ≤ _
            omega
        · subst hpe
          have hL : q = .inl e := by
            rcases hqq with ⟨e, x, y⟩ | ⟨a2', c2', G', x, y⟩
            · cases x; exact y
            · cases x
          have w4' := w4.trans w1
          have C4 := C.tr w1 D4.1 D4.2.1 D4.2.2.1 D4.2.2.2.1 D4.2.2.2.2.1 D4.2.2.2.2.2
          rw [w4'] at ve ⊢
          exact ⟨⟨wP, bud⟩, TrP.thr (T2 := TC cn dp) (q1 := q) C4 w4' E5 z5 ve hL⟩
      · rw [if_neg cw] at hL
        have hL := Option.some.inj hL
        rw [decide_eq_false cw, if_neg cw, Int.add_zero] at hT
        have D2 := P1.cur.at_ P1 b
        have D := C.tr w1 D2.1 D2.2.1 D2.2.2.1 D2.2.2.2.1 D2.2.2.2.2.1 D2.2.2.2.2.2
        refine vc_walk hX ck_X4_test [] 60 hd ?_
        refine vc_kv P1.1.1 hT ⟨by omega, by omega⟩ ?_
        refine ⟨by decide, fun _ => ?_, fun z => absurd rfl z⟩
        refine ⟨⟨by omega, by omega⟩, D.1, D.2.1, Or.inl ⟨b, cn1, F, v, hL.symm, rfl, D.2.2.1, D.2.2.2.1, ?_, ?_, ?_⟩⟩
        · rw [D.2.2.2.2.1, h.2.2.1.1]
        · rw [D.2.2.2.2.2, h.2.2.2.1.1]
        · exact hv.keep D2.1 P1.tW
  obtain ⟨q1, ht, hqq, hE2⟩ : ∃ q1, rd tp n k 1 a cn dp t = some q1 ∧ ((∃ e, q1 = .inl e ∧ q = .inl e) ∨ ∃ a2 c2 G, q1 = .inr (a2, c2, G) ∧ rd tp n k 4 a2 c2 dp G = some q) ∧ EE n q1 ≤ EE n q := by
    rcases pb_inv hq with ⟨e, h1, rfl⟩ | ⟨a2, c2, G, h1, h2⟩
    · exact ⟨_, h1, Or.inl ⟨e, rfl, rfl⟩, Int.le_refl _⟩
    · have p := pq_rd k 1 a cn dp t _ (by omega) (by omega) h1
      rw [if_pos (by decide), if_pos (by decide)] at p
      have p2 := p.2 _ rfl
      dsimp only at p2
      have p4 := pq_rd k 4 a2 c2 dp _ q (by omega) (by omega) h2
      rw [if_neg (by decide), if_neg (by decide)] at p4
      have p5 := p4.1
      have hs2 := sk_spec (tp := tp) (n := n) a2
      exact ⟨_, h1, Or.inr ⟨a2, c2, G, rfl, h2⟩, by show a2 ≤ _; omega⟩
  have hpv := pq_rd k 1 a cn dp t q1 (by omega) (by omega) ht
  rw [if_pos (by decide), if_pos (by decide)] at hpv
  refine vc_walk hX ck_X4_test [(5, [0, 1])] 60 hd ?_
  have bud : 0 + (EE n q1 - a).toNat ≤ (EE n q - a).toNat ∧ 0 + (4 * (EE n q1 - a)).toNat ≤ (4 * (EE n q - a)).toNat := ⟨by omega, by omega⟩
  refine ⟨h.1.1, _, _, _, ihs k (Nat.le_refl _) _ _ _ _ _ _ _ _ _ _ _ _ _ q1 (d + 9) h ht (by omega), bud, ?_⟩
  rintro r Lw5 S5 B5 ⟨E5, z5, ⟨a2, c2, G, y, hpe, rfl, v1, v3, v2, v4, hy⟩ | ⟨e, hpe, rfl, ve⟩⟩
  · subst hpe
    have hL : rd tp n k 4 a2 c2 dp G = some q := by
      rcases hqq with ⟨e, x, -⟩ | ⟨a2', c2', G', x, y⟩
      · cases x
      · cases x; exact y
    have p2 := hpv.2 _ rfl
    have p3 : sk tp n a + 1 ≤ a2 := hpv.1
    dsimp only at p2
    refine loop k (Nat.le_refl _) Lw5 S5 B5 a2 c2 G y _ _ ⟨E5, z5, v1, v3, v2.trans h.2.2.1.1, v4.trans h.2.2.2.1.1⟩ (by omega) (by omega) hy ?_ ?_ hL
    · show ((0 + (a2 - a).toNat : Nat) : Int) ≤ _
      omega
    · show ((0 + (4 * (a2 - a)).toNat : Nat) : Int) ≤ _
      omega
  · subst hpe
    have hL : q = .inl e := by
      rcases hqq with ⟨e, x, y⟩ | ⟨a2', c2', G', x, y⟩
      · cases x; exact y
      · cases x
    exact ⟨⟨wP, bud⟩, E5, z5, Or.inr ⟨e, hL, rfl, ve⟩⟩
theorem cm_rds : ∀ k : Nat, RdC 0 107 8 k ∧ RdC 1 106 9 k ∧ RdC 2 105 10 k := by
  intro k
  induction k using Nat.strongRecOn with
  | ind k ih =>
    cases k with
    | zero => exact ⟨fun _ _ _ _ _ _ _ _ _ _ _ _ _ _ _ _ h => (by cases h), fun _ _ _ _ _ _ _ _ _ _ _ _ _ _ _ _ h => (by cases h), fun _ _ _ _ _ _ _ _ _ _ _ _ _ _ _ _ h => (by cases h)⟩
    | succ k => exact ⟨cm_factP (ih k (Nat.lt_succ_self _)).1 (ih k (Nat.lt_succ_self _)).2.2, cm_partP (fun j hj => (ih j (by omega)).1), cm_testP (fun j hj => (ih j (by omega)).2.1)⟩
theorem cm_testR {k : Nat} : RdC 2 105 10 k := (cm_rds k).2.2
