/-! THE COMPONENT's parser: facts, parts, tests -/
set_option maxRecDepth 100000
/-- the reading of sort mode (0 a fact, 1 a part, 2 a test) by the method mt, with fuel k -/
def RdC (mode mt fr k : Nat) : Prop := ∀ (Lw : List Nat) (S : SS) (B : SB) (o pr : Nat) (tp : Int → Int) (n a cn dp cl mo : Int) (t : WF) (q : PRs) (dd : Nat), PSt Lw S pr o tp n a cn dp cl mo → rd tp n k mode a cn dp t = some q → (fr : Int) + 3 * (10 - dp) ≤ dd → vc_M dd (EE n q - a).toNat (4 * (EE n q - a)).toNat mt [.inr (.inr pr)] Lw S B (TrP Lw S pr o (TC cn dp) q)
section CPM
variable {Lw Lw' Lw1 : List Nat} {S0 S S1 S' : SS} {B : SB} {d o pr : Nat} {tp : Int → Int} {n a cn dp cl mo a1 cn1 dp1 cl1 b : Int} {X : vc_X} {q : PRs}
theorem fact_not {k : Nat} {t : WF} (ih : RdC 0 107 8 k) (hX : vc_F 107 X) (hd : X.2.2.2.2.2.2.2.2.2.2.2.2.2.2 = (d + 8, (EE n q - a).toNat, (4 * (EE n q - a)).toNat)) (hdd : 8 + 3 * (10 - dp) ≤ ((d + 8 : Nat) : Int)) (h : PSt Lw S pr o tp n a cn dp cl mo) (C1 : Cur Lw S Lw S1 pr o b cn dp cl) (hb : a ≤ b ∧ b + 3 ≤ n) (hq : (if dp = 10 then some (.inl (er 2 b)) else pb (rd tp n k 0 (b + 3) cn (dp + 1) t) (fun a' c' G => some (.inr (a', c', ngW G)))) = some q) : vc_J 107 (TrP Lw S pr o (TC cn dp) q) X 19 [(0, .inr (.inr pr)), (1, ii b)] [] Lw S1 B 0 0 := by
  obtain ⟨hn, ha, hcn, hdp, hcl⟩ := h.rgs
  have wP := h.wP
  obtain ⟨P1, w1⟩ := C1.ps h (by omega) hcn hdp hcl
  by_cases c : dp = 10
  · rw [if_pos c] at hq
    refine vc_walk hX ck_X4_fact [] 90 hd ?_
    refine ⟨P1.1.1, 0, 0, _, cm_deeper (d := d + 6) (x := b) P1.1 (by rw [P1.2.2.1.1]; omega), ⟨Nat.zero_le _, Nat.zero_le _⟩, ?_⟩
    rintro r Lw2 S2 B2 ⟨rfl, rfl, ⟨z, rfl, rfl⟩ | ⟨z, rfl, rfl⟩⟩
    · exact absurd (P1.2.2.1.1.trans c) z
    · rw [w1]
      exact ⟨⟨wP, Nat.zero_le _, Nat.zero_le _⟩, TrP.bad h C1 (Option.some.inj hq).symm⟩
  · rw [if_neg c] at hq
    obtain ⟨q1, ht, hqq, hE2⟩ : ∃ q1, rd tp n k 0 (b + 3) cn (dp + 1) t = some q1 ∧ ((∃ e, q1 = .inl e ∧ q = .inl e) ∨ ∃ a2 c2 G, q1 = .inr (a2, c2, G) ∧ q = .inr (a2, c2, ngW G)) ∧ EE n q1 ≤ EE n q := by
      rcases pb_inv hq with ⟨e, h1, rfl⟩ | ⟨a2, c2, G, h1, h2⟩
      · exact ⟨_, h1, Or.inl ⟨e, rfl, rfl⟩, Int.le_refl _⟩
      · exact ⟨_, h1, Or.inr ⟨a2, c2, G, rfl, (Option.some.inj h2).symm⟩, by rw [← Option.some.inj h2]; exact Int.le_refl _⟩
    have hpv := pq_rd k 0 (b + 3) cn (dp + 1) t q1 (by omega) (by omega) ht
    rw [if_pos (by decide), if_pos (by decide)] at hpv
    have hs3 := sk_spec (tp := tp) (n := n) (b + 3)
    have hE3 := hpv.1
    refine vc_walk hX ck_X4_fact [] 90 hd ?_
    refine ⟨P1.1.1, 0, 0, _, cm_deeper (d := d + 6) (x := b) P1.1 (by rw [P1.2.2.1.1]; omega), ⟨Nat.zero_le _, Nat.zero_le _⟩, ?_⟩
    rintro r Lw2 S2 B2 ⟨rfl, rfl, ⟨z, rfl, rfl⟩ | ⟨z, rfl, rfl⟩⟩
    rotate_left
    · exact absurd (P1.2.2.1.1.symm.trans z) c
    rw [P1.2.2.1.1]
    have C2 := C1.dp_ h (dp + 1)
    obtain ⟨P2, w2⟩ := C2.ps h (by omega) hcn (by omega) hcl
    refine ⟨P2.1.1, P2.1.1, ?_⟩
    rw [P2.1.2.2.1]
    have C3 := C2.at_ h (b + 3)
    clear P2 w2
    generalize vt_up (vt_up S1 pr 2 (dp + 1)) pr 1 (b + 3) = S3 at *
    refine ⟨(show 0 + 0 + 1 ≤ (EE n q - a).toNat ∧ 0 + 0 + 1 ≤ (4 * (EE n q - a)).toNat from ⟨by omega, by omega⟩), fun x0 nx0 => ?_⟩
    have C4 := C3.nw (c := ((11 : Nat) : Int)) (l := 0) h nx0
    obtain ⟨P4, w4⟩ := C4.ps h (by omega) (by omega) (by omega) hcl
    have ob4 : vc_ob (Lw ++ [x0]) (vc_nw S3 (x0 + 1) ((11 : Nat) : Int) 0) (x0 + 1) 11 := nw_new
    have z4 : vc_nw S3 (x0 + 1) ((11 : Nat) : Int) 0 (x0 + 1) 0 = 0 := by rw [vc_nw_at]; rfl
    have bud : 0 + 0 + 1 + (EE n q1 - (b + 3)).toNat ≤ (EE n q - a).toNat ∧ 0 + 0 + 1 + (4 * (EE n q1 - (b + 3))).toNat ≤ (4 * (EE n q - a)).toNat := ⟨by omega, by omega⟩
    refine ⟨P4.1.1, _, _, _, ih _ _ _ _ _ _ _ _ _ _ _ _ _ q1 (d + 7) P4 ht (by omega), bud, ?_⟩
    rintro r Lw5 S5 B5 ⟨E5, z5, ⟨a2, c2, G, y, hpe, rfl, v1, v3, v2, v4, hy⟩ | ⟨e, hpe, rfl, ve⟩⟩
    · subst hpe
      have hL : q = .inr (a2, c2, ngW G) := by
        rcases hqq with ⟨e, x, -⟩ | ⟨a2', c2', G', x, y⟩
        · cases x
        · cases x; exact y
      have p2 := hpv.2 _ rfl
      dsimp only at p2
      have C5 := C4.tr w4 E5 z5 v1 v3 (v2.trans P4.2.2.1.1) (v4.trans P4.2.2.2.1.1)
      obtain ⟨ob5, e5⟩ := P4.cell E5 ob4 (by decide)
      have C6 := C5.oth (x := x0) (i := 0) (v := (y : Int)) h nx0
      obtain ⟨P6, w6⟩ := C6.ps h (by omega) (by omega) (by omega) hcl
      have C7 := C6.dp_ h (dp + 1 - 1)
      have npx : x0 + 1 ≠ pr := fun z => isO.ne h.prO nx0 z.symm
      have k5 : S5 pr (-2) = 3 := (P4.ext E5 z5 ⟨v1, by omega, by omega⟩ ⟨v3, by omega, by omega⟩ ⟨v2.trans P4.2.2.1.1, by omega, by omega⟩ ⟨v4.trans P4.2.2.2.1.1, hcl⟩).1.1.1.2
      have E7 : Ext (fun q i => q = x0 + 1 ∨ q = pr) Lw5 S5 id Lw5 (vt_up (vt_up S5 (x0 + 1) 0 (y : Int)) pr 2 (dp + 1 - 1)) id := (Ext.rf.upW (fun _ => Or.inl rfl)).upW (fun _ => Or.inr rfl)
      have hbl : blW S5 (fun q _ => q = x0 + 1 ∨ q = pr) := fun q i g1 g2 z => by
        rcases z with rfl | rfl
        · exact ⟨by rw [ob5.2]; decide, by rw [e5]; exact z4⟩
        · omega
      have ob7 : vc_ob Lw5 (vt_up (vt_up S5 (x0 + 1) 0 (y : Int)) pr 2 (dp + 1 - 1)) (x0 + 1) 11 := ob_up (ob_up ob5 (by decide)) (by decide)
      have f0 : vt_up (vt_up S5 (x0 + 1) 0 (y : Int)) pr 2 (dp + 1 - 1) (x0 + 1) 0 = (y : Int) := by rw [up_ne (Or.inl npx), vt_up_self]
      refine vc_k (cm_notInit (d := d + 5) ob5) bud ?_
      refine ⟨P6.1.1, P6.1.1, ?_⟩
      rw [P6.2.2.1.1]
      generalize vt_up (vt_up S5 (x0 + 1) 0 (y : Int)) pr 2 (dp + 1 - 1) = S7 at *
      refine ⟨bud, C7.1, C7.2.1, Or.inl ⟨a2, c2, _, x0 + 1, hL, rfl, C7.2.2.1, C7.2.2.2.1, ?_, ?_, ?_⟩⟩
      · rw [C7.2.2.2.2.1, h.2.2.1.1]; omega
      · rw [C7.2.2.2.2.2, h.2.2.2.1.1]
      · show CCon _ _ (c2 - cn + 10 - dp).toNat _ _
        rw [show (c2 - cn + 10 - dp).toNat = (c2 - cn + 10 - (dp + 1)).toNat + 1 by omega]
        exact Or.inl ⟨ob7, G, by rw [f0, Int.toNat_natCast]; exact CCon.keep E7 hbl hy, rfl⟩
    · subst hpe
      have hL : q = .inl e := by
        rcases hqq with ⟨e, x, y⟩ | ⟨a2', c2', G', x, y⟩
        · cases x; exact y
        · cases x
      rw [w4] at ve ⊢
      exact ⟨⟨wP, bud⟩, TrP.thr (T2 := TC cn dp) (q1 := q) C4 w4 E5 z5 ve hL⟩
theorem fact_in {k : Nat} {t : WF} (ih : RdC 2 105 10 k) (hX : vc_F 107 X) (hd : X.2.2.2.2.2.2.2.2.2.2.2.2.2.2 = (d + 8, (EE n q - a).toNat, (4 * (EE n q - a)).toNat)) (hdd : 8 + 3 * (10 - dp) ≤ ((d + 8 : Nat) : Int)) (h : PSt Lw S pr o tp n a cn dp cl mo) (C1 : Cur Lw S Lw S1 pr o b cn dp cl) (hb : a ≤ b ∧ b + 1 ≤ n) (hq : (if dp = 10 then some (.inl (er 2 b)) else pb (rd tp n k 2 (b + 1) cn (dp + 1) t) (fun a' c' G => if sg tp n (sk tp n a') = 93 then some (.inr (sk tp n a' + 1, c', G)) else some (.inl (er 0 (sk tp n a'))))) = some q) : vc_J 107 (TrP Lw S pr o (TC cn dp) q) X 67 [(0, .inr (.inr pr)), (1, ii b)] [] Lw S1 B 0 0 := by
  obtain ⟨hn, ha, hcn, hdp, hcl⟩ := h.rgs
  have wP := h.wP
  obtain ⟨P1, w1⟩ := C1.ps h (by omega) hcn hdp hcl
  by_cases c : dp = 10
  · rw [if_pos c] at hq
    refine vc_walk hX ck_X4_fact [] 90 hd ?_
    refine ⟨P1.1.1, 0, 0, _, cm_deeper (d := d + 6) (x := b) P1.1 (by rw [P1.2.2.1.1]; omega), ⟨Nat.zero_le _, Nat.zero_le _⟩, ?_⟩
    rintro r Lw2 S2 B2 ⟨rfl, rfl, ⟨z, rfl, rfl⟩ | ⟨z, rfl, rfl⟩⟩
    · exact absurd (P1.2.2.1.1.trans c) z
    · rw [w1]
      exact ⟨⟨wP, Nat.zero_le _, Nat.zero_le _⟩, TrP.bad h C1 (Option.some.inj hq).symm⟩
  · rw [if_neg c] at hq
    obtain ⟨q1, ht, hqq, hE2⟩ : ∃ q1, rd tp n k 2 (b + 1) cn (dp + 1) t = some q1 ∧ ((∃ e, q1 = .inl e ∧ q = .inl e) ∨ ∃ a2 c2 G, q1 = .inr (a2, c2, G) ∧ (if sg tp n (sk tp n a2) = 93 then some (.inr (sk tp n a2 + 1, c2, G)) else some (.inl (er 0 (sk tp n a2)))) = some q) ∧ EE n q1 ≤ EE n q := by
      rcases pb_inv hq with ⟨e, h1, rfl⟩ | ⟨a2, c2, G, h1, h2⟩
      · exact ⟨_, h1, Or.inl ⟨e, rfl, rfl⟩, Int.le_refl _⟩
      · refine ⟨_, h1, Or.inr ⟨a2, c2, G, rfl, h2⟩, ?_⟩
        have p := pq_rd k 2 (b + 1) cn (dp + 1) t _ (by omega) (by omega) h1
        have p2 := p.2 _ rfl
        have hs2 := sk_spec (tp := tp) (n := n) a2
        dsimp only at p2
        show a2 ≤ _
        split at h2
        · rw [← Option.some.inj h2]; show a2 ≤ sk tp n a2 + 1; omega
        · rw [← Option.some.inj h2]; show a2 ≤ n + 1; omega
    have hpv := pq_rd k 2 (b + 1) cn (dp + 1) t q1 (by omega) (by omega) ht
    rw [if_pos (by decide), if_pos (by decide)] at hpv
    have hs3 := sk_spec (tp := tp) (n := n) (b + 1)
    have hE3 := hpv.1
    refine vc_walk hX ck_X4_fact [] 90 hd ?_
    refine ⟨P1.1.1, 0, 0, _, cm_deeper (d := d + 6) (x := b) P1.1 (by rw [P1.2.2.1.1]; omega), ⟨Nat.zero_le _, Nat.zero_le _⟩, ?_⟩
    rintro r Lw2 S2 B2 ⟨rfl, rfl, ⟨z, rfl, rfl⟩ | ⟨z, rfl, rfl⟩⟩
    rotate_left
    · exact absurd (P1.2.2.1.1.symm.trans z) c
    rw [P1.2.2.1.1]
    have C2 := C1.dp_ h (dp + 1)
    obtain ⟨P2, w2⟩ := C2.ps h (by omega) hcn (by omega) hcl
    refine ⟨P2.1.1, P2.1.1, ?_⟩
    rw [P2.1.2.2.1]
    have C4 := C2.at_ h (b + 1)
    obtain ⟨P4, w4⟩ := C4.ps h (by omega) (by omega) (by omega) hcl
    clear P2 w2
    generalize vt_up (vt_up S1 pr 2 (dp + 1)) pr 1 (b + 1) = S4 at *
    have bud : 0 + 0 + (EE n q1 - (b + 1)).toNat ≤ (EE n q - a).toNat ∧ 0 + 0 + (4 * (EE n q1 - (b + 1))).toNat ≤ (4 * (EE n q - a)).toNat := ⟨by omega, by omega⟩
    refine ⟨P4.1.1, _, _, _, ih _ _ _ _ _ _ _ _ _ _ _ _ _ q1 (d + 7) P4 ht (by omega), bud, ?_⟩
    rintro r Lw5 S5 B5 ⟨E5, z5, ⟨a2, c2, G, y, hpe, rfl, v1, v3, v2, v4, hy⟩ | ⟨e, hpe, rfl, ve⟩⟩
    · subst hpe
      have hL : (if sg tp n (sk tp n a2) = 93 then some (.inr (sk tp n a2 + 1, c2, G)) else some (.inl (er 0 (sk tp n a2)))) = some q := by
        rcases hqq with ⟨e, x, -⟩ | ⟨a2', c2', G', x, y⟩
        · cases x
        · cases x; exact y
      have p2 := hpv.2 _ rfl
      dsimp only at p2
      have hs2 := sk_spec (tp := tp) (n := n) a2
      have hs2n := hs2.2.1 p2.1
      have p3 : sk tp n (b + 1) + 1 ≤ a2 := hpv.1
      have C5 := C4.tr w4 E5 z5 v1 v3 (v2.trans P4.2.2.1.1) (v4.trans P4.2.2.2.1.1)
      obtain ⟨P5, w5⟩ := C5.ps h (by omega) (by omega) (by omega) hcl
      have hN := cm_nextS (B := B5) (d := d + 6) P5.1
      generalize hb2 : sk tp n a2 = b2 at *
      have D6 := P5.cur.at_ P5 b2
      obtain ⟨P6, w6⟩ := D6.ps P5 (by omega) (by omega) (by omega) hcl
      have hrg := sgc_rg P6.1
      refine vc_kv P5.1.1 hN bud ?_
      refine ⟨by omega, fun z => ?_, fun z => ?_⟩
      · rw [if_pos z] at hL
        refine ⟨P6.1.1, P6.1.1, ?_⟩
        rw [P6.1.2.2.1]
        have D7 := D6.at_ P5 (b2 + 1)
        have hlt : b2 < n := sg_lt (tp := tp) (by omega)
        obtain ⟨P7, w7⟩ := D7.ps P5 (by omega) (by omega) (by omega) hcl
        refine ⟨P7.1.1, P7.1.1, ?_⟩
        rw [P7.2.2.1.1]
        have D8 := D7.dp_ P5 (dp + 1 - 1)
        have C8 := C5.tr w5 D8.1 D8.2.1 D8.2.2.1 D8.2.2.2.1 D8.2.2.2.2.1 D8.2.2.2.2.2
        refine ⟨bud, C8.1, C8.2.1, Or.inl ⟨b2 + 1, c2, G, y, (Option.some.inj hL).symm, rfl, C8.2.2.1, C8.2.2.2.1, ?_, ?_, ?_⟩⟩
        · rw [C8.2.2.2.2.1, h.2.2.1.1]; omega
        · rw [C8.2.2.2.2.2, h.2.2.2.1.1]
        · exact (CCon.keep D8.1 P5.tW hy).up (by omega)
      · rw [if_neg z] at hL
        refine ⟨P6.1.1, P6.1.1, ?_⟩
        rw [P6.1.2.1, Int.toNat_natCast, P6.1.2.2.1]
        refine ⟨P6.1.2.2.2.1, vc_k (cm_fails (d := d + 7) P6.1.2.2.2.1 P6.1.2.2.2.2.2.2.2.2.2) bud ?_⟩
        rw [w6, w5]
        exact ⟨⟨wP, bud⟩, TrP.bad2 h C5 w5 P5 D6 (Option.some.inj hL).symm⟩
    · subst hpe
      have hL : q = .inl e := by
        rcases hqq with ⟨e, x, y⟩ | ⟨a2', c2', G', x, y⟩
        · cases x; exact y
        · cases x
      rw [w4] at ve ⊢
      exact ⟨⟨wP, bud⟩, TrP.thr (T2 := TC cn dp) (q1 := q) C4 w4 E5 z5 ve hL⟩
theorem cm_factP {k : Nat} (ih0 : RdC 0 107 8 k) (ih2 : RdC 2 105 10 k) : RdC 0 107 8 (k + 1) := by
  intro Lw S B o pr tp n a cn dp cl mo t q dd h hq hdd
  obtain ⟨hn, ha, hcn, hdp, hcl⟩ := h.rgs
  obtain ⟨d, rfl⟩ : ∃ d, dd = d + 8 := ⟨dd - 8, by omega⟩
  refine vc_start rfl rfl (Nat.le_of_ble_eq_true rfl) (fun X hX hd => ?_)
  have wP := h.wP
  have hsk := sk_spec (tp := tp) (n := n) a
  have hskn := hsk.2.1 ha.2
  have hss := sk_sk (tp := tp) (n := n) a
  have hN := cm_nextS (B := B) (d := d + 6) h.1
  have hpq := pq_rd (k + 1) 0 a cn dp t q ha.2 hcn.2 hq
  rw [if_pos (by decide), if_pos (by decide)] at hpq
  rw [rd] at hq
  have hE0 := hpq.1
  have hw3 := fun z => wl3 (tp := tp) (n := n) (b := sk tp n a) (w := wNot) hskn z
  generalize hb : sk tp n a = b at *
  have C1 := h.cur.at_ h b
  obtain ⟨P1, w1⟩ := C1.ps h (by omega) hcn hdp hcl
  have hW : vc_M (d + 7) 0 0 90 [.inr (.inr pr), .inr (.inr ((vt_up S pr 1 b) 0 ((12 : Nat) : Int)).toNat)] Lw (vt_up S pr 1 b) B (vc_eq (some (ii (bI (decide (wl tp n b = wNot))))) Lw (vt_up S pr 1 b) B) := by
    have := cm_isWord (B := B) (d := d + 3) (i := 12) (by decide) rfl P1.1 (by omega)
    rw [hss, wd_12] at this
    have e : vt_up (vt_up S pr 1 b) pr 1 b = vt_up S pr 1 b := vt_up_up
    rw [e] at this
    exact this
  have hrg := sgc_rg P1.1
  refine vc_walk hX ck_X4_fact [(19, [0, 1]), (58, [0, 1])] 90 hd ?_
  refine vc_kv h.1.1 hN ⟨Nat.zero_le _, Nat.zero_le _⟩ ?_
  refine ⟨P1.1.1, ?_⟩
  rw [P1.1.2.2.1]
  refine vc_kv P1.1.1 hW ⟨Nat.zero_le _, Nat.zero_le _⟩ ?_
  by_cases cw : wl tp n b = wNot
  · rw [if_pos cw] at hq
    rw [decide_eq_true cw]
    refine ⟨by decide, fun z => absurd z (by decide), fun _ => ?_⟩
    exact fact_not ih0 hX hd hdd h C1 ⟨hsk.1, by have := hw3 cw; exact this⟩ hq
  · rw [if_neg cw] at hq
    rw [decide_eq_false cw]
    refine ⟨by decide, fun _ => ?_, fun z => absurd rfl z⟩
    refine vc_walk hX ck_X4_fact [(67, [0, 1]), (131, [0, 1])] 90 hd ?_
    refine vc_kv P1.1.1 (cm_sign (d := d + 7) P1.1) ⟨Nat.zero_le _, Nat.zero_le _⟩ ?_
    refine ⟨by omega, fun z => ?_, fun z => ?_⟩
    · rw [if_neg z] at hq
      exact fact_cmp hX hd h C1 ⟨hsk.1, hskn⟩ hq
    · rw [if_pos z] at hq
      have hlt : b < n := sg_lt (tp := tp) (by omega)
      exact fact_in ih2 hX hd hdd h C1 ⟨hsk.1, by omega⟩ hq
end CPM
