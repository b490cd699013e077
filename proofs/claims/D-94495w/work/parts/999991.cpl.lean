/-! THE COMPONENT's parser: facts -/
set_option maxRecDepth 100000
def TC (cn dp : Int) (Lw : List Nat) (S : SS) (rr : Nat) (c' : Int) (F : WF) : Prop := CCon Lw S (c' - cn + 10 - dp).toNat rr F
theorem wd_12 : wdL 12 = wNot := by decide
theorem wd_13 : wdL 13 = wAnd := by decide
theorem wd_14 : wdL 14 = wOr := by decide
theorem wd_15 : wdL 15 = wTake := by decide
theorem wd_16 : wdL 16 = wWait := by decide
theorem wd_17 : wdL 17 = wIf := by decide
theorem wd_0 : wdL 0 = wWay := by decide
theorem wd_8 : wdL 8 = wGoer := by decide
section CPL
variable {Lw Lw' Lw1 : List Nat} {S0 S S1 S' : SS} {B : SB} {d o pr : Nat} {tp : Int → Int} {n a cn dp cl mo a1 cn1 dp1 cl1 b : Int} {X : vc_X} {q : PRs}
theorem CCon.cm_ {r x y k1 k2 k : Nat} {s z w : Int} {F1 F2 : WF} (ho : vc_ob Lw S r 12) (h0 : S r 0 = (x : Int)) (h1 : S r 1 = (y : Int)) (h2 : S r 2 = z) (h3 : S r 3 = w) (hs : cmz s z w) (hx : CVal Lw S k1 x F1) (hy : CVal Lw S k2 y F2) (hk : k1 < k ∧ k2 < k) : CCon Lw S k r (jn s F1 F2) := by
  obtain ⟨m, rfl⟩ : ∃ m, k = m + 1 := ⟨k - 1, by omega⟩
  exact Or.inr (Or.inl ⟨ho, F1, F2, s, by rw [h0, Int.toNat_natCast]; exact hx.up (by omega), by rw [h1, Int.toNat_natCast]; exact hy.up (by omega), by rw [h2, h3]; exact hs, rfl⟩)
theorem TrP.bad2 {T : List Nat → SS → Nat → Int → WF → Prop} {e x1 x2 x3 x4 y1 y2 y3 y4 : Int} {Lw2 : List Nat} {S2 : SS} {B2 : SB} (h : PSt Lw S pr o tp n a cn dp cl mo) (C : Cur Lw S Lw1 S1 pr o y1 y2 y3 y4) (w1 : S1 o 7 = S o 7) (P1 : PSt Lw1 S1 pr o tp n a1 cn1 dp1 cl1 mo) (D : Cur Lw1 S1 Lw2 S2 pr o x1 x2 x3 x4) (hq : q = .inl e) : TrP Lw S pr o T q (.inr (S o 7).toNat) Lw2 (vt_up S2 (S o 7).toNat 6 e) B2 := TrP.bad h (C.tr w1 D.1 D.2.1 D.2.2.1 D.2.2.2.1 D.2.2.2.2.1 D.2.2.2.2.2) hq
theorem TrP.thr {T : List Nat → SS → Nat → Int → WF → Prop} {T2 : List Nat → SS → Nat → Int → WF → Prop} {q1 : PRs} {e y1 y2 y3 y4 : Int} {Lw2 : List Nat} {S2 : SS} {B2 : SB} (C : Cur Lw S Lw1 S1 pr o y1 y2 y3 y4) (w1 : S1 o 7 = S o 7) (hE : Ext (prW pr (S1 o 7).toNat) Lw1 S1 id Lw2 S2 id) (h0 : S2 0 = S1 0) (ve : S2 (S o 7).toNat 6 = e) (hq : q = .inl e) : TrP Lw S pr o T q (.inr (S o 7).toNat) Lw2 S2 B2 := ⟨(C.tr w1 hE h0 rfl rfl rfl rfl).1, h0.trans C.2.1, Or.inr ⟨e, hq, rfl, ve⟩⟩
theorem fact_cmp {k : Nat} (hX : vc_F 107 X) (hd : X.2.2.2.2.2.2.2.2.2.2.2.2.2.2 = (d + 8, (EE n q - a).toNat, (4 * (EE n q - a)).toNat)) (h : PSt Lw S pr o tp n a cn dp cl mo) (C1 : Cur Lw S Lw S1 pr o b cn dp cl) (hb : a ≤ b ∧ b ≤ n) (hq : pCmp tp n k b cn = some q) : vc_J 107 (TrP Lw S pr o (TC cn dp) q) X 131 [(0, .inr (.inr pr)), (1, ii b)] [] Lw S1 B 0 0 := by
  obtain ⟨hn, ha, hcn, hdp, hcl⟩ := h.rgs
  have wP := h.wP
  obtain ⟨P1, w1⟩ := C1.ps h (by omega) hcn hdp hcl
  have hpq := pq_cmp hb.2 hcn.2 hq
  have hsb := sk_spec (tp := tp) (n := n) b
  have hE1 : b + 1 ≤ EE n q := by have := hpq.1; omega
  unfold pCmp at hq
  rcases pb_inv hq with ⟨e, ht, rfl⟩ | ⟨a1, c1, F, ht, hL⟩
  · refine vc_walk hX ck_X4_fact [] 90 hd ?_
    have bud : 0 + (EE n (.inl e) - b).toNat ≤ (EE n (.inl e) - a).toNat ∧ 0 + (4 * (EE n (.inl e) - b)).toNat ≤ (4 * (EE n (.inl e) - a)).toNat := ⟨by omega, by omega⟩
    refine ⟨P1.1.1, _, _, _, cm_sumP (d := d) P1 ht, bud, ?_⟩
    rintro r Lw5 S5 B5 ⟨E5, z5, ⟨a2, c2, G, y, hpe, rfl, v1, v3, v2, v4, hy⟩ | ⟨e', hpe, rfl, ve⟩⟩
    · cases hpe
    · cases hpe
      rw [w1] at ve ⊢
      exact ⟨⟨wP, bud⟩, TrP.thr (T2 := TC cn dp) (q1 := q) C1 w1 E5 z5 ve rfl⟩
  · have hp1 := pq_sm hb.2 hcn.2 ht
    have p2 := hp1.2 _ rfl
    have p3 : sk tp n b + 1 ≤ a1 := hp1.1
    dsimp only at p2
    have hs1 := sk_spec (tp := tp) (n := n) a1
    have hs1n := hs1.2.1 p2.1
    have hE3 : sk tp n a1 ≤ EE n q ∧ ((sg tp n (sk tp n a1) = 60 ∨ sg tp n (sk tp n a1) = 61 ∨ sg tp n (sk tp n a1) = 62) → c1 ≠ 60 → ∃ q2, pSm tp n k (sk tp n a1 + 1 + bI (also tp n (sk tp n a1))) (c1 + 1) = some q2 ∧ EE n q2 ≤ EE n q ∧ sk tp n a1 + 2 + bI (also tp n (sk tp n a1)) ≤ EE n q2 ∧ sk tp n a1 + 1 + bI (also tp n (sk tp n a1)) ≤ n ∧ ((∃ e, q2 = .inl e ∧ q = .inl e) ∨ ∃ a2 c2 G, q2 = .inr (a2, c2, G) ∧ q = .inr (a2, c2, jn (cmS tp n (sk tp n a1)) F G))) := by
      by_cases c : sg tp n (sk tp n a1) = 60 ∨ sg tp n (sk tp n a1) = 61 ∨ sg tp n (sk tp n a1) = 62
      · rw [if_pos c] at hL
        have hlt : sk tp n a1 < n := sg_lt (tp := tp) (by omega)
        by_cases c6 : c1 = 60
        · rw [if_pos c6] at hL
          rw [← Option.some.inj hL]
          exact ⟨by show _ ≤ n + 1; omega, fun _ z => absurd c6 z⟩
        · rw [if_neg c6] at hL
          have hal := bI_rg (also tp n (sk tp n a1))
          have hle : sk tp n a1 + 1 + bI (also tp n (sk tp n a1)) ≤ n := by
            cases hh : also tp n (sk tp n a1) with
            | true => have := also_lt hlt hh; rw [bI_t]; omega
            | false => rw [bI_f]; omega
          have hs4 := sk_spec (tp := tp) (n := n) (sk tp n a1 + 1 + bI (also tp n (sk tp n a1)))
          rcases pb_inv hL with ⟨e, h3, rfl⟩ | ⟨a3, c3, G3, h3, h4⟩
          · exact ⟨by show _ ≤ n + 1; omega, fun _ _ => ⟨_, h3, Int.le_refl _, by show _ ≤ n + 1; omega, hle, Or.inl ⟨e, rfl, rfl⟩⟩⟩
          · have p4 := pq_sm (tp := tp) (n := n) hle (by omega) h3
            have p6 : sk tp n (sk tp n a1 + 1 + bI (also tp n (sk tp n a1))) + 1 ≤ a3 := p4.1
            rw [← Option.some.inj h4]
            exact ⟨by show _ ≤ a3; omega, fun _ _ => ⟨_, h3, Int.le_refl _, by show _ ≤ a3; omega, hle, Or.inr ⟨a3, c3, G3, rfl, rfl⟩⟩⟩
      · rw [if_neg c] at hL
        rw [← Option.some.inj hL]
        exact ⟨by show _ ≤ n + 1; omega, fun z => absurd z c⟩
    have J136 : ∀ (Lw5 : List Nat) (S5 : SS) (B5 : SB) (v cc sl : Nat), Cur Lw S Lw5 S5 pr o a1 c1 dp cl → CVal Lw5 S5 (c1 - cn).toNat v F → (cc : Int) ≤ a1 - a → (sl : Int) ≤ 4 * (a1 - a) → vc_J 107 (TrP Lw S pr o (TC cn dp) q) X 136 [(0, .inr (.inr pr)), (2, .inr (.inr v))] [] Lw5 S5 B5 cc sl := by
      intro Lw5 S5 B5 v cc sl C5 hv bc bs
      obtain ⟨P5, w5⟩ := C5.ps h (by omega) (by omega) hdp hcl
      have hN := cm_nextS (B := B5) (d := d + 6) P5.1
      generalize hb1 : sk tp n a1 = b1 at *
      have D6 := P5.cur.at_ P5 b1
      obtain ⟨P6, w6⟩ := D6.ps P5 (by omega) (by omega) hdp hcl
      have hrg := sgc_rg P6.1
      have D6v : CVal Lw5 (vt_up S5 pr 1 b1) (c1 - cn).toNat v F := hv.keep D6.1 P5.tW
      have hE4 := hE3.1
      have J172 : (sg tp n b1 = 60 ∨ sg tp n b1 = 61 ∨ sg tp n b1 = 62) → vc_J 107 (TrP Lw S pr o (TC cn dp) q) X 172 [(0, .inr (.inr pr)), (2, .inr (.inr v)), (3, ii (sg tp n b1))] [] Lw5 (vt_up S5 pr 1 b1) B5 cc sl := by
        intro c
        rw [if_pos c] at hL
        have hlt : b1 < n := sg_lt (tp := tp) (by omega)
        have C6 := C5.tr w5 D6.1 D6.2.1 D6.2.2.1 D6.2.2.2.1 D6.2.2.2.2.1 D6.2.2.2.2.2
        have w6' : vt_up S5 pr 1 b1 o 7 = S o 7 := w6.trans w5
        clear D6 w6 hN
        generalize vt_up S5 pr 1 b1 = S6 at *
        refine vc_walk hX ck_X4_fact [(210, [0, 2, 3])] 90 hd ?_
        refine ⟨P6.1.1, ?_⟩
        rw [P6.1.2.2.1]
        refine ⟨P6.1.1, 0, 0, _, cm_counts (d := d + 6) (x := b1) P6.1 (by rw [P6.2.1.1]; omega), ⟨by omega, by omega⟩, ?_⟩
        rintro r Lw7 S7 B7 ⟨rfl, rfl, ⟨c6, rfl, rfl⟩ | ⟨c6, rfl, rfl⟩⟩
        · rw [P6.2.1.1] at c6 ⊢
          rw [if_neg c6] at hL
          obtain ⟨q2, ht2, x1, x2, x3, x4⟩ := hE3.2 c c6
          have D7 := P6.cur.cn_ P6 (c1 + 1)
          have v7 : CVal Lw5 (vt_up S6 pr 3 (c1 + 1)) (c1 - cn).toNat v F := D6v.keep D7.1 P6.tW
          obtain ⟨P7, w7⟩ := D7.ps P6 (by omega) (by omega) hdp hcl
          have C7 := C6.tr w6' D7.1 D7.2.1 D7.2.2.1 D7.2.2.2.1 D7.2.2.2.2.1 D7.2.2.2.2.2
          have w7' := w7.trans w6'
          clear D7 w7
          generalize vt_up S6 pr 3 (c1 + 1) = S7 at *
          refine ⟨P7.1.1, P7.1.1, ?_⟩
          rw [P7.1.2.2.1]
          have D8 := P7.cur.at_ P7 (b1 + 1)
          have v8 : CVal Lw5 (vt_up S7 pr 1 (b1 + 1)) (c1 - cn).toNat v F := v7.keep D8.1 P7.tW
          obtain ⟨P8, w8⟩ := D8.ps P7 (by omega) (by omega) hdp hcl
          have C8 := C7.tr w7' D8.1 D8.2.1 D8.2.2.1 D8.2.2.2.1 D8.2.2.2.2.1 D8.2.2.2.2.2
          have w8' := w8.trans w7'
          clear D8 w8
          generalize vt_up S7 pr 1 (b1 + 1) = S8 at *
          have hrg2 := sgc_rg P8.1
          have J210 : ∀ (w : Int) (cc' sl' : Nat), cc' = cc → sl' = sl → w = bI (also tp n b1) → vc_J 107 (TrP Lw S pr o (TC cn dp) q) X 210 [(0, .inr (.inr pr)), (2, .inr (.inr v)), (3, ii (sg tp n b1))] [ii w] Lw5 S8 B5 cc' sl' := by
            rintro w cc' sl' rfl rfl hw
            have hw01 := bI_01 (also tp n b1)
            rw [← hw] at hw01 ht2 x2 x3
            have D9 := P8.cur.at_ P8 (b1 + 1 + w)
            have J231 : vc_J 107 (TrP Lw S pr o (TC cn dp) q) X 231 [(0, .inr (.inr pr)), (2, .inr (.inr v)), (3, ii (sg tp n b1)), (4, ii w)] [] Lw5 (vt_up S8 pr 1 (b1 + 1 + w)) B5 cc' sl' := by
              generalize vt_up S8 pr 1 (b1 + 1 + w) = S9 at *
              refine vc_walk hX ck_X4_fact [] 90 hd ?_
              refine ⟨(show cc' + 1 ≤ (EE n q - a).toNat ∧ sl' + 4 ≤ (4 * (EE n q - a)).toNat from ⟨by omega, by omega⟩), fun x0 nx0 => ?_⟩
              have D10 := D9.nw (c := ((12 : Nat) : Int)) (l := 0) P8 nx0
              obtain ⟨P10, w10⟩ := D10.ps P8 (by omega) (by omega) hdp hcl
              have ob10 : vc_ob (Lw5 ++ [x0]) (vc_nw S9 (x0 + 1) ((12 : Nat) : Int) 0) (x0 + 1) 12 := nw_new
              have z10 : vc_nw S9 (x0 + 1) ((12 : Nat) : Int) 0 (x0 + 1) 0 = 0 := by rw [vc_nw_at]; rfl
              have bud : cc' + 1 + (EE n q2 - (b1 + 1 + w)).toNat ≤ (EE n q - a).toNat ∧ sl' + 4 + (4 * (EE n q2 - (b1 + 1 + w))).toNat ≤ (4 * (EE n q - a)).toNat := ⟨by omega, by omega⟩
              refine ⟨P10.1.1, _, _, _, cm_sumP (d := d) P10 ht2, bud, ?_⟩
              have hps := pq_sm x3 (by omega) ht2
              rintro r Lw11 S11 B11 ⟨E11, z11, ⟨a2, c2, G, y, hpe, rfl, v1, v3, v2, v4, hy⟩ | ⟨e', hpe, rfl, ve⟩⟩
              · subst hpe
                have hq2 : q = .inr (a2, c2, jn (cmS tp n b1) F G) := by
                  rcases x4 with ⟨e, x, -⟩ | ⟨a2', c2', G', x, y⟩
                  · cases x
                  · cases x; exact y
                have p5 := hps.2 _ rfl
                dsimp only at p5
                have D11 := D10.tr w10 E11 z11 v1 v3 (v2.trans P10.2.2.1.1) (v4.trans P10.2.2.2.1.1)
                obtain ⟨ob11, e11⟩ := P10.cell E11 ob10 (by decide)
                have D12 := (((D11.oth (x := x0) (i := 0) (v := (v : Int)) P8 nx0).oth (x := x0) (i := 1) (v := (y : Int)) P8 nx0).oth (x := x0) (i := 2) (v := sg tp n b1) P8 nx0).oth (x := x0) (i := 3) (v := w) P8 nx0
                have E12 : Ext (fun q _ => q = x0 + 1) Lw11 S11 id Lw11 (vt_up (vt_up (vt_up (vt_up S11 (x0 + 1) 0 (v : Int)) (x0 + 1) 1 (y : Int)) (x0 + 1) 2 (sg tp n b1)) (x0 + 1) 3 w) id := (((Ext.rf.upW (fun _ => rfl)).upW (fun _ => rfl)).upW (fun _ => rfl)).upW (fun _ => rfl)
                have hbl : blW S11 (fun q _ => q = x0 + 1) := fun q i _ _ z => by
                  subst z
                  exact ⟨by rw [ob11.2]; decide, by rw [e11]; exact z10⟩
                have ob12 : vc_ob Lw11 (vt_up (vt_up (vt_up (vt_up S11 (x0 + 1) 0 (v : Int)) (x0 + 1) 1 (y : Int)) (x0 + 1) 2 (sg tp n b1)) (x0 + 1) 3 w) (x0 + 1) 12 := ob_up (ob_up (ob_up (ob_up ob11 (by decide)) (by decide)) (by decide)) (by decide)
                have eE : EE n (.inr (a2, c2, G)) = a2 := rfl
                refine vc_k (cm_comparedInit (d := d + 5) hw01 ob11) (show cc' + 1 + (EE n (.inr (a2, c2, G)) - (b1 + 1 + w)).toNat + 0 ≤ (EE n q - a).toNat ∧ sl' + 4 + (4 * (EE n (.inr (a2, c2, G)) - (b1 + 1 + w))).toNat + 0 ≤ (4 * (EE n q - a)).toNat from bud) ?_
                have f0 : vt_up (vt_up (vt_up (vt_up S11 (x0 + 1) 0 (v : Int)) (x0 + 1) 1 (y : Int)) (x0 + 1) 2 (sg tp n b1)) (x0 + 1) 3 w (x0 + 1) 0 = (v : Int) := by rw [up_ne (Or.inr (by decide)), up_ne (Or.inr (by decide)), up_ne (Or.inr (by decide)), vt_up_self]
                have f1 : vt_up (vt_up (vt_up (vt_up S11 (x0 + 1) 0 (v : Int)) (x0 + 1) 1 (y : Int)) (x0 + 1) 2 (sg tp n b1)) (x0 + 1) 3 w (x0 + 1) 1 = (y : Int) := by rw [up_ne (Or.inr (by decide)), up_ne (Or.inr (by decide)), vt_up_self]
                have f2 : vt_up (vt_up (vt_up (vt_up S11 (x0 + 1) 0 (v : Int)) (x0 + 1) 1 (y : Int)) (x0 + 1) 2 (sg tp n b1)) (x0 + 1) 3 w (x0 + 1) 2 = sg tp n b1 := by rw [up_ne (Or.inr (by decide)), vt_up_self]
                have f3 : vt_up (vt_up (vt_up (vt_up S11 (x0 + 1) 0 (v : Int)) (x0 + 1) 1 (y : Int)) (x0 + 1) 2 (sg tp n b1)) (x0 + 1) 3 w (x0 + 1) 3 = w := vt_up_self
                generalize vt_up (vt_up (vt_up (vt_up S11 (x0 + 1) 0 (v : Int)) (x0 + 1) 1 (y : Int)) (x0 + 1) 2 (sg tp n b1)) (x0 + 1) 3 w = S12 at *
                have C12 := C8.tr w8' D12.1 D12.2.1 D12.2.2.1 D12.2.2.2.1 D12.2.2.2.2.1 D12.2.2.2.2.2
                refine ⟨bud, C12.1, C12.2.1, Or.inl ⟨a2, c2, _, x0 + 1, hq2, rfl, C12.2.2.1, C12.2.2.2.1, ?_, ?_, ?_⟩⟩
                · rw [C12.2.2.2.2.1, h.2.2.1.1]
                · rw [C12.2.2.2.2.2, h.2.2.2.1.1]
                · refine CCon.cm_ ob12 f0 f1 f2 f3 ?_ (v8.keep D12.1 P8.tW) (CVal.keep E12 hbl hy) (by omega)
                  unfold cmS cmz
                  rw [hw]
                  have h61 : sg tp n b1 = 61 → also tp n b1 = false := fun z => by unfold also; rw [z]; rfl
                  rcases c with c | c | c
                  · rw [c, if_pos rfl]
                    cases also tp n b1
                    · exact Or.inl ⟨rfl, rfl, rfl⟩
                    · exact Or.inr (Or.inl ⟨rfl, rfl, rfl⟩)
                  · rw [h61 c, c, if_neg (by decide), if_pos rfl]
                    exact Or.inr (Or.inr (Or.inl ⟨rfl, rfl, rfl⟩))
                  · rw [c, if_neg (by decide), if_neg (by decide)]
                    cases also tp n b1
                    · exact Or.inr (Or.inr (Or.inr (Or.inr ⟨rfl, rfl, rfl⟩)))
                    · exact Or.inr (Or.inr (Or.inr (Or.inl ⟨rfl, rfl, rfl⟩)))
              · subst hpe
                have hq2 : q = .inl e' := by
                  rcases x4 with ⟨e, x, y⟩ | ⟨a2', c2', G', x, y⟩
                  · cases x; exact y
                  · cases x
                have C10 := C8.tr w8' D10.1 D10.2.1 D10.2.2.1 D10.2.2.2.1 D10.2.2.2.2.1 D10.2.2.2.2.2
                have w10' := w10.trans w8'
                rw [w10'] at ve ⊢
                exact ⟨⟨wP, bud⟩, TrP.thr (T2 := TC cn dp) (q1 := q) C10 w10' E11 z11 ve hq2⟩
            refine vc_walk hX ck_X4_fact [(231, [0, 2, 3, 4])] 90 hd ?_
            refine ⟨P8.1.1, ?_⟩
            rw [P8.1.2.2.1]
            rcases hw01 with e0 | e0
            · refine ⟨by omega, fun _ => ?_, fun z => absurd e0 z⟩
              refine ⟨P8.1.1, ?_⟩
              rw [e0] at J231 ⊢
              exact J231
            · refine ⟨by omega, fun z => absurd z (by omega), fun _ => ?_⟩
              refine ⟨P8.1.1, ?_⟩
              rw [e0] at J231 ⊢
              exact J231
          refine ⟨by omega, fun z => ?_, fun z => ?_⟩
          · exact J210 0 _ _ rfl rfl (by unfold also; rw [z]; rfl)
          · refine vc_kv P8.1.1 (cm_sign (d := d + 7) P8.1) ⟨by omega, by omega⟩ ?_
            refine ⟨by omega, fun z2 => ?_, fun z2 => ?_⟩
            · exact J210 0 _ _ rfl rfl (by
                unfold also
                rw [beq_eq_false_iff_ne.mpr z2, Bool.and_false]
                rfl)
            · exact J210 1 _ _ rfl rfl (by
                unfold also
                rw [z2, bne_iff_ne.mpr z]
                rfl)
        · rw [P6.2.1.1] at c6
          rw [if_pos c6] at hL
          rw [w6']
          exact ⟨⟨wP, by omega, by omega⟩, TrP.bad h C6 (Option.some.inj hL).symm⟩
      refine vc_walk hX ck_X4_fact [(172, [0, 2, 3])] 90 hd ?_
      refine vc_kv P5.1.1 hN ⟨by omega, by omega⟩ ?_
      refine ⟨by omega, fun z => J172 (Or.inl z), fun z => ?_⟩
      refine ⟨by omega, fun z2 => J172 (Or.inr (Or.inl z2)), fun z2 => ?_⟩
      refine ⟨by omega, fun z3 => J172 (Or.inr (Or.inr z3)), fun z3 => ?_⟩
      rw [if_neg (by omega)] at hL
      refine ⟨P6.1.1, P6.1.1, ?_⟩
      rw [P6.1.2.1, Int.toNat_natCast, P6.1.2.2.1]
      refine ⟨P6.1.2.2.2.1, vc_k (cm_fails (d := d + 7) P6.1.2.2.2.1 P6.1.2.2.2.2.2.2.2.2.2) ⟨by omega, by omega⟩ ?_⟩
      rw [w6, w5]
      exact ⟨⟨wP, by omega, by omega⟩, TrP.bad2 h C5 w5 P5 D6 (Option.some.inj hL).symm⟩
    have bud : 0 + (EE n (.inr (a1, c1, F)) - b).toNat ≤ (EE n q - a).toNat ∧ 0 + (4 * (EE n (.inr (a1, c1, F)) - b)).toNat ≤ (4 * (EE n q - a)).toNat := by
      have : EE n (.inr (a1, c1, F)) = a1 := rfl
      have := hE3.1
      exact ⟨by omega, by omega⟩
    refine vc_walk hX ck_X4_fact [(136, [0, 2])] 90 hd ?_
    refine ⟨P1.1.1, _, _, _, cm_sumP (d := d) P1 ht, bud, ?_⟩
    rintro r Lw5 S5 B5 ⟨E5, z5, ⟨a2, c2, G, y, hpe, rfl, v1, v3, v2, v4, hy⟩ | ⟨e', hpe, rfl, ve⟩⟩
    · cases hpe
      refine J136 Lw5 S5 B5 y _ _ (C1.tr w1 E5 z5 v1 v3 (v2.trans P1.2.2.1.1) (v4.trans P1.2.2.2.1.1)) hy ?_ ?_
      · show ((0 + (a1 - b).toNat : Nat) : Int) ≤ _
        omega
      · show ((0 + (4 * (a1 - b)).toNat : Nat) : Int) ≤ _
        omega
    · cases hpe
end CPL
