/-! THE COMPONENT's parser: sums -/
set_option maxRecDepth 100000
section CPK
variable {Lw Lw' Lw1 : List Nat} {S0 S S1 S' : SS} {B : SB} {d o pr : Nat} {tp : Int → Int} {n a cn dp cl mo a1 cn1 dp1 cl1 : Int}
theorem cm_sumP {k : Nat} {q : PRs} (h : PSt Lw S pr o tp n a cn dp cl mo) (hq : pSm tp n k a cn = some q) : vc_M (d + 7) (EE n q - a).toNat (4 * (EE n q - a)).toNat 100 [.inr (.inr pr)] Lw S B (TrP Lw S pr o (TV cn) q) := by
  refine vc_start rfl rfl (Nat.le_of_ble_eq_true rfl) (fun X hX hd => ?_)
  obtain ⟨hn, ha, hcn, hdp, hcl⟩ := h.rgs
  have hpq := pq_sm ha.2 hcn.2 hq
  have hsk := sk_spec (tp := tp) (n := n) a
  have wP := h.wP
  have hE1 : a + 1 ≤ EE n q := by have := hpq.1; omega
  have loop : ∀ (k : Nat) (Lw1 : List Nat) (S1 : SS) (B1 : SB) (a1 cn1 : Int) (F : WF) (v cc sl : Nat), Cur Lw S Lw1 S1 pr o a1 cn1 dp cl → (a < a1 ∧ a1 ≤ n) → (cn < cn1 ∧ cn1 ≤ 60) → CVal Lw1 S1 (cn1 - cn).toNat v F → (cc : Int) ≤ a1 - a → (sl : Int) ≤ 4 * (a1 - a) → pSmL tp n k a1 cn1 F = some q → vc_J 100 (TrP Lw S pr o (TV cn) q) X 5 [(0, .inr (.inr pr)), (1, .inr (.inr v))] [] Lw1 S1 B1 cc sl := by
    intro k
    induction k with
    | zero => intro Lw1 S1 B1 a1 cn1 F v cc sl C ra rc hv bc bs hL; cases hL
    | succ k ih =>
      intro Lw1 S1 B1 a1 cn1 F v cc sl C ra rc hv bc bs hL
      have hpl := pq_smL (k + 1) a1 cn1 F q (by omega) (by omega) hL
      have hs1 := sk_spec (tp := tp) (n := n) a1
      have hs1n := hs1.2.1 (by omega)
      obtain ⟨P1, w1⟩ := C.ps h (by omega) (by omega) hdp hcl
      have hN := cm_nextS (B := B1) (d := d + 5) P1.1
      rw [pSmL] at hL
      have hEb := hpl.1
      generalize hb : sk tp n a1 = b at *
      have D2 := P1.cur.at_ P1 b
      obtain ⟨P2, w2⟩ := D2.ps P1 (by omega) (by omega) hdp hcl
      have hrg := sgc_rg P2.1
      have K55 : ¬ (sg tp n b = 43 ∨ sg tp n b = 45) → vc_J 100 (TrP Lw S pr o (TV cn) q) X 55 [(0, .inr (.inr pr)), (1, .inr (.inr v))] [] Lw1 (vt_up S1 pr 1 b) B1 cc sl := by
        intro c
        rw [if_neg c] at hL
        have hL := Option.some.inj hL
        have D := C.tr w1 D2.1 D2.2.1 D2.2.2.1 D2.2.2.2.1 D2.2.2.2.2.1 D2.2.2.2.2.2
        refine vc_walk hX ck_X4_sum [] 60 hd ?_
        refine ⟨⟨by omega, by omega⟩, D.1, D.2.1, Or.inl ⟨b, cn1, F, v, hL.symm, rfl, D.2.2.1, D.2.2.2.1, ?_, ?_, ?_⟩⟩
        · rw [D.2.2.2.2.1, h.2.2.1.1]
        · rw [D.2.2.2.2.2, h.2.2.2.1.1]
        · exact hv.keep D2.1 P1.tW
      have K23 : (sg tp n b = 43 ∨ sg tp n b = 45) → vc_J 100 (TrP Lw S pr o (TV cn) q) X 23 [(0, .inr (.inr pr)), (1, .inr (.inr v))] [] Lw1 (vt_up S1 pr 1 b) B1 cc sl := by
        intro c
        rw [if_pos c] at hL
        have hlt : b < n := sg_lt (tp := tp) (by omega)
        have hsb := sk_spec (tp := tp) (n := n) (b + 1)
        obtain ⟨q1, ht, hqq, hE2⟩ : ∃ q1, pTm tp n k (b + 1) cn1 = some q1 ∧ ((∃ e, q1 = .inl e ∧ q = .inl e) ∨ ∃ a2 c2 G, q1 = .inr (a2, c2, G) ∧ pSmL tp n k a2 c2 (jn (if sg tp n b = 43 then 2 else 3) F G) = some q) ∧ b + 2 ≤ EE n q1 ∧ EE n q1 ≤ EE n q := by
          rcases pb_inv hL with ⟨e, h1, rfl⟩ | ⟨a2, c2, G, h1, h2⟩
          · exact ⟨_, h1, Or.inl ⟨e, rfl, rfl⟩, by show b + 2 ≤ n + 1; omega, Int.le_refl _⟩
          · have p := pq_tm (tp := tp) (n := n) (a := b + 1) (cn := cn1) (by omega) (by omega) h1
            have p2 := p.2 _ rfl
            have p3 : sk tp n (b + 1) + 1 ≤ a2 := p.1
            dsimp only at p2
            have := (pq_smL k a2 c2 _ q (by omega) (by omega) h2).1
            have hs2 := sk_spec (tp := tp) (n := n) a2
            exact ⟨_, h1, Or.inr ⟨a2, c2, G, rfl, h2⟩, by show b + 2 ≤ a2; omega, by show a2 ≤ _; omega⟩
        have hpv := pq_tm (tp := tp) (n := n) (a := b + 1) (cn := cn1) (by omega) (by omega) ht
        have D3 := D2.at_ P1 (b + 1)
        refine vc_walk hX ck_X4_sum [(5, [0, 1])] 60 hd ?_
        refine vc_kv P2.1.1 (cm_sign (d := d + 6) P2.1) ⟨by omega, by omega⟩ ?_
        refine ⟨P2.1.1, P2.1.1, ?_⟩
        rw [D2.2.2.1]
        generalize vt_up (vt_up S1 pr 1 b) pr 1 (b + 1) = S3 at *
        refine ⟨(show cc + 0 + 1 ≤ (EE n q - a).toNat ∧ sl + 0 + 3 ≤ (4 * (EE n q - a)).toNat from ⟨by omega, by omega⟩), fun x0 nx0 => ?_⟩
        have D4 := D3.nw (c := ((9 : Nat) : Int)) (l := 0) P1 nx0
        obtain ⟨P4, w4⟩ := D4.ps P1 (by omega) (by omega) hdp hcl
        have ob4 : vc_ob (Lw1 ++ [x0]) (vc_nw S3 (x0 + 1) ((9 : Nat) : Int) 0) (x0 + 1) 9 := nw_new
        have z4 : vc_nw S3 (x0 + 1) ((9 : Nat) : Int) 0 (x0 + 1) 0 = 0 := by rw [vc_nw_at]; rfl
        have bud : cc + 0 + 1 + (EE n q1 - (b + 1)).toNat ≤ (EE n q - a).toNat ∧ sl + 0 + 3 + (4 * (EE n q1 - (b + 1))).toNat ≤ (4 * (EE n q - a)).toNat := ⟨by omega, by omega⟩
        refine ⟨P4.1.1, _, _, _, cm_termP (d := d) P4 ht, bud, ?_⟩
        rintro r Lw5 S5 B5 ⟨E5, z5, ⟨a2, c2, G, y, hpe, rfl, v1, v3, v2, v4, hy⟩ | ⟨e, hpe, rfl, ve⟩⟩
        · subst hpe
          have hL : pSmL tp n k a2 c2 (jn (if sg tp n b = 43 then 2 else 3) F G) = some q := by
            rcases hqq with ⟨e, x, -⟩ | ⟨a2', c2', G', x, y⟩
            · cases x
            · cases x; exact y
          have p2 := hpv.2 _ rfl
          have p3 : sk tp n (b + 1) + 1 ≤ a2 := hpv.1
          dsimp only at p2
          have eE : EE n (.inr (a2, c2, G)) = a2 := rfl
          rw [eE] at bud hE2
          have D5 := D4.tr w4 E5 z5 v1 v3 (v2.trans P4.2.2.1.1) (v4.trans P4.2.2.2.1.1)
          obtain ⟨ob5, e5⟩ := P4.cell E5 ob4 (by decide)
          have D6 := ((D5.oth (x := x0) (i := 0) (v := (v : Int)) P1 nx0).oth (x := x0) (i := 1) (v := (y : Int)) P1 nx0).oth (x := x0) (i := 2) (v := sg tp n b) P1 nx0
          have E6 : Ext (fun q _ => q = x0 + 1) Lw5 S5 id Lw5 (vt_up (vt_up (vt_up S5 (x0 + 1) 0 (v : Int)) (x0 + 1) 1 (y : Int)) (x0 + 1) 2 (sg tp n b)) id := ((Ext.rf.upW (fun _ => rfl)).upW (fun _ => rfl)).upW (fun _ => rfl)
          have hbl : blW S5 (fun q _ => q = x0 + 1) := fun q i _ _ z => by
            subst z
            exact ⟨by rw [ob5.2]; decide, by rw [e5]; exact z4⟩
          have ob6 : vc_ob Lw5 (vt_up (vt_up (vt_up S5 (x0 + 1) 0 (v : Int)) (x0 + 1) 1 (y : Int)) (x0 + 1) 2 (sg tp n b)) (x0 + 1) 9 := ob_up (ob_up (ob_up ob5 (by decide)) (by decide)) (by decide)
          refine vc_k (cm_joinedInit (d := d + 4) ob5) (show cc + 0 + 1 + (a2 - (b + 1)).toNat + 0 ≤ (EE n q - a).toNat ∧ sl + 0 + 3 + (4 * (a2 - (b + 1))).toNat + 0 ≤ (4 * (EE n q - a)).toNat from ⟨by omega, by omega⟩) ?_
          have f0 : vt_up (vt_up (vt_up S5 (x0 + 1) 0 (v : Int)) (x0 + 1) 1 (y : Int)) (x0 + 1) 2 (sg tp n b) (x0 + 1) 0 = (v : Int) := by rw [up_ne (Or.inr (by decide)), up_ne (Or.inr (by decide)), vt_up_self]
          have f1 : vt_up (vt_up (vt_up S5 (x0 + 1) 0 (v : Int)) (x0 + 1) 1 (y : Int)) (x0 + 1) 2 (sg tp n b) (x0 + 1) 1 = (y : Int) := by rw [up_ne (Or.inr (by decide)), vt_up_self]
          have f2 : vt_up (vt_up (vt_up S5 (x0 + 1) 0 (v : Int)) (x0 + 1) 1 (y : Int)) (x0 + 1) 2 (sg tp n b) (x0 + 1) 2 = sg tp n b := vt_up_self
          generalize vt_up (vt_up (vt_up S5 (x0 + 1) 0 (v : Int)) (x0 + 1) 1 (y : Int)) (x0 + 1) 2 (sg tp n b) = S6 at *
          refine ih Lw5 S6 B5 a2 c2 _ (x0 + 1) _ _ (C.tr w1 D6.1 D6.2.1 D6.2.2.1 D6.2.2.2.1 D6.2.2.2.2.1 D6.2.2.2.2.2) (by omega) (by omega) ?_ ?_ ?_ hL
          · refine CVal.jn_ ob6 f0 f1 f2 ?_ (hv.keep D6.1 P1.tW) (CVal.keep E6 hbl hy) (by omega)
            rcases c with c | c
            · rw [c, if_pos rfl]; exact Or.inl ⟨rfl, rfl⟩
            · rw [c, if_neg (by decide)]; exact Or.inr (Or.inl ⟨rfl, rfl⟩)
          · show ((cc + 0 + 1 + (a2 - (b + 1)).toNat + 0 : Nat) : Int) ≤ _
            omega
          · show ((sl + 0 + 3 + (4 * (a2 - (b + 1))).toNat + 0 : Nat) : Int) ≤ _
            omega
        · subst hpe
          have hL : q = .inl e := by
            rcases hqq with ⟨e, x, y⟩ | ⟨a2', c2', G', x, y⟩
            · cases x; exact y
            · cases x
          rw [w4, w1] at ve ⊢
          refine ⟨(show 0 < (S o 7).toNat ∧ cc + 0 + 1 + (EE n (.inl e) - (b + 1)).toNat ≤ (EE n q - a).toNat ∧ sl + 0 + 3 + (4 * (EE n (.inl e) - (b + 1))).toNat ≤ (4 * (EE n q - a)).toNat from ⟨wP, bud⟩), ?_, ?_, Or.inr ⟨e, hL, rfl, ve⟩⟩
          · have D5 := D4.tr w4 E5 z5 rfl rfl rfl rfl
            exact (C.tr w1 D5.1 D5.2.1 rfl rfl rfl rfl).1
          · exact (z5.trans D4.2.1).trans C.2.1
      refine vc_walk hX ck_X4_sum [(23, [0, 1]), (55, [0, 1])] 60 hd ?_
      refine vc_kv P1.1.1 hN ⟨by omega, by omega⟩ ?_
      refine ⟨by omega, fun c => K23 (Or.inl c), fun c => ?_⟩
      refine vc_kv P2.1.1 (cm_sign (d := d + 6) P2.1) ⟨by omega, by omega⟩ ?_
      exact ⟨by omega, fun c2 => K55 (by omega), fun c2 => K23 (Or.inr c2)⟩
  unfold pSm at hq
  obtain ⟨q1, ht, hqq, hE2⟩ : ∃ q1, pTm tp n k a cn = some q1 ∧ ((∃ e, q1 = .inl e ∧ q = .inl e) ∨ ∃ a2 c2 G, q1 = .inr (a2, c2, G) ∧ pSmL tp n k a2 c2 G = some q) ∧ EE n q1 ≤ EE n q := by
    rcases pb_inv hq with ⟨e, h1, rfl⟩ | ⟨a2, c2, G, h1, h2⟩
    · exact ⟨_, h1, Or.inl ⟨e, rfl, rfl⟩, Int.le_refl _⟩
    · have p := pq_tm (tp := tp) (n := n) (a := a) (cn := cn) (by omega) (by omega) h1
      have p2 := p.2 _ rfl
      dsimp only at p2
      have := (pq_smL k a2 c2 _ q (by omega) (by omega) h2).1
      have hs2 := sk_spec (tp := tp) (n := n) a2
      exact ⟨_, h1, Or.inr ⟨a2, c2, G, rfl, h2⟩, by show a2 ≤ _; omega⟩
  have hpv := pq_tm (tp := tp) (n := n) (a := a) (cn := cn) (by omega) (by omega) ht
  refine vc_walk hX ck_X4_sum [(5, [0, 1])] 60 hd ?_
  have bud : 0 + (EE n q1 - a).toNat ≤ (EE n q - a).toNat ∧ 0 + (4 * (EE n q1 - a)).toNat ≤ (4 * (EE n q - a)).toNat := ⟨by omega, by omega⟩
  refine ⟨h.1.1, _, _, _, cm_termP (d := d) h ht, bud, ?_⟩
  rintro r Lw5 S5 B5 ⟨E5, z5, ⟨a2, c2, G, y, hpe, rfl, v1, v3, v2, v4, hy⟩ | ⟨e, hpe, rfl, ve⟩⟩
  · subst hpe
    have hL : pSmL tp n k a2 c2 G = some q := by
      rcases hqq with ⟨e, x, -⟩ | ⟨a2', c2', G', x, y⟩
      · cases x
      · cases x; exact y
    have p2 := hpv.2 _ rfl
    have p3 : sk tp n a + 1 ≤ a2 := hpv.1
    dsimp only at p2
    refine loop k Lw5 S5 B5 a2 c2 G y _ _ ⟨E5, z5, v1, v3, v2.trans h.2.2.1.1, v4.trans h.2.2.2.1.1⟩ (by omega) (by omega) hy ?_ ?_ hL
    · show ((0 + (a2 - a).toNat : Nat) : Int) ≤ _
      omega
    · show ((0 + (4 * (a2 - a)).toNat : Nat) : Int) ≤ _
      omega
  · subst hpe
    have hL : q = .inl e := by
      rcases hqq with ⟨e, x, y⟩ | ⟨a2', c2', G', x, y⟩
      · cases x; exact y
      · cases x
    exact ⟨⟨wP, bud⟩, E5, z5, Or.inr ⟨e, hL, rfl, ve⟩⟩
end CPK
