/-! THE COMPONENT's parser: values, terms, sums -/
set_option maxRecDepth 100000
/-- what a reading answers: a tree, and where it stands; or what is wrong -/
def TrP (Lw : List Nat) (S : SS) (pr o : Nat) (T : List Nat → SS → Nat → Int → WF → Prop) (q : PRs) : vc_Po := fun r Lw' S' _ => Ext (prW pr (S o 7).toNat) Lw S id Lw' S' id ∧ S' 0 = S 0 ∧ ((∃ a' c' F rr, q = .inr (a', c', F) ∧ r = .inl (some (.inr (.inr rr))) ∧ S' pr 1 = a' ∧ S' pr 3 = c' ∧ S' pr 2 = S pr 2 ∧ S' pr 4 = S pr 4 ∧ T Lw' S' rr c' F) ∨ ∃ e, q = .inl e ∧ r = .inr (S o 7).toNat ∧ S' (S o 7).toNat 6 = e)
def TV (cn : Int) (Lw : List Nat) (S : SS) (rr : Nat) (c' : Int) (F : WF) : Prop := CVal Lw S (c' - cn).toNat rr F
/-- how far a reading has come since S -/
def Cur (Lw : List Nat) (S : SS) (Lw' : List Nat) (S' : SS) (pr o : Nat) (a cn dp cl : Int) : Prop := Ext (prW pr (S o 7).toNat) Lw S id Lw' S' id ∧ S' 0 = S 0 ∧ S' pr 1 = a ∧ S' pr 3 = cn ∧ S' pr 2 = dp ∧ S' pr 4 = cl
theorem nms_wd : ∀ k : Nat, k < 12 → wdL k = nmW (k : Int) ∧ (nmW (k : Int)).length = tlN k := by decide
section CPI
variable {Lw Lw' Lw1 : List Nat} {S0 S S1 S' : SS} {B : SB} {d o pr : Nat} {tp : Int → Int} {n a cn dp cl mo a1 cn1 dp1 cl1 : Int}
theorem PSt.cur (h : PSt Lw S pr o tp n a cn dp cl mo) : Cur Lw S Lw S pr o a cn dp cl := ⟨Ext.rf, rfl, h.1.2.2.1, h.2.1.1, h.2.2.1.1, h.2.2.2.1.1⟩
theorem PSt.prO (h : PSt Lw S pr o tp n a cn dp cl mo) : isO Lw pr := h.1.1.1
theorem PSt.pr0 (h : PSt Lw S pr o tp n a cn dp cl mo) : pr ≠ 0 := by
  obtain ⟨x, hx, -⟩ := h.prO
  omega
theorem PSt.wP (h : PSt Lw S pr o tp n a cn dp cl mo) : 0 < (S o 7).toNat := by
  obtain ⟨⟨x, hx, -⟩, -⟩ := h.1.2.2.2.2.2.2.2.2.2
  omega
theorem PSt.npw (h : PSt Lw S pr o tp n a cn dp cl mo) : pr ≠ (S o 7).toNat := ob_ne h.1.1 h.1.2.2.2.2.2.2.2.2.2 (by decide)
theorem Cur.at_ (C : Cur Lw S Lw' S' pr o a1 cn1 dp1 cl1) (h : PSt Lw S pr o tp n a cn dp cl mo) (x : Int) : Cur Lw S Lw' (vt_up S' pr 1 x) pr o x cn1 dp1 cl1 := by
  obtain ⟨h1, h2, h3, h4, h5, h6⟩ := C
  refine ⟨h1.upW (fun _ => Or.inl ⟨rfl, by decide, by decide⟩), by rw [vt_up_ne (fun z => h.pr0 z.symm)]; exact h2, vt_up_self, ?_, ?_, ?_⟩
  · rw [up_ne (Or.inr (by decide))]; exact h4
  · rw [up_ne (Or.inr (by decide))]; exact h5
  · rw [up_ne (Or.inr (by decide))]; exact h6
theorem Cur.cn_ (C : Cur Lw S Lw' S' pr o a1 cn1 dp1 cl1) (h : PSt Lw S pr o tp n a cn dp cl mo) (x : Int) : Cur Lw S Lw' (vt_up S' pr 3 x) pr o a1 x dp1 cl1 := by
  obtain ⟨h1, h2, h3, h4, h5, h6⟩ := C
  refine ⟨h1.upW (fun _ => Or.inl ⟨rfl, by decide, by decide⟩), by rw [vt_up_ne (fun z => h.pr0 z.symm)]; exact h2, ?_, vt_up_self, ?_, ?_⟩
  · rw [up_ne (Or.inr (by decide))]; exact h3
  · rw [up_ne (Or.inr (by decide))]; exact h5
  · rw [up_ne (Or.inr (by decide))]; exact h6
theorem Cur.dp_ (C : Cur Lw S Lw' S' pr o a1 cn1 dp1 cl1) (h : PSt Lw S pr o tp n a cn dp cl mo) (x : Int) : Cur Lw S Lw' (vt_up S' pr 2 x) pr o a1 cn1 x cl1 := by
  obtain ⟨h1, h2, h3, h4, h5, h6⟩ := C
  refine ⟨h1.upW (fun _ => Or.inl ⟨rfl, by decide, by decide⟩), by rw [vt_up_ne (fun z => h.pr0 z.symm)]; exact h2, ?_, ?_, vt_up_self, ?_⟩
  · rw [up_ne (Or.inr (by decide))]; exact h3
  · rw [up_ne (Or.inr (by decide))]; exact h4
  · rw [up_ne (Or.inr (by decide))]; exact h6
theorem Cur.cl_ (C : Cur Lw S Lw' S' pr o a1 cn1 dp1 cl1) (h : PSt Lw S pr o tp n a cn dp cl mo) (x : Int) : Cur Lw S Lw' (vt_up S' pr 4 x) pr o a1 cn1 dp1 x := by
  obtain ⟨h1, h2, h3, h4, h5, h6⟩ := C
  refine ⟨h1.upW (fun _ => Or.inl ⟨rfl, by decide, by decide⟩), by rw [vt_up_ne (fun z => h.pr0 z.symm)]; exact h2, ?_, ?_, ?_, vt_up_self⟩
  · rw [up_ne (Or.inr (by decide))]; exact h3
  · rw [up_ne (Or.inr (by decide))]; exact h4
  · rw [up_ne (Or.inr (by decide))]; exact h5
theorem Cur.nw {x : Nat} {c l : Int} (C : Cur Lw S Lw' S' pr o a1 cn1 dp1 cl1) (h : PSt Lw S pr o tp n a cn dp cl mo) (hx : x ∉ Lw') : Cur Lw S (Lw' ++ [x]) (vc_nw S' (x + 1) c l) pr o a1 cn1 dp1 cl1 := by
  obtain ⟨h1, h2, h3, h4, h5, h6⟩ := C
  have hO : isO Lw' pr := by obtain ⟨y, e, hy⟩ := h.prO; exact ⟨y, e, h1.1 y hy⟩
  refine ⟨h1.nwW hx, by rw [nw0]; exact h2, ?_, ?_, ?_, ?_⟩ <;> rw [nw_old hx hO] <;> assumption
theorem Cur.oth {x : Nat} {i v : Int} (C : Cur Lw S Lw' S' pr o a1 cn1 dp1 cl1) (h : PSt Lw S pr o tp n a cn dp cl mo) (hx : x ∉ Lw) : Cur Lw S Lw' (vt_up S' (x + 1) i v) pr o a1 cn1 dp1 cl1 := by
  obtain ⟨h1, h2, h3, h4, h5, h6⟩ := C
  have hO : pr ≠ x + 1 := isO.ne h.prO hx
  refine ⟨h1.upW (fun z => absurd rfl (isO.ne z hx)), by rw [vt_up_ne (by omega)]; exact h2, ?_, ?_, ?_, ?_⟩ <;> rw [up_ne (Or.inl hO)] <;> assumption
theorem Cur.er_ (C : Cur Lw S Lw' S' pr o a1 cn1 dp1 cl1) (h : PSt Lw S pr o tp n a cn dp cl mo) (x : Int) : Cur Lw S Lw' (vt_up S' (S o 7).toNat 6 x) pr o a1 cn1 dp1 cl1 := by
  obtain ⟨h1, h2, h3, h4, h5, h6⟩ := C
  refine ⟨h1.upW (fun _ => Or.inr ⟨rfl, rfl⟩), by rw [vt_up_ne (Nat.ne_of_lt h.wP)]; exact h2, ?_, ?_, ?_, ?_⟩ <;> rw [up_ne (Or.inl h.npw)] <;> assumption
theorem Cur.ps (C : Cur Lw S Lw' S' pr o a1 cn1 dp1 cl1) (h : PSt Lw S pr o tp n a cn dp cl mo) (ha : 0 ≤ a1 ∧ a1 ≤ n) (hc : 0 ≤ cn1 ∧ cn1 ≤ 60) (hd : 0 ≤ dp1 ∧ dp1 ≤ 10) (hl : 0 ≤ cl1 ∧ cl1 ≤ 24) : PSt Lw' S' pr o tp n a1 cn1 dp1 cl1 mo ∧ S' o 7 = S o 7 := by
  obtain ⟨h1, h2, h3, h4, h5, h6⟩ := C
  exact h.ext h1 h2 ⟨h3, ha⟩ ⟨h4, hc⟩ ⟨h5, hd⟩ ⟨h6, hl⟩
/-- a reading within a reading -/
theorem Cur.tr {Lw2 : List Nat} {S2 : SS} {a2 cn2 dp2 cl2 : Int} (C : Cur Lw S Lw' S' pr o a1 cn1 dp1 cl1) (h7 : S' o 7 = S o 7) (hE : Ext (prW pr (S' o 7).toNat) Lw' S' id Lw2 S2 id) (h0 : S2 0 = S' 0) (h1 : S2 pr 1 = a2) (h3 : S2 pr 3 = cn2) (h2 : S2 pr 2 = dp2) (h4 : S2 pr 4 = cl2) : Cur Lw S Lw2 S2 pr o a2 cn2 dp2 cl2 := by
  rw [h7] at hE
  exact ⟨C.1.tr hE (fun _ _ _ z => z), h0.trans C.2.1, h1, h3, h2, h4⟩
theorem PSt.rgs (h : PSt Lw S pr o tp n a cn dp cl mo) : (0 ≤ n ∧ n ≤ 400) ∧ (0 ≤ a ∧ a ≤ n) ∧ (0 ≤ cn ∧ cn ≤ 60) ∧ (0 ≤ dp ∧ dp ≤ 10) ∧ (0 ≤ cl ∧ cl ≤ 24) := ⟨h.1.2.2.2.2.2.2.1, ⟨h.1.2.2.2.2.2.2.2.1.1, h.2.2.2.2.2.2⟩, h.2.1.2, h.2.2.1.2, h.2.2.2.1.2⟩
theorem TrP.bad {T : List Nat → SS → Nat → Int → WF → Prop} {q : PRs} {e x1 x2 x3 x4 : Int} {Lw2 : List Nat} {S2 : SS} {B2 : SB} (h : PSt Lw S pr o tp n a cn dp cl mo) (C : Cur Lw S Lw2 S2 pr o x1 x2 x3 x4) (hq : q = .inl e) : TrP Lw S pr o T q (.inr (S o 7).toNat) Lw2 (vt_up S2 (S o 7).toNat 6 e) B2 := ⟨(C.er_ h e).1, (C.er_ h e).2.1, Or.inr ⟨e, hq, rfl, vt_up_self⟩⟩
theorem cm_valueP (h : PSt Lw S pr o tp n a cn dp cl mo) : vc_M (d + 5) 1 1 102 [.inr (.inr pr)] Lw S B (TrP Lw S pr o (TV cn) (pVal tp n a cn)) := by
  refine vc_start rfl rfl (Nat.le_of_ble_eq_true rfl) (fun X hX hd => ?_)
  obtain ⟨hn, ha, hcn, hdp, hcl⟩ := h.rgs
  have hsk := sk_spec (tp := tp) (n := n) a
  have hskn := hsk.2.1 ha.2
  have hss := sk_sk (tp := tp) (n := n) a
  have hN := cm_nextS (B := B) (d := d + 3) h.1
  have hpn := fun q => pNum_pg (tp := tp) (n := n) (a := sk tp n a) (lo := 0) (hi := 99999) (q := q)
  have hq : pVal tp n a cn = if isDg tp n (sk tp n a) = true then (match pNum tp n (sk tp n a) 0 99999 with
    | .inl e => .inl e
    | .inr q => if cn = 60 then .inl (er 3 (sk tp n a)) else .inr (q.1, cn + 1, fun _ => Int64.ofInt q.2)) else if wIx tp n (sk tp n a) < 0 then .inl (er 0 (sk tp n a)) else if cn = 60 then .inl (er 3 (sk tp n a)) else .inr (sk tp n a + (nmW (wIx tp n (sk tp n a))).length, cn + 1, fun wd => wd (wIx tp n (sk tp n a))) := rfl
  generalize pVal tp n a cn = q at *
  generalize hb : sk tp n a = b at *
  have C1 := h.cur.at_ h b
  obtain ⟨P1, w1⟩ := C1.ps h (by omega) hcn hdp hcl
  have wP := h.wP
  have hbs := bI_rg (isDg tp n b)
  refine vc_walk hX ck_X4_value [(39, [0, 1])] 60 hd ?_
  refine vc_kv h.1.1 hN ⟨by decide, by decide⟩ ?_
  refine ⟨P1.1.1, ?_⟩
  rw [C1.2.2.1]
  refine vc_kv P1.1.1 (cm_isDigit (d := d + 3) P1.1) ⟨by decide, by decide⟩ ?_
  refine ⟨by omega, fun z => ?_, fun z => ?_⟩
  · have z := bI_0.mp z
    rw [z, if_neg (by decide)] at hq
    have hwi := wIx_spec (tp := tp) (n := n) (b := b)
    have hW : ∀ i : Nat, i < 18 → vc_M (d + 4) 0 0 90 [.inr (.inr pr), .inr (.inr ((vt_up S pr 1 b) 0 (i : Int)).toNat)] Lw (vt_up S pr 1 b) B (vc_eq (some (ii (bI (decide (wl tp n b = wdL i))))) Lw (vt_up S pr 1 b) B) := by
      intro i hi
      have := cm_isWord (B := B) (d := d) hi rfl P1.1 (by omega)
      rw [hss] at this
      have e : vt_up (vt_up S pr 1 b) pr 1 b = vt_up S pr 1 b := vt_up_up
      rw [e] at this
      exact this
    generalize vt_up S pr 1 b = S1 at *
    have loop : 0 < S1 0 30 → ∀ (m k : Nat), k + m = 12 → (∀ k' : Nat, k' < k → wl tp n b ≠ nmW (k' : Int)) → vc_J 102 (TrP Lw S pr o (TV cn) q) X 41 [(0, .inr (.inr pr)), (1, ii b), (2, ii (k : Int))] [] Lw S1 B 0 0 := by
      intro hpos m
      have e0 : (S1 pr 0).toNat = (S1 0 30).toNat := by rw [P1.2.2.2.2.2.1, Int.toNat_natCast]
      induction m with
      | zero =>
        intro k hk hno
        have hw : wIx tp n b < 0 := by
          rcases hwi with ⟨x, -⟩ | ⟨x0, x1, x2, -⟩
          · omega
          · have := hno (wIx tp n b).toNat (by omega)
            rw [Int.toNat_of_nonneg x0] at this
            exact absurd x2 this
        rw [if_pos hw] at hq
        refine vc_walk hX ck_X4_value [(46, [0, 1, 2])] 60 hd ?_
        refine ⟨P1.1.1, ?_⟩
        refine vc_x_nlen hX e0 dX4_value_46 ?_
        refine vc_walk hX ck_X4_value [] 60 hd ?_
        refine ⟨by omega, fun _ => ?_, fun c => absurd c (by omega)⟩
        refine ⟨P1.1.1, ?_⟩
        rw [P1.1.2.1, Int.toNat_natCast]
        refine ⟨P1.1.2.2.2.1, vc_k (cm_fails (d := d + 4) P1.1.2.2.2.1 P1.1.2.2.2.2.2.2.2.2.2) ⟨by decide, by decide⟩ ?_⟩
        rw [w1]
        exact ⟨⟨wP, by decide, by decide⟩, TrP.bad h C1 hq⟩
      | succ m ih =>
        intro k hk hno
        have hk12 : k < 12 := by omega
        obtain ⟨nw1, nw2⟩ := nms_wd k hk12
        have h7n := tl_rg k (by omega)
        refine vc_walk hX ck_X4_value [(46, [0, 1, 2])] 60 hd ?_
        refine ⟨P1.1.1, ?_⟩
        refine vc_x_nlen hX e0 dX4_value_46 ?_
        by_cases cw : wl tp n b = wdL k
        · have hix : wIx tp n b = (k : Int) := by
            rcases hwi with ⟨-, x⟩ | ⟨x0, x1, x2, x3⟩
            · exact absurd (cw.trans nw1) (x k (by omega) (by omega))
            · rcases Int.lt_trichotomy (wIx tp n b) k with c | c | c
              · have := hno (wIx tp n b).toNat (by omega)
                rw [Int.toNat_of_nonneg x0] at this
                exact absurd x2 this
              · exact c
              · exact absurd (cw.trans nw1) (x3 k (by omega) c)
          rw [hix, if_neg (by omega), nw2] at hq
          have hWk := hW k (by omega)
          rw [decide_eq_true cw] at hWk
          refine vc_walk hX ck_X4_value [(82, [0, 2])] 60 hd ?_
          refine ⟨by omega, fun c => absurd c (by omega), fun _ => ?_⟩
          refine ⟨P1.1.1, ?_⟩
          rw [e0]
          refine ⟨⟨by omega, by omega, by omega⟩, ?_⟩
          refine vc_kv P1.1.1 hWk ⟨by decide, by decide⟩ ?_
          refine ⟨by decide, fun _ => ?_, fun z => absurd z (by decide)⟩
          refine ⟨P1.1.1, 0, 0, _, cm_counts (d := d + 3) (x := b) P1.1 (by rw [C1.2.2.2.1]; omega), ⟨by decide, by decide⟩, ?_⟩
          rintro r Lw5 S5 B5 ⟨rfl, rfl, ⟨c, rfl, rfl⟩ | ⟨c, rfl, rfl⟩⟩
          · rw [C1.2.2.2.1] at c ⊢
            rw [if_neg c] at hq
            have C2 := C1.cn_ h (cn + 1)
            obtain ⟨P2, w2⟩ := C2.ps h (by omega) (by omega) hdp hcl
            generalize vt_up S1 pr 3 (cn + 1) = S2 at *
            have e02 : (S2 pr 0).toNat = (S2 0 30).toNat := by rw [P2.2.2.2.2.2.1, Int.toNat_natCast]
            have e30 : S2 0 30 = S1 0 30 := by rw [C2.2.1, C1.2.1]
            refine ⟨P2.1.1, P2.1.1, ?_⟩
            rw [C2.2.2.1, e02]
            refine ⟨⟨by omega, by omega, by omega⟩, ?_⟩
            refine vc_x_callT (st := [ii b, .inr (.inr pr)]) (k := 150) hX hd (Nat.succ_pos _) (Nat.le_of_ble_eq_true rfl) [] (i := k) (by omega) rfl dX4_value_82 q519 q520 q521 q522 ⟨rfl, by decide, by decide, rfl⟩ (by decide) (cm_len (d := d + 3) (by omega) rfl) ⟨by decide, by decide⟩ ?_
            refine vc_walk hX ck_X4_value [] 60 hd ?_
            refine ⟨P2.1.1, ⟨by decide, by decide⟩, fun x0 nx0 => ?_⟩
            have C3 := (C2.at_ h (b + (tlN k : Int))).nw (c := ((8 : Nat) : Int)) (l := 0) h nx0
            have C4 := C3.oth (x := x0) (i := 0) (v := (k : Int)) h nx0
            have ob4 : vc_ob (Lw ++ [x0]) (vt_up (vc_nw (vt_up S2 pr 1 (b + (tlN k : Int))) (x0 + 1) ((8 : Nat) : Int) 0) (x0 + 1) 0 (k : Int)) (x0 + 1) 8 := ob_up nw_new (by decide)
            refine vc_k (cm_askedInit (d := d + 2) nw_new) ⟨by decide, by decide⟩ ?_
            refine ⟨⟨by decide, by decide⟩, C4.1, C4.2.1, Or.inl ⟨_, _, _, x0 + 1, hq, rfl, C4.2.2.1, C4.2.2.2.1, ?_, ?_, ?_⟩⟩
            · rw [C4.2.2.2.2.1, h.2.2.1.1]
            · rw [C4.2.2.2.2.2, h.2.2.2.1.1]
            · show CVal _ _ (cn + 1 - cn).toNat _ _
              rw [show (cn + 1 - cn).toNat = 0 + 1 by omega]
              refine Or.inr (Or.inl ⟨ob4, ?_, ?_⟩)
              · rw [vt_up_self]; omega
              · rw [vt_up_self]
          · rw [C1.2.2.2.1] at c
            rw [if_pos c] at hq
            rw [w1]
            exact ⟨⟨wP, by decide, by decide⟩, TrP.bad h C1 hq⟩
        · have hWk := hW k (by omega)
          rw [decide_eq_false cw] at hWk
          have K := ih (k + 1) (by omega) (fun k' hk' => by
            by_cases c : k' < k
            · exact hno k' c
            · rw [show k' = k by omega, ← nw1]; exact cw)
          rw [show ((k + 1 : Nat) : Int) = (k : Int) + 1 by omega] at K
          refine vc_walk hX ck_X4_value [(41, [0, 1, 2])] 60 hd ?_
          refine ⟨by omega, fun c => absurd c (by omega), fun _ => ?_⟩
          refine ⟨P1.1.1, ?_⟩
          rw [e0]
          refine ⟨⟨by omega, by omega, by omega⟩, ?_⟩
          refine vc_kv P1.1.1 hWk ⟨by decide, by decide⟩ ?_
          refine ⟨by decide, fun z => absurd rfl z, fun _ => ?_⟩
          exact K
    refine vc_x_pos hX (fun hpos => ?_)
    have K := loop hpos 12 0 (by omega) (fun k' hk' => absurd hk' (Nat.not_lt_zero _))
    refine vc_walk hX ck_X4_value [(41, [0, 1, 2])] 60 hd ?_
    exact K
  · have z := bI_n0.mp z
    rw [z, if_pos rfl] at hq
    refine ⟨⟨by decide, by decide⟩, fun x0 nx0 => ?_⟩
    have C2 := C1.nw (c := ((7 : Nat) : Int)) (l := 0) h nx0
    obtain ⟨P2, w2⟩ := C2.ps h (by omega) hcn hdp hcl
    refine ⟨P2.1.1, 0, 0, _, cm_number (d := d + 2) (lo := 0) (hi := 99999) (by decide) (by decide) P2.1 (by omega), ⟨by decide, by decide⟩, ?_⟩
    rintro r Lw3 S3 B3 ⟨rfl, rfl, ⟨x, hx, rfl, rfl⟩ | ⟨e, j, he, hj, rfl, rfl⟩⟩
    · have g := hpn x hx
      have g1 : b ≤ sk tp n b := (sk_spec (tp := tp) (n := n) b).1
      rw [hx] at hq
      have hq : q = if cn = 60 then .inl (er 3 b) else .inr (x.1, cn + 1, fun _ => Int64.ofInt x.2) := hq
      have C3 := C2.at_ h x.1
      have ob3 : vc_ob (Lw ++ [x0]) (vt_up (vc_nw (vt_up S pr 1 b) (x0 + 1) ((7 : Nat) : Int) 0) pr 1 x.1) (x0 + 1) 7 := ob_up nw_new (by decide)
      refine vc_k (cm_plainInit (d := d + 2) ob3) ⟨by decide, by decide⟩ ?_
      have C4 := C3.oth (x := x0) (i := 0) (v := x.2) h nx0
      have ob4 : vc_ob (Lw ++ [x0]) (vt_up (vt_up (vc_nw (vt_up S pr 1 b) (x0 + 1) ((7 : Nat) : Int) 0) pr 1 x.1) (x0 + 1) 0 x.2) (x0 + 1) 7 := ob_up ob3 (by decide)
      have v4 : vt_up (vt_up (vc_nw (vt_up S pr 1 b) (x0 + 1) ((7 : Nat) : Int) 0) pr 1 x.1) (x0 + 1) 0 x.2 (x0 + 1) 0 = x.2 := vt_up_self
      obtain ⟨P4, w4⟩ := C4.ps h (by omega) hcn hdp hcl
      have npx : x0 + 1 ≠ pr := fun z => isO.ne h.prO nx0 z.symm
      refine ⟨P4.1.1, 0, 0, _, cm_counts (d := d + 3) (x := b) P4.1 (by rw [P4.2.1.1]; omega), ⟨by decide, by decide⟩, ?_⟩
      rintro r Lw5 S5 B5 ⟨rfl, rfl, ⟨c, rfl, rfl⟩ | ⟨c, rfl, rfl⟩⟩
      · rw [P4.2.1.1] at c ⊢
        rw [if_neg c] at hq
        have C5 := C4.cn_ h (cn + 1)
        refine ⟨⟨by decide, by decide⟩, C5.1, C5.2.1, Or.inl ⟨_, _, _, x0 + 1, hq, rfl, C5.2.2.1, C5.2.2.2.1, ?_, ?_, ?_⟩⟩
        · rw [C5.2.2.2.2.1, h.2.2.1.1]
        · rw [C5.2.2.2.2.2, h.2.2.2.1.1]
        · show CVal _ _ (cn + 1 - cn).toNat _ _
          rw [show (cn + 1 - cn).toNat = 0 + 1 by omega]
          refine Or.inl ⟨ob_up ob4 (by decide), ?_, ?_⟩
          · rw [up_ne (Or.inl npx), v4]; omega
          · rw [up_ne (Or.inl npx), v4]
      · rw [P4.2.1.1] at c
        rw [if_pos c] at hq
        rw [w4]
        exact ⟨⟨wP, by decide, by decide⟩, TrP.bad h C4 hq⟩
    · rw [he] at hq
      have hq : q = .inl e := hq
      have C3 := C2.at_ h j
      rw [w2]
      exact ⟨⟨wP, by decide, by decide⟩, TrP.bad h C3 hq⟩
end CPI
