/-! THE TWIN's methods: lands read -/
set_option maxRecDepth 100000
def A3 (f : Int → Int) (l : List T3) : Prop := ∀ (j : Nat) (t : T3), l[j]? = some t → f (3 * j) = t.1 ∧ f (3 * j + 1) = t.2.1 ∧ f (3 * j + 2) = t.2.2
def QL (S : SS) (tp : Int → Int) (n a ln : Int) (ws gs : List T3) : Prop := LX S tp n a ∧ S 43 14 = 6 ∧ S 43 17 = ln ∧ (0 ≤ ln ∧ ln ≤ 24) ∧ S 43 7 = ws.length ∧ ws.length ≤ 14 ∧ S 43 8 = gs.length ∧ gs.length ≤ 6 ∧ A3 (S 9) ws ∧ A3 (S 10) gs
def chl (tp : Int → Int) (n a ln : Int) (ws gs : List T3) : Int ⊕ (Int × T3) := if wl tp n (sk tp n a) = wWay ∨ wl tp n (sk tp n a) = wGoer then (if ln = 24 ∨ (wl tp n (sk tp n a) = wWay ∧ ws.length = 14) ∨ (wl tp n (sk tp n a) = wGoer ∧ gs.length = 6) then .inl (er 4 (sk tp n a)) else lin tp n a) else .inl (er 0 (sk tp n a))
abbrev kL : List Nat := [4, 9, 10, 43]
abbrev fL : List Int := [7, 8, 11, 12, 13, 17, 15, 1, 14]
def VPo (S : SS) (B : SB) (tp : Int → Int) (n c ln : Int) (ws gs : List T3) (r : Int ⊕ (Int × T3)) : vt_Po := fun rr S' B' => B' = B ∧ fr kL fL S S' ∧ match r with
  | .inl e => some (ii 0) = rr ∧ S' 43 12 = e ∧ 1 ≤ e ∧ e ≤ 4000
  | .inr p => some (ii 1) = rr ∧ QL S' tp n p.1 (ln + 1) (if wl tp n c = wWay then ws ++ [p.2] else ws) (if wl tp n c = wWay then gs else gs ++ [p.2])
section TPL
variable {S : SS} {B : SB} {n : Int}
variable {tp : Int → Int} {a ln : Int} {ws gs : List T3}
theorem lan_eq {k : Nat} : lan tp n (k + 1) a ln ws gs = gb (some (chl tp n a ln ws gs)) (fun q =>
      if sg tp n (sk tp n q.1) = 59 then lan tp n k (sk tp n q.1 + 1) (ln + 1) (if wl tp n (sk tp n a) = wWay then ws ++ [q.2] else ws) (if wl tp n (sk tp n a) = wWay then gs else gs ++ [q.2])
      else if sg tp n (sk tp n q.1) = -1 then some (.inr (if wl tp n (sk tp n a) = wWay then ws ++ [q.2] else ws, if wl tp n (sk tp n a) = wWay then gs else gs ++ [q.2])) else some (.inl (er 0 (sk tp n q.1)))) := by
  rw [lan]
  unfold chl
  split
  · split
    · rfl
    · congr 1
      funext q
      by_cases c : wl tp n (sk tp n a) = wWay
      · simp only [if_pos c]
      · simp only [if_neg c]
  · rfl
theorem A3.snoc {f g : Int → Int} {l : List T3} {t : T3} (h : A3 f l) (hg : ∀ i, i < 3 * (l.length : Int) → g i = f i) (h0 : g (3 * (l.length : Int)) = t.1) (h1 : g (3 * (l.length : Int) + 1) = t.2.1) (h2 : g (3 * (l.length : Int) + 2) = t.2.2) : A3 g (l ++ [t]) := by
  intro j u hj
  by_cases c : j < l.length
  · rw [List.getElem?_append_left c] at hj
    have := h j u hj
    rw [hg _ (by omega), hg _ (by omega), hg _ (by omega)]
    exact this
  · rw [List.getElem?_append_right (by omega)] at hj
    have hj2 : j - l.length < [t].length := (List.getElem?_eq_some_iff.mp hj).1
    rw [List.length_singleton] at hj2
    rw [show j - l.length = 0 by omega] at hj
    cases hj
    rw [show j = l.length by omega]
    exact ⟨h0, h1, h2⟩
theorem A3.cg {f g : Int → Int} {l : List T3} (h : A3 f l) (hg : g = f) : A3 g l := by rw [hg]; exact h
theorem lin_sk : lin tp n (sk tp n a) = lin tp n a := by
  unfold lin
  rw [sk_sk]
theorem tm_clauseHereL (h : QL S tp n a ln ws gs) : vt_M 6 [me] S B (VPo S B tp n (sk tp n a) ln ws gs (chl tp n a ln ws gs)) := by
  refine vt_start rfl rfl (Nat.le_of_ble_eq_true rfl) (fun X hX => ?_)
  obtain ⟨p0, q1, q2, q3, q4, q5, q6, q7, q8, q9⟩ := h
  obtain ⟨h1, h2, h4, h6⟩ := id p0
  have hs := sk_spec (tp := tp) (n := n) a
  have hsn := hs.2.1 h4.2.2
  have hkk := sk_sk (tp := tp) (n := n) a
  have hn : 0 ≤ n ∧ n ≤ 400 := h2.2.1
  have s1 := tm_see (B := B) h2 h4.1 h4.2
  rw [h1] at s1
  generalize hr : chl tp n a ln ws gs = r
  unfold chl at hr
  rw [← lin_sk] at hr
  generalize sk tp n a = c at *
  have pc : LX (nx S c) tp n c := p0.nx (by omega)
  have e14 : nx S c 43 14 = 6 := (nx_i (by decide)).trans q1
  have e12 : nx S c 43 12 = 0 := pc.2.2.2
  have e17 : nx S c 43 17 = ln := (nx_i (by decide)).trans q2
  have e11 : nx S c 43 11 = c := nx_11
  have sT := tm_isWord0 (B := B) (ws := wWay) (w := Int64.ofInt 7823737) pc.2.1 nx_11 (by omega) (by rw [pc.1]; exact hkk) (by decide) (by decide)
  have sW := tm_isWord0 (B := B) (ws := wGoer) (w := Int64.ofInt 1735353714) pc.2.1 nx_11 (by omega) (by rw [pc.1]; exact hkk) (by decide) (by decide)
  rw [pc.1] at sT sW
  have k0 : fr kL fL S (nx S c) := fr.rf.f (by decide) (by decide)
  -- a line begins here
  have yes : (wl tp n c = wWay ∨ wl tp n c = wGoer) → vt_J 6 (VPo S B tp n c ln ws gs r) X 94 [(0, me), (1, ii c), (2, ii 1)] [] (nx S c) B := by
    intro hw
    rw [if_pos hw] at hr
    refine vt_walk hX tk_clauseHere [(133, [0, 1])] 100 ?_
    refine ⟨by decide, fun z => absurd z (by decide), fun _ => ?_⟩
    refine ⟨by omega, fun c24 => ?_, fun c24 => ?_⟩
    · refine ⟨by decide, fun z => absurd z (by decide), fun _ => ?_⟩
      show vt_J _ _ _ _ _ _ _ _
      rw [e17]
      have pd : LX (vt_up (nx S c) 43 17 (ln + 1)) tp n c := pc.f (by decide) (by decide) (by decide)
      have kd : fr kL fL S (vt_up (nx S c) 43 17 (ln + 1)) := k0.f (by decide) (by decide)
      have d17 : vt_up (nx S c) 43 17 (ln + 1) 43 17 = ln + 1 := vt_up_self
      have d14 : vt_up (nx S c) 43 17 (ln + 1) 43 14 = 6 := by rw [vt_up_off (by decide)]; exact e14
      have d7 : vt_up (nx S c) 43 17 (ln + 1) 43 7 = ws.length := by rw [vt_up_off (by decide)]; exact (nx_i (by decide)).trans q4
      have d8 : vt_up (nx S c) 43 17 (ln + 1) 43 8 = gs.length := by rw [vt_up_off (by decide)]; exact (nx_i (by decide)).trans q6
      have d9 : vt_up (nx S c) 43 17 (ln + 1) 9 = S 9 := by rw [vt_up_ne (by decide)]; exact nx_k (by decide)
      have d10 : vt_up (nx S c) 43 17 (ln + 1) 10 = S 10 := by rw [vt_up_ne (by decide)]; exact nx_k (by decide)
      generalize vt_up (nx S c) 43 17 (ln + 1) = T at *
      have sT2 := tm_isWord0 (B := B) (ws := wWay) (w := Int64.ofInt 7823737) pd.2.1 pd.2.2.1.1 pd.2.2.1.2 (by rw [pd.1]; exact hkk) (by decide) (by decide)
      rw [pd.1] at sT2
      refine vt_walk hX tk_clauseHere [] 100 ?_
      refine vt_k sT2 ?_
      by_cases cW : wl tp n c = wWay
      · rw [decide_eq_true cW]
        refine ⟨by decide, fun z => absurd z (by decide), fun _ => ?_⟩
        refine ⟨_, tm_isWayHere pd hkk cW d7 (by omega), ?_⟩
        have hr2 : (if (ws.length : Int) = 14 then Sum.inl (er 4 c) else lin tp n c) = r := by
          rw [← hr]
          by_cases c14 : ws.length = 14
          · rw [if_pos (by omega), if_pos (.inr (.inl ⟨cW, c14⟩))]
          · rw [if_neg (by omega), if_neg (by
              rintro (z | z | z)
              · omega
              · exact c14 z.2
              · rw [cW] at z; exact absurd z.1 (by decide))]
        rw [hr2]
        rintro rr S1 B1 ⟨rfl, g1, g2, g3⟩
        have f1 : fr kL fL S S1 := kd.t g1 (by decide) (by decide)
        cases r with
        | inl e =>
          obtain ⟨rfl, g4⟩ := g3
          exact ⟨.inl rfl, rfl, f1, rfl, g4⟩
        | inr p =>
          obtain ⟨rfl, g4, g5, g6, g7, g8⟩ := g3
          have hlen : ws.length ≠ 14 := fun z => by
            rw [if_pos (by omega)] at hr2; cases hr2
          refine ⟨.inr rfl, rfl, f1, rfl, ?_⟩
          rw [if_pos cW, if_pos cW]
          refine ⟨g4, ?_, ?_, by omega, ?_, ?_, ?_, q7, ?_, ?_⟩
          · rw [g1.2 14 (by decide)]; exact d14
          · rw [g1.2 17 (by decide)]; exact d17
          · rw [g5, List.length_append, List.length_singleton]; omega
          · rw [List.length_append, List.length_singleton]; omega
          · rw [g1.2 8 (by decide)]; exact d8
          · exact q8.snoc (fun i hi => by rw [g2 i hi, d9]) g6 g7 g8
          · exact q9.cg (by rw [g1.1 10 (by decide)]; exact d10)
      · have cG := hw.resolve_left cW
        rw [decide_eq_false cW]
        refine ⟨by decide, fun _ => ?_, fun z => absurd rfl z⟩
        refine ⟨_, tm_isGoerHere pd hkk cG d8 (by omega), ?_⟩
        have hr2 : (if (gs.length : Int) = 6 then Sum.inl (er 4 c) else lin tp n c) = r := by
          rw [← hr]
          by_cases c14 : gs.length = 6
          · rw [if_pos (by omega), if_pos (.inr (.inr ⟨cG, c14⟩))]
          · rw [if_neg (by omega), if_neg (by
              rintro (z | z | z)
              · omega
              · exact cW z.1
              · exact c14 z.2)]
        rw [hr2]
        rintro rr S1 B1 ⟨rfl, g1, g2, g3⟩
        have f1 : fr kL fL S S1 := kd.t g1 (by decide) (by decide)
        cases r with
        | inl e =>
          obtain ⟨rfl, g4⟩ := g3
          exact ⟨.inl rfl, rfl, f1, rfl, g4⟩
        | inr p =>
          obtain ⟨rfl, g4, g5, g6, g7, g8⟩ := g3
          have hlen : gs.length ≠ 6 := fun z => by
            rw [if_pos (by omega)] at hr2; cases hr2
          refine ⟨.inr rfl, rfl, f1, rfl, ?_⟩
          rw [if_neg cW, if_neg cW]
          refine ⟨g4, ?_, ?_, by omega, ?_, q5, ?_, ?_, ?_, ?_⟩
          · rw [g1.2 14 (by decide)]; exact d14
          · rw [g1.2 17 (by decide)]; exact d17
          · rw [g1.2 7 (by decide)]; exact d7
          · rw [g5, List.length_append, List.length_singleton]; omega
          · rw [List.length_append, List.length_singleton]; omega
          · exact q8.cg (by rw [g1.1 9 (by decide)]; exact d9)
          · exact q9.snoc (fun i hi => by rw [g2 i hi, d10]) g6 g7 g8
    · rw [if_pos (.inl (by omega))] at hr
      subst hr
      refine vt_k (tm_fails (by omega)) ?_
      rw [if_pos e12]
      refine ⟨by omega, rfl, k0.f (by decide) (by decide), rfl, ?_, by unfold er; omega⟩
      rw [vt_up_self]
      unfold er; omega
  refine vt_walk hX tk_clauseHere [(94, [0, 1, 2])] 100 ?_
  refine vt_k s1 ?_
  refine ⟨by omega, fun z => absurd e14 z, fun _ => ?_⟩
  refine ⟨by decide, fun z => absurd z (by decide), fun _ => ?_⟩
  refine vt_k sT ?_
  by_cases cT : wl tp n c = wWay
  · rw [decide_eq_true cT]
    refine ⟨by decide, fun _ => ?_, fun z => absurd z (by decide)⟩
    refine ⟨by decide, fun _ => ?_, fun z => absurd z (by decide)⟩
    exact yes (.inl cT)
  · rw [decide_eq_false cT]
    refine ⟨by decide, fun z => absurd rfl z, fun _ => ?_⟩
    refine vt_k sW ?_
    by_cases cW : wl tp n c = wGoer
    · rw [decide_eq_true cW]
      refine ⟨by decide, fun z => absurd z (by decide), fun _ => ?_⟩
      refine ⟨by decide, fun _ => ?_, fun z => absurd z (by decide)⟩
      exact yes (.inr cW)
    · rw [decide_eq_false cW]
      refine ⟨by decide, fun _ => ?_, fun z => absurd rfl z⟩
      refine ⟨by decide, fun z => absurd rfl z, fun _ => ?_⟩
      rw [if_neg (by rintro (z | z) <;> contradiction)] at hr
      subst hr
      refine vt_k (tm_fails (by omega)) ?_
      rw [if_pos e12]
      refine ⟨by omega, rfl, k0.f (by decide) (by decide), rfl, ?_, by unfold er; omega⟩
      rw [vt_up_self]
      unfold er
      omega
def LPo (S : SS) (B : SB) (r : Int ⊕ (List T3 × List T3)) : vt_Po := fun rr S' B' => B' = B ∧ fr kL fL S S' ∧ S' 43 1 = 0 ∧ match r with
  | .inl e => some (ii 0) = rr ∧ S' 43 12 = e ∧ 1 ≤ e ∧ e ≤ 4000
  | .inr p => some (ii 1) = rr ∧ S' 43 7 = p.1.length ∧ p.1.length ≤ 14 ∧ S' 43 8 = p.2.length ∧ p.2.length ≤ 6 ∧ A3 (S' 9) p.1 ∧ A3 (S' 10) p.2
theorem tm_readsAllL {k : Nat} {r : Int ⊕ (List T3 × List T3)} (h0 : S 0 = tp) (h1 : TPI S n) (h14 : S 43 14 = 6) (h7 : S 43 7 = 0) (h8 : S 43 8 = 0) (hq : lan tp n k 0 0 [] [] = some r) : vt_M 5 [me] S B (LPo S B r) := by
  refine vt_start rfl rfl (Nat.le_of_ble_eq_true rfl) (fun X hX => ?_)
  have last : ∀ (T : SS), fr kL fL S T → (match r with
      | .inl e => T 43 12 = e ∧ 1 ≤ e ∧ e ≤ 4000
      | .inr p => T 43 12 = 0 ∧ T 43 7 = p.1.length ∧ p.1.length ≤ 14 ∧ T 43 8 = p.2.length ∧ p.2.length ≤ 6 ∧ A3 (T 9) p.1 ∧ A3 (T 10) p.2) → vt_J 5 (LPo S B r) X 88 [(0, me)] [] T B := by
    intro T hF hT
    have e12 : vt_up T 43 1 0 43 12 = T 43 12 := vt_up_off (by decide)
    refine vt_walk hX tk_readsAll [] 60 ?_
    cases r with
    | inl e =>
      have hT : T 43 12 = e ∧ 1 ≤ e ∧ e ≤ 4000 := hT
      refine ⟨by omega, fun _ => ?_, fun z => absurd z (by omega)⟩
      exact ⟨by omega, rfl, hF.f (by decide) (by decide), vt_up_self, rfl, e12.trans hT.1, hT.2⟩
    | inr p =>
      have hT : T 43 12 = 0 ∧ T 43 7 = p.1.length ∧ p.1.length ≤ 14 ∧ T 43 8 = p.2.length ∧ p.2.length ≤ 6 ∧ A3 (T 9) p.1 ∧ A3 (T 10) p.2 := hT
      refine ⟨by omega, fun z => absurd z (by omega), fun _ => ?_⟩
      refine ⟨by omega, rfl, hF.f (by decide) (by decide), vt_up_self, rfl, ?_, hT.2.2.1, ?_, hT.2.2.2.2.1, ?_, ?_⟩
      · rw [vt_up_off (by decide)]; exact hT.2.1
      · rw [vt_up_off (by decide)]; exact hT.2.2.2.1
      · rw [vt_up_ne (by decide)]; exact hT.2.2.2.2.2.1
      · rw [vt_up_ne (by decide)]; exact hT.2.2.2.2.2.2
  have bad : ∀ (e : Int) (T : SS), r = .inl e → fr kL fL S T → (T 43 12 = e ∧ 1 ≤ e ∧ e ≤ 4000) → vt_J 5 (LPo S B r) X 35 [(0, me), (1, ii 0)] [] T B := by
    intro e T hr hF hT
    subst hr
    refine vt_walk hX tk_readsAll [(88, [0])] 60 ?_
    refine ⟨by decide, fun _ => ?_, fun z => absurd rfl z⟩
    refine ⟨by decide, fun _ => ?_, fun z => absurd rfl z⟩
    exact last T hF hT
  have loop : ∀ (k : Nat) (a ln : Int) (ws gs : List T3) (T : SS), fr kL fL S T → QL T tp n a ln ws gs → (if sg tp n (sk tp n a) = 59 then lan tp n k (sk tp n a + 1) ln ws gs
      else if sg tp n (sk tp n a) = -1 then some (.inr (ws, gs)) else some (.inl (er 0 (sk tp n a)))) = some r → vt_J 5 (LPo S B r) X 35 [(0, me), (1, ii 1)] [] T B := by
    intro k
    induction k using Nat.strongRecOn with
    | ind k ih =>
      intro a ln ws gs T hF hQ hq
      obtain ⟨p0, q1, q2, q3, q4, q5, q6, q7, q8, q9⟩ := id hQ
      obtain ⟨g1, g2, g4, g6⟩ := id p0
      have hs := sk_spec (tp := tp) (n := n) a
      have hsn := hs.2.1 g4.2.2
      have hkk := sk_sk (tp := tp) (n := n) a
      have hn : 0 ≤ n ∧ n ≤ 400 := g2.2.1
      have s1 := tm_see (B := B) g2 g4.1 g4.2
      rw [g1] at s1
      generalize sk tp n a = c at *
      have pc : LX (nx T c) tp n c := p0.nx (by omega)
      have kc : fr kL fL S (nx T c) := hF.f (by decide) (by decide)
      have sgr : -1 ≤ sg tp n c ∧ sg tp n c ≤ 255 := sg_rg
      have s2 := tm_see (B := B) pc.2.1 pc.2.2.1.1 pc.2.2.1.2
      rw [pc.1, hkk, nx_nx] at s2
      have qn : ∀ b, 0 ≤ b ∧ b ≤ n → QL (nx T b) tp n b ln ws gs := by
        intro b hb
        exact ⟨p0.nx hb, (nx_i (by decide)).trans q1, (nx_i (by decide)).trans q2, q3, (nx_i (by decide)).trans q4, q5, (nx_i (by decide)).trans q6, q7, q8.cg (nx_k (by decide)), q9.cg (nx_k (by decide))⟩
      refine vt_walk hX tk_readsAll [(88, [0]), (35, [0, 1]), (58, [0])] 60 ?_
      refine ⟨by decide, fun z => absurd z (by decide), fun _ => ?_⟩
      refine vt_k s1 ?_
      refine ⟨by omega, fun c59 => ?_, fun c59 => ?_⟩
      · rw [if_neg c59] at hq
        refine ⟨by decide, fun z => absurd z (by decide), fun _ => ?_⟩
        refine vt_k s2 ?_
        refine ⟨by omega, fun c1 => ?_, fun c1 => ?_⟩
        · rw [if_pos c1] at hq
          cases hq
          obtain ⟨_, _, _, _, u4, u5, u6, u7, u8, u9⟩ := qn c (by omega)
          exact last _ kc ⟨pc.2.2.2, u4, u5, u6, u7, u8, u9⟩
        · rw [if_neg c1] at hq
          cases hq
          have e12 : nx T c 43 12 = 0 := pc.2.2.2
          have e11 : nx T c 43 11 = c := nx_11
          refine vt_k (tm_fails (by omega)) ?_
          rw [if_pos e12]
          refine last _ (kc.f (by decide) (by decide)) ⟨?_, by unfold er; omega⟩
          rw [vt_up_self, e11]
          unfold er; omega
      · rw [if_pos c59] at hq
        have hcn := sg_lt (tp := tp) (n := n) (b := c) (by omega)
        cases k with
        | zero => cases hq
        | succ k =>
          rw [lan_eq] at hq
          have e11 : nx T c 43 11 = c := nx_11
          have en : vt_up (nx T c) 43 11 (nx T c 43 11 + 1) = nx T (c + 1) := by rw [e11]; exact nx_nx
          show vt_J _ _ _ _ _ _ _ _
          rw [en]
          refine vt_walk hX tk_readsAll [(35, [0, 1])] 60 ?_
          have kn : fr kL fL S (nx T (c + 1)) := hF.f (by decide) (by decide)
          rcases gb_inv hq with ⟨e, m1, rfl⟩ | ⟨q, m1, m2⟩
          · refine ⟨_, tm_clauseHereL (qn (c + 1) (by omega)), ?_⟩
            rw [Option.some.inj m1]
            rintro rr S1 B1 ⟨rfl, k1, rfl, k2⟩
            exact bad e S1 rfl (kn.t k1 (by decide) (by decide)) k2
          · refine ⟨_, tm_clauseHereL (qn (c + 1) (by omega)), ?_⟩
            rw [Option.some.inj m1]
            rintro rr S1 B1 ⟨rfl, k1, rfl, k2⟩
            exact ih k (by omega) q.1 (ln + 1) _ _ S1 (kn.t k1 (by decide) (by decide)) k2 m2
  cases k with
  | zero => cases hq
  | succ k =>
    rw [lan_eq] at hq
    refine vt_walk hX tk_readsAll [(30, [0]), (35, [0, 1])] 60 ?_
    refine ⟨by omega, ?_⟩
    show vt_J _ _ _ _ _ _ _ _
    rw [h14]
    generalize hT : vt_up (vt_up (vt_up (vt_up (vt_up S 4 6 0) 43 17 0) 43 11 0) 43 12 0) 43 15 0 = T
    have hn : 0 ≤ n ∧ n ≤ 400 := h1.2.1
    have kT : fr kL fL S T := by
      rw [← hT]
      exact ((((fr.rf.upk (by decide) (by decide)).f (by decide) (by decide)).f (by decide) (by decide)).f (by decide) (by decide)).f (by decide) (by decide)
    have t0 : T 0 = S 0 := by rw [← hT]; simp only [vt_up_ne (show (0 : Nat) ≠ 43 by decide), vt_up_ne (show (0 : Nat) ≠ 4 by decide)]
    have pT : LX T tp n 0 := by
      refine ⟨t0.trans h0, h1.kp t0 (by rw [← hT, vt_up_off (by decide), vt_up_off (by decide), vt_up_off (by decide), vt_up_off (by decide), vt_up_ne (by decide)]), ⟨?_, by omega⟩, ?_⟩
      · rw [← hT, vt_up_off (by decide), vt_up_off (by decide), vt_up_self]
      · rw [← hT, vt_up_off (by decide), vt_up_self]
    have qT : QL T tp n 0 0 [] [] := by
      refine ⟨pT, ?_, ?_, by decide, ?_, by decide, ?_, by decide, fun j t hj => (by cases hj), fun j t hj => (by cases hj)⟩
      · rw [← hT, vt_up_off (by decide), vt_up_off (by decide), vt_up_off (by decide), vt_up_off (by decide), vt_up_ne (by decide)]; exact h14
      · rw [← hT, vt_up_off (by decide), vt_up_off (by decide), vt_up_off (by decide), vt_up_self]
      · rw [← hT, vt_up_off (by decide), vt_up_off (by decide), vt_up_off (by decide), vt_up_off (by decide), vt_up_ne (by decide)]; exact h7
      · rw [← hT, vt_up_off (by decide), vt_up_off (by decide), vt_up_off (by decide), vt_up_off (by decide), vt_up_ne (by decide)]; exact h8
    clear hT
    refine vt_walk hX tk_readsAll [(35, [0, 1])] 60 ?_
    rcases gb_inv hq with ⟨e, m1, rfl⟩ | ⟨q, m1, m2⟩
    · refine ⟨_, tm_clauseHereL qT, ?_⟩
      rw [Option.some.inj m1]
      rintro rr S1 B1 ⟨rfl, k1, rfl, k2⟩
      exact bad e S1 rfl (kT.t k1 (by decide) (by decide)) k2
    · refine ⟨_, tm_clauseHereL qT, ?_⟩
      rw [Option.some.inj m1]
      rintro rr S1 B1 ⟨rfl, k1, rfl, k2⟩
      exact loop k q.1 (0 + 1) _ _ S1 (kT.t k1 (by decide) (by decide)) k2 m2
end TPL
