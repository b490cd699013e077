/-! THE TWIN's methods: tests -/
set_option maxRecDepth 100000
/-- behind fact: wrong, or a value more -/
def FPo (S : SS) (B : SB) (tp : Int → Int) (n tx L b : Int) (vs : List WF) (k : Nat) (r : MR) : vt_Po := fun rr S' B' => B' = B ∧ pk pkC pkD tx L S S' ∧ ((some (ii 0) = rr ∧ r = .inl (S' 43 12) ∧ 1 ≤ S' 43 12 ∧ S' 43 12 ≤ 4000) ∨ (some (ii 1) = rr ∧ ∃ (L' a' c' : Int) (st' : List Int) (G : WF) (k' : Nat), L ≤ L' ∧ PT S' tp n tx a' c' L' b st' (G :: vs) ∧ nbq st' ≤ vs.length ∧ k' < k ∧ mc tp n k' false a' c' (stw 3 st' (G :: vs)).1 (stw 3 st' (G :: vs)).2 = some r))
section TPG
variable {S : SS} {B : SB} {n : Int}
variable {tp : Int → Int} {tx a cn L w b : Int} {vs : List WF} {st : List Int}
theorem PX.nx {a' w' : Int} (h : PX S tp n tx a cn L w b vs) (ha : 0 ≤ a' ∧ a' ≤ n) (hw : 0 ≤ w' ∧ L + w' ≤ a') : PX (nx S a') tp n tx a' cn L w' b vs := by
  refine ⟨h.1.nx ha hw, ?_⟩
  rw [nx_k (by decide)]
  exact h.2
theorem OPS.nx {a' : Int} (h : OPS S st) : OPS (nx S a') st := h.kp (nx_k (by decide)) (nx_i (by decide)) (nx_i (by decide))
theorem tm_fact {k : Nat} {r : MR} (h : PT S tp n tx a cn L b st vs) (hv : nbq st ≤ vs.length) (hq : mc tp n k true a cn st vs = some r) : vt_M 26 [me] S B (FPo S B tp n tx L b vs k r) := by
  refine vt_start rfl rfl (Nat.le_of_ble_eq_true rfl) (fun X hX => ?_)
  have loop : ∀ (k1 : Nat) (a : Int) (st : List Int) (S1 : SS), k1 ≤ k → pk pkC pkD tx L S S1 → PT S1 tp n tx a cn L b st vs → nbq st ≤ vs.length → mc tp n k1 true a cn st vs = some r → vt_J 26 (FPo S B tp n tx L b vs k r) X 2 [(0, me), (1, ii 1)] [] S1 B := by
    intro k1
    induction k1 with
    | zero => intro a st S1 _ _ _ _ hq; cases hq
    | succ k1 ih =>
      intro a st S1 hkk hk hp hv hq
      obtain ⟨hx, ho⟩ := hp
      obtain ⟨p0, hg⟩ := id hx
      obtain ⟨h1, h2, h3, h4, h5, h6, h7⟩ := id p0
      have hs := sk_spec (tp := tp) (n := n) a
      have hsn := hs.2.1 h4.2.2
      have hkk2 := sk_sk (tp := tp) (n := n) a
      have hn : 0 ≤ n ∧ n ≤ 400 := h2.2.1
      rw [mc] at hq
      have s1 := tm_see (B := B) h2 h4.1 h4.2
      rw [h1] at s1
      generalize sk tp n a = c at *
      have xc : PX (nx S1 c) tp n tx c cn L st.length b vs := hx.nx (by omega) (by omega)
      have oc : OPS (nx S1 c) st := ho.nx
      have kc : pk pkC pkD tx L S (nx S1 c) := hk.nx (by decide) (by decide)
      have e1 : nx S1 c 43 11 = c := nx_11
      have e0 : nx S1 c 0 = tp := xc.1.1
      have e12 : nx S1 c 43 12 = 0 := xc.1.2.2.2.2.2.1
      have hd := dpq_rg st
      have sgr : -1 ≤ sg tp n c ∧ sg tp n c ≤ 255 := sg_rg
      have s2 := tm_isWord0 (B := B) (ws := wNot) (w := Int64.ofInt 7237492) xc.1.2.1 e1 (by omega) (by rw [e0]; exact hkk2) (by decide) (by decide)
      rw [e0] at s2
      have push : ∀ (s a' : Int) (T : SS), (s = 11 ∨ s = 91) → c < n → c < a' → a' ≤ n → dpq st ≠ 10 → T = nx (opS (nx S1 c) (dpq st) st.length s) a' → mc tp n k1 true a' cn (s :: st) vs = some r → vt_J 26 (FPo S B tp n tx L b vs k r) X 2 [(0, me), (1, ii 1)] [] T B := by
        intro s a' T hs' hcn ha' han hd10 hT hq2
        subst hT
        have o1 : OPS (opS (nx S1 c) (dpq st) st.length s) (s :: st) := by
          refine oc.push (by omega) ?_ ?_ ?_
          · unfold opS
            rw [vt_up_ne (by decide), vt_up_at, vt_up_ne (by decide)]
          · unfold opS
            rw [vt_up_self, oc.1]
          · unfold opS
            rw [vt_up_off (by decide), vt_up_ne (by decide), vt_up_self, dpq, if_pos hs']
        have x1 : PX0 (opS (nx S1 c) (dpq st) st.length s) tp n tx c cn L st.length := ((xc.1.f (by decide) (by decide) (by decide) (by decide) (by decide)).a18).f (by decide) (by decide) (by decide) (by decide) (by decide)
        refine ih a' (s :: st) _ (by omega) ?_ ⟨⟨x1.nx (by omega) (by rw [List.length_cons]; omega), ?_⟩, o1.nx⟩ ?_ hq2
        · exact (((kc.f (by decide) (by decide)).a18 (by decide)).f (by decide) (by decide)).nx (by decide) (by decide)
        · rw [nx_k (by decide)]
          unfold opS
          rw [vt_up_ne (by decide), vt_up_ne (by decide), vt_up_ne (by decide)]
          exact xc.2
        · rw [nbq, if_neg (by omega)]; exact hv
      refine vt_walk hX tk_fact [(2, [0, 1])] 80 ?_
      refine ⟨by decide, fun z => absurd z (by decide), fun _ => ?_⟩
      refine vt_k s1 ?_
      refine vt_k s2 ?_
      by_cases cN : wl tp n c = wNot
      · rw [if_pos cN] at hq
        rw [decide_eq_true cN]
        have hw3 : c + 3 ≤ n := wl3 hsn cN
        refine ⟨by decide, fun z => absurd z (by decide), fun _ => ?_⟩
        by_cases cD : dpq st = 10
        · rw [if_pos cD] at hq
          cases hq
          refine vt_k (tm_opens0 (oc.2.2.1.trans cD) e12 e1) ?_
          refine ⟨by decide, fun z => absurd rfl z, fun _ => ?_⟩
          refine ⟨by omega, rfl, kc.f (by decide) (by decide), .inl ⟨rfl, ?_, by rw [vt_up_self]; unfold er; omega⟩⟩
          rw [vt_up_self]
        · rw [if_neg cD] at hq
          refine vt_k (tm_opens1 oc.2.2.1 (by omega) oc.1 (by omega)) ?_
          refine ⟨by decide, fun _ => ?_, fun z => absurd z (by decide)⟩
          have x1 : PX0 (opS (nx S1 c) (dpq st) st.length 11) tp n tx c cn L st.length := ((xc.1.f (by decide) (by decide) (by decide) (by decide) (by decide)).a18).f (by decide) (by decide) (by decide) (by decide) (by decide)
          refine vt_k (tm_passWord x1.2.1 x1.2.2.2.1.1 (by omega)) ?_
          rw [x1.1, cN]
          exact push 11 (c + 3) _ (.inl rfl) (by omega) (by omega) hw3 cD rfl hq
      · rw [if_neg cN] at hq
        rw [decide_eq_false cN]
        refine ⟨by decide, fun _ => ?_, fun z => absurd rfl z⟩
        refine ⟨by omega, fun c9 => ?_, fun c9 => ?_⟩
        · rw [if_neg c9] at hq
          show vt_J _ _ _ _ _ _ _ _
          refine vt_walk hX tk_fact [] 80 ?_
          refine ⟨by decide, fun _ => ?_, fun z => absurd rfl z⟩
          cases hc : pCmp tp n k1 c cn with
          | none => rw [hc] at hq; cases hq
          | some q =>
            rw [hc] at hq
            refine ⟨_, tm_compare xc hc, ?_⟩
            cases q with
            | inl e =>
              cases hq
              rintro rr S2 B2 ⟨rfl, k2, rfl, k3⟩
              refine ⟨by omega, rfl, kc.t k2.up (Int.le_refl _), .inl ⟨rfl, ?_, by omega⟩⟩
              rw [k3.1]
            | inr p =>
              rintro rr S2 B2 ⟨rfl, k2, rfl, L2, hL2, x2⟩
              refine ⟨by omega, rfl, kc.t k2.up (Int.le_refl _), .inr ⟨rfl, L2, p.1, p.2.1, st, p.2.2, k1, hL2, ⟨x2, ?_⟩, hv, by omega, hq⟩⟩
              exact oc.kp (k2.1 18 (by decide)) (k2.2.1 19 (by decide)) (k2.2.1 16 (by decide))
        · rw [if_pos c9] at hq
          have hcn := sg_lt (tp := tp) (n := n) (b := c) (by omega)
          by_cases cD : dpq st = 10
          · rw [if_pos cD] at hq
            cases hq
            refine vt_k (tm_opens0 (oc.2.2.1.trans cD) e12 e1) ?_
            refine ⟨by decide, fun z => absurd rfl z, fun _ => ?_⟩
            refine ⟨by omega, rfl, kc.f (by decide) (by decide), .inl ⟨rfl, ?_, by rw [vt_up_self]; unfold er; omega⟩⟩
            rw [vt_up_self]
          · rw [if_neg cD] at hq
            refine vt_k (tm_opens1 oc.2.2.1 (by omega) oc.1 (by omega)) ?_
            refine ⟨by decide, fun _ => ?_, fun z => absurd z (by decide)⟩
            have x1 : PX0 (opS (nx S1 c) (dpq st) st.length 91) tp n tx c cn L st.length := ((xc.1.f (by decide) (by decide) (by decide) (by decide) (by decide)).a18).f (by decide) (by decide) (by decide) (by decide) (by decide)
            refine push 91 (c + 1) _ (.inr rfl) hcn (by omega) (by omega) cD ?_ hq
            rw [show opS (nx S1 c) (dpq st) (st.length : Int) 91 43 11 = c from x1.2.2.2.1.1]
            rfl
  refine vt_walk hX tk_fact [(2, [0, 1])] 80 ?_
  exact loop k a st S (Nat.le_refl _) pk.rf h hv hq
theorem tm_closes {k : Nat} {r : MR} (h : PT S tp n tx a cn L b st vs) (hv : nbq st < vs.length) (hq : mc tp n k false a cn (stw 3 st vs).1 (stw 3 st vs).2 = some r) : vt_M 29 [me] S B (fun rr S' B' => none = rr ∧ B' = B ∧ pk pkC pkD tx L S S' ∧ ∃ (L' a' : Int) (st' : List Int) (vs' : List WF) (k' : Nat), L ≤ L' ∧ PT S' tp n tx a' cn L' b st' vs' ∧ nbq st' < vs'.length ∧ k' ≤ k ∧ mc tp n k' false a' cn st' vs' = some r ∧ sk tp n a' = a' ∧ ¬ (sg tp n a' = 93 ∧ 91 ∈ st')) := by
  refine vt_start rfl rfl (Nat.le_of_ble_eq_true rfl) (fun X hX => ?_)
  generalize hP : (fun (rr : Option AV) (S' : SS) (B' : SB) => none = rr ∧ B' = B ∧ pk pkC pkD tx L S S' ∧ ∃ (L' a' : Int) (st' : List Int) (vs' : List WF) (k' : Nat), L ≤ L' ∧ PT S' tp n tx a' cn L' b st' vs' ∧ nbq st' < vs'.length ∧ k' ≤ k ∧ mc tp n k' false a' cn st' vs' = some r ∧ sk tp n a' = a' ∧ ¬ (sg tp n a' = 93 ∧ 91 ∈ st')) = Post
  have loop : ∀ (k1 : Nat) (a L1 : Int) (st : List Int) (vs : List WF) (S1 : SS), k1 ≤ k → L ≤ L1 → pk pkC pkD tx L S S1 → PT S1 tp n tx a cn L1 b st vs → nbq st < vs.length → mc tp n k1 false a cn st vs = some r → vt_J 29 Post X 5 [(0, me)] [] S1 B := by
    intro k1
    induction k1 with
    | zero => intro a L1 st vs S1 _ _ _ _ _ hq; cases hq
    | succ k1 ih =>
      intro a L1 st vs S1 hkk hL hk hp hv hq
      obtain ⟨hx, ho⟩ := hp
      obtain ⟨p0, hg⟩ := id hx
      obtain ⟨h1, h2, h3, h4, h5, h6, h7⟩ := id p0
      have hs := sk_spec (tp := tp) (n := n) a
      have hsn := hs.2.1 h4.2.2
      have hkk2 := sk_sk (tp := tp) (n := n) a
      have hn : 0 ≤ n ∧ n ≤ 400 := h2.2.1
      rw [mc_sk] at hq
      have s1 := tm_see (B := B) h2 h4.1 h4.2
      rw [h1] at s1
      generalize sk tp n a = c at *
      have xc : PX (nx S1 c) tp n tx c cn L1 st.length b vs := hx.nx (by omega) (by omega)
      have oc : OPS (nx S1 c) st := ho.nx
      have kc : pk pkC pkD tx L S (nx S1 c) := hk.nx (by decide) (by decide)
      have sgr : -1 ≤ sg tp n c ∧ sg tp n c ≤ 255 := sg_rg
      have stop : ¬ (sg tp n c = 93 ∧ 91 ∈ st) → Post none (nx S1 c) B := by
        intro z
        rw [← hP]
        exact ⟨rfl, rfl, kc, L1, c, st, vs, k1 + 1, hL, ⟨xc, oc⟩, hv, hkk, hq, hkk2, z⟩
      refine vt_walk hX tk_closes [(56, [0]), (5, [0])] 60 ?_
      refine vt_k s1 ?_
      refine ⟨by omega, fun z => stop (fun y => z y.1), fun z => ?_⟩
      refine vt_k (tm_isInside oc (by omega)) ?_
      by_cases c9 : 91 ∈ st
      · have hcn := sg_lt (tp := tp) (n := n) (b := c) (by omega)
        rw [decide_eq_true c9]
        refine ⟨by decide, fun z => absurd z (by decide), fun _ => ?_⟩
        rw [mc, hkk2, if_pos ⟨z, c9⟩] at hq
        refine ⟨_, tm_setl ⟨xc, oc⟩ hv (m := 1) (by decide), ?_⟩
        rintro _ S2 B2 ⟨rfl, rfl, k2, L2, hL2, x2, o2⟩
        obtain ⟨ok3, nv3⟩ := stw_ok (m := 1) (by decide) st vs ho.2.2.2 hv
        obtain ⟨t, ht⟩ := stw_91 rfl st vs ho.2.2.2 c9
        generalize stw 1 st vs = sv at *
        obtain ⟨st3, vs3⟩ := sv
        subst ht
        show vt_J _ _ _ _ _ _ _ _
        have e19 : S2 43 19 = t.length + 1 := by
          have := o2.1
          rw [List.length_cons] at this
          omega
        have e16 := o2.2.2.1
        rw [dpq, if_pos (.inr rfl)] at e16
        have e11 : S2 43 11 = c := x2.1.2.2.2.1.1
        have hw2 := x2.1.2.2.2.2.2.2
        rw [List.length_cons] at hw2
        -- three fields
        have f16 : vt_up S2 43 19 (S2 43 19 - 1) 43 16 = S2 43 16 := vt_up_off (by decide)
        have f11 : vt_up (vt_up S2 43 19 (S2 43 19 - 1)) 43 16 (vt_up S2 43 19 (S2 43 19 - 1) 43 16 - 1) 43 11 = c := by
          rw [vt_up_off (by decide), vt_up_off (by decide)]; exact e11
        rw [f11]
        generalize hT : vt_up (vt_up S2 43 19 (S2 43 19 - 1)) 43 16 (vt_up S2 43 19 (S2 43 19 - 1) 43 16 - 1) = T
        have oT : OPS T t := by
          rw [← hT]
          refine o2.pop (d := 0) ?_ ?_ ?_
          · rw [vt_up_ne (by decide), vt_up_ne (by decide)]
          · rw [vt_up_off (by decide), vt_up_self]
          · rw [vt_up_self, f16]; omega
        have xT : PX0 T tp n tx c cn L2 t.length := by
          rw [← hT]
          exact ((x2.1.f (by decide) (by decide) (by decide) (by decide) (by decide)).f (by decide) (by decide) (by decide) (by decide) (by decide)).wk (by omega) (by rw [List.length_cons]; omega)
        have x3 : PX (nx T (c + 1)) tp n tx (c + 1) cn L2 t.length b vs3 := by
          refine ⟨xT.nx (by omega) (by omega), ?_⟩
          rw [nx_k (by decide), ← hT, vt_up_ne (by decide), vt_up_ne (by decide)]
          exact x2.2
        have k3 : pk pkC pkD tx L S (nx T (c + 1)) := by
          rw [← hT]
          exact (((kc.t k2 hL).f (by decide) (by decide)).f (by decide) (by decide)).nx (by decide) (by decide)
        have nv4 : nbq t < vs3.length := by
          have := nv3
          rw [nbq, if_neg (by decide)] at this
          exact this
        refine vt_walk hX tk_closes [(5, [0])] 60 ?_
        refine ⟨_, tm_setl (S := nx T (c + 1)) ⟨x3, oT.nx⟩ nv4 (m := 3) (by decide), ?_⟩
        rintro _ S4 B4 ⟨rfl, rfl, k4, L4, hL4, x4⟩
        obtain ⟨ok5, nv5⟩ := stw_ok (m := 3) (by decide) t vs3 oT.2.2.2 nv4
        exact ih (c + 1) L4 _ _ S4 (by omega) (by omega) (k3.t k4 (by omega)) x4 nv5 hq
      · rw [decide_eq_false c9]
        refine ⟨by decide, fun _ => ?_, fun z => absurd rfl z⟩
        exact stop (fun y => c9 y.2)
  refine vt_walk hX tk_closes [(5, [0])] 60 ?_
  refine ⟨_, tm_setl h hv (m := 3) (by decide), ?_⟩
  rintro _ S4 B4 ⟨rfl, rfl, k4, L4, hL4, x4⟩
  obtain ⟨ok5, nv5⟩ := stw_ok (m := 3) (by decide) st vs h.2.2.2.2 hv
  exact loop k a L4 _ _ S4 (Nat.le_refl _) hL4 k4 x4 nv5 hq
end TPG
