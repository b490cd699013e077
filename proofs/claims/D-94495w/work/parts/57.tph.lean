/-! THE TWIN's methods: whole tests -/
set_option maxRecDepth 100000
def TPo (S : SS) (B : SB) (tp : Int → Int) (n tx L b : Int) (r : MR) : vt_Po := fun rr S' B' => B' = B ∧ pk pkC pkD tx L S S' ∧ match r with
  | .inl e => some (ii 0) = rr ∧ S' 43 12 = e ∧ 1 ≤ e ∧ e ≤ 4000
  | .inr p => some (ii 1) = rr ∧ ∃ L', L ≤ L' ∧ PX S' tp n tx p.1 p.2.1 L' 0 b p.2.2
section TPH
variable {S : SS} {B : SB} {n : Int}
variable {tp : Int → Int} {tx a cn L w b : Int} {vs : List WF} {st : List Int}
theorem tm_testr {k : Nat} {r : MR} (h : PX S tp n tx a cn L 0 b vs) (hq : mc tp n k true a cn [] vs = some r) : vt_M 25 [me] S B (TPo S B tp n tx L b r) := by
  refine vt_start rfl rfl (Nat.le_of_ble_eq_true rfl) (fun X hX => ?_)
  have loop : ∀ (k1 : Nat) (a cn L1 : Int) (st : List Int) (vs : List WF) (S1 : SS), L ≤ L1 → pk pkC pkD tx L S S1 → PT S1 tp n tx a cn L1 b st vs → nbq st ≤ vs.length → mc tp n k1 true a cn st vs = some r → vt_J 25 (TPo S B tp n tx L b r) X 12 [(0, me), (1, ii 1)] [] S1 B := by
    intro k1
    induction k1 using Nat.strongRecOn with
    | ind k1 ih =>
      intro a cn L1 st vs S1 hL hk hp hv hq
      refine vt_walk hX tk_tested [(12, [0, 1]), (81, [0, 1, 2])] 100 ?_
      refine ⟨by decide, fun z => absurd z (by decide), fun _ => ?_⟩
      refine ⟨_, tm_fact hp hv hq, ?_⟩
      rintro rr S2 B2 ⟨rfl, k2, ⟨rfl, e2, e3⟩ | ⟨rfl, L2, a2, c2, st2, G, k12, hL2, p2, nv2, kk2, hq2⟩⟩
      · refine ⟨by decide, fun z => absurd rfl z, fun _ => ?_⟩
        subst e2
        exact ⟨by omega, rfl, hk.t k2 hL, rfl, rfl, e3⟩
      refine ⟨by decide, fun _ => ?_, fun z => absurd z (by decide)⟩
      refine ⟨_, tm_closes p2 (by rw [List.length_cons]; omega) hq2, ?_⟩
      rintro _ S3 B3 ⟨rfl, rfl, k3, L3, a3, st3, vs3, k13, hL3, p3, nv3, kk3, hq3, hsk, hno⟩
      have kk : pk pkC pkD tx L S S3 := (hk.t k2 hL).t k3 (by omega)
      obtain ⟨x3, o3⟩ := id p3
      obtain ⟨h1, h2, h3, h4, h5, h6, h7⟩ := id x3.1
      have hn : 0 ≤ n ∧ n ≤ 400 := h2.2.1
      have sA := tm_isWord0 (B := B3) (ws := wAnd) (w := Int64.ofInt 6385252) h2 h4.1 h4.2 (by rw [h1]; exact hsk) (by decide) (by decide)
      have sO := tm_isWord0 (B := B3) (ws := wOr) (w := Int64.ofInt 28530) h2 h4.1 h4.2 (by rw [h1]; exact hsk) (by decide) (by decide)
      rw [h1] at sA sO
      cases k13 with
      | zero => cases hq3
      | succ k13 =>
      rw [mc, hsk, if_neg hno] at hq3
      -- a joining sign
      have join : ∀ (s m : Int) (a' : Int) (T : SS), (s = 12 ∨ s = 13) → strn s = m → a3 < a' → a' ≤ n → T = nx S3 a' → mc tp n k13 true a' c2 (s :: (stw m st3 vs3).1) (stw m st3 vs3).2 = some r → vt_J 25 (TPo S B3 tp n tx L b r) X 81 [(0, me), (1, ii 1), (2, ii s)] [] T B3 := by
        intro s m a' T hs hm ha han hT hq4
        subst hT
        have hm2 : 1 ≤ m ∧ m ≤ 2 := by rw [← hm]; rcases hs with rfl | rfl <;> decide
        refine vt_walk hX tk_tested [(12, [0, 1])] 100 ?_
        refine vt_k (tm_strength (by omega)) ?_
        rw [hm]
        refine ⟨_, tm_setE (e := 1) ⟨x3.nx (by omega) (by omega), o3.nx⟩ (by decide) nv3 (by omega), ?_⟩
        rintro _ S4 B4 ⟨rfl, rfl, k4, L4, hL4, x4, o4⟩
        obtain ⟨ok5, nv5⟩ := stw_ok (m := m) (by omega) st3 vs3 o3.2.2.2 nv3
        have hlen := stw_len (m := m) st3 vs3
        have e19 := o4.1
        have f19 : vt_up S4 18 (S4 43 19) s 43 19 = S4 43 19 := by rw [vt_up_ne (by decide)]
        refine ⟨by omega, ?_⟩
        show vt_J _ _ _ _ _ _ _ _
        rw [f19]
        refine ih k13 (by omega) a' c2 L4 _ _ _ (by omega) ?_ ⟨⟨?_, ?_⟩, ?_⟩ ?_ hq4
        · exact (((kk.nx (by decide) (by decide)).t k4 (by omega)).a18 (by decide)).f (by decide) (by decide)
        · have := (x4.1.a18 (i := S4 43 19) (v := s)).f (i := 19) (v := S4 43 19 + 1) (by decide) (by decide) (by decide) (by decide) (by decide)
          rw [List.length_cons, show (((stw m st3 vs3).1.length + 1 : Nat) : Int) = ((stw m st3 vs3).1.length : Int) + 1 by omega]
          exact this
        · rw [vt_up_ne (by decide), vt_up_ne (by decide)]
          exact x4.2
        · refine o4.push (by omega) ?_ ?_ ?_
          · rw [vt_up_ne (by decide), vt_up_at, e19]
          · rw [vt_up_self]
          · rw [vt_up_off (by decide), vt_up_ne (by decide), dpq, if_neg (by omega), o4.2.2.1]
            omega
        · rw [nbq, if_pos hs]; omega
      refine vt_k sA ?_
      by_cases cA : wl tp n a3 = wAnd
      · rw [if_pos cA] at hq3
        rw [decide_eq_true cA]
        have hw3 : a3 + 3 ≤ n := wl3 h4.2.2 cA
        refine ⟨by decide, fun _ => ?_, fun z => absurd z (by decide)⟩
        refine ⟨by decide, fun z => absurd z (by decide), fun _ => ?_⟩
        refine vt_k sA ?_
        rw [decide_eq_true cA]
        refine ⟨by decide, fun z => absurd z (by decide), fun _ => ?_⟩
        refine vt_k (tm_passWord h2 h4.1 h4.2) ?_
        rw [h1, cA]
        exact join 12 2 (a3 + 3) _ (.inl rfl) (by decide) (by omega) (by omega) rfl hq3
      · rw [if_neg cA] at hq3
        rw [decide_eq_false cA]
        refine ⟨by decide, fun z => absurd rfl z, fun _ => ?_⟩
        refine vt_k sO ?_
        by_cases cO : wl tp n a3 = wOr
        · rw [if_pos cO] at hq3
          rw [decide_eq_true cO]
          have hw3 : a3 + 2 ≤ n := wl3 h4.2.2 cO
          refine ⟨by decide, fun z => absurd z (by decide), fun _ => ?_⟩
          refine ⟨by decide, fun z => absurd z (by decide), fun _ => ?_⟩
          refine vt_k sA ?_
          rw [decide_eq_false cA]
          refine ⟨by decide, fun _ => ?_, fun z => absurd rfl z⟩
          refine vt_k (tm_passWord h2 h4.1 h4.2) ?_
          rw [h1, cO]
          exact join 13 1 (a3 + 2) _ (.inr rfl) (by decide) (by omega) (by omega) rfl hq3
        · rw [if_neg cO] at hq3
          rw [decide_eq_false cO]
          refine ⟨by decide, fun _ => ?_, fun z => absurd rfl z⟩
          refine ⟨by decide, fun _ => ?_, fun z => absurd rfl z⟩
          show vt_J _ _ _ _ _ _ _ _
          refine vt_walk hX tk_tested [] 100 ?_
          refine ⟨by decide, fun _ => ?_, fun z => absurd rfl z⟩
          refine vt_k (tm_isInside o3 (by omega)) ?_
          by_cases c9 : 91 ∈ st3
          · rw [if_pos c9] at hq3
            rw [decide_eq_true c9]
            cases hq3
            refine ⟨by decide, fun z => absurd z (by decide), fun _ => ?_⟩
            have s1 := tm_see (B := B3) h2 h4.1 h4.2
            rw [h1, hsk] at s1
            refine vt_k s1 ?_
            have e11 : nx S3 a3 43 11 = a3 := nx_11
            have e12 : nx S3 a3 43 12 = 0 := (nx_i (by decide)).trans h6
            refine vt_k (tm_fails (by omega)) ?_
            rw [if_pos e12]
            refine ⟨by omega, rfl, (kk.nx (by decide) (by decide)).f (by decide) (by decide), rfl, ?_, by unfold er; omega⟩
            rw [vt_up_self, e11]
            unfold er; omega
          · rw [if_neg c9] at hq3
            rw [decide_eq_false c9]
            cases hq3
            refine ⟨by decide, fun _ => ?_, fun z => absurd rfl z⟩
            refine ⟨_, tm_setl p3 nv3 (m := 1) (by decide), ?_⟩
            rintro _ S4 B4 ⟨rfl, rfl, k4, L4, hL4, x4, o4⟩
            refine ⟨by omega, rfl, kk.t k4 (by omega), rfl, L4, by omega, ?_⟩
            rw [stw_nil rfl st3 vs3 o3.2.2.2 c9] at x4
            exact x4
  refine vt_walk hX tk_tested [(12, [0, 1])] 100 ?_
  show vt_J _ _ _ _ _ _ _ _
  refine loop k a cn L [] vs _ (Int.le_refl _) ((pk.rf.f (by decide) (by decide)).f (by decide) (by decide)) ⟨⟨(h.1.f (by decide) (by decide) (by decide) (by decide) (by decide)).f (by decide) (by decide) (by decide) (by decide) (by decide), ?_⟩, ?_, fun j x hj => ?_, ?_, fun x hx => ?_⟩ (Nat.zero_le _) hq
  · rw [vt_up_ne (by decide), vt_up_ne (by decide)]; exact h.2
  · rw [vt_up_off (by decide), vt_up_self]; rfl
  · cases hj
  · rw [vt_up_self]; rfl
  · cases hx
theorem tm_tested {k : Nat} {t : WF} {q : PRs} (h : PX S tp n tx a cn L 0 b vs) (hq : rd tp n k 2 a cn 0 t = some q) : vt_M 25 [me] S B (PPo pkC pkD S B tp n tx L 0 b vs q) := by
  obtain ⟨k', hk⟩ := shy_top (vs := vs) hq
  have := tm_testr (B := B) h hk
  cases q with
  | inl e => exact this
  | inr p => exact this
end TPH
