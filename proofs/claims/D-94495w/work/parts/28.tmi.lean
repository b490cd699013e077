/-! THE TWIN's methods: settles -/
set_option maxRecDepth 100000
section TMI
variable {S : SS} {B : SB} {K : Int}
theorem wsE.rf {n : Int} {a : WS} : wsE n a a := ⟨rfl, rfl, rfl, fun _ _ _ => rfl⟩
theorem stl_congr {f : Int → Int} (h0 : 0 ≤ f 0) : ∀ (n : Nat) (k : Int) (hs hs' : Int → WS) (a a' : WS), (∀ i, 0 ≤ i → i < k → wsE (f 0) (hs i) (hs' i)) → wsE (f 0) a a' → stl f n k hs a = stl f n k hs' a'
  | 0, _, _, _, _, _, _, _ => rfl
  | n + 1, k, hs, hs', a, a', hh, ha => by
    have e : lst (fun i => sitB (f 0) (hs i) a) k.toNat = lst (fun i => sitB (f 0) (hs' i) a') k.toNat := lst_congr _ (fun i i0 i1 => sitB_E (hh i i0 (by omega)) ha)
    unfold stl
    rw [e]
    split
    · rfl
    · rcases wst_congr h0 ha with ⟨e1, e2⟩ | ⟨b, b', e1, e2, e3⟩
      · rw [e1, e2]
      · rw [e1, e2]
        refine stl_congr h0 n (k + 1) _ _ b b' (fun i i0 i1 => ?_) e3
        by_cases c : i = k
        · rw [if_pos c, if_pos c]; exact ha
        · rw [if_neg c, if_neg c]; exact hh i i0 (by omega)
theorem lg_u37 {a : WS} {sp : Int → Int} {i v : Int} : vt_up (vt_lg (vt_st S 37 sp) a) 37 i v = vt_lg (vt_st S 37 (upF sp i v)) a := by
  refine lg_ext (by rw [vt_up_ne (by decide), lg_36]) (by rw [vt_up_ne (by decide), lg_33]) (by rw [vt_up_ne (by decide), lg_34]) (by rw [vt_up_ne (by decide), lg_35]) (fun j h1 h2 => ?_) (fun i h1 h2 h3 => ?_)
  · by_cases e : j = 37
    · subst e; rw [vt_up_at, lg_x (by decide) (by decide), vt_st_at, vt_st_at]; rfl
    · rw [vt_up_ne e, lg_x h1 h2, vt_st_ne e, vt_st_ne e]
  · rw [vt_up_ne (by decide), lg_43x h1 h2 h3, vt_st_ne (by decide), vt_st_ne (by decide)]
theorem lg37_kp {a : WS} {sp : Int → Int} : vt_kp S (vt_lg (vt_st S 37 sp) a) := by
  refine vt_kp.tr ?_ lg_kp
  refine ⟨fun j hj => vt_st_ne (by rintro rfl; revert hj; decide), fun i hi => by rw [vt_st_ne (by decide)]⟩
theorem tm_settles {g k : Int} (hg : -2147483648 ≤ g ∧ g ≤ 2147483647) (hk : -2147483648 ≤ k ∧ k ≤ 2147483647) (h : LI K (S 23)) : vt_M 78 [me, ii g, ii k] S B (fun r S' B' => some (ii (sp_set (S 23) g k)) = r ∧ vt_kp S S') := by
  refine vt_start rfl rfl (Nat.le_of_ble_eq_true rfl) (fun X hX => ?_)
  have n0 := h.nW
  have h14 := pow14 n0.2
  have h3 := h.goings
  have h4 := h.clock
  have hb := bI_rg (sCanT (S 23) g)
  have hb2 := bI_rg (sIn k 0 1)
  refine vt_walk hX tk_settles_2 [(27, [0, 1, 2, 3])] 60 ?_
  unfold sp_set
  refine vt_k (tm_canTake hg h) ?_
  refine ⟨by omega, fun c => ?_, fun c => ?_⟩
  · rw [if_neg (by rw [bI_0.mp c]; simp)]
    exact ⟨rfl, vt_kp.rf⟩
  refine ⟨by omega, vt_k (tm_in (by omega) (by omega) (by omega)) ?_⟩
  refine ⟨by omega, fun c2 => ?_, fun c2 => ?_⟩
  rotate_left
  · rw [if_neg (by rw [bI_0.mp c2]; simp)]
    exact ⟨rfl, vt_kp.rf⟩
  have cc : sCanT (S 23) g = true ∧ sIn k 0 1 = true := ⟨bI_n0.mp c, bI_n0.mp c2⟩
  have cg := sCanT_g cc.1
  have ck : 0 ≤ k ∧ k ≤ 1 := of_decide_eq_true cc.2
  rw [if_pos cc]
  generalize hR : sp_sv (stl (S 23) 2001 0 (fun _ => (0, 0, 0, fun _ => 0)) (ws0 (S 23) g)) k = R
  refine ⟨_, tm_takesBegin cg h, ?_⟩
  rintro _ _ _ ⟨rfl, rfl, a, rfl, hE⟩
  have hstd : sG (S 23) g 3 = -1 := by
    have := cc.1
    unfold sCanT sStd at this
    simp only [Bool.and_eq_true] at this
    simpa using this.1.2
  have hp7 : sG (S 23) g 0 ≤ 7 := by
    obtain ⟨-, -, -, q | q⟩ := h.g cg.1 cg.2 <;> omega
  have loop : ∀ (m : Nat) (t M : Int) (a : WS) (hs : Int → WS) (sp : Int → Int) (B1 : SB), 0 ≤ t → t + m = 2001 → M ≤ 1000000000 + t → wsVd (S 23) M a → a.1 ≤ 7 → (∀ i, 0 ≤ i → i < t → (0 ≤ (hs i).1 ∧ (hs i).1 ≤ 7) ∧ (0 ≤ (hs i).2.1 ∧ (hs i).2.1 < 16384) ∧ sp i = 8 * (hs i).2.1 + (hs i).1 ∧ B1 38 i = ordI (S 23 0) (hs i).2.2.2) →
      sp_sv (stl (S 23) m t hs a) k = R → vt_J 78 (fun r S' B' => some (ii R) = r ∧ vt_kp S S') X 27 [(0, me), (1, ii g), (2, ii k), (3, ii t)] [] (vt_lg (vt_st S 37 sp) a) B1 := by
    intro m
    induction m with
    | zero =>
      intro t M a hs sp B1 t0 tm hM hV ha hH he
      refine vt_walk hX tk_settles_2 [(27, [0, 1, 2, 3])] 60 ?_
      refine ⟨by omega, fun _ => ?_, fun z => absurd z (by omega)⟩
      rw [← he]
      exact ⟨rfl, lg37_kp⟩
    | succ m ih =>
      intro t M a hs sp B1 t0 tm hM hV ha hH he
      have hd := hV.2.1
      have hp := hV.1
      have e23 : ∀ sp : Int → Int, vt_st S 37 sp 23 = S 23 := fun sp => vt_st_ne (by decide)
      refine vt_walk hX tk_settles_2 [(27, [0, 1, 2, 3]), (51, [0, 1, 2, 3]), (61, [0, 1, 2, 3])] 60 ?_
      refine ⟨by omega, fun z => absurd z (by omega), fun _ => ?_⟩
      refine ⟨by omega, by omega, ?_⟩
      show vt_J _ _ _ _ _ _ _ _
      rw [lg_34, lg_33, or8 (by omega) (by omega), lg_u37]
      refine vt_walk hX tk_settles_2 [(61, [0, 1, 2, 3])] 60 ?_
      refine vt_k (tm_orderOf (M := M) (S := vt_st S 37 (upF sp t (8 * a.2.1 + a.1))) (by omega) (by rw [e23]; exact h) (by rw [e23]; exact hV)) ?_
      rw [e23]
      refine ⟨by omega, ?_⟩
      show vt_J _ _ _ _ _ _ _ _
      have inner : ∀ (q : Nat) (e : Int), 0 ≤ e → e + q = t → (∀ i, 0 ≤ i → i < e → sitB (S 23 0) (hs i) a = false) → vt_J 78 (fun r S' B' => some (ii R) = r ∧ vt_kp S S') X 64 [(0, me), (1, ii g), (2, ii k), (3, ii t), (4, ii e)] [] (vt_lg (vt_st S 37 (upF sp t (8 * a.2.1 + a.1))) a) (vt_ub B1 38 t (ordI (S 23 0) a.2.2.2)) := by
        intro q
        induction q with
        | zero =>
          intro e e0 eq hno
          have hl : lst (fun i => sitB (S 23 0) (hs i) a) t.toNat = -1 := by
            rcases lst_spec (fun i => sitB (S 23 0) (hs i) a) t.toNat with ⟨h1, h2⟩ | ⟨h1, h2, h3, h4⟩
            · exact h1
            · have := hno _ h1 (by omega)
              rw [h3] at this; cases this
          have hbs := bI_rg (wst (S 23) a).isSome
          refine vt_walk hX tk_settles_2 [(27, [0, 1, 2, 3])] 60 ?_
          refine ⟨by omega, fun _ => ?_, fun z => absurd z (by omega)⟩
          refine vt_k (tm_stepsOn (M := M) (S := vt_st S 37 (upF sp t (8 * a.2.1 + a.1))) (by omega) (by rw [e23]; exact h) (by rw [e23]; exact hV)) ?_
          rw [e23]
          have hst : stl (S 23) (m + 1) t hs a = match wst (S 23) a with
              | some b => stl (S 23) m (t + 1) (fun i => if i = t then a else hs i) b
              | none => none := by
            show (if 0 ≤ lst (fun i => sitB (S 23 0) (hs i) a) t.toNat then _ else _) = _
            rw [hl, if_neg (by decide)]
            rfl
          rw [hst] at he
          refine ⟨by omega, fun d => ?_, fun d => ?_⟩
          · obtain ⟨b, hb⟩ := Option.isSome_iff_exists.mp (bI_n0.mp d)
            rw [hb] at he ⊢
            have hVb := wst_V h hV hb
            refine ih (t + 1) (M + 1) b (fun i => if i = t then a else hs i) _ _ (by omega) (by omega) (by omega) hVb.1 hVb.2 (fun i i0 i1 => ?_) he
            by_cases ei : i = t
            · subst ei
              simp only [if_true]
              exact ⟨⟨hp.1, ha⟩, by omega, upF_self, by rw [vt_ub_at]; exact if_pos rfl⟩
            · simp only [ei, if_false]
              have := hH i i0 (by omega)
              exact ⟨this.1, this.2.1, by rw [upF_ne ei]; exact this.2.2.1, by rw [vt_ub_at]; simp only [ei, if_false]; exact this.2.2.2⟩
          · have hb : wst (S 23) a = none := Option.isNone_iff_eq_none.mp (Option.isSome_eq_false_iff.mp (bI_0.mp d))
            rw [hb] at he
            rw [← he]
            exact ⟨rfl, lg37_kp⟩
        | succ q ihq =>
          intro e e0 eq hno
          have hh := hH e e0 (by omega)
          have se : (vt_lg (vt_st S 37 (upF sp t (8 * a.2.1 + a.1))) a) 37 e = 8 * (hs e).2.1 + (hs e).1 := by rw [lg_x (by decide) (by decide), vt_st_at, upF_ne (by omega)]; exact hh.2.2.1
          have st : (vt_lg (vt_st S 37 (upF sp t (8 * a.2.1 + a.1))) a) 37 t = 8 * a.2.1 + a.1 := by rw [lg_x (by decide) (by decide), vt_st_at, upF_self]
          have be : vt_ub B1 38 t (ordI (S 23 0) a.2.2.2) 38 e = ordI (S 23 0) (hs e).2.2.2 := by rw [vt_ub_at]; simp only [show e ≠ t by omega, if_false]; exact hh.2.2.2
          have bt : vt_ub B1 38 t (ordI (S 23 0) a.2.2.2) 38 t = ordI (S 23 0) a.2.2.2 := by rw [vt_ub_at]; exact if_pos rfl
          have cont : sitB (S 23 0) (hs e) a = false → vt_J 78 (fun r S' B' => some (ii R) = r ∧ vt_kp S S') X 64 [(0, me), (1, ii g), (2, ii k), (3, ii t), (4, ii (e + 1))] [] (vt_lg (vt_st S 37 (upF sp t (8 * a.2.1 + a.1))) a) (vt_ub B1 38 t (ordI (S 23 0) a.2.2.2)) := by
            intro hc
            refine ihq (e + 1) (by omega) (by omega) (fun i i0 i1 => ?_)
            by_cases ei : i = e
            · subst ei; exact hc
            · exact hno i i0 (by omega)
          refine vt_walk hX tk_settles_2 [(64, [0, 1, 2, 3, 4])] 60 ?_
          refine ⟨by omega, fun z => absurd z (by omega), fun _ => ?_⟩
          refine ⟨by omega, by omega, by rw [se, st]; omega, fun d => ?_, fun d => ?_⟩ <;> rw [se, st] at d
          · refine cont ?_
            unfold sitB
            cases hq : ((hs e).1 == a.1) && ((hs e).2.1 == a.2.1)
            · rfl
            · simp only [Bool.and_eq_true, beq_iff_eq] at hq
              exact absurd (by omega) d
          · have d1 : (hs e).1 = a.1 := by omega
            have d2 : (hs e).2.1 = a.2.1 := by omega
            have hcr := cmp_rg (ordI (S 23 0) (hs e).2.2.2) (ordI (S 23 0) a.2.2.2)
            refine ⟨by omega, by omega, ?_⟩
            rw [be, bt]
            have eo : sitB (S 23 0) (hs e) a = ordB (S 23 0) (hs e).2.2.2 a.2.2.2 := by
              unfold sitB
              rw [d1, d2]; simp
            refine ⟨by omega, fun d3 => ?_, fun d3 => ?_⟩
            · refine cont ?_
              rw [eo]
              cases hq : ordB (S 23 0) (hs e).2.2.2 a.2.2.2
              · rfl
              · exact absurd (cmp_eq0.mpr ((ordI_iff n0.1 n0.2).mpr hq)) d3
            · have hq := (ordI_iff n0.1 n0.2).mp (cmp_eq0.mp d3)
              have hl : lst (fun i => sitB (S 23 0) (hs i) a) t.toNat = e := by
                rcases lst_spec (fun i => sitB (S 23 0) (hs i) a) t.toNat with ⟨h1, h2⟩ | ⟨h1, h2, h3, h4⟩
                · have := h2 e e0 (by omega)
                  rw [eo, hq] at this; cases this
                · rcases Int.lt_trichotomy (lst (fun i => sitB (S 23 0) (hs i) a) t.toNat) e with x | x | x
                  · have := hno _ h1 x
                    rw [h3] at this; cases this
                  · exact x
                  · have := h4 e e0 x
                    rw [eo, hq] at this; cases this
              have hst : stl (S 23) (m + 1) t hs a = some (e, t) := by
                show (if 0 ≤ lst (fun i => sitB (S 23 0) (hs i) a) t.toNat then some (lst (fun i => sitB (S 23 0) (hs i) a) t.toNat, t) else _) = _
                rw [hl, if_pos e0]
              rw [hst] at he
              refine ⟨by omega, fun d4 => ?_, fun d4 => ?_⟩
              · rw [← he]
                unfold sp_sv
                simp only [d4, if_false]
                exact ⟨rfl, lg37_kp⟩
              · rw [← he]
                unfold sp_sv
                simp only [d4, if_true]
                exact ⟨rfl, lg37_kp⟩
      refine vt_walk hX tk_settles_2 [(64, [0, 1, 2, 3, 4])] 60 ?_
      exact inner t.toNat 0 (by omega) (by omega) (fun i i0 i1 => by omega)
  have h1 := loop 2001 0 (S 23 3) a (fun _ => (0, 0, 0, fun _ => 0)) (S 37) B (by omega) (by omega) (by omega) (wsV_of hE (ws0_V h cg.1 cg.2)) (by rw [hE.1]; exact hp7) (fun i i0 i1 => by omega) (by rw [stl_congr n0.1 2001 0 _ _ a (ws0 (S 23) g) (fun i i0 i1 => by omega) hE]; exact hR)
  rw [vt_st_self] at h1
  exact h1
end TMI
