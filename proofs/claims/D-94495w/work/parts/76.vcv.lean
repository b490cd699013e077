/-! VC: the walk -/
set_option maxRecDepth 100000
section VCV
variable {p : Program} {l : Launch} {e : Env} {s : State} {m : MethodId} {args : Array Value} {below : List Frame} {meth : Method} {c : Code} {D : va_G} {cA : Nat → ClassId} {Lw0 : List Nat} {sz : Nat} {z0 : Int → Int} {d0 mc ms : Nat} {mt : Nat} {Post : vc_Po}
theorem vc_fv_i {ci f : Nat} {g : Int → Int} (h : vc_ft ci f ≠ 1) : vc_fv ci g f = .int (Int32.ofInt (g (f : Int))) := if_neg h
theorem vc_fv_r {ci f : Nat} {g : Int → Int} (h : vc_ft ci f = 1) : vc_fv ci g f = va_rf (vc_r (g (f : Int)).toNat) := if_pos h
theorem vc_ft_i {ci f : Nat} (h : vc_tf ci f = .int) : vc_ft ci f ≠ 1 := by unfold vc_ft; rw [h]; decide
theorem vc_ft_b {ci f : Nat} (h : vc_tf ci f = .boolean) : vc_ft ci f ≠ 1 := by unfold vc_ft; rw [h]; decide
theorem vc_dflt {ci f : Nat} (h : vc_ft ci f ≠ 3) {g : Int → Int} (hg : g (f : Int) = 0) : defaultValue (vc_tf ci f) = vc_fv ci g f := by
  unfold vc_ft at h
  split at h
  · rename_i e; rw [vc_fv_i (vc_ft_i e), e, hg]; rfl
  · rename_i e; rw [vc_fv_i (vc_ft_b e), e, hg]; rfl
  · rename_i C e; rw [vc_fv_r (by unfold vc_ft; rw [e]), e, hg]; rfl
  · rename_i C e; rw [vc_fv_r (by unfold vc_ft; rw [e]), e, hg]; rfl
  · exact absurd rfl h
theorem vc_ft3 : ∀ ci, ci < 16 → ∀ f, f < vc_N ci → vc_ft ci f ≠ 3 := by decide +kernel
theorem vc_goodU {own C : String} {idx : Nat} {x y : MethodName} {b : ByteArray} {n : Nat} {rt : Option FieldType} (h1 : Cond.methodLink own idx x ∈ lw_all) (h2 : Cond.sameMethod x.cls x.cls x.name x.desc ∈ lw_all) (h3 : Cond.selects C x y ∈ lw_all) (h4 : Cond.instanceMethod y ∈ lw_all) (h5 : Cond.initialized y.cls ∈ lw_all) (h6 : Cond.code y b n rt ∈ lw_all) : GoodIn lw_all (va_wsU own idx C x.cls x y (ws_ y b n rt)) := by
  refine lw_app ?_ (lw_meth h6)
  intro w hw
  simp only [List.mem_cons, List.not_mem_nil, or_false] at hw
  rcases hw with e | e | e | e | e
  · rw [e]; exact h1
  · rw [e]; exact h2
  · rw [e]; exact h3
  · rw [e]; exact h4
  · rw [e]; exact h5
theorem vc_s2_ok (hF : vc_F mt (p, l, e, s, m, args, below, meth, c, D, cA, Lw0, sz, z0, d0, mc, ms)) {G : vc_G}
    (hG : ∀ is L st Lw S B cc sl, G is L st Lw S B cc sl → is ≠ [] ∧ (vc_tok mt is → vc_J mt Post (p, l, e, s, m, args, below, meth, c, D, cA, Lw0, sz, z0, d0, mc, ms) (vt_hd is) L st Lw S B cc sl))
    {pc op k : Nat} {z : Int} {is : List (Nat × vt_I)} (hok : vc_ok2 mt pc op k z (vt_hd is)) (his : vc_tok mt is) {L : vt_L} {st : List AV} {Lw : List Nat} {S : SS} {B : SB} {cc sl : Nat} (h : vc_s2 d0 mc ms G op k z is L st Lw S B cc sl (vc_th mc ms (vc_hd mt) Post)) :
    vc_J mt Post (p, l, e, s, m, args, below, meth, c, D, cA, Lw0, sz, z0, d0, mc, ms) pc L st Lw S B cc sl := by
  obtain ⟨hx, hb, hr, hml, hown, hts, hlocks, hK, hsf, hsz, hcn, hex, hnm⟩ := id hF
  have go : ∀ {L st Lw S B cc sl}, G is L st Lw S B cc sl → vc_J mt Post (p, l, e, s, m, args, below, meth, c, D, cA, Lw0, sz, z0, d0, mc, ms) (vt_hd is) L st Lw S B cc sl := fun h => (hG _ _ _ _ _ _ _ _ h).2 his
  intro H locs ls hw hl
  match op, hok, h with
  | 0, hok, h =>
    obtain ⟨r, r1, e1, ⟨⟨a, ea, ha⟩, hk⟩, h1⟩ := vt_pr_spec h
    subst e1
    subst ea
    obtain ⟨idx, d, hn, hfo, hz, hft⟩ := hok
    have K := go h1 H locs ls hw hl
    rw [← hn] at K
    refine vc_read hF hfo d hw ha hk ?_
    rw [vc_fv_i hft, hz]
    exact K
  | 2, hok, h =>
    obtain ⟨r, r1, e1, ⟨⟨a, ea, ha⟩, hk⟩, h1⟩ := vt_pr_spec h
    subst e1
    subst ea
    obtain ⟨idx, d, hn, hfo, hz, hft⟩ := hok
    have K := go h1 H locs ls hw hl
    rw [← hn] at K
    refine vc_read hF hfo d hw ha hk ?_
    rw [vc_fv_r hft, hz]
    exact K
  | 1, hok, h =>
    obtain ⟨v, r1, e1, h1⟩ := vt_pi_spec h
    obtain ⟨r, r2, e2, ⟨⟨a, ea, ha⟩, hk⟩, h2⟩ := vt_pr_spec h1
    subst e2
    subst e1
    subst ea
    obtain ⟨idx, d, hn, hfw, hz, hty⟩ := hok
    refine vc_put (zv := v) hF hfw d hw ha hk (by rw [hty]; rfl) (by rw [hty]; rfl) (by rw [vc_fv_i (vc_ft_i hty), vt_up_self]; rfl) (fun H1 locs1 hw1 => ?_)
    rw [hz] at hw1
    have K := go h2 H1 locs1 ls hw1 hl
    rw [← hn] at K
    exact K
  | 6, hok, h =>
    obtain ⟨v, r1, e1, h1⟩ := vt_pr_spec h
    obtain ⟨r, r2, e2, ⟨⟨a, ea, ha⟩, hk⟩, h2⟩ := vt_pr_spec h1
    subst e2
    subst e1
    subst ea
    obtain ⟨idx, d, hn, hfw, hz, hft⟩ := hok
    refine vc_put (zv := (v : Int)) hF hfw d hw ha hk (vc_ref_ok hft).1 (vc_ref_ok hft).2 (by rw [vc_fv_r hft, vt_up_self, Int.toNat_natCast]; rfl) (fun H1 locs1 hw1 => ?_)
    rw [hz] at hw1
    have K := go h2 H1 locs1 ls hw1 hl
    rw [← hn] at K
    exact K
  | 13, hok, h =>
    obtain ⟨v, r1, e1, h1⟩ := vt_pi_spec h
    obtain ⟨r, r2, e2, ⟨⟨⟨a, ea, ha⟩, hk⟩, hv⟩, h2⟩ := vt_pr_spec h1
    subst e2
    subst e1
    subst ea
    obtain ⟨idx, d, hn, hfw, hz, hty⟩ := hok
    refine vc_put (zv := v) hF hfw d hw ha hk (by rw [hty]; rcases hv with rfl | rfl <;> rfl) (by rw [hty]; rcases hv with rfl | rfl <;> rfl) (by rw [vc_fv_i (vc_ft_b hty), vt_up_self]; rfl) (fun H1 locs1 hw1 => ?_)
    rw [hz] at hw1
    have K := go h2 H1 locs1 ls hw1 hl
    rw [← hn] at K
    exact K
  | 4, hok, h => exact hok hx hb hown hts (go h H locs ls hw hl)
  | 3, hok, h =>
    obtain ⟨as, r, e1, hlen, h1⟩ := vt_args_spec _ _ _ _ h
    subst e1
    rw [List.append_nil] at h1
    split at h1
    · rename_i r0 as' _
      split at h1
      · rename_i hj
        simp only [Bool.and_eq_true] at hj
        obtain ⟨hd, hct⟩ := hj
        have hd : 0 < d0 := Nat.le_of_ble_eq_true hd
        have hct : vt_cat r ≤ 8 := Nat.le_of_ble_eq_true hct
        obtain ⟨⟨⟨a, ea, ha⟩, hkd⟩, mc', ms', P', hM, hbud, hk⟩ := h1
        subst ea
        obtain ⟨idx, d, hn, hq1, hq2, hq3, hq3b, hq4, hq5, hq6, hrc⟩ := hok
        obtain ⟨k0, hkk⟩ := vc_plg (f := vc_e cA S B) ha
        rw [vc_e_obj (c := vc_rcN k) hkd (by omega)] at hkk
        refine vc_call hF hw (P' := P') (mc' := mc') (ms' := ms') (rest := r.map cw) ?_ hbud ?_ ?_
        · intro T hT X
          obtain ⟨o, st₀, t, T', L', g1, g2, g3, g4, g5, g6, g7⟩ := vx_runV (g := F0 m pc ls (((.inr (.inr (a + 1)) :: as').reverse ++ r).map cw)) (As := as'.map cw) (rest := r.map cw) (C := vc_R (vc_rcN k)) ⟨hx, hb, hml, hown, hts⟩ (hM l D cA H.size)
            (cwV (z.toNat - 1) hts (lw_V hq1 hq2 hq3 hq3b hq4) rfl rfl rfl hq5 ⟨by show d0 - 1 + 1 ≤ d0; omega, by show 8 + (vc_n k + 11) + 41 * (d0 - 1) ≤ 41 * d0; omega⟩)
            ⟨vc_blind, va_recv hK hw.1 (vc_cl_at _ hrc) hkk, fun U hU hW => ⟨rfl, by rw [hU], vc_end hF hw hU hW⟩⟩ rfl (by rw [List.length_map, ← hlen]; rfl) hl.1 (by show ((((.inr (.inr (a + 1)) : AV) :: as').reverse ++ r).map cw) = _; rw [List.map_append, List.map_reverse, List.map_cons, List.reverse_cons, List.append_assoc]; rfl) (lv_room (by rw [vc_cat_sum]; exact hct)) d hbud T hT X
          exact ⟨o, st₀, t, T', L', _, g1, g2, g3, g4, g5, g6, g7⟩
        · intro v Lw' S' B' H1 locs1 hp hw1
          have K := go (hk (.inl v) Lw' S' B' hp) H1 locs1 ls hw1 hl
          rw [← hn, vc_rs_map] at K
          exact K
        · intro x Lw' S' B' hp
          exact (hk (.inr x) Lw' S' B' hp).2
      · exact h1.elim
    · exact h1.elim
  | 5, hok, h =>
    obtain ⟨as, r, e1, hlen, h1⟩ := vt_args_spec _ _ _ _ h
    subst e1
    rw [List.append_nil] at h1
    split at h1
    · rename_i hj
      simp only [Bool.and_eq_true] at hj
      obtain ⟨hd, hct⟩ := hj
      have hd : 0 < d0 := Nat.le_of_ble_eq_true hd
      have hct : vt_cat r ≤ 8 := Nat.le_of_ble_eq_true hct
      obtain ⟨mc', ms', P', hM, hbud, hk⟩ := h1
      obtain ⟨idx, d, hn, hq1, hq2, hq3, hq4, hq5, hq6⟩ := hok
      have hM2 := (hM l D cA H.size).met (fun a st o t hq => by
        obtain ⟨⟨r, Lw', S', B', q1, q2, q3, -⟩, -⟩ := hq
        cases r with
        | inl v => exact ⟨_, q1⟩
        | inr x => exact q3.elim)
      refine vc_call hF hw (P' := vc_up P') (mc' := mc') (ms' := ms') (rest := r.map cw) ?_ hbud ?_ ?_
      · intro T hT X
        obtain ⟨v, st₀, t, T', L', g1, g2, g3, g4, g5, g6, g7⟩ := va_runS (g := F0 m pc ls ((as.reverse ++ r).map cw)) (As := as.map cw) (rest := r.map cw) ⟨hx, hb, hml, hown, hts⟩ hM2
          (va_cwS z.toNat hts (lw_S hq1 hq2 hq3 hq4) rfl rfl rfl hq5 ⟨by show d0 - 1 + 1 ≤ d0; omega, by show 8 + (vc_n k + 11) + 41 * (d0 - 1) ≤ 41 * d0; omega⟩)
          ⟨vc_blind, fun U hU hW => ⟨rfl, by rw [hU], vc_end hF hw hU hW⟩⟩ rfl (by rw [List.length_map, hlen]) hl.1 (by simp) (lv_room (by rw [vc_cat_sum]; exact hct)) d hbud T hT X
        exact ⟨.returned v, st₀, t, T', L', _, g1, g2, g3, g4, g5, g6, g7⟩
      · intro v Lw' S' B' H1 locs1 hp hw1
        have K := go (hk v Lw' S' B' hp) H1 locs1 ls hw1 hl
        rw [← hn, vc_rs_map] at K
        exact K
      · intro x Lw' S' B' hp
        exact hp.elim
    · exact h1.elim
  | 8, hok, h =>
    obtain ⟨as, r, e1, hlen, h1⟩ := vt_args_spec _ _ _ _ h
    subst e1
    rw [List.append_nil] at h1
    split at h1
    · rename_i r0 as' _
      split at h1
      · rename_i hj
        simp only [Bool.and_eq_true] at hj
        obtain ⟨hd, hct⟩ := hj
        have hd : 0 < d0 := Nat.le_of_ble_eq_true hd
        have hct : vt_cat r ≤ 8 := Nat.le_of_ble_eq_true hct
        obtain ⟨⟨⟨a, ea, ha⟩, hkd⟩, mc', ms', P', hM, hbud, hk⟩ := h1
        subst ea
        obtain ⟨idx, d, hn, ⟨host, hq1⟩, hq2, hq3, hq3b, hq4, hq5, hq6, hrc⟩ := hok
        obtain ⟨k0, hkk⟩ := vc_plg (f := vc_e cA S B) ha
        rw [vc_e_obj (c := vc_rcN k) hkd (by omega)] at hkk
        refine vc_call hF hw (P' := vc_up P') (mc' := mc') (ms' := ms') (rest := r.map cw) ?_ hbud ?_ ?_
        · exact vc_run_of (va_runVN (g := F0 m pc ls (((.inr (.inr (a + 1)) :: as').reverse ++ r).map cw)) (As := as'.map cw) (rest := r.map cw) (C := vc_R (vc_rcN k)) ⟨hx, hb, hml, hown, hts⟩ (vc_met hM H.size)
            ⟨va_cnB (z.toNat - 1) hts (lw_meth hq4) rfl rfl rfl (hsf.1 _ hq1 rfl) (hts _ hq3b) hq5 ⟨by show d0 - 1 + 1 ≤ d0; omega, by show 8 + (vc_n k + 11) + 41 * (d0 - 1) ≤ 41 * d0; omega⟩, hts _ hq2, hts _ hq3⟩
            ⟨vc_blind, va_recv hK hw.1 (vc_cl_at _ hrc) hkk, fun U hU hW => ⟨rfl, by rw [hU], vc_end hF hw hU hW⟩⟩ rfl (by rw [List.length_map, ← hlen]; rfl) hl.1 (by show ((((.inr (.inr (a + 1)) : AV) :: as').reverse ++ r).map cw) = _; rw [List.map_append, List.map_reverse, List.map_cons, List.reverse_cons, List.append_assoc]; rfl) (lv_room (by rw [vc_cat_sum]; exact hct)) d hbud)
        · intro v Lw' S' B' H1 locs1 hp hw1
          have K := go (hk v Lw' S' B' hp) H1 locs1 ls hw1 hl
          rw [← hn, vc_rs_map] at K
          exact K
        · intro x Lw' S' B' hp
          exact hp.elim
      · exact h1.elim
    · exact h1.elim
  | 9, hok, h =>
    obtain ⟨as, r, e1, hlen, h1⟩ := vt_args_spec _ _ _ _ h
    subst e1
    rw [List.append_nil] at h1
    split at h1
    · rename_i hj
      simp only [Bool.and_eq_true] at hj
      obtain ⟨hd, hct⟩ := hj
      have hd : 0 < d0 := Nat.le_of_ble_eq_true hd
      have hct : vt_cat r ≤ 8 := Nat.le_of_ble_eq_true hct
      obtain ⟨mc', ms', P', hM, hbud, hk⟩ := h1
      obtain ⟨idx, d, hn, ⟨host, hq1⟩, hq2, hq3, hq4, hq5, hq6⟩ := hok
      refine vc_call hF hw (P' := vc_up P') (mc' := mc') (ms' := ms') (rest := r.map cw) ?_ hbud ?_ ?_
      · exact vc_run_of (va_runSN (g := F0 m pc ls ((as.reverse ++ r).map cw)) (As := as.map cw) (rest := r.map cw) ⟨hx, hb, hml, hown, hts⟩ (vc_met hM H.size)
          ⟨va_cnB z.toNat hts (lw_meth hq4) rfl rfl rfl (hsf.1 _ hq1 rfl) (hts _ hq3) hq5 ⟨by show d0 - 1 + 1 ≤ d0; omega, by show 8 + (vc_n k + 11) + 41 * (d0 - 1) ≤ 41 * d0; omega⟩, hts _ hq2, trivial⟩
          ⟨vc_blind, fun U hU hW => ⟨rfl, by rw [hU], vc_end hF hw hU hW⟩⟩ rfl (by rw [List.length_map, hlen]) hl.1 (by simp) (lv_room (by rw [vc_cat_sum]; exact hct)) d hbud)
      · intro v Lw' S' B' H1 locs1 hp hw1
        have K := go (hk v Lw' S' B' hp) H1 locs1 ls hw1 hl
        rw [← hn, vc_rs_map] at K
        exact K
      · intro x Lw' S' B' hp
        exact hp.elim
    · exact h1.elim
  | 10, hok, h =>
    obtain ⟨as, r, e1, hlen, h1⟩ := vt_args_spec _ _ _ _ h
    subst e1
    rw [List.append_nil] at h1
    split at h1
    · rename_i r0 as' _
      split at h1
      · rename_i hj
        simp only [Bool.and_eq_true] at hj
        obtain ⟨hd, hct⟩ := hj
        have hd : 0 < d0 := Nat.le_of_ble_eq_true hd
        have hct : vt_cat r ≤ 8 := Nat.le_of_ble_eq_true hct
        obtain ⟨mc', ms', P', hM, hbud, hk⟩ := h1
        obtain ⟨idx, d, hn, hq1, hq2, hq3, hq4, hq5, hq6, hq7, hq8⟩ := hok
        have hM2 := vc_met (l := l) (D := D) (cA := cA) hM H.size
        rw [hq8] at hM2
        refine vc_call hF hw (P' := vc_up P') (mc' := mc') (ms' := ms') (rest := r.map cw) ?_ hbud ?_ ?_
        · exact vc_run_of (va_runI (b := r0) (g := F0 m pc ls (((.inr (.inr (r0 + 1)) :: as').reverse ++ r).map cw)) (As := as'.map cw) (rest := r.map cw) ⟨hx, hb, hml, hown, hts⟩ hM2
            (cwI (z.toNat - 1) hts (lw_meth hq4) rfl rfl rfl (hts _ hq3) (hts _ hq1) (hts _ hq2) hq7 hq5 ⟨by show d0 - 1 + 1 ≤ d0; omega, by show 8 + (vc_n k + 11) + 41 * (d0 - 1) ≤ 41 * d0; omega⟩)
            ⟨vc_blind, fun U hU hW => ⟨rfl, by rw [hU], vc_end hF hw hU hW⟩⟩ rfl (by rw [List.length_map, ← hlen]; rfl) hl.1 (by show ((((.inr (.inr (r0 + 1)) : AV) :: as').reverse ++ r).map cw) = _; rw [List.map_append, List.map_reverse, List.map_cons, List.reverse_cons, List.append_assoc]; rfl) (lv_room (by rw [vc_cat_sum]; exact hct)) d hbud)
        · intro v Lw' S' B' H1 locs1 hp hw1
          have K := go (hk v Lw' S' B' hp) H1 locs1 ls hw1 hl
          rw [← hn, vc_rs_map] at K
          exact K
        · intro x Lw' S' B' hp
          exact hp.elim
      · exact h1.elim
    · exact h1.elim
  | 11, hok, h =>
    obtain ⟨as, r, e1, hlen, h1⟩ := vt_args_spec _ _ _ _ h
    subst e1
    rw [List.append_nil] at h1
    split at h1
    · rename_i r0 as' _
      split at h1
      · rename_i hj
        simp only [Bool.and_eq_true] at hj
        obtain ⟨hd, hct⟩ := hj
        have hd : 0 < d0 := Nat.le_of_ble_eq_true hd
        have hct : vt_cat r ≤ 8 := Nat.le_of_ble_eq_true hct
        obtain ⟨mc', ms', P', hM, hbud, hk⟩ := h1
        obtain ⟨idx, d, hn, ⟨host, hq1⟩, hq2, hq3, hq4, hq5, hq6, hq7, hq8⟩ := hok
        have hM2 := vc_met (l := l) (D := D) (cA := cA) hM H.size
        rw [hq8] at hM2
        refine vc_call hF hw (P' := vc_up P') (mc' := mc') (ms' := ms') (rest := r.map cw) ?_ hbud ?_ ?_
        · exact vc_run_of (va_runIN (b := r0) (g := F0 m pc ls (((.inr (.inr (r0 + 1)) :: as').reverse ++ r).map cw)) (As := as'.map cw) (rest := r.map cw) ⟨hx, hb, hml, hown, hts⟩ hM2
            ⟨va_cnB (z.toNat - 1) hts (lw_meth hq4) rfl rfl rfl (hsf.1 _ hq1 rfl) (hts _ hq3) hq5 ⟨by show d0 - 1 + 1 ≤ d0; omega, by show 8 + (vc_n k + 11) + 41 * (d0 - 1) ≤ 41 * d0; omega⟩, hq7, hts _ hq2⟩
            ⟨vc_blind, fun U hU hW => ⟨rfl, by rw [hU], vc_end hF hw hU hW⟩⟩ rfl (by rw [List.length_map, ← hlen]; rfl) hl.1 (by show ((((.inr (.inr (r0 + 1)) : AV) :: as').reverse ++ r).map cw) = _; rw [List.map_append, List.map_reverse, List.map_cons, List.reverse_cons, List.append_assoc]; rfl) (lv_room (by rw [vc_cat_sum]; exact hct)) d hbud)
        · intro v Lw' S' B' H1 locs1 hp hw1
          have K := go (hk v Lw' S' B' hp) H1 locs1 ls hw1 hl
          rw [← hn, vc_rs_map] at K
          exact K
        · intro x Lw' S' B' hp
          exact hp.elim
      · exact h1.elim
    · exact h1.elim
  | 12, hok, h =>
    obtain ⟨as, r, e1, hlen, h1⟩ := vt_args_spec _ _ _ _ h
    subst e1
    rw [List.append_nil] at h1
    split at h1
    · rename_i r0 as' _
      split at h1
      · rename_i hj
        simp only [Bool.and_eq_true] at hj
        obtain ⟨hd, hct⟩ := hj
        have hd : 0 < d0 := Nat.le_of_ble_eq_true hd
        have hct : vt_cat r ≤ 8 := Nat.le_of_ble_eq_true hct
        obtain ⟨c', mt', him, ⟨⟨a, ea, ha⟩, hkd⟩, mc', ms', P', hM, hbud, hk⟩ := h1
        subst ea
        obtain ⟨idx, d, hn, hq1, hq2, hq3, hq5, hall⟩ := hok
        obtain ⟨⟨s1, s2, s3, s4⟩, s5, hrc⟩ := hall c' mt' him
        obtain ⟨k0, hkk⟩ := vc_plg (f := vc_e cA S B) ha
        rw [vc_e_obj (c := c') hkd (by omega)] at hkk
        refine vc_call hF hw (P' := vc_up P') (mc' := mc') (ms' := ms') (rest := r.map cw) ?_ hbud ?_ ?_
        · refine vc_run_of (va_runU (g := F0 m pc ls (((.inr (.inr (a + 1)) :: as').reverse ++ r).map cw)) (As := as'.map cw) (rest := r.map cw) (C := vc_R c') ⟨hx, hb, hml, hown, hts⟩ (vc_met hM H.size)
            (va_cwA (z.toNat - 1) hts (vc_goodU hq1 hq2 s1 s2 s3 s4) rfl rfl rfl (hsf.1 _ hq3 rfl) hq5 ⟨by show d0 - 1 + 1 ≤ d0; omega, by show 8 + (vc_n mt' + 11) + 41 * (d0 - 1) ≤ 41 * d0; omega⟩)
            ⟨vc_blind, va_recv hK hw.1 (vc_cl_at _ hrc) hkk, fun U hU hW => ⟨rfl, by rw [hU], vc_end hF hw hU hW⟩⟩ rfl (by rw [List.length_map, ← hlen]; rfl) hl.1 (by show ((((.inr (.inr (a + 1)) : AV) :: as').reverse ++ r).map cw) = _; rw [List.map_append, List.map_reverse, List.map_cons, List.reverse_cons, List.append_assoc]; rfl) (lv_room (by rw [vc_cat_sum]; exact hct)) d hbud)
        · intro v Lw' S' B' H1 locs1 hp hw1
          have K := go (hk v Lw' S' B' hp) H1 locs1 ls hw1 hl
          rw [← hn, vc_rs_map] at K
          exact K
        · intro x Lw' S' B' hp
          exact hp.elim
      · exact h1.elim
    · exact h1.elim
  | 7, hok, h =>
    obtain ⟨r, r1, e1, h0, h1⟩ := vt_pr_spec h
    subst e1
    obtain ⟨idx, d, hn, hq, hk⟩ := hok
    have K := go h1 H locs ls hw hl
    rw [← hn] at K
    rcases h0 with rfl | ⟨⟨a, ea, ha⟩, hkd⟩
    · exact lv_castN hx hb d K
    · subst ea
      obtain ⟨k0, hkk⟩ := vc_plg (f := vc_e cA S B) ha
      rw [vc_e_obj hkd (by omega)] at hkk
      have hKn := hK.1 k _ (vc_cl_at k hk)
      exact va_castS hx hb hown (hts _ hq) ⟨hKn.2.1, hKn.2.2⟩ (va_recv hK hw.1 (vc_cl_at k hk) hkk) d K
  | 14, hok, h =>
    obtain ⟨r, r1, e1, h0⟩ := vt_pr_spec h
    subst e1
    split at h0
    · rename_i hj
      simp only [Bool.and_eq_true] at hj
      obtain ⟨hd, hct⟩ := hj
      have hd : 0 < d0 := Nat.le_of_ble_eq_true hd
      have hct : vt_cat r1 ≤ 8 := Nat.le_of_ble_eq_true hct
      obtain ⟨⟨c1, ⟨a, ea, ha⟩, hkd⟩, h1⟩ := h0
      subst ea
      obtain ⟨idx, d, hn, hq⟩ := hok
      have K := go h1 H locs ls hw hl
      rw [← hn] at K
      exact W.objInit hx hb hown (hts _ hq) (hts _ q183) (hts _ q184) rfl (hl.1.trans hml.symm) rfl d (show 1 ≤ d0 by omega) (by
        have h8 : ((r1.map cw).map fun v => v.category).sum ≤ 8 := by rw [vc_cat_sum]; exact hct
        show 2 * 0 + ((r1.map cw).map fun v => v.category).sum + 12 ≤ 41 * d0
        omega) K
    · exact h0.elim
  | 15, hok, h =>
    obtain ⟨hbud, h1⟩ := h
    obtain ⟨idx, d, hn, hq1, hq2, hq3, hk⟩ := hok
    refine va_new (C := vc_R k) (T := vc_T k) (N := vc_N k) (ci := k) (fs := vc_fs k (vc_nw S 1 (k : Int) 0 1)) hx hb hts (vc_in k hk) (vc_tf k) (vc_tfo k hk) hown (hts _ hq1) (hts _ hq2) (hts _ hq3) hK hw.1 hw.2.1 hw.2.2.1 (fun q hq => .inr (by omega)) (vc_cl_at k hk) (fun j hj => ?_) hbud.1 hbud.2 d (fun q H1 hP1 hD1 hS1 => ?_)
    · show _ = (vc_fs k _).getD j .null
      rw [List.getD_eq_getElem?_getD, vc_fs_at hj]
      refine vc_dflt (vc_ft3 k hk j hj) ?_
      rw [vc_nw_at]
      show (if (j : Int) = -2 then (k : Int) else if (j : Int) = -1 then 0 else 0) = 0
      rw [if_neg (by omega), if_neg (by omega)]
    · have he : (.inr (k, vc_fs k (vc_nw S 1 (k : Int) 0 1)) : va_E) = vc_e cA (vc_nw S (q + 1) (k : Int) 0) B q := by
        rw [vc_e_obj (c := k) (by rw [vc_nw_at]; rfl) (by omega), vc_nw_at, vc_nw_at]
      obtain ⟨hnin, hw1⟩ := hw.new hP1 hD1 hS1 he (fun b hb => vc_e_nw hb) (vc_nw_ne (by omega))
      have K := go (h1 q hnin) H1 locs ls hw1 hl
      rw [← hn] at K
      exact K
  | 17, hok, h =>
    obtain ⟨i, r1, e1, h1⟩ := vt_pi_spec h
    obtain ⟨r, r2, e2, ⟨⟨⟨a, ea, ha⟩, hkd⟩, h0, h1, hn2⟩, h2⟩ := vt_pr_spec h1
    subst e2
    subst e1
    subst ea
    obtain ⟨d, hn, hk⟩ := hok
    have K := go h2 H locs ls hw hl
    rw [← hn] at K
    obtain ⟨k0, hkk⟩ := vc_plg (f := vc_e cA S B) ha
    rw [vc_e_q hkd (by omega)] at hkk
    obtain ⟨q1, q2⟩ := vt_ix (n := (S (a + 1) (-1)).toNat) h0 (by omega) (by omega)
    rcases hk with rfl | rfl
    · refine va_aldq hx hb hK hw.1 k0 3 hkk rfl q1 d ?_
      rw [q2]
      exact K
    · refine va_aldq hx hb hK hw.1 k0 4 hkk rfl q1 d ?_
      rw [q2]
      exact K
  | 16, hok, h =>
    obtain ⟨n, r1, e1, ⟨hn0, hn1, hb1, hb2⟩, h1⟩ := vt_pi_spec h
    subst e1
    obtain ⟨at_, d, hn, hq, hkt⟩ := hok
    have hnt : (Int32.ofInt n).toInt = n := vt_toI (by omega)
    have hneg : ¬ Int32.ofInt n < 0 := by
      rw [vt_zero, vt_ltI (by omega) (by decide)]
      omega
    have hN : (Int32.ofInt n).toNatClampNeg = n.toNat := by
      show (Int32.ofInt n).toInt.toNat = n.toNat
      rw [hnt]
    have key : ∀ (t0 : Nat) (ty : FieldType), k = 100 + t0 → newarray.typeOf at_ = ty → (vc_ty cA)[t0]? = some (cA t0, ty) → (∀ x, va_RA s x ty → va_RA s (cA t0) ty → x = cA t0) → n.toNat * componentBytes ty ≤ 536870912 → (∀ (q : Nat) (x : ClassId), vp_cell x (vc_ac (vc_nw S (q + 1) (k : Int) n) (vc_nb B (q + 1)) (q + 1)) = arrV x n.toNat (fun _ => defaultValue ty)) → W p l e (vc_rm d0 mc ms) s m args below meth c H locs cc sl (vx_Q below (vc_Q D cA Lw0 sz z0 Post) args s mc ms (vc_A Lw0 sz)) (F0 m pc ls (.int (Int32.ofInt n) :: r1.map cw)) := by
      intro t0 ty hk0 hty hat hun hby hcell
      have hac : ∀ q : Nat, vc_ac (vc_nw S (q + 1) (k : Int) n) (vc_nb B (q + 1)) (q + 1) = vc_ac (vc_nw S 1 (k : Int) n) (vc_nb B 1) 1 := fun q => by
        unfold vc_ac
        rw [vc_nw_at, vc_nw_at, vc_nb_at, vc_nb_at]
      refine va_newa hx hb (hts _ hq) hty hK hw.1 hw.2.1 hw.2.2.1 (fun q hq => .inr (by omega)) (a0 := vc_ac (vc_nw S 1 (k : Int) n) (vc_nb B 1) 1) (fun x => hcell 0 x) hneg hN hby hb1 hb2 d (fun q x H1 hK1 hP1 hD1 hS1 => ?_)
      have hxx : x = cA t0 := by
        refine hun x ?_ (hK.2 t0 _ hat).2
        exact (hK1.2 (vc_ty cA).length (x, ty) (by rw [List.getElem?_append_right (Nat.le_refl _), Nat.sub_self]; rfl)).2
      subst hxx
      have he : (.inl (cA t0, vc_ac (vc_nw S 1 (k : Int) n) (vc_nb B 1) 1) : va_E) = vc_e cA (vc_nw S (q + 1) (k : Int) n) (vc_nb B (q + 1)) q := by
        rw [vc_e_arr (c := k) (by rw [vc_nw_at]; rfl) (by omega), hac q, hk0, show 100 + t0 - 100 = t0 by omega]
      obtain ⟨hnin, hw1⟩ := hw.new hP1 hD1 hS1 he (fun b hb => vc_e_nwb hb) (vc_nw_ne (by omega))
      have K := go (h1 q hnin) H1 locs ls hw1 hl
      rw [← hn] at K
      exact K
    have hkk : ∀ q : Nat, vc_nw S (q + 1) (k : Int) n (q + 1) (-2) = (k : Int) ∧ vc_nw S (q + 1) (k : Int) n (q + 1) (-1) = n := fun q => by
      rw [vc_nw_at]; exact ⟨rfl, rfl⟩
    have hz : ∀ (q : Nat) (j : Nat), vc_nw S (q + 1) (k : Int) n (q + 1) (j : Int) = 0 := fun q j => by
      rw [vc_nw_at]
      show (if (j : Int) = -2 then (k : Int) else if (j : Int) = -1 then n else 0) = 0
      rw [if_neg (by omega), if_neg (by omega)]
    rcases hkt with ⟨hk, hty⟩ | ⟨hk, hty⟩ | ⟨hk, hty⟩
    · refine key 0 .int hk hty rfl (fun x a b => Option.some.inj (a.symm.trans b)) (by show n.toNat * 4 ≤ _; omega) (fun q x => ?_)
      unfold vc_ac
      rw [(hkk q).1, (hkk q).2, hk, if_neg (by decide), if_pos (by decide)]
      simp only [← hk, hz]
      rfl
    · refine key 1 .byte hk hty rfl (fun x a b => Option.some.inj (a.symm.trans b)) (by show n.toNat * 1 ≤ _; omega) (fun q x => ?_)
      unfold vc_ac
      rw [(hkk q).1, (hkk q).2, hk, if_neg (by decide), if_pos (by decide)]
      simp only [← hk, hz]
      rfl
    · refine key 2 .long hk hty rfl (fun x a b => Option.some.inj (a.symm.trans b)) (by show n.toNat * 8 ≤ _; omega) (fun q x => ?_)
      unfold vc_ac
      rw [(hkk q).1, (hkk q).2, hk, if_pos (by decide), vc_nb_at]
      rfl
  | 18, hok, h =>
    obtain ⟨v, r1, e1, h1⟩ := vt_pr_spec h
    obtain ⟨i, r2, e2, h2⟩ := vt_pi_spec h1
    obtain ⟨r, r3, e3, ⟨⟨⟨a, ea, ha⟩, hkd⟩, ⟨⟨b, eb, hbm⟩, hkb⟩, h0, h1, hn2⟩, h3⟩ := vt_pr_spec h2
    subst e3
    subst e2
    subst e1
    subst ea
    subst eb
    obtain ⟨d, hn⟩ := hok
    obtain ⟨k0, hkk⟩ := vc_plg (f := vc_e cA S B) ha
    have hk2 := hkk
    rw [vc_e_q (c := 104) hkd (by decide)] at hk2
    obtain ⟨k1, hkk1⟩ := vc_plg (f := vc_e cA S B) hbm
    rw [vc_e_obj (c := 14) hkb (by decide)] at hkk1
    obtain ⟨q1, q2⟩ := vt_ix (n := (S (a + 1) (-1)).toNat) h0 (by omega) (by omega)
    refine va_astq hx hb hK hw.1 hw.2.1 hw.2.2.1 k0 4 k1 14 hk2 (r := (vc_R 14, vc_T 14, vc_N 14)) rfl hkk1 (vc_cl_at 14 (by decide)) q1 d (fun H1 locs1 hP1 hD1 hS1 => ?_)
    have K := go h3 H1 locs1 ls (hw.put hP1 hD1 hS1 (vc_set hw.2.1 ha hkk (by
      rw [vc_e_q (c := 104) (by rw [vt_up_off (by omega)]; exact hkd) (by decide), vt_up_off (show (-1 : Int) ≠ i by omega)]
      congr 7
      funext j
      by_cases hj : j = (Int32.ofInt i).toNatClampNeg
      · subst hj; rw [va_up_self, q2, vt_up_self, Int.toNat_natCast]; rfl
      · rw [va_up_ne _ _ hj, vt_up_off (by omega)]) (fun b hb => vc_e_up hb)) (vt_up_ne (by omega))) hl
    rw [← hn] at K
    exact K
  | 19, hok, h =>
    have K := go h H locs ls hw hl
    have hz0 : S 0 = z0 := hw.2.2.2.2
    rcases hok with ⟨hk, idx, d, hn, hq⟩ | ⟨hk, idx, d, hn, hq⟩
    · have hp := hcn.1 k hk
      obtain ⟨j, hj⟩ : ∃ j, (S 0 (k : Int)).toNat = j + 1 := ⟨(S 0 (k : Int)).toNat - 1, by rw [hz0]; omega⟩
      have hR := hcn.2.2.1 (vc_o mt) idx k hk hq
      rw [← hz0, show (S 0 (k : Int)).toNat - 1 = j by omega] at hR
      rw [← hn] at K
      refine va_ldcS hx hb hown hR d ?_
      rw [hj] at K
      exact K
    · subst hk
      have hp := hcn.2.2.2.1
      obtain ⟨j, hj⟩ : ∃ j, (S 0 ((30 : Nat) : Int)).toNat = j + 1 := ⟨(S 0 30).toNat - 1, by rw [hz0]; show (z0 30).toNat = _; omega⟩
      have hR := hcn.2.2.2.2.1
      rw [← hz0, show (S 0 30).toNat - 1 = j by have : (S 0 30).toNat = j + 1 := hj; omega] at hR
      rw [← hn] at K
      refine va_gets (A := vc_A Lw0 sz) hx hb hR hw.2.2.1 hown (hts _ hq) (fun x h => h) d ?_
      rw [hj] at K
      exact K
  | 20, hok, h =>
    obtain ⟨r, r1, e1, h0, h1⟩ := vt_pr_spec h
    subst e1
    obtain ⟨idx, d, hn, hq, hk⟩ := hok
    subst hk
    have K := go h1 H locs ls hw hl
    rw [← hn] at K
    rcases h0 with rfl | ⟨c', hs, ⟨a, ea, ha⟩, hkd⟩
    · exact lv_castN hx hb d K
    · subst ea
      obtain ⟨k0, hkk⟩ := vc_plg (f := vc_e cA S B) ha
      have hc : c' = 11 ∨ c' = 12 ∨ c' = 13 := by
        unfold vc_sub at hs
        split at hs
        · exact .inl rfl
        · exact .inr (.inl rfl)
        · exact .inr (.inr rfl)
        · cases hs
      rw [vc_e_obj hkd (by omega)] at hkk
      have hcs : Cond.castable (vc_R c') "TurningRoads$Condition" ∈ lw_tbl := by
        rcases hc with rfl | rfl | rfl
        · exact q1980
        · exact q1979
        · exact q1978
      exact va_castY hx hb hown (hts _ hq) (hsf.1 _ hcs rfl) (va_recv hK hw.1 (vc_cl_at c' (by omega)) hkk) d K
  | 21, hok, h =>
    obtain ⟨i, r1, e1, h1⟩ := vt_pi_spec h
    obtain ⟨r, r2, e2, ⟨hr30, h0, h12⟩, h2⟩ := vt_pr_spec h1
    subst e2
    subst e1
    obtain ⟨d, hn⟩ := hok
    have hz0 : S 0 = z0 := hw.2.2.2.2
    have K := go h2 H locs ls hw hl
    rw [← hn] at K
    have hp := hcn.2.2.2.1
    have hpi := hcn.1 i.toNat (by omega)
    rw [show ((i.toNat : Nat) : Int) = i by omega] at hpi
    obtain ⟨j, rfl⟩ : ∃ j, r = j + 1 := ⟨r - 1, by rw [hz0] at hr30; omega⟩
    obtain ⟨q1, q2⟩ := vt_ix (n := 12) h0 (by omega) (by decide)
    have hT := hcn.2.2.2.2.2.1
    rw [show (z0 30).toNat - 1 = j by rw [hz0] at hr30; omega] at hT
    obtain ⟨jj, hjj⟩ : ∃ jj, (S 0 i).toNat = jj + 1 := ⟨(S 0 i).toNat - 1, by rw [hz0]; omega⟩
    refine vb_tq (A := vc_A Lw0 sz) hx hb hT hw.2.2.1 q1 (v := .ref jj) ?_ d ?_
    · show Value.ref ((z0 ((Int32.ofInt i).toNatClampNeg : Int)).toNat - 1) = .ref jj
      rw [q2, ← hz0, hjj]
      rfl
    · rw [hjj] at K
      exact K
  | 99, hok, h => exact h.elim
end VCV
theorem vc_vc_ok {mt : Nat} {Post : vc_Po} {X : vc_X} (hX : vc_F mt X) {full : List (Nat × vt_I)} (hfull : vc_tok mt full) (stops : List (Nat × List Nat)) : ∀ (n : Nat) (is : List (Nat × vt_I)) (L : vt_L) (st : List AV) (Lw : List Nat) (S : SS) (B : SB) (cc sl : Nat),
    vc_vc X.2.2.2.2.2.2.2.2.2.2.2.2.2.2.1 X.2.2.2.2.2.2.2.2.2.2.2.2.2.2.2.1 X.2.2.2.2.2.2.2.2.2.2.2.2.2.2.2.2 (vc_n mt) (vc_hd mt) (vc_rt mt) full stops (vc_J mt Post X) Post n is L st Lw S B cc sl → is ≠ [] ∧ (vc_tok mt is → vc_J mt Post X (vt_hd is) L st Lw S B cc sl)
  | 0, _, _, _, _, _, _, _, _, h => h.elim
  | n + 1, [], _, _, _, _, _, _, _, h => h.elim
  | n + 1, (pc, i) :: is, L, st, Lw, S, B, cc, sl, h => by
    refine ⟨List.cons_ne_nil _ _, fun htok => ?_⟩
    obtain ⟨p, l, e, s, m, args, below, meth, c, D, cA, Lw0, sz, z0, d0, mc, ms⟩ := X
    have hG : ∀ is L st Lw S B cc sl, vc_nx stops (vc_J mt Post (p, l, e, s, m, args, below, meth, c, D, cA, Lw0, sz, z0, d0, mc, ms)) (vc_vc d0 mc ms (vc_n mt) (vc_hd mt) (vc_rt mt) full stops (vc_J mt Post (p, l, e, s, m, args, below, meth, c, D, cA, Lw0, sz, z0, d0, mc, ms)) Post n) is L st Lw S B cc sl → is ≠ [] ∧ (vc_tok mt is → vc_J mt Post (p, l, e, s, m, args, below, meth, c, D, cA, Lw0, sz, z0, d0, mc, ms) (vt_hd is) L st Lw S B cc sl) := by
      intro is L st Lw S B cc sl h
      cases is with
      | nil => exact h.elim
      | cons q r =>
        refine ⟨List.cons_ne_nil _ _, fun ht => ?_⟩
        unfold vc_nx at h
        dsimp only at h
        split at h
        · exact vc_J.sub h (vt_pick_sub _ _)
        · exact (vc_vc_ok hX hfull stops n _ _ _ _ _ _ _ _ h).2 ht
    unfold vc_vc at h
    dsimp only at h
    obtain ⟨hok, his⟩ := htok
    cases i with
    | inl i => exact vc_s1_ok hX hfull hG hok his h
    | inr q =>
      obtain ⟨op, k, z⟩ := q
      exact vc_s2_ok hX hG hok his h
/-- THE WALK from pc on, by its function -/
theorem vc_walk {mt : Nat} {Post : vc_Po} {X : vc_X} (hX : vc_F mt X) {full : List (Nat × vt_I)} (hfull : vc_tok mt full) (stops : List (Nat × List Nat)) (n : Nat) {pc : Nat} {L : vt_L} {st : List AV} {Lw : List Nat} {S : SS} {B : SB} {cc sl d mc ms : Nat} (hd : X.2.2.2.2.2.2.2.2.2.2.2.2.2.2 = (d, mc, ms))
    (h : vc_vc d mc ms (vc_n mt) (vc_hd mt) (vc_rt mt) full stops (vc_J mt Post X) Post n (vt_seek pc full) L st Lw S B cc sl) : vc_J mt Post X pc L st Lw S B cc sl := by
  have h1 := vc_vc_ok hX hfull stops n _ _ _ _ _ _ _ _ (by rw [hd]; exact h)
  have h2 := h1.2 (vc_seek_tok pc full hfull)
  rw [vt_seek_hd pc full h1.1] at h2
  exact h2
theorem vc_loc_ok : ∀ (as : List AV) (i : Nat), lv_args i (as.map cw) = vc_lm (vt_loc i as)
  | [], _ => rfl
  | v :: vs, i => by
    show (i, cw v) :: lv_args (if (cw v).category = 2 then i + 2 else i + 1) (vs.map cw) = (i, cw v) :: vc_lm (vt_loc (if vt_is2 v = true then i + 2 else i + 1) vs)
    rw [← vc_loc_ok vs, vc_cat_cw]
    cases vt_is2 v <;> rfl
theorem vc_wid_ok : ∀ (as : List AV), (lg_sl (as.map cw)).length = vt_wid as
  | [] => rfl
  | v :: vs => by
    show ((if (cw v).category = 2 then [Slot.val (cw v), Slot.second] else [Slot.val (cw v)]) ++ lg_sl (vs.map cw)).length = _
    rw [List.length_append, vc_wid_ok vs, vc_cat_cw]
    show _ = (if vt_is2 v = true then 2 else 1) + vt_wid vs
    cases vt_is2 v <;> rfl
/-- A METHOD: from its start's judgement -/
theorem vc_start {d mc ms mt : Nat} {as : List AV} {Lw : List Nat} {S : SS} {B : SB} {Post : vc_Po} (hy : plainName (vc_y mt).cls = true) (hc : (vc_y mt).cls = vc_o mt) (hw : vt_wid as ≤ vc_n mt) (body : ∀ X : vc_X, vc_F mt X → X.2.2.2.2.2.2.2.2.2.2.2.2.2.2 = (d, mc, ms) → vc_J mt Post X 0 (vt_loc 0 as) [] Lw S B 0 0) : vc_M d mc ms mt as Lw S B Post := by
  intro l D cA sz
  refine MetFree.of_bodyS (code := vc_c mt) (maxLocals := vc_n mt) (ret := vc_rt mt) hy ?_ ?_
  · intro args s m h hn
    obtain ⟨meth, c, h1, h2, h3, h4, h5, h6, -, -⟩ := Cond.code_spec hn (atoms_spec (ws := ws_ (vc_y mt) (vc_c mt) (vc_n mt) (vc_rt mt)) h _ List.mem_cons_self)
    exact ⟨meth, c, h1, h2, h3, h4, h5, h6⟩
  · intro p e s m args below meth c s₁ BB hml hP _
    obtain ⟨rfl, hsz, hP, hK, hnd, hcn, hsf⟩ := hP
    have hh0 : s₁.heap = s.heap := by rw [BB.state]; rfl
    have hts0 := atoms_spec (ws := ws_ (vc_y mt) (vc_c mt) (vc_n mt) (vc_rt mt)) BB.pre
    have hts : ∀ w ∈ lw_all, w.before _ s = true := fun w h => hts0 w (List.mem_cons_of_mem _ h)
    have hown : s.vm.findClass (vc_o mt) = some m.cls := by
      rw [← hc]
      exact findClass_of_methodNamed BB.named
    have hl := lv_entry (as.map cw) (n := vc_n mt) (by rw [vc_wid_ok]; exact hw)
    rw [vc_loc_ok] at hl
    obtain ⟨meth', c', h1, h2, h3, h4, h5, h6, h7, -⟩ := Cond.code_spec BB.named (hts0 _ List.mem_cons_self)
    have X0 := Stand.of_body BB
    have hm : meth' = meth := Option.some.inj (h1.symm.trans X0.method)
    subst hm
    have hc' : c' = c := Option.some.inj (h2.symm.trans X0.code)
    subst hc'
    have hex : ∀ x ∈ c'.exceptionTable.toList, False := fun x hx => by
      have h8 : c'.exceptionTable = #[] := Array.isEmpty_iff.mp h7
      rw [h8] at hx
      cases hx
    have hname : meth'.name = (vc_y mt).name := (name_of_methodNamed BB.named h1).1
    have J := body (p, l, e, s, m, _, below, meth', c', D, cA, Lw, sz, S 0, d, mc, ms) ⟨BB.exec, BB.bytes, BB.returns, hml, hown, hts, BB.notSynchronized, hK, hsf, hsz, by rw [hsz] at hcn; exact hcn, hex, hname⟩ rfl
    have hW := J s.heap [] _ ⟨hP, vc_D_of hnd (fun a ha => .inl ha), va_S.rf, ⟨[], (List.append_nil _).symm, fun a ha => by cases ha⟩, rfl⟩ hl
    rw [lg_entry_eq]
    obtain ⟨t, a1, o, b1, b2, b3⟩ := hW s₁ hh0 X0
    exact ⟨t, o, a1, b1, b2, ⟨b3.1, b3.2⟩⟩
