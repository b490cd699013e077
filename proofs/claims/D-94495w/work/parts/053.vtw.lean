/-! VT: fields and calls; a method's start; the walk -/
set_option maxRecDepth 100000
section VTW
variable {p : Program} {l : Launch} {e : Env} {s : State} {m : MethodId} {args : Array Value} {below : List Frame} {meth : Method} {c : Code} {D : va_G} {cA : Nat → ClassId} {ad : Nat → Nat} {mt : Nat} {Post : vt_Po}
theorem vt_s2_ok (hX : vt_F mt (p, l, e, s, m, args, below, meth, c, D, cA, ad)) {G : vt_G}
    (hG : ∀ is L st S B, G is L st S B → is ≠ [] ∧ (vt_tok (vt_c mt) is → vt_J mt Post (p, l, e, s, m, args, below, meth, c, D, cA, ad) (vt_hd is) L st S B))
    {pc op k : Nat} {z : Int} {is : List (Nat × vt_I)} (hok : vt_ok2 (vt_c mt) pc op k z (vt_hd is)) (his : vt_tok (vt_c mt) is) {L : vt_L} {st : List AV} {S : SS} {B : SB} (h : vt_s2 (vt_lv mt) G op k z is L st S B) :
    vt_J mt Post (p, l, e, s, m, args, below, meth, c, D, cA, ad) pc L st S B := by
  obtain ⟨hx, hb, hr, hml, hown, hts, hlocks, hK, hap⟩ := hX
  have go : ∀ {L st S B}, G is L st S B → vt_J mt Post (p, l, e, s, m, args, below, meth, c, D, cA, ad) (vt_hd is) L st S B := fun h => (hG _ _ _ _ _ h).2 his
  intro H locs ls hP hS hl
  match op, hok, h with
  | 0, hok, h =>
    obtain ⟨j, r1, e1, h1⟩ := vt_pr_spec h
    subst e1
    split at h1
    · rename_i hj
      have hj : j = 43 := Nat.eq_of_beq_eq_true hj
      subst hj
      obtain ⟨idx, d, hn, ⟨hq, hc, hz, hk⟩, h9⟩ := hok
      subst hz
      have K := go h1 H locs ls hP hS hl
      rw [← hn] at K
      exact va_get (D := D) (ci := 0) (C := RX3) (T := TX3) (N := 43) (ref := RX3) hx hb hts in_X3 hown hK hP 0 vt_at0 rfl k hk (hts _ hq) (fun x h => by rw [hc] at h; exact h) (by rw [vt_fs_at hk, if_pos h9]; rfl) d K
    · exact h1.elim
  | 1, hok, h =>
    obtain ⟨v, r1, e1, h1⟩ := vt_pi_spec h
    obtain ⟨j, r2, e2, h2⟩ := vt_pr_spec h1
    subst e2
    subst e1
    split at h2
    · rename_i hj
      have hj : j = 43 := Nat.eq_of_beq_eq_true hj
      subst hj
      obtain ⟨idx, d, hn, ⟨hq, hc, hz, hk⟩, h9, hfin, hty⟩ := hok
      subst hz
      refine va_put (D := D) (ci := 0) (v := .int (Int32.ofInt v)) (ty := .int) (C := RX3) (T := TX3) (N := 43) (ref := RX3) hx hb hts in_X3 tyX3 tyX3_ok nmX3 hown hK hP (vt_D hap) hS 0 vt_at0 rfl k hk (hts _ hq) (fun x h => by rw [hc] at h; exact h) hfin (by rw [tyX3_ok k hk, hty]) rfl rfl (by simpa [vt_fs] using hk) d (fun H1 locs1 hP1 _ hS1 => ?_)
      rw [vt_fs_set hk h9] at hP1
      have e : (vt_w cA ad S B).set 0 (ad 43, .inr (0, vt_fs ad (vt_up S 43 (k : Int) v))) = vt_w cA ad (vt_up S 43 (k : Int) v) B :=
        vt_set (k := 43) (by decide) (by unfold vt_e; rw [if_pos rfl]) (fun j hj => (vt_up_ne hj).symm) (fun _ _ => rfl)
      rw [e] at hP1
      have K := go h2 H1 locs1 ls hP1 hS1 hl
      rw [← hn] at K
      exact K
    · exact h2.elim
  | 2, hok, h =>
    obtain ⟨j, r1, e1, h1⟩ := vt_pr_spec h
    subst e1
    split at h1
    · rename_i hj
      have hj : j = 43 := Nat.eq_of_beq_eq_true hj
      subst hj
      obtain ⟨idx, d, hn, ⟨hq, hc, hz, hk⟩, h9⟩ := hok
      have K := go h1 H locs ls hP hS hl
      rw [← hn] at K
      exact va_get (D := D) (ci := 0) (C := RX3) (T := TX3) (N := 43) (ref := RX3) hx hb hts in_X3 hown hK hP 0 vt_at0 rfl k hk (hts _ hq) (fun x h => by rw [hc] at h; exact h) (by rw [vt_fs_at hk, if_neg h9]; rfl) d K
    · exact h1.elim
  | 3, hok, h =>
    obtain ⟨as, r, e1, hlen, h1⟩ := vt_args_spec _ _ _ _ h
    subst e1
    rw [List.append_nil] at h1
    split at h1
    · rename_i j as' _
      split at h1
      · rename_i hj
        simp only [Bool.and_eq_true] at hj
        obtain ⟨hj, hlv, hct⟩ := hj
        have hj : j = 43 := Nat.eq_of_beq_eq_true hj
        subst hj
        have hlv : vt_lv k < vt_lv mt := Nat.le_of_ble_eq_true hlv
        have hct : vt_cat r ≤ 8 := Nat.le_of_ble_eq_true hct
        obtain ⟨P', hM, hk⟩ := h1
        obtain ⟨idx, d, hn, hq1, hq2, hq3, hq4, hq5, hq6⟩ := hok
        refine vt_call (P' := P') (va_runV (As := as'.map (cv ad)) (rest := r.map (cv ad)) (C := RX3) ⟨hx, hb, hml, hown, hts⟩ (hM l D cA ad)
          (cwV (z.toNat - 1) hts (lw_V hq1 hq2 hq3 q151 hq4) rfl rfl rfl hq5 ⟨by show vt_lv k + 1 ≤ vt_lv mt; omega, by show 8 + (vt_n k + 11) + 41 * vt_lv k ≤ 41 * vt_lv mt; omega⟩)
          ⟨vt_blind, va_recv hK hP (ci := 0) (q0 := 0) rfl vt_at0, fun U hU hW => ⟨rfl, by rw [hU]; exact hP, va_K.moved hW.alike hK, hap⟩⟩ rfl (by rw [List.length_map, ← hlen]; rfl) hl.1 (by simp [cv]) (lv_room (by rw [vt_cat_sum]; exact hct)) d ⟨Nat.le_refl 0, Nat.le_refl 0⟩) hS ?_
        intro r1 S1 B1 H1 locs1 hp hP1 hS1
        have K := go (hk r1 S1 B1 hp) H1 locs1 ls hP1 hS1 hl
        rw [← hn, vt_rs_map] at K
        exact K
      · exact h1.elim
    · exact h1.elim
  | 4, hok, h => exact hok hx hb hown hts (go h H locs ls hP hS hl)
  | 5, hok, h =>
    obtain ⟨as, r, e1, hlen, h1⟩ := vt_args_spec _ _ _ _ h
    subst e1
    rw [List.append_nil] at h1
    split at h1
    · rename_i hj
      simp only [Bool.and_eq_true] at hj
      obtain ⟨hlv, hct⟩ := hj
      have hlv : vt_lv k < vt_lv mt := Nat.le_of_ble_eq_true hlv
      have hct : vt_cat r ≤ 8 := Nat.le_of_ble_eq_true hct
      obtain ⟨P', hM, hk⟩ := h1
      obtain ⟨idx, d, hn, hq1, hq2, hq3, hq4, hq5, hq6⟩ := hok
      refine vt_call (P' := P') (va_runS (As := as.map (cv ad)) (rest := r.map (cv ad)) ⟨hx, hb, hml, hown, hts⟩ (hM l D cA ad)
        (va_cwS z.toNat hts (lw_S hq1 hq2 hq3 hq4) rfl rfl rfl hq5 ⟨by show vt_lv k + 1 ≤ vt_lv mt; omega, by show 8 + (vt_n k + 11) + 41 * vt_lv k ≤ 41 * vt_lv mt; omega⟩)
        ⟨vt_blind, fun U hU hW => ⟨rfl, by rw [hU]; exact hP, va_K.moved hW.alike hK, hap⟩⟩ rfl (by rw [List.length_map, hlen]) hl.1 (by simp) (lv_room (by rw [vt_cat_sum]; exact hct)) d ⟨Nat.le_refl 0, Nat.le_refl 0⟩) hS ?_
      intro r1 S1 B1 H1 locs1 hp hP1 hS1
      have K := go (hk r1 S1 B1 hp) H1 locs1 ls hP1 hS1 hl
      rw [← hn, vt_rs_map] at K
      exact K
    · exact h1.elim
end VTW
theorem vt_vc_ok {mt : Nat} {Post : vt_Po} {X : vt_X} (hX : vt_F mt X) {full : List (Nat × vt_I)} (hfull : vt_tok (vt_c mt) full) (stops : List (Nat × List Nat)) : ∀ (n : Nat) (is : List (Nat × vt_I)) (L : vt_L) (st : List AV) (S : SS) (B : SB),
    vt_vc (vt_lv mt) (vt_n mt) (vt_r mt) full stops (vt_J mt Post X) Post n is L st S B → is ≠ [] ∧ (vt_tok (vt_c mt) is → vt_J mt Post X (vt_hd is) L st S B)
  | 0, _, _, _, _, _, h => h.elim
  | n + 1, [], _, _, _, _, h => h.elim
  | n + 1, (pc, i) :: is, L, st, S, B, h => by
    refine ⟨List.cons_ne_nil _ _, fun htok => ?_⟩
    have hG : ∀ is L st S B, vt_nx stops (vt_J mt Post X) (vt_vc (vt_lv mt) (vt_n mt) (vt_r mt) full stops (vt_J mt Post X) Post n) is L st S B → is ≠ [] ∧ (vt_tok (vt_c mt) is → vt_J mt Post X (vt_hd is) L st S B) := by
      intro is L st S B h
      cases is with
      | nil => exact h.elim
      | cons q r =>
        refine ⟨List.cons_ne_nil _ _, fun ht => ?_⟩
        unfold vt_nx at h
        dsimp only at h
        split at h
        · exact vt_J.sub h (vt_pick_sub _ _)
        · exact (vt_vc_ok hX hfull stops n _ _ _ _ _ h).2 ht
    obtain ⟨p, l, e, s, m, args, below, meth, c, D, cA, ad⟩ := X
    unfold vt_vc at h
    dsimp only at h
    obtain ⟨hok, his⟩ := htok
    cases i with
    | inl i => exact vt_s1_ok hX hfull hG hok his h
    | inr q =>
      obtain ⟨op, k, z⟩ := q
      exact vt_s2_ok hX hG hok his h
/-- THE WALK from pc on, by its function -/
theorem vt_walk {mt : Nat} {Post : vt_Po} {X : vt_X} (hX : vt_F mt X) {full : List (Nat × vt_I)} (hfull : vt_tok (vt_c mt) full) (stops : List (Nat × List Nat)) (n : Nat) {pc : Nat} {L : vt_L} {st : List AV} {S : SS} {B : SB}
    (h : vt_vc (vt_lv mt) (vt_n mt) (vt_r mt) full stops (vt_J mt Post X) Post n (vt_seek pc full) L st S B) : vt_J mt Post X pc L st S B := by
  have h1 := vt_vc_ok hX hfull stops n _ _ _ _ _ h
  have h2 := h1.2 (vt_seek_tok pc full hfull)
  rw [vt_seek_hd pc full h1.1] at h2
  exact h2
def vt_loc : Nat → List AV → vt_L
  | _, [] => []
  | i, v :: vs => (i, v) :: vt_loc (if vt_is2 v = true then i + 2 else i + 1) vs
def vt_wid : List AV → Nat
  | [] => 0
  | v :: vs => (if vt_is2 v = true then 2 else 1) + vt_wid vs
theorem vt_loc_ok (ad : Nat → Nat) : ∀ (as : List AV) (i : Nat), lv_args i (as.map (cv ad)) = vt_lm ad (vt_loc i as)
  | [], _ => rfl
  | v :: vs, i => by
    show (i, cv ad v) :: lv_args (if (cv ad v).category = 2 then i + 2 else i + 1) (vs.map (cv ad)) = (i, cv ad v) :: vt_lm ad (vt_loc (if vt_is2 v = true then i + 2 else i + 1) vs)
    rw [← vt_loc_ok ad vs, vt_cat_cv]
    cases vt_is2 v <;> rfl
theorem vt_wid_ok (ad : Nat → Nat) : ∀ (as : List AV), (lg_sl (as.map (cv ad))).length = vt_wid as
  | [] => rfl
  | v :: vs => by
    show ((if (cv ad v).category = 2 then [Slot.val (cv ad v), Slot.second] else [Slot.val (cv ad v)]) ++ lg_sl (vs.map (cv ad))).length = _
    rw [List.length_append, vt_wid_ok ad vs, vt_cat_cv]
    show _ = (if vt_is2 v = true then 2 else 1) + vt_wid vs
    cases vt_is2 v <;> rfl
/-- A METHOD: from its start's judgement -/
theorem vt_start {mt : Nat} {as : List AV} {S : SS} {B : SB} {Post : vt_Po} (hy : plainName (vt_y mt).cls = true) (hc : (vt_y mt).cls = RX3) (hw : vt_wid as ≤ vt_n mt) (body : ∀ X, vt_F mt X → vt_J mt Post X 0 (vt_loc 0 as) [] S B) : vt_M mt as S B Post := by
  intro l D cA ad
  refine Met.ofW (cc := vt_c mt) (maxL := vt_n mt) (ret := vt_r mt) hy rfl ?_
  intro p e s m args below meth c s₁ BB hml hv
  obtain ⟨rfl, hP, hK, hap⟩ := hv
  have hts := atoms_spec (ws := ws_ (vt_y mt) (vt_c mt) (vt_n mt) (vt_r mt)) BB.pre
  have hts : ∀ w ∈ lw_all, w.before _ s = true := fun w h => hts w (List.mem_cons_of_mem _ h)
  have hown : s.vm.findClass RX3 = some m.cls := by
    rw [← hc]
    exact findClass_of_methodNamed BB.named
  have hl := lv_entry (as.map (cv ad)) (n := vt_n mt) (by rw [vt_wid_ok]; exact hw)
  rw [vt_loc_ok] at hl
  rw [lg_entry_eq]
  exact body (p, l, e, s, m, _, below, meth, c, D, cA, ad) ⟨BB.exec, BB.bytes, BB.returns, hml, hown, hts, BB.notSynchronized, hK, hap⟩ s.heap [] _ hP va_S.rf hl
