/-! THE COMPONENT's methods: doesRow, done, free -/
set_option maxRecDepth 100000
section CML
variable {Lw : List Nat} {S0 S : SS} {B : SB} {d o : Nat} {τ : Nat → Nat} {f : Int → Int} {wr gr : Int → Nat} {lt : Int → Int} {K : Int}
theorem rgo_rg (hl : LI K f) : ∀ (n : Nat) (k : Int) (st : RS), 0 ≤ k → k + n ≤ f 6 → stV f st → stV f (rgo f n k st).2 ∧ k ≤ (rgo f n k st).1 ∧ (rgo f n k st).1 ≤ k + n
  | 0, k, st, _, _, hv => ⟨hv, Int.le_refl _, by show k ≤ k + _; omega⟩
  | n + 1, k, st, k0, kn, hv => by
    cases hr : rg f k st with
    | none =>
      have e : rgo f (n + 1) k st = (k, st) := by unfold rgo; rw [hr]
      rw [e]
      exact ⟨hv, Int.le_refl _, by show k ≤ k + _; omega⟩
    | some st' =>
      have e : rgo f (n + 1) k st = rgo f n (k + 1) st' := by show (match rg f k st with | some st' => rgo f n (k + 1) st' | none => (k, st)) = _; rw [hr]
      rw [e]
      have := rgo_rg hl n (k + 1) st' (by omega) (by omega) (rg_V hl (hl.r k0 (by omega)) hv hr)
      exact ⟨this.1, by omega, by omega⟩
theorem cm_doesRow {n : Int} (hn : 0 ≤ n ∧ n ≤ f 6) (hsh : CSh Lw S0 o τ) (hC : CLd Lw S0 o f wr gr lt) (hrw : CRw S0 o f) (hl : LI K f) (hA : Ag (scW S0 o τ) S0 S) : vc_M (d + 5) 0 0 60 [.inr (.inr o), ii n] Lw S B (vc_up (fun v Lw' S' B' => v = some (ii (rgo f n.toNat 0 (rs0 f)).1) ∧ Lw = Lw' ∧ B = B' ∧ Ag (scW S0 o τ) S0 S' ∧ (∀ i, S' (S0 o 28).toNat i = S (S0 o 28).toNat i) ∧ CRs S' o f (rgo f n.toNat 0 (rs0 f)).2)) := by
  refine vc_start rfl rfl (Nat.le_of_ble_eq_true rfl) (fun X hX hd => ?_)
  have n6 := hl.rows
  have loop : ∀ (m : Nat) (k : Int) (st : RS) (S1 : SS), 0 ≤ k → k + m = n → stV f st → Ag (scW S0 o τ) S0 S1 → (∀ i, S1 (S0 o 28).toNat i = S (S0 o 28).toNat i) → CRs S1 o f st → rgo f n.toNat 0 (rs0 f) = rgo f m k st → vc_J 60 (vc_up (fun v Lw' S' B' => v = some (ii (rgo f n.toNat 0 (rs0 f)).1) ∧ Lw = Lw' ∧ B = B' ∧ Ag (scW S0 o τ) S0 S' ∧ (∀ i, S' (S0 o 28).toNat i = S (S0 o 28).toNat i) ∧ CRs S' o f (rgo f n.toNat 0 (rs0 f)).2)) X 6 [(0, .inr (.inr o)), (1, ii n), (2, ii k)] [] Lw S1 B 0 0 := by
    intro m
    induction m with
    | zero =>
      intro k st S1 k0 km hv A1 F1 P1 he
      refine vc_walk hX ck_X0_doesRow [] 60 hd ?_
      refine ⟨by omega, fun _ => ?_, fun c => absurd c (by omega)⟩
      rw [he]
      exact ⟨⟨Nat.le_refl _, Nat.le_refl _⟩, rfl, rfl, rfl, A1, F1, P1⟩
    | succ m ih =>
      intro k st S1 k0 km hv A1 F1 P1 he
      have hb := bI_rg (rg f k st).isSome
      refine vc_walk hX ck_X0_doesRow [(6, [0, 1, 2])] 60 hd ?_
      refine ⟨by omega, fun c => absurd c (by omega), fun _ => ?_⟩
      refine vc_kp (hC.ag A1).1 (cm_does (d := d) ⟨k0, by omega⟩ hv hsh hC hrw hl A1 P1) ⟨Nat.le_refl _, Nat.le_refl _⟩ ?_
      rintro _ _ S2 _ ⟨rfl, rfl, rfl, A2, F2, P2⟩
      refine ⟨by omega, fun c => ?_, fun c => ?_⟩
      · have hr : rg f k st = none := Option.isNone_iff_eq_none.mp (Option.isSome_eq_false_iff.mp (bI_0.mp c))
        have e : rgo f (m + 1) k st = (k, st) := by unfold rgo; rw [hr]
        rw [hr] at P2
        rw [he, e]
        exact ⟨⟨Nat.le_refl _, Nat.le_refl _⟩, rfl, rfl, rfl, A2, fun i => (F2 i).trans (F1 i), P2⟩
      · obtain ⟨st', hr⟩ := Option.isSome_iff_exists.mp (bI_n0.mp c)
        have e : rgo f (m + 1) k st = rgo f m (k + 1) st' := by show (match rg f k st with | some st' => rgo f m (k + 1) st' | none => (k, st)) = _; rw [hr]
        rw [hr] at P2
        exact ih (k + 1) st' S2 (by omega) (by omega) (rg_V hl (hl.r k0 (by omega)) hv hr) A2 (fun i => (F2 i).trans (F1 i)) P2 (by rw [he, e])
  refine vc_walk hX ck_X0_doesRow [(6, [0, 1, 2])] 60 hd ?_
  refine vc_kp (hC.ag hA).1 (cm_standsAll (d := d) hsh hC hl hA) ⟨Nat.le_refl _, Nat.le_refl _⟩ ?_
  rintro _ _ S1 _ ⟨rfl, rfl, rfl, A1, F1, P1⟩
  exact loop n.toNat 0 (rs0 f) S1 (by decide) (by omega) (rs0_V hl) A1 F1 P1 rfl
theorem cm_done (hsh : CSh Lw S o τ) (hC : CLd Lw S o f wr gr lt) (hrw : CRw S o f) (hl : LI K f) : vc_M (d + 6) 0 0 59 [.inr (.inr o)] Lw S B (vc_up (fun v Lw' S' B' => v = some (ii (sp_done f)) ∧ Lw = Lw' ∧ Ag (scW S o τ) S S')) := by
  refine vc_start rfl rfl (Nat.le_of_ble_eq_true rfl) (fun X hX hd => ?_)
  refine vc_walk hX ck_X0_done [] 60 hd ?_
  refine ⟨hC.1, ?_⟩
  rw [hC.2.2.2.2.2.2.2.2.2]
  refine vc_kp hC.1 (cm_doesRow (d := d) ⟨hl.rows.1, Int.le_refl _⟩ hsh hC hrw hl Ag.rf) ⟨Nat.le_refl _, Nat.le_refl _⟩ ?_
  rintro _ _ S1 _ ⟨rfl, rfl, rfl, A1, F1, P1⟩
  exact ⟨⟨Nat.le_refl _, Nat.le_refl _⟩, rfl, rfl, A1⟩
theorem cm_freeR {k : Int} (hk : -2147483648 ≤ k ∧ k ≤ 2147483647) (hsh : CSh Lw S o τ) (hC : CLd Lw S o f wr gr lt) (hrw : CRw S o f) (hl : LI K f) : vc_M (d + 6) 0 0 63 [.inr (.inr o), ii k] Lw S B (vc_up (fun v Lw' S' B' => v = some (ii (sp_free f k)) ∧ Lw = Lw' ∧ Ag (scW S o τ) S S')) := by
  refine vc_start rfl rfl (Nat.le_of_ble_eq_true rfl) (fun X hX hd => ?_)
  have n0 := hl.nW
  have n1 := hl.nG
  have n6 := hl.rows
  have h14 := pow14 n0.2
  have h29 := hC.2.2.2.2.2.2.2.2.2
  have hb := bI_rg (sIn k 0 (f 6 - 2))
  refine vc_walk hX ck_X0_free [(45, [0, 1]), (47, [0, 1])] 60 hd ?_
  refine ⟨hk, hC.1, ?_⟩
  rw [h29]
  refine ⟨by omega, ?_⟩
  refine vc_k (cm_in (d := d + 5) (by omega) (by decide) (by omega)) ⟨Nat.le_refl _, Nat.le_refl _⟩ ?_
  unfold sp_free
  refine ⟨by omega, fun c => ?_, fun c => ?_⟩
  rotate_left
  · rw [if_neg (by rw [(bI_0 (b := sIn k 0 (f 6 - 2))).mp (by omega)]; decide)]
    exact ⟨⟨Nat.le_refl _, Nat.le_refl _⟩, rfl, rfl, Ag.rf⟩
  have c1 := bI_n0.mp c
  have ck : 0 ≤ k ∧ k ≤ f 6 - 2 := of_decide_eq_true c1
  rw [if_pos c1]
  have hR0 := hl.r ck.1 (show k < f 6 by omega)
  have hR1 := hl.r (k := k + 1) (by omega) (by omega)
  have hgo := rgo_rg hl k.toNat 0 (rs0 f) (by decide) (by omega) (rs0_V hl)
  have no : frB f k = false → ∀ S1 B1, Ag (scW S o τ) S S1 → vc_J 63 (vc_up (fun v Lw' S' B' => v = some (ii (bI (frB f k))) ∧ Lw = Lw' ∧ Ag (scW S o τ) S S')) X 45 [(0, .inr (.inr o)), (1, ii k)] [] Lw S1 B1 0 0 := by
    intro hn S1 B1 A1
    rw [hn]
    refine vc_walk hX ck_X0_free [] 60 hd ?_
    exact ⟨⟨Nat.le_refl _, Nat.le_refl _⟩, rfl, rfl, A1⟩
  refine vc_kp hC.1 (cm_doesRow (d := d) ⟨ck.1, by omega⟩ hsh hC hrw hl Ag.rf) ⟨Nat.le_refl _, Nat.le_refl _⟩ ?_
  rintro _ _ S1 _ ⟨rfl, rfl, rfl, A1, F1, P1⟩
  generalize hq : rgo f k.toNat 0 (rs0 f) = q at *
  have hfr : frB f k = (!decide (q.1 < k) && (match rg2 f k (k + 1) q.2, rg2 f (k + 1) k q.2 with
    | some a, some b => stEB (f 1) a b
    | _, _ => false)) := by unfold frB; rw [hq]; rfl
  refine ⟨by omega, fun c2 => no (by rw [hfr, decide_eq_true c2]; rfl) S1 _ A1, fun c2 => ?_⟩
  have hb1 := bI_rg (rg f k q.2).isSome
  refine vc_kp (hC.ag A1).1 (cm_does (d := d + 1) ⟨ck.1, by omega⟩ hgo.1 hsh hC hrw hl A1 P1) ⟨Nat.le_refl _, Nat.le_refl _⟩ ?_
  rintro _ _ S2 _ ⟨rfl, rfl, rfl, A2, F2, P2⟩
  refine ⟨by omega, fun c3 => no (by
    have hr : rg f k q.2 = none := Option.isNone_iff_eq_none.mp (Option.isSome_eq_false_iff.mp (bI_0.mp c3))
    rw [hfr, show rg2 f k (k + 1) q.2 = none by unfold rg2; rw [hr]; rfl, Bool.and_false]) S2 _ A2, fun c3 => ?_⟩
  obtain ⟨st1, hr1⟩ := Option.isSome_iff_exists.mp (bI_n0.mp c3)
  have V1 := rg_V hl hR0 hgo.1 hr1
  rw [hr1] at P2
  have hb2 := bI_rg (rg f (k + 1) st1).isSome
  refine vc_kp (hC.ag A2).1 (cm_does (d := d + 1) (st := st1) ⟨by omega, by omega⟩ V1 hsh hC hrw hl A2 P2) ⟨Nat.le_refl _, Nat.le_refl _⟩ ?_
  rintro _ _ S3 _ ⟨rfl, rfl, rfl, A3, F3, P3⟩
  refine ⟨by omega, fun c4 => ?_, fun c4 => no (by
    have hr : rg f (k + 1) st1 = none := Option.isNone_iff_eq_none.mp (Option.isSome_eq_false_iff.mp (bI_0.mp (by omega)))
    rw [hfr, show rg2 f k (k + 1) q.2 = none by unfold rg2; rw [hr1]; exact hr, Bool.and_false]) S3 _ A3⟩
  obtain ⟨a, hr2⟩ := Option.isSome_iff_exists.mp (bI_n0.mp c4)
  have Va := rg_V hl hR1 V1 hr2
  rw [hr2] at P3
  have e2 : rg2 f k (k + 1) q.2 = some a := by unfold rg2; rw [hr1]; exact hr2
  rw [e2] at hfr
  have hcf : decide (q.1 < k) = false := decide_eq_false (by omega)
  rw [hcf] at hfr
  -- the places are kept
  have a28 := hsh.2.1.2.2.2.2.2.2.2.2.1
  have a27 := hsh.2.1.2.2.2.2.2.2.2.1
  have n87 : (S o 27).toNat ≠ (S o 28).toNat := a27.ne a28 (by decide)
  have n80 : (S o 28).toNat ≠ o := a28.ne0 hsh.1 (by decide)
  have no2 : frB f k = false → ∀ S1 B1 x, Ag (scW S o τ) S S1 → vc_J 63 (vc_up (fun v Lw' S' B' => v = some (ii (bI (frB f k))) ∧ Lw = Lw' ∧ Ag (scW S o τ) S S')) X 115 [(0, .inr (.inr o)), (1, ii k), (2, ii x)] [] Lw S1 B1 0 0 := by
    intro hn S1 B1 x A1
    rw [hn]
    refine vc_walk hX ck_X0_free [] 60 hd ?_
    exact ⟨⟨Nat.le_refl _, Nat.le_refl _⟩, rfl, rfl, A1⟩
  have cmp : ∀ (b : RS) (S5 : SS) (B5 : SB), rg2 f (k + 1) k q.2 = some b → stV f b → a.1 = b.1 → Ag (scW S o τ) S S5 → CRs S5 o f b → (∀ g, 0 ≤ g → g < f 1 → S5 (S o 28).toNat g = a.2 g) → ∀ (m : Nat) (j : Int), 0 ≤ j → j + m = f 1 → (∀ g, 0 ≤ g → g < j → a.2 g = b.2 g) → vc_J 63 (vc_up (fun v Lw' S' B' => v = some (ii (bI (frB f k))) ∧ Lw = Lw' ∧ Ag (scW S o τ) S S')) X 119 [(0, .inr (.inr o)), (1, ii k), (3, ii j)] [] Lw S5 B5 0 0 := by
    intro b S5 B5 hb Vb hab A5 P5 F5 m
    have C5 := hC.ag A5
    have H5 := hsh.ag A5.q
    have l1 := C5.2.2.1
    have l2 := l1.2.1
    have e27 : S5 o 27 = S o 27 := A5 o 27 (scW.ob0 hsh.1.2 rfl)
    have e28 : S5 o 28 = S o 28 := A5 o 28 (scW.ob0 hsh.1.2 rfl)
    have b27 := H5.2.1.2.2.2.2.2.2.2.1
    have b28 := H5.2.1.2.2.2.2.2.2.2.2.1
    have m27 : S5 (S5 o 27).toNat (-1) = 6 := b27.2.1
    have m28 : S5 (S5 o 28).toNat (-1) = 6 := b28.2.1
    rw [hb] at hfr
    induction m with
    | zero =>
      intro j j0 jm hs
      have hf1 : frB f k = true := by
        rw [hfr]
        show stEB (f 1) a b = true
        exact (stEB_iff).mpr ⟨hab, fun g g0 g1 => hs g g0 (by omega)⟩
      rw [hf1]
      refine vc_walk hX ck_X0_free [] 60 hd ?_
      refine ⟨C5.1, ?_⟩
      refine vc_kv l1.1 (cm_size (d := d + 5) l1.1) ⟨Nat.le_refl _, Nat.le_refl _⟩ ?_
      refine ⟨by omega, fun _ => ?_, fun c => absurd c (by omega)⟩
      exact ⟨⟨Nat.le_refl _, Nat.le_refl _⟩, rfl, rfl, A5⟩
    | succ m ih =>
      intro j j0 jm hs
      have x1 := F5 j j0 (by omega)
      have x2 := P5.2 j j0 (by omega)
      have va := Va.2 j j0 (by omega)
      have vb := Vb.2 j j0 (by omega)
      rw [← e28] at x1
      refine vc_walk hX ck_X0_free [(119, [0, 1, 3])] 60 hd ?_
      refine ⟨C5.1, ?_⟩
      refine vc_kv l1.1 (cm_size (d := d + 5) l1.1) ⟨Nat.le_refl _, Nat.le_refl _⟩ ?_
      refine ⟨by omega, fun c => absurd c (by omega), fun _ => ?_⟩
      refine ⟨C5.1, ⟨b28.1, by omega, by omega, by omega⟩, C5.1, ⟨b27.1, by omega, by omega, by omega⟩, by omega, fun c => ?_, fun c => ?_⟩
      · refine ih (j + 1) (by omega) (by omega) (fun g g0 g1 => ?_)
        by_cases e : g = j
        · subst e; omega
        · exact hs g g0 (by omega)
      · have hf0 : frB f k = false := by
          rw [hfr]
          show stEB (f 1) a b = false
          cases h : stEB (f 1) a b with
          | false => rfl
          | true =>
            have := (stEB_iff.mp h).2 j j0 (by omega)
            omega
        rw [hf0]
        exact ⟨⟨Nat.le_refl _, Nat.le_refl _⟩, rfl, rfl, A5⟩
  have keep : ∀ (m : Nat) (j : Int) (S4 : SS), 0 ≤ j → j + m = f 1 → Ag (scW S o τ) S S4 → CRs S4 o f a → (∀ g, 0 ≤ g → g < j → S4 (S o 28).toNat g = a.2 g) → vc_J 63 (vc_up (fun v Lw' S' B' => v = some (ii (bI (frB f k))) ∧ Lw = Lw' ∧ Ag (scW S o τ) S S')) X 54 [(0, .inr (.inr o)), (1, ii k), (2, ii a.1), (3, ii j)] [] Lw S4 B 0 0 := by
    intro m
    induction m with
    | zero =>
      intro j S4 j0 jm A4 P4 F4
      have C4 := hC.ag A4
      have l1 := C4.2.2.1
      have l2 := l1.2.1
      refine vc_walk hX ck_X0_free [(115, [0, 1, 2]), (119, [0, 1, 3])] 60 hd ?_
      refine ⟨C4.1, ?_⟩
      refine vc_kv l1.1 (cm_size (d := d + 5) l1.1) ⟨Nat.le_refl _, Nat.le_refl _⟩ ?_
      refine ⟨by omega, fun _ => ?_, fun c => absurd c (by omega)⟩
      refine vc_kp C4.1 (cm_doesRow (d := d) ⟨ck.1, by omega⟩ hsh hC hrw hl A4) ⟨Nat.le_refl _, Nat.le_refl _⟩ ?_
      rintro _ _ S5 _ ⟨rfl, rfl, rfl, A5, F5, P5⟩
      rw [hq] at P5
      have hb3 := bI_rg (rg f (k + 1) q.2).isSome
      refine vc_kp (hC.ag A5).1 (cm_does (d := d + 1) (st := q.2) ⟨by omega, by omega⟩ hgo.1 hsh hC hrw hl A5 P5) ⟨Nat.le_refl _, Nat.le_refl _⟩ ?_
      rintro _ _ S6 _ ⟨rfl, rfl, rfl, A6, F6, P6⟩
      refine ⟨by omega, fun c5 => no2 (by
        have hr : rg f (k + 1) q.2 = none := Option.isNone_iff_eq_none.mp (Option.isSome_eq_false_iff.mp (bI_0.mp c5))
        rw [hfr, show rg2 f (k + 1) k q.2 = none by unfold rg2; rw [hr]; rfl]; rfl) S6 _ _ A6, fun c5 => ?_⟩
      obtain ⟨st2, hr3⟩ := Option.isSome_iff_exists.mp (bI_n0.mp c5)
      have V2 := rg_V hl hR1 hgo.1 hr3
      rw [hr3] at P6
      have hb4 := bI_rg (rg f k st2).isSome
      refine vc_kp (hC.ag A6).1 (cm_does (d := d + 1) (st := st2) ⟨by omega, by omega⟩ V2 hsh hC hrw hl A6 P6) ⟨Nat.le_refl _, Nat.le_refl _⟩ ?_
      rintro _ _ S7 _ ⟨rfl, rfl, rfl, A7, F7, P7⟩
      refine ⟨by omega, fun c6 => no2 (by
        have hr : rg f k st2 = none := Option.isNone_iff_eq_none.mp (Option.isSome_eq_false_iff.mp (bI_0.mp c6))
        rw [hfr, show rg2 f (k + 1) k q.2 = none by unfold rg2; rw [hr3]; exact hr]; rfl) S7 _ _ A7, fun c6 => ?_⟩
      obtain ⟨b, hr4⟩ := Option.isSome_iff_exists.mp (bI_n0.mp c6)
      have Vb := rg_V hl hR0 V2 hr4
      rw [hr4] at P7
      have e3 : rg2 f (k + 1) k q.2 = some b := by unfold rg2; rw [hr3]; exact hr4
      have hd7 : S7 o 30 = b.1 := P7.1
      have w1 := Va.1
      have w2 := Vb.1
      refine ⟨(hC.ag A7).1, by omega, fun c7 => ?_, fun c7 => no2 (by
        rw [hfr, e3]
        show stEB (f 1) a b = false
        cases h : stEB (f 1) a b with
        | false => rfl
        | true =>
          have := (stEB_iff.mp h).1
          omega) S7 _ _ A7⟩
      exact cmp b S7 _ e3 Vb (by omega) A7 P7 (fun g g0 g1 => by rw [F7, F6, F5]; exact F4 g g0 (by omega)) (f 1).toNat 0 (by decide) (by omega) (fun g g0 g1 => by omega)
    | succ m ih =>
      intro j S4 j0 jm A4 P4 F4
      have C4 := hC.ag A4
      have H4 := hsh.ag A4.q
      have l1 := C4.2.2.1
      have l2 := l1.2.1
      have e27 : S4 o 27 = S o 27 := A4 o 27 (scW.ob0 hsh.1.2 rfl)
      have e28 : S4 o 28 = S o 28 := A4 o 28 (scW.ob0 hsh.1.2 rfl)
      have b27 := H4.2.1.2.2.2.2.2.2.2.1
      have b28 := H4.2.1.2.2.2.2.2.2.2.2.1
      have m27 : S4 (S4 o 27).toNat (-1) = 6 := b27.2.1
      have m28 : S4 (S4 o 28).toNat (-1) = 6 := b28.2.1
      have x2 := P4.2 j j0 (by omega)
      refine vc_walk hX ck_X0_free [(54, [0, 1, 2, 3])] 60 hd ?_
      refine ⟨C4.1, ?_⟩
      refine vc_kv l1.1 (cm_size (d := d + 5) l1.1) ⟨Nat.le_refl _, Nat.le_refl _⟩ ?_
      refine ⟨by omega, fun c => absurd c (by omega), fun _ => ?_⟩
      refine ⟨C4.1, C4.1, ⟨b27.1, by omega, by omega, by omega⟩, ⟨b28.1, by omega, by omega, by omega⟩, ?_⟩
      rw [e28]
      have ro : ∀ v i, vt_up S4 (S o 28).toNat j v o i = S4 o i := fun v i => up_ne (Or.inl (fun z => n80 z.symm))
      refine ih (j + 1) _ (by omega) (by omega) (A4.up (scW.a a28 rfl j0)) ⟨?_, fun g g0 g1 => ?_⟩ (fun g g0 g1 => ?_)
      · rw [ro]; exact P4.1
      · rw [ro, e27, up_ne (Or.inl n87), ← e27]; exact P4.2 g g0 g1
      · rw [up_rd]
        by_cases c : g = j
        · rw [if_pos ⟨rfl, c⟩, c]; exact x2
        · rw [if_neg (fun z => c z.2)]; exact F4 g g0 (by omega)
  refine vc_walk hX ck_X0_free [(54, [0, 1, 2, 3])] 60 hd ?_
  refine ⟨(hC.ag A3).1, ?_⟩
  rw [show S3 o 30 = a.1 from P3.1]
  exact keep (f 1).toNat 0 S3 (by decide) (by omega) A3 P3 (fun g g0 g1 => by omega)
end CML
