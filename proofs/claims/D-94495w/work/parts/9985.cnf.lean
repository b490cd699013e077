/-! THE COMPONENT's methods: minutes ahead, laid back -/
set_option maxRecDepth 100000
section CNF
variable {Lw Lw' : List Nat} {S0 S : SS} {B : SB} {d o D kr b : Nat} {W : Nat → Int → Prop} {τ τ' : Nat → Nat} {f F : Int → Int} {wr gr rr : Int → Nat} {lt : Int → Int} {K nr : Int} {R : RU}
theorem wW.u {r : Nat} {i : Int} (h : wW S0 o r i) : uW S0 o r i := by
  rcases h with ⟨h1, h2, h3⟩ | h | ⟨h1, h2, h3⟩
  · exact Or.inr (Or.inr (Or.inr ⟨h1, h2, by omega⟩))
  · exact Or.inr (Or.inr (Or.inl h))
  · exact Or.inr (Or.inl ⟨h1, h2, by omega⟩)
theorem Ag.wu (h : Ag (wW S0 o) S0 S) : Ag (uW S0 o) S0 S := h.mono (fun _ _ z => z.u)
/-- what is kept stays -/
theorem CKc.u (h : CKc S0 kr f) (hK : CKp Lw S0 kr o τ b) (h0 : S0 o (-2) = 0) (hA : Ag (uW S0 o) S0 S) : CKc S kr f := by
  obtain ⟨hk, ⟨a0, a1, a2, a3, a4, a5, a6⟩, -⟩ := hK
  have ek : ∀ i, S kr i = S0 kr i := fun i => hA kr i (uW.k h0 hk.2 (by decide))
  have ea : ∀ q, vc_ob Lw S0 q 100 → ∀ i, S q i = S0 q i := fun q hq i => hA q i (uW.k h0 hq.2 (by decide))
  have o0 : vc_ob Lw S0 (S0 kr 0).toNat 100 := a0.1
  have o1 : vc_ob Lw S0 (S0 kr 1).toNat 100 := a1.1
  have o2 : vc_ob Lw S0 (S0 kr 2).toNat 100 := a2.1
  have o3 : vc_ob Lw S0 (S0 kr 3).toNat 100 := a3.1
  have o4 : vc_ob Lw S0 (S0 kr 4).toNat 100 := a4.1
  have o5 : vc_ob Lw S0 (S0 kr 5).toNat 100 := a5.1
  have o6 : vc_ob Lw S0 (S0 kr 6).toNat 100 := a6.1
  obtain ⟨k1, k2, k3, k4, k5, k6⟩ := h
  refine ⟨fun g g0 g1 => ?_, fun w w0 w1 => ?_, ?_, ?_, ?_, ?_⟩
  · rw [ek, ek, ek, ek, ek, ea _ o0, ea _ o1, ea _ o2, ea _ o3, ea _ o4]
    exact k1 g g0 g1
  · rw [ek, ek, ea _ o5, ea _ o6]
    exact k2 w w0 w1
  · rw [ek]; exact k3
  · rw [ek]; exact k4
  · rw [ek]; exact k5
  · rw [ek]; exact k6
theorem Ag.ks (hK : CKp Lw S0 (S0 o 32).toNat o τ 60) (hA : Ag (kW S0 (S0 o 32).toNat τ 60) S0 S) : Ag (scW S0 o τ) S0 S := hA.mono (fun r i z => by
  rcases z with ⟨z1, z2⟩ | ⟨z1, z2, z3⟩
  · exact Or.inr (Or.inr ⟨by rw [z1]; exact hK.1.2, z2, z1⟩)
  · refine Or.inr (Or.inl ⟨z1, ?_, z3⟩)
    have : τ r = 60 ∨ τ r = 61 ∨ τ r = 62 ∨ τ r = 63 ∨ τ r = 64 ∨ τ r = 65 ∨ τ r = 66 := by omega
    rcases this with e | e | e | e | e | e | e <;> rw [e] <;> rfl)
theorem Ag.sq (h : Ag (scW S0 o τ) S0 S) : Ag (qW S0 o τ) S0 S := h.mono (fun _ _ z => Or.inl z)
theorem back_f (hC : CLd Lw S o F wr gr lt) (hs : smn f F) : upF (upF f 7 (S o 5 - lt (-1))) 6 (S o 29) = f := by
  rw [hC.2.2.2.2.2.2.2.2.1, Int.add_sub_cancel, hC.2.2.2.2.2.2.2.2.2, hs.1 7 (by omega), hs.1 6 (by omega), upF_eq, upF_eq]
/-- a frame: at least what changes of the land, at most what pW says -/
def FrW (S0 : SS) (o : Nat) (τ : Nat → Nat) (W : Nat → Int → Prop) : Prop := (∀ r i, W r i → pW S0 o τ r i) ∧ ∀ r i, qW S0 o τ r i → W r i
theorem FrW.q : FrW S0 o τ (qW S0 o τ) := ⟨fun _ _ z => z.p, fun _ _ z => z⟩
/-- the state in which what is kept is laid back -/
def KpI (W : Nat → Int → Prop) (Lw : List Nat) (S0 : SS) (o : Nat) (τ : Nat → Nat) (f : Int → Int) (wr gr : Int → Nat) (lt : Int → Int) (F : Int → Int) (S : SS) : Prop := Ag W S0 S ∧ CLd Lw S o F wr gr lt ∧ CKc S (S0 o 32).toNat f
theorem FrW.ag (hw : FrW S0 o τ W) (h : Ag W S0 S) : Ag (pW S0 o τ) S0 S := h.mono hw.1
theorem KpI.e32 (h : KpI W Lw S0 o τ f wr gr lt F S) (hw : FrW S0 o τ W) (h0 : S0 o (-2) = 0) : S o 32 = S0 o 32 := h.1 o 32 (fun z => pW.ob0 h0 rfl (by decide) (hw.1 _ _ z))
theorem KpI.kp (h : KpI W Lw S0 o τ f wr gr lt F S) (hw : FrW S0 o τ W) (hsh : CSh Lw S0 o τ) : CKp Lw S (S0 o 32).toNat o τ 60 := hsh.2.2.1.ag hsh.1.2 (hw.ag h.1)
theorem FrW.utr {S1 : SS} (hw : FrW S0 o τ W) (h : Ag W S0 S) (hA : Ag (uW S o) S S1) : Ag W S0 S1 := fun r i hn => (hA r i (fun z => hn (hw.2 r i (by
  have e : S r (-2) = S0 r (-2) := h r (-2) (fun z => pW.neg (by decide) (hw.1 _ _ z))
  unfold uW at z
  rw [e] at z
  exact uW.q z)))).trans (h r i hn)
theorem KpI.u {F' : Int → Int} {S1 : SS} (h : KpI W Lw S0 o τ f wr gr lt F S) (hw : FrW S0 o τ W) (hsh : CSh Lw S0 o τ) (hA : Ag (uW S o) S S1) (hC : CLd Lw S1 o F' wr gr lt) : KpI W Lw S0 o τ f wr gr lt F' S1 := ⟨hw.utr h.1 hA, hC, h.2.2.u (h.kp hw hsh) h.2.1.1.2 hA⟩
theorem kp_begin {S1 : SS} (hw : FrW S o τ W) (hsh : CSh Lw S o τ) (hC : CLd Lw S o f wr gr lt) (hA : Ag (kW S (S o 32).toNat τ 60) S S1) (hc : CKc S1 (S o 32).toNat f) : KpI W Lw S o τ f wr gr lt f S1 := ⟨(hA.ks hsh.2.2.1).sq.mono hw.2, hC.ag (hA.ks hsh.2.2.1), hc⟩
/-- back, in such a state -/
theorem cm_backK {S1 : SS} (hw : FrW S o τ W) (hsh : CSh Lw S o τ) (hI : KpI W Lw S o τ f wr gr lt F S1) (hs : smn f F) (hj : CIj f wr gr) (hl : LI K f) : vc_M (d + 4) 0 0 85 [.inr (.inr (S o 32).toNat)] Lw S1 B (vc_up (fun v Lw' S' B' => v = none ∧ Lw = Lw' ∧ B = B' ∧ Ag (wW S1 o) S1 S' ∧ CLd Lw S' o f wr gr lt)) := by
  have n0 := hl.nW
  have n1 := hl.nG
  have h := cm_backs (d := d) (B := B) (hI.kp hw hsh) hI.2.2 (hI.2.1.fx (hs.1 0 (by omega)) (hs.1 1 (by omega)) (fun w k w0 w1 k0 k1 => hs.2.1 w k w0 (by omega) k0 k1) (fun g k g0 g1 hk => hs.2.2 g k g0 (by omega) hk)) hj hl
  rw [back_f hI.2.1 hs] at h
  exact h
theorem cm_ahead {t n k : Int} (ht : -2147483648 ≤ t ∧ t ≤ 2147483647) (hn : -2147483648 ≤ n ∧ n ≤ 2147483647) (hk : -2147483648 ≤ k ∧ k ≤ 2147483647) (hR : CRl Lw S o D nr rr R) (hsh : CSh Lw S o τ) (hj : CIj f wr gr) (hC : CLd Lw S o f wr gr lt) (hl : LI K f) (hK : K + 6 ≤ 100000) (h4 : f 4 ≤ 99999) : vc_M (D + d + 10) 0 0 72 [.inr (.inr o), ii t, ii n, ii k] Lw S B (vc_up (fun v Lw' S' B' => v = some (ii (sp_ahd f R nr t n k)) ∧ Lw = Lw' ∧ Ag (qW S o τ) S S' ∧ CLd Lw S' o f wr gr lt)) := by
  refine vc_start rfl rfl (Nat.le_of_ble_eq_true rfl) (fun X hX hd => ?_)
  have hb := bI_rg (decide (0 ≤ t ∧ t < nr))
  have hb2 := bI_rg (sIn n 0 600)
  have hb3 := bI_rg (sIn k 0 3)
  have h0 := hsh.1.2
  have hw : FrW S o τ (qW S o τ) := FrW.q
  have hno : ¬ ((0 ≤ t ∧ t < nr) ∧ (0 ≤ n ∧ n ≤ 600) ∧ (0 ≤ k ∧ k ≤ 3)) → (some (ii (-1)) = some (ii (sp_ahd f R nr t n k)) ∧ Lw = Lw ∧ Ag (qW S o τ) S S ∧ CLd Lw S o f wr gr lt) := by
    intro z
    unfold sp_ahd
    rw [if_neg z]
    exact ⟨rfl, rfl, Ag.rf, hC⟩
  refine vc_walk hX ck_X0_ahead [(44, [0, 1, 2, 3, 4])] 60 hd ?_
  refine vc_kv hC.1 (cm_isRule (d := D + d + 8) ht hC.1 hR.1) ⟨Nat.le_refl _, Nat.le_refl _⟩ ?_
  refine ⟨by omega, fun z => ⟨⟨Nat.le_refl _, Nat.le_refl _⟩, hno (fun q => of_decide_eq_false (bI_0.mp z) q.1)⟩, fun z => ?_⟩
  have z1 := of_decide_eq_true (bI_n0.mp z)
  refine ⟨by omega, vc_k (cm_in (by omega) (by decide) (by decide)) ⟨Nat.le_refl _, Nat.le_refl _⟩ ?_⟩
  refine ⟨by omega, fun z => ⟨⟨Nat.le_refl _, Nat.le_refl _⟩, hno (fun q => of_decide_eq_false (bI_0.mp z) q.2.1)⟩, fun z => ?_⟩
  have z2 := of_decide_eq_true (bI_n0.mp z)
  refine ⟨by omega, vc_k (cm_in (by omega) (by decide) (by decide)) ⟨Nat.le_refl _, Nat.le_refl _⟩ ?_⟩
  refine ⟨by omega, fun z => ?_, fun z => ⟨⟨Nat.le_refl _, Nat.le_refl _⟩, hno (fun q => of_decide_eq_false (bI_0.mp z) q.2.2)⟩⟩
  have z3 := of_decide_eq_true (bI_n0.mp z)
  have hp : sp_ahd f R nr t n k = if k = 0 then sArr (sp_mns f (R t) n.toNat) else if k = 1 then sp_mns f (R t) n.toNat 5 - f 5 else if k = 2 then sp_mns f (R t) n.toNat 3 - f 3 else sp_mns f (R t) n.toNat 2 := if_pos ⟨z1, z2, z3⟩
  generalize hV : sp_ahd f R nr t n k = V at hp ⊢
  refine ⟨hC.1, ?_⟩
  refine vc_kp hsh.2.2.1.1 (cm_keeps (d := D + d + 5) hsh.2.2.1 hC hl) ⟨Nat.le_refl _, Nat.le_refl _⟩ ?_
  rintro _ _ S1 _ ⟨rfl, rfl, rfl, A1, c1⟩
  have I1 := kp_begin hw hsh hC A1 c1
  have fin : ∀ (v : Int) (S1 : SS) (B1 : SB), v = V → KpI (qW S o τ) Lw S o τ f wr gr lt (sp_mns f (R t) n.toNat) S1 → vc_J 72 (vc_up (fun v Lw' S' B' => v = some (ii V) ∧ Lw = Lw' ∧ Ag (qW S o τ) S S' ∧ CLd Lw S' o f wr gr lt)) X 126 [(0, .inr (.inr o))] [ii v] Lw S1 B1 0 0 := by
    intro v S1 B1 hv I
    obtain ⟨m1, m2, m3⟩ := hl.mns (r := R t) hK n.toNat (by omega)
    refine vc_walk hX ck_X0_ahead [] 60 hd ?_
    refine ⟨I.2.1.1, ?_⟩
    rw [I.e32 hw h0]
    refine vc_kp (I.kp hw hsh).1 (cm_backK (d := D + d + 5) hw hsh I m2 hj hl) ⟨Nat.le_refl _, Nat.le_refl _⟩ ?_
    rintro _ _ S2 _ ⟨rfl, rfl, rfl, A2, C2⟩
    exact ⟨⟨Nat.le_refl _, Nat.le_refl _⟩, by rw [hv], rfl, (Ag.qtr hsh.1 I.1 A2.wq), C2⟩
  have loop : ∀ (m : Nat) (j : Int) (S1 : SS) (B1 : SB), 0 ≤ j → j + m = n → KpI (qW S o τ) Lw S o τ f wr gr lt (sp_mns f (R t) j.toNat) S1 → vc_J 72 (vc_up (fun v Lw' S' B' => v = some (ii V) ∧ Lw = Lw' ∧ Ag (qW S o τ) S S' ∧ CLd Lw S' o f wr gr lt)) X 44 [(0, .inr (.inr o)), (1, ii t), (2, ii n), (3, ii k), (4, ii j)] [] Lw S1 B1 0 0 := by
    intro m
    induction m with
    | zero =>
      intro j S1 B1 j0 jm I
      rw [show j = n by omega] at I ⊢
      obtain ⟨m1, m2, m3⟩ := hl.mns (r := R t) hK n.toNat (by omega)
      have C1 := I.2.1
      have e32 := I.e32 hw h0
      have ok := (I.kp hw hsh).1
      have fin := fun v => fin v S1 B1
      refine vc_walk hX ck_X0_ahead [(126, [0])] 60 hd ?_
      refine ⟨by omega, fun _ => ?_, fun z => absurd z (by omega)⟩
      refine ⟨by omega, fun y => ?_, fun y => ?_⟩
      · refine ⟨by omega, fun y1 => ?_, fun y1 => ?_⟩
        · refine ⟨by omega, fun y2 => ?_, fun y2 => ?_⟩
          · refine vc_kv C1.1 (cm_directions (d := D + d + 6) C1 m1) ⟨Nat.le_refl _, Nat.le_refl _⟩ ?_
            refine fin _ ?_ I
            rw [hp, if_neg y, if_neg y1, if_neg y2]
          · refine ⟨C1.1, C1.1, ?_⟩
            rw [e32]
            refine ⟨ok, ?_⟩
            refine fin _ ?_ I
            rw [hp, if_neg y, if_neg y1, if_pos y2, C1.2.2.2.2.2.1, I.2.2.2.2.2.1]
        · refine ⟨C1.1, C1.1, ?_⟩
          rw [e32]
          refine ⟨ok, ?_⟩
          refine fin _ ?_ I
          rw [hp, if_neg y, if_pos y1, C1.2.2.2.2.2.2.2.1, I.2.2.2.2.2.2.2]
      · refine vc_kv C1.1 (cm_atAims (d := D + d + 6) C1 m1) ⟨Nat.le_refl _, Nat.le_refl _⟩ ?_
        refine fin _ ?_ I
        rw [hp, if_pos y]
    | succ m ih =>
      intro j S1 B1 j0 jm I
      obtain ⟨m1, m2, m3⟩ := hl.mns (r := R t) hK j.toNat (by omega)
      have ih' := fun S2 B2 => ih (j + 1) S2 B2 (by omega) (by omega)
      rw [mns_s j0] at ih'
      have C1 := I.2.1
      have R1 := hR.ag hC.1.2 (hw.ag I.1)
      have r6 := R1.2.2 t z1.1 z1.2
      refine vc_walk hX ck_X0_ahead [(44, [0, 1, 2, 3, 4])] 60 hd ?_
      refine ⟨by omega, fun z => absurd z (by omega), fun _ => ?_⟩
      refine ⟨C1.1, ?_⟩
      refine vc_kv R1.1.1 (cm_get (d := D + d + 7) R1.1 (i := t) z1) ⟨Nat.le_refl _, Nat.le_refl _⟩ ?_
      refine ⟨Or.inr r6.1, ?_⟩
      refine vc_kp C1.1 (cm_minute (d := d) r6 (hsh.ag (hw.ag I.1)) (hj.of (m2.1 0 (by omega)) (m2.1 1 (by omega))) C1 m1 hK) ⟨Nat.le_refl _, Nat.le_refl _⟩ ?_
      rintro _ _ S2 B2 ⟨rfl, rfl, A2, C2⟩
      exact ih' S2 B2 (I.u hw hsh A2 C2)
  exact loop n.toNat 0 S1 B (by decide) (by omega) I1
theorem cm_home {t n : Int} (ht : -2147483648 ≤ t ∧ t ≤ 2147483647) (hn : -2147483648 ≤ n ∧ n ≤ 2147483647) (hR : CRl Lw S o D nr rr R) (hsh : CSh Lw S o τ) (hj : CIj f wr gr) (hC : CLd Lw S o f wr gr lt) (hl : LI K f) (hK : K + 6 ≤ 100000) (h4 : f 4 ≤ 99999) : vc_M (D + d + 10) 0 0 75 [.inr (.inr o), ii t, ii n] Lw S B (vc_up (fun v Lw' S' B' => v = some (ii (sp_home f R nr t n)) ∧ Lw = Lw' ∧ Ag (qW S o τ) S S' ∧ CLd Lw S' o f wr gr lt)) := by
  refine vc_start rfl rfl (Nat.le_of_ble_eq_true rfl) (fun X hX hd => ?_)
  have hb := bI_rg (decide (0 ≤ t ∧ t < nr))
  have hb2 := bI_rg (sIn n 0 600)
  have h0 := hsh.1.2
  have hw : FrW S o τ (qW S o τ) := FrW.q
  have n1 := hl.nG
  have hno : ¬ ((0 ≤ t ∧ t < nr) ∧ (0 ≤ n ∧ n ≤ 600)) → (some (ii (-1)) = some (ii (sp_home f R nr t n)) ∧ Lw = Lw ∧ Ag (qW S o τ) S S ∧ CLd Lw S o f wr gr lt) := by
    intro z
    unfold sp_home
    rw [if_neg z]
    exact ⟨rfl, rfl, Ag.rf, hC⟩
  refine vc_walk hX ck_X0_home [(53, [0, 1, 2, 3, 4])] 60 hd ?_
  refine vc_kv hC.1 (cm_isRule (d := D + d + 8) ht hC.1 hR.1) ⟨Nat.le_refl _, Nat.le_refl _⟩ ?_
  refine ⟨by omega, fun z => ⟨⟨Nat.le_refl _, Nat.le_refl _⟩, hno (fun q => of_decide_eq_false (bI_0.mp z) q.1)⟩, fun z => ?_⟩
  have z1 := of_decide_eq_true (bI_n0.mp z)
  refine ⟨by omega, vc_k (cm_in (by omega) (by decide) (by decide)) ⟨Nat.le_refl _, Nat.le_refl _⟩ ?_⟩
  refine ⟨by omega, fun z => ?_, fun z => ⟨⟨Nat.le_refl _, Nat.le_refl _⟩, hno (fun q => of_decide_eq_false (bI_0.mp z) q.2)⟩⟩
  have z2 := of_decide_eq_true (bI_n0.mp z)
  have hsp := lst_spec (fun k => sArr (sp_mns f (R t) k.toNat) == f 1) (n + 1).toNat
  have hp : sp_home f R nr t n = if 0 ≤ lst (fun k => sArr (sp_mns f (R t) k.toNat) == f 1) (n + 1).toNat then lst (fun k => sArr (sp_mns f (R t) k.toNat) == f 1) (n + 1).toNat else -2 := if_pos ⟨z1, z2⟩
  generalize hV : sp_home f R nr t n = V at hp ⊢
  have found : ∀ k, 0 ≤ k → k ≤ n → sArr (sp_mns f (R t) k.toNat) = f 1 → (∀ i, 0 ≤ i → i < k → (sArr (sp_mns f (R t) i.toNat) == f 1) = false) → k = V := by
    intro k k0 kn hk hno
    rw [hp]
    rcases hsp with ⟨-, x⟩ | ⟨y1, y2, y3, y4⟩
    · have := x k k0 (by omega)
      simp only [beq_eq_false_iff_ne] at this
      exact absurd hk this
    · generalize lst (fun k => sArr (sp_mns f (R t) k.toNat) == f 1) (n + 1).toNat = L at *
      rw [if_pos y1]
      rcases Int.lt_trichotomy L k with z | z | z
      · rw [hno L y1 z] at y3; cases y3
      · exact z.symm
      · have := y4 k k0 z
        simp only [beq_eq_false_iff_ne] at this
        exact absurd hk this
  have never : (∀ i, 0 ≤ i → i < n + 1 → (sArr (sp_mns f (R t) i.toNat) == f 1) = false) → -2 = V := by
    intro hno
    rw [hp]
    rcases hsp with ⟨x, -⟩ | ⟨y1, y2, y3, -⟩
    · rw [x]; rfl
    · exfalso
      generalize lst (fun k => sArr (sp_mns f (R t) k.toNat) == f 1) (n + 1).toNat = L at *
      rw [hno L y1 (by omega)] at y3; cases y3
  refine ⟨hC.1, ?_⟩
  refine vc_kp hsh.2.2.1.1 (cm_keeps (d := D + d + 5) hsh.2.2.1 hC hl) ⟨Nat.le_refl _, Nat.le_refl _⟩ ?_
  rintro _ _ S1 _ ⟨rfl, rfl, rfl, A1, c1⟩
  have I1 := kp_begin hw hsh hC A1 c1
  have fin : ∀ (v k : Int) (F : Int → Int) (S1 : SS) (B1 : SB), v = V → (0 ≤ v ∨ n < k) → (-2 ≤ v ∧ v ≤ 1000) → (0 ≤ k ∧ k ≤ 1000) → smn f F → KpI (qW S o τ) Lw S o τ f wr gr lt F S1 → vc_J 75 (vc_up (fun v Lw' S' B' => v = some (ii V) ∧ Lw = Lw' ∧ Ag (qW S o τ) S S' ∧ CLd Lw S' o f wr gr lt)) X 53 [(0, .inr (.inr o)), (1, ii t), (2, ii n), (3, ii v), (4, ii k)] [] Lw S1 B1 0 0 := by
    intro v k F S1 B1 hv hd' vr kr m2 I
    have done : vc_J 75 (vc_up (fun v Lw' S' B' => v = some (ii V) ∧ Lw = Lw' ∧ Ag (qW S o τ) S S' ∧ CLd Lw S' o f wr gr lt)) X 108 [(0, .inr (.inr o)), (3, ii v)] [] Lw S1 B1 0 0 := by
      refine vc_walk hX ck_X0_home [] 60 hd ?_
      refine ⟨I.2.1.1, ?_⟩
      rw [I.e32 hw h0]
      refine vc_kp (I.kp hw hsh).1 (cm_backK (d := D + d + 5) hw hsh I m2 hj hl) ⟨Nat.le_refl _, Nat.le_refl _⟩ ?_
      rintro _ _ S2 _ ⟨rfl, rfl, rfl, A2, C2⟩
      exact ⟨⟨Nat.le_refl _, Nat.le_refl _⟩, by rw [hv], rfl, (Ag.qtr hsh.1 I.1 A2.wq), C2⟩
    refine vc_walk hX ck_X0_home [(108, [0, 3])] 60 hd ?_
    refine ⟨by omega, fun _ => ?_, fun _ => ?_⟩
    · exact done
    · refine ⟨by omega, fun _ => done, fun z => ?_⟩
      omega
  have loop : ∀ (m : Nat) (k : Int) (S1 : SS) (B1 : SB), 0 ≤ k → k + m = n → KpI (qW S o τ) Lw S o τ f wr gr lt (sp_mns f (R t) k.toNat) S1 → (∀ i, 0 ≤ i → i < k + 1 → (sArr (sp_mns f (R t) i.toNat) == f 1) = false) → vc_J 75 (vc_up (fun v Lw' S' B' => v = some (ii V) ∧ Lw = Lw' ∧ Ag (qW S o τ) S S' ∧ CLd Lw S' o f wr gr lt)) X 53 [(0, .inr (.inr o)), (1, ii t), (2, ii n), (3, ii (-2)), (4, ii (k + 1))] [] Lw S1 B1 0 0 := by
    intro m
    induction m with
    | zero =>
      intro k S1 B1 k0 km I hno
      obtain ⟨m1, m2, m3⟩ := hl.mns (r := R t) hK k.toNat (by omega)
      exact fin (-2) (k + 1) _ S1 B1 (never (fun i i0 i1 => hno i i0 (by omega))) (by omega) (by omega) (by omega) m2 I
    | succ m ih =>
      intro k S1 B1 k0 km I hno
      obtain ⟨m1, m2, m3⟩ := hl.mns (r := R t) hK k.toNat (by omega)
      obtain ⟨p1, p2, p3⟩ := hl.mns (r := R t) hK (k + 1).toNat (by omega)
      have ha := sArr_rg p1
      have f1 : sp_mns f (R t) (k + 1).toNat 1 = f 1 := p2.1 1 (by omega)
      have C1 := I.2.1
      have R1 := hR.ag hC.1.2 (hw.ag I.1)
      have r6 := R1.2.2 t z1.1 z1.2
      refine vc_walk hX ck_X0_home [(53, [0, 1, 2, 3, 4])] 60 hd ?_
      refine ⟨by omega, fun z => absurd z (by omega), fun _ => ?_⟩
      refine ⟨by omega, fun z => absurd rfl z, fun _ => ?_⟩
      refine ⟨C1.1, ?_⟩
      refine vc_kv R1.1.1 (cm_get (d := D + d + 7) R1.1 (i := t) z1) ⟨Nat.le_refl _, Nat.le_refl _⟩ ?_
      refine ⟨Or.inr r6.1, ?_⟩
      refine vc_kp C1.1 (cm_minute (d := d) r6 (hsh.ag (hw.ag I.1)) (hj.of (m2.1 0 (by omega)) (m2.1 1 (by omega))) C1 m1 hK) ⟨Nat.le_refl _, Nat.le_refl _⟩ ?_
      rintro _ _ S2 B2 ⟨rfl, rfl, A2, C2⟩
      rw [← mns_s k0] at C2
      have I2 := I.u hw hsh A2 C2
      have gl := C2.2.2.1
      have e2 := gl.2.1
      rw [f1] at e2
      refine vc_kv C2.1 (cm_atAims (d := D + d + 6) C2 p1) ⟨Nat.le_refl _, Nat.le_refl _⟩ ?_
      refine ⟨C2.1, ?_⟩
      refine vc_kv gl.1 (cm_size (d := D + d + 9) gl.1) ⟨Nat.le_refl _, Nat.le_refl _⟩ ?_
      rw [e2]
      refine ⟨by omega, fun y => ?_, fun y => ?_⟩
      · refine ih (k + 1) S2 B2 (by omega) (by omega) I2 (fun i i0 i1 => ?_)
        by_cases e : i = k + 1
        · subst e; simpa using y
        · exact hno i i0 (by omega)
      · exact fin (k + 1) (k + 1 + 1) _ S2 B2 (found (k + 1) (by omega) (by omega) y hno) (by omega) (by omega) (by omega) p2 I2
  have ha := sArr_rg hl
  have C1 := I1.2.1
  have gl := C1.2.2.1
  have e2 := gl.2.1
  refine vc_kv C1.1 (cm_atAims (d := D + d + 6) C1 hl) ⟨Nat.le_refl _, Nat.le_refl _⟩ ?_
  refine ⟨C1.1, ?_⟩
  refine vc_kv gl.1 (cm_size (d := D + d + 9) gl.1) ⟨Nat.le_refl _, Nat.le_refl _⟩ ?_
  rw [e2]
  refine ⟨by omega, fun y => ?_, fun y => ?_⟩
  · refine loop n.toNat 0 S1 B (by omega) (by omega) I1 (fun i i0 i1 => ?_)
    have : i = 0 := by omega
    subst this
    exact beq_false_of_ne y
  · exact fin 0 1 f S1 B (found 0 (by omega) (by omega) y (fun i i0 i1 => by omega)) (by omega) (by omega) (by omega) smn.rf I1
end CNF
