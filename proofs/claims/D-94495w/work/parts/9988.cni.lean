/-! THE COMPONENT's methods: days, the method -/
set_option maxRecDepth 100000
section CNI
variable {Lw Lw' : List Nat} {S0 S : SS} {B : SB} {d o D kr b : Nat} {τ τ' : Nat → Nat} {f F l : Int → Int} {wr gr rr : Int → Nat} {lt : Int → Int} {K nr : Int} {R : RU}
theorem cm_days {t m n k : Int} (hlt : ∀ g, lt g = 0) (ht : -2147483648 ≤ t ∧ t ≤ 2147483647) (hm : -2147483648 ≤ m ∧ m ≤ 2147483647) (hn : -2147483648 ≤ n ∧ n ≤ 2147483647) (hk : -2147483648 ≤ k ∧ k ≤ 2147483647) (hR : CRl Lw S o D nr rr R) (hsh : CSh Lw S o τ) (hj : CIj f wr gr) (hC : CLd Lw S o f wr gr lt) (hl : LI K f) (hK : K + 6 ≤ 100000) (h4 : f 4 ≤ 99999) (hlv : ∀ g, 0 ≤ g → g < f 1 → sG f g 2 ≤ 999) : vc_M (D + d + 10) 0 0 77 [.inr (.inr o), ii t, ii m, ii n, ii k] Lw S B (vc_up (fun v Lw' S' B' => v = some (ii (sp_days f R nr t m n k)) ∧ Lw = Lw' ∧ Ag (qW S o τ) S S' ∧ CLd Lw S' o f wr gr lt)) := by
  refine vc_start rfl rfl (Nat.le_of_ble_eq_true rfl) (fun X hX hd => ?_)
  have hb := bI_rg (decide (0 ≤ t ∧ t < nr))
  have hb1 := bI_rg (sIn m 1 20)
  have hb2 := bI_rg (sIn n 0 300)
  have hb3 := bI_rg (sIn k 0 2)
  have h0 := hsh.1.2
  have hw : FrW S o τ (dW S o τ f gr) := dW.fr
  have n0 := hl.nW
  have n1 := hl.nG
  have h7 := hl.draw
  have c5 := hC.2.2.2.2.2.2.2.2.1
  rw [hlt, Int.add_zero] at c5
  generalize hPost : (vc_up (fun v Lw' S' B' => v = some (ii (sp_days f R nr t m n k)) ∧ Lw = Lw' ∧ Ag (qW S o τ) S S' ∧ CLd Lw S' o f wr gr lt)) = Post
  have hno : ¬ ((0 ≤ t ∧ t < nr) ∧ (1 ≤ m ∧ m ≤ 20) ∧ (0 ≤ n ∧ n ≤ 300) ∧ (0 ≤ k ∧ k ≤ 2)) → ∀ B1, Post (Sum.inl (some (ii (-1)))) Lw S B1 := by
    intro z B1
    rw [← hPost]
    unfold sp_days
    rw [if_neg z]
    exact ⟨rfl, rfl, Ag.rf, hC⟩
  refine vc_walk hX ck_X0_days [(72, [0, 1, 2, 3, 4, 5, 6, 7, 8, 9])] 90 hd ?_
  refine vc_kv hC.1 (cm_isRule (d := D + d + 8) ht hC.1 hR.1) ⟨Nat.le_refl _, Nat.le_refl _⟩ ?_
  refine ⟨by omega, fun z => ⟨⟨Nat.le_refl _, Nat.le_refl _⟩, hno (fun q => of_decide_eq_false (bI_0.mp z) q.1) _⟩, fun z => ?_⟩
  have z1 := of_decide_eq_true (bI_n0.mp z)
  refine ⟨by omega, vc_k (cm_in (by omega) (by decide) (by decide)) ⟨Nat.le_refl _, Nat.le_refl _⟩ ?_⟩
  refine ⟨by omega, fun z => ⟨⟨Nat.le_refl _, Nat.le_refl _⟩, hno (fun q => of_decide_eq_false (bI_0.mp z) q.2.1) _⟩, fun z => ?_⟩
  have z2 := of_decide_eq_true (bI_n0.mp z)
  refine ⟨by omega, vc_k (cm_in (by omega) (by decide) (by decide)) ⟨Nat.le_refl _, Nat.le_refl _⟩ ?_⟩
  refine ⟨by omega, fun z => ⟨⟨Nat.le_refl _, Nat.le_refl _⟩, hno (fun q => of_decide_eq_false (bI_0.mp z) q.2.2.1) _⟩, fun z => ?_⟩
  have z3 := of_decide_eq_true (bI_n0.mp z)
  refine ⟨by omega, vc_k (cm_in (by omega) (by decide) (by decide)) ⟨Nat.le_refl _, Nat.le_refl _⟩ ?_⟩
  refine ⟨by omega, fun z => ?_, fun z => ⟨⟨Nat.le_refl _, Nat.le_refl _⟩, hno (fun q => of_decide_eq_false (bI_0.mp z) q.2.2.2) _⟩⟩
  have z4 := of_decide_eq_true (bI_n0.mp z)
  have hp : sp_days f R nr t m n k = if k = 0 then (dyF f (R t) n m.toNat).2.1 else if k = 1 then (dyF f (R t) n m.toNat).2.2.1 else (dyF f (R t) n m.toNat).2.2.2 := if_pos ⟨z1, z2, z3, z4⟩
  refine ⟨hC.1, hC.1, ?_⟩
  refine vc_kp hsh.2.2.1.1 (cm_keeps (d := D + d + 5) hsh.2.2.1 hC hl) ⟨Nat.le_refl _, Nat.le_refl _⟩ ?_
  rintro _ _ S1 _ ⟨rfl, rfl, rfl, A1, c1⟩
  have I1 := kp_begin hw hsh hC A1 c1
  -- none later any more
  have clears : ∀ (a : Nat) (g : Int) (l : Int → Int) (S1 : SS) (B1 : SB) (e1 e2 e3 : Int), 0 ≤ g → g + a = f 1 → KpI (dW S o τ f gr) Lw S o τ (ltF f l) wr gr l (ltF f l) S1 → (∀ u, 0 ≤ u → u < g → l u = 0) → (∀ v, v = (if k = 0 then e1 else if k = 1 then e2 else e3) → v = sp_days f R nr t m n k) → vc_J 77 Post X 216 [(0, .inr (.inr o)), (4, ii k), (5, ii (S o 5)), (6, ii e1), (7, ii e2), (8, ii e3), (9, ii g)] [] Lw S1 B1 0 0 := by
    intro a
    induction a with
    | zero =>
      intro g l S1 B1 e1 e2 e3 g0 ga I hz hv
      have C1 := I.2.1
      have gl := C1.2.2.1
      rw [ltF_x (i := 1) (by decide)] at gl
      have q2 := gl.2.1
      have I2 := I.drawn (x := S o 5) hsh n0 n1
      have done : ∀ v, v = (if k = 0 then e1 else if k = 1 then e2 else e3) → Post (Sum.inl (some (ii v))) Lw (vt_up S1 o 5 (S o 5)) B1 := by
        intro v hv'
        rw [← hPost]
        have C2 := I2.2.1
        rw [ltF_0 (fun u u0 u1 => (if_neg (by omega)).trans (hz u u0 (by omega)))] at C2
        have C3 : CLd Lw (vt_up S1 o 5 (S o 5)) o f wr gr lt := by
          refine C2.lc (fun u u0 u1 => ?_) n1.1
          show lt u = if u = -1 then S o 5 - f 7 else l u
          rw [hlt]
          by_cases c : u = -1
          · rw [if_pos c]; omega
          · rw [if_neg c, hz u (by omega) (by omega)]
        refine ⟨by rw [hv v hv'], rfl, fun r i hn => ?_, C3⟩
        by_cases c : dW S o τ f gr r i
        · rcases c with c | ⟨-, rfl, g, g0, g1, rfl⟩
          · exact absurd c hn
          · rw [(C3.2.2.2.2.1 g g0 g1).2.2.2.2.2.2.2.2, (hC.2.2.2.2.1 g g0 g1).2.2.2.2.2.2.2.2]
        · exact I2.1 r i c
      refine vc_walk hX ck_X0_days [] 60 hd ?_
      refine ⟨C1.1, ?_⟩
      refine vc_kv gl.1 (cm_size (d := D + d + 9) gl.1) ⟨Nat.le_refl _, Nat.le_refl _⟩ ?_
      rw [q2]
      refine ⟨by omega, fun _ => ?_, fun z => absurd z (by omega)⟩
      refine ⟨C1.1, ?_⟩
      refine ⟨by omega, fun y => ?_, fun y => ?_⟩
      · refine ⟨by omega, fun y1 => ?_, fun y1 => ?_⟩
        · exact ⟨⟨Nat.le_refl _, Nat.le_refl _⟩, done _ (by rw [if_neg y, if_neg y1])⟩
        · exact ⟨⟨Nat.le_refl _, Nat.le_refl _⟩, done _ (by rw [if_neg y, if_pos y1])⟩
      · exact ⟨⟨Nat.le_refl _, Nat.le_refl _⟩, done _ (by rw [if_pos y])⟩
    | succ a ih =>
      intro g l S1 B1 e1 e2 e3 g0 ga I hz hv
      have C1 := I.2.1
      have gl := C1.2.2.1
      rw [ltF_x (i := 1) (by decide)] at gl
      have q2 := gl.2.1
      have hg : 0 ≤ g ∧ g < f 1 := by omega
      have hG := C1.2.2.2.2.1 g g0 (by rw [ltF_x (by decide)]; exact hg.2)
      refine vc_walk hX ck_X0_days [(216, [0, 4, 5, 6, 7, 8, 9])] 60 hd ?_
      refine ⟨C1.1, ?_⟩
      refine vc_kv gl.1 (cm_size (d := D + d + 9) gl.1) ⟨Nat.le_refl _, Nat.le_refl _⟩ ?_
      rw [q2]
      refine ⟨by omega, fun z => absurd z (by omega), fun _ => ?_⟩
      refine ⟨C1.1, ?_⟩
      refine vc_kv gl.1 (cm_get (d := D + d + 7) gl (i := g) hg) ⟨Nat.le_refl _, Nat.le_refl _⟩ ?_
      refine ⟨Or.inr hG.1, hG.1, ?_⟩
      refine ih (g + 1) _ _ B1 e1 e2 e3 (by omega) (by omega) (I.later (v := 0) hsh hj n0 n1 hg) (fun u u0 u1 => ?_) hv
      show (if u = g then 0 else l u) = 0
      by_cases c : u = g
      · rw [if_pos c]
      · rw [if_neg c]; exact hz u u0 (by omega)
  -- the days
  have loop : ∀ (a : Nat) (e : Int) (l : Int → Int) (S1 : SS) (B1 : SB), 0 ≤ e → e + a = m → KpI (dW S o τ f gr) Lw S o τ (ltF f l) wr gr l (ltF f l) S1 → l (-1) = (dyF f (R t) n e.toNat).1 - f 7 → vc_J 77 Post X 72 [(0, .inr (.inr o)), (1, ii t), (2, ii m), (3, ii n), (4, ii k), (5, ii (S o 5)), (6, ii (dyF f (R t) n e.toNat).2.1), (7, ii (dyF f (R t) n e.toNat).2.2.1), (8, ii (dyF f (R t) n e.toNat).2.2.2), (9, ii e)] [] Lw S1 B1 0 0 := by
    intro a
    induction a with
    | zero =>
      intro e l S1 B1 e0 ea I hx
      rw [show e = m by omega]
      refine vc_walk hX ck_X0_days [(216, [0, 4, 5, 6, 7, 8, 9])] 60 hd ?_
      refine ⟨by omega, fun _ => ?_, fun z => absurd z (by omega)⟩
      exact clears (f 1).toNat 0 l S1 B1 _ _ _ (by decide) (by omega) I (fun u u0 u1 => by omega) (fun v hv => by rw [hv, hp])
    | succ a ih =>
      intro e l S1 B1 e0 ea I hx
      have hs := dyF_s (f := f) (r := R t) (n := n) e0
      have hxr := dyF_x (r := R t) (n := n) hl e.toNat
      have ih' := fun l S2 B2 => ih (e + 1) l S2 B2 (by omega) (by omega)
      rw [hs] at ih'
      generalize hQ : dyF f (R t) n e.toNat = q at *
      obtain ⟨dl, df⟩ := hl.dg (x := q.1) hlv (f 1).toNat (by omega)
      -- the minutes of the day
      have day : ∀ (l : Int → Int) (S1 : SS) (B1 : SB), ltF f l = (dgF f q.1 (f 1).toNat).2 → l (-1) = (dgF f q.1 (f 1).toNat).1 - f 7 → ∀ (c : Nat) (j : Int), 0 ≤ j → j + c = n → KpI (dW S o τ f gr) Lw S o τ (ltF f l) wr gr l (sp_mns (ltF f l) (R t) j.toNat) S1 → vc_J 77 Post X 123 [(0, .inr (.inr o)), (1, ii t), (2, ii m), (3, ii n), (4, ii k), (5, ii (S o 5)), (6, ii q.2.1), (7, ii q.2.2.1), (8, ii q.2.2.2), (9, ii e), (10, ii j)] [] Lw S1 B1 0 0 := by
        intro l S1 B1 el hx c
        have dl : LI K (ltF f l) := by rw [el]; exact dl
        have e4 : ltF f l 4 = f 4 := ltF_x (by decide)
        have e1 : ltF f l 1 = f 1 := ltF_x (by decide)
        have e0' : ltF f l 0 = f 0 := ltF_x (by decide)
        have e5 : ltF f l 5 = f 5 := ltF_x (by decide)
        rw [← el] at ih'
        induction c generalizing S1 B1 with
        | zero =>
          intro j j0 jc I
          rw [show j = n by omega] at I ⊢
          obtain ⟨m1, m2, m3⟩ := dl.mns (r := R t) hK n.toNat (by omega)
          have ha := sArr_rg m1
          have C1 := I.2.1
          have e32 := I.e32 hw h0
          have ok := (I.kp hw hsh).1
          have c4 := C1.2.2.2.2.2.2.2.1
          have k10 := I.2.2.2.2.2.2.2
          have gl := C1.2.2.1
          have x1 : sp_mns (ltF f l) (R t) n.toNat 1 = f 1 := by rw [m2.1 1 (by omega), e1]
          rw [x1] at gl
          have q2 := gl.2.1
          have fin : ∀ z, z = bI (sArr (sp_mns (ltF f l) (R t) n.toNat) == f 1) → vc_J 77 Post X 198 [(0, .inr (.inr o)), (1, ii t), (2, ii m), (3, ii n), (4, ii k), (5, ii (S o 5)), (6, ii (q.2.1 + sArr (sp_mns (ltF f l) (R t) n.toNat))), (7, ii (q.2.2.1 + (sp_mns (ltF f l) (R t) n.toNat 5 - f 5))), (9, ii e)] [ii (q.2.2.2 + z)] Lw S1 B1 0 0 := by
            intro z hz
            refine vc_walk hX ck_X0_days [(72, [0, 1, 2, 3, 4, 5, 6, 7, 8, 9])] 60 hd ?_
            refine ⟨C1.1, ?_⟩
            rw [e32]
            refine vc_kp ok (cm_backK (d := D + d + 5) hw hsh I m2 (hj.of e0' e1) dl) ⟨Nat.le_refl _, Nat.le_refl _⟩ ?_
            rintro _ _ S2 _ ⟨rfl, rfl, rfl, A2, C2⟩
            rw [hz]
            exact ih' l S2 B1 (I.u hw hsh A2.wu C2) hx
          refine vc_walk hX ck_X0_days [(198, [0, 1, 2, 3, 4, 5, 6, 7, 9])] 60 hd ?_
          refine ⟨by omega, fun _ => ?_, fun z => absurd z (by omega)⟩
          refine vc_kv C1.1 (cm_atAims (d := D + d + 6) C1 m1) ⟨Nat.le_refl _, Nat.le_refl _⟩ ?_
          refine ⟨C1.1, C1.1, ?_⟩
          rw [e32]
          refine ⟨ok, ?_⟩
          refine vc_kv C1.1 (cm_atAims (d := D + d + 6) C1 m1) ⟨Nat.le_refl _, Nat.le_refl _⟩ ?_
          refine ⟨C1.1, ?_⟩
          refine vc_kv gl.1 (cm_size (d := D + d + 9) gl.1) ⟨Nat.le_refl _, Nat.le_refl _⟩ ?_
          rw [q2]
          refine ⟨by omega, fun y => ?_, fun y => ?_⟩
          · show vc_J _ _ _ _ _ _ _ _ _ _ _
            rw [c4, k10, e5]
            exact fin 0 (by rw [beq_false_of_ne y]; rfl)
          · show vc_J _ _ _ _ _ _ _ _ _ _ _
            rw [c4, k10, e5]
            exact fin 1 (by rw [beq_iff_eq.mpr y]; rfl)
        | succ c ihc =>
          intro j j0 jc I
          obtain ⟨m1, m2, m3⟩ := dl.mns (r := R t) hK j.toNat (by omega)
          have ihc' := fun S2 B2 => ihc S2 B2 (j + 1) (by omega) (by omega)
          rw [mns_s j0] at ihc'
          have C1 := I.2.1
          have R1 := hR.ag hC.1.2 (hw.ag I.1)
          have r6 := R1.2.2 t z1.1 z1.2
          refine vc_walk hX ck_X0_days [(123, [0, 1, 2, 3, 4, 5, 6, 7, 8, 9, 10])] 60 hd ?_
          refine ⟨by omega, fun z => absurd z (by omega), fun _ => ?_⟩
          refine ⟨C1.1, ?_⟩
          refine vc_kv R1.1.1 (cm_get (d := D + d + 7) R1.1 (i := t) z1) ⟨Nat.le_refl _, Nat.le_refl _⟩ ?_
          refine ⟨Or.inr r6.1, ?_⟩
          refine vc_kp C1.1 (cm_minute (d := d) r6 (hsh.ag (hw.ag I.1)) ((hj.of e0' e1).of (m2.1 0 (by omega)) (m2.1 1 (by omega))) C1 m1 hK) ⟨Nat.le_refl _, Nat.le_refl _⟩ ?_
          rintro _ _ S2 B2 ⟨rfl, rfl, A2, C2⟩
          exact ihc' S2 B2 (I.u hw hsh A2 C2)
      -- the draws
      have inner : ∀ (c : Nat) (g : Int) (l : Int → Int) (S1 : SS) (B1 : SB), 0 ≤ g → g + c = f 1 → KpI (dW S o τ f gr) Lw S o τ (ltF f l) wr gr l (ltF f l) S1 → l (-1) = (dgF f q.1 g.toNat).1 - f 7 → (∀ u, 0 ≤ u → u < g → l u = ldF f q.1 u) → vc_J 77 Post X 81 [(0, .inr (.inr o)), (1, ii t), (2, ii m), (3, ii n), (4, ii k), (5, ii (S o 5)), (6, ii q.2.1), (7, ii q.2.2.1), (8, ii q.2.2.2), (9, ii e), (10, ii g)] [] Lw S1 B1 0 0 := by
        intro c
        induction c with
        | zero =>
          intro g l S1 B1 g0 gc I hx hu
          have C1 := I.2.1
          have gl := C1.2.2.1
          rw [ltF_x (i := 1) (by decide)] at gl
          have q2 := gl.2.1
          have el := ltF_dg (f := f) (l := l) (x := q.1) n1.1 (fun u u0 u1 => hu u u0 (by omega))
          refine vc_walk hX ck_X0_days [(123, [0, 1, 2, 3, 4, 5, 6, 7, 8, 9, 10])] 60 hd ?_
          refine ⟨C1.1, ?_⟩
          refine vc_kv gl.1 (cm_size (d := D + d + 9) gl.1) ⟨Nat.le_refl _, Nat.le_refl _⟩ ?_
          rw [q2]
          refine ⟨by omega, fun _ => ?_, fun z => absurd z (by omega)⟩
          exact day l S1 B1 el (by rw [hx, show g = f 1 by omega]) n.toNat 0 (by decide) (by omega) I
        | succ c ihc =>
          intro g l S1 B1 g0 gc I hx hu
          have hg : 0 ≤ g ∧ g < f 1 := by omega
          have hxg := dgF_x (f := f) hxr g.toNat
          have C1 := I.2.1
          have gl := C1.2.2.1
          rw [ltF_x (i := 1) (by decide)] at gl
          have q2 := gl.2.1
          have o5 := C1.2.2.2.2.2.2.2.2.1
          rw [ltF_x (i := 7) (by decide)] at o5
          have o5 : S1 o 5 = (dgF f q.1 g.toNat).1 := by omega
          have hG := C1.2.2.2.2.1 g g0 (by rw [ltF_x (by decide)]; exact hg.2)
          have I2 := I.drawn (x := dgx (dgF f q.1 g.toNat).1) hsh n0 n1
          have I3 := I2.later (g := g) (v := dgx (dgF f q.1 g.toNat).1 / 65536 % 60) hsh hj n0 n1 hg
          refine vc_walk hX ck_X0_days [(81, [0, 1, 2, 3, 4, 5, 6, 7, 8, 9, 10])] 60 hd ?_
          refine ⟨C1.1, ?_⟩
          refine vc_kv gl.1 (cm_size (d := D + d + 9) gl.1) ⟨Nat.le_refl _, Nat.le_refl _⟩ ?_
          rw [q2]
          refine ⟨by omega, fun z => absurd z (by omega), fun _ => ?_⟩
          refine ⟨C1.1, ?_⟩
          refine vc_kv gl.1 (cm_get (d := D + d + 7) gl (i := g) hg) ⟨Nat.le_refl _, Nat.le_refl _⟩ ?_
          refine ⟨Or.inr hG.1, ?_⟩
          refine vc_kv C1.1 (cm_draws (d := D + d + 9) C1.1 (by omega)) ⟨Nat.le_refl _, Nat.le_refl _⟩ ?_
          rw [o5]
          refine ⟨ob_up hG.1 (by decide), ?_⟩
          refine ihc (g + 1) _ _ B1 (by omega) (by omega) I3 ?_ (fun u u0 u1 => ?_)
          · show (if (-1 : Int) = g then _ else if (-1 : Int) = -1 then dgx (dgF f q.1 g.toNat).1 - f 7 else l (-1)) = _
            rw [if_neg (by omega), if_pos rfl, dgF_s g0]
          · show (if u = g then dgx (dgF f q.1 g.toNat).1 / 65536 % 60 else if u = -1 then _ else l u) = _
            by_cases c : u = g
            · rw [if_pos c, c]
              unfold ldF
              rw [dgF_s g0]
            · rw [if_neg c, if_neg (by omega)]
              exact hu u u0 (by omega)
      refine vc_walk hX ck_X0_days [(81, [0, 1, 2, 3, 4, 5, 6, 7, 8, 9, 10])] 60 hd ?_
      refine ⟨by omega, fun z => absurd z (by omega), fun _ => ?_⟩
      exact inner (f 1).toNat 0 l S1 B1 (by decide) (by omega) I hx (fun u u0 u1 => by omega)
  have el : ltF f lt = f := ltF_0 (fun u _ _ => hlt u)
  refine loop m.toNat 0 lt S1 B (by decide) (by omega) (by rw [el]; exact I1) ?_
  rw [hlt]
  show (0 : Int) = f 7 - f 7
  omega
end CNI
