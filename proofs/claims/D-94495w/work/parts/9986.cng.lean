/-! THE COMPONENT's methods: the finest rule -/
set_option maxRecDepth 100000
section CNG
variable {Lw Lw' : List Nat} {S0 S : SS} {B : SB} {d o D kr b : Nat} {τ τ' : Nat → Nat} {f F : Int → Int} {wr gr rr : Int → Nat} {lt : Int → Int} {K nr : Int} {R : RU}
theorem cm_finest {n : Int} (hn : -2147483648 ≤ n ∧ n ≤ 2147483647) (hR : CRl Lw S o D nr rr R) (hsh : CSh Lw S o τ) (hj : CIj f wr gr) (hC : CLd Lw S o f wr gr lt) (hl : LI K f) (hK : K + 6 ≤ 100000) (h4 : f 4 ≤ 99999) : vc_M (D + d + 10) 0 0 74 [.inr (.inr o), ii n] Lw S B (vc_up (fun v Lw' S' B' => v = some (ii (sp_fin f R nr n)) ∧ Lw = Lw' ∧ Ag (qW S o τ) S S' ∧ CLd Lw S' o f wr gr lt)) := by
  refine vc_start rfl rfl (Nat.le_of_ble_eq_true rfl) (fun X hX hd => ?_)
  have hb2 := bI_rg (sIn n 0 600)
  have h0 := hsh.1.2
  have hw : FrW S o τ (qW S o τ) := FrW.q
  have hnr := hR.2.1
  refine vc_walk hX ck_X0_finest [(32, [0, 1, 2, 3, 4, 5])] 60 hd ?_
  refine ⟨by omega, vc_k (cm_in (by omega) (by decide) (by decide)) ⟨Nat.le_refl _, Nat.le_refl _⟩ ?_⟩
  refine ⟨by omega, fun z => ?_, fun z => ⟨⟨Nat.le_refl _, Nat.le_refl _⟩, by
    have z := of_decide_eq_false (bI_0.mp z)
    have e : sp_fin f R nr n = -1 := if_neg z
    rw [e], rfl, Ag.rf, hC⟩⟩
  have z2 := of_decide_eq_true (bI_n0.mp z)
  have hp : sp_fin f R nr n = (fnF f R n nr.toNat).1 := if_pos z2
  generalize hV : sp_fin f R nr n = V at hp ⊢
  refine ⟨hC.1, ?_⟩
  refine vc_kp hsh.2.2.1.1 (cm_keeps (d := D + d + 5) hsh.2.2.1 hC hl) ⟨Nat.le_refl _, Nat.le_refl _⟩ ?_
  rintro _ _ S1 _ ⟨rfl, rfl, rfl, A1, c1⟩
  have I1 := kp_begin hw hsh hC A1 c1
  have loop : ∀ (m : Nat) (k x : Int) (S1 : SS) (B1 : SB), 0 ≤ k → k + m = nr → (0 ≤ (fnF f R n k.toNat).1 → x = (fnF f R n k.toNat).2.2 - f 5) → (-2000000 ≤ x ∧ x ≤ 2000000) → KpI (qW S o τ) Lw S o τ f wr gr lt f S1 → vc_J 74 (vc_up (fun v Lw' S' B' => v = some (ii V) ∧ Lw = Lw' ∧ Ag (qW S o τ) S S' ∧ CLd Lw S' o f wr gr lt)) X 32 [(0, .inr (.inr o)), (1, ii n), (2, ii (fnF f R n k.toNat).1), (3, ii (fnF f R n k.toNat).2.1), (4, ii x), (5, ii k)] [] Lw S1 B1 0 0 := by
    intro m
    induction m with
    | zero =>
      intro k x S1 B1 k0 km hx xr I
      have C1 := I.2.1
      have R1 := hR.ag hC.1.2 (hw.ag I.1)
      have e2 := R1.1.2.1
      refine vc_walk hX ck_X0_finest [] 60 hd ?_
      refine ⟨C1.1, ?_⟩
      refine vc_kv R1.1.1 (cm_size (d := D + d + 9) R1.1.1) ⟨Nat.le_refl _, Nat.le_refl _⟩ ?_
      rw [e2]
      refine ⟨by omega, fun _ => ?_, fun z => absurd z (by omega)⟩
      exact ⟨⟨Nat.le_refl _, Nat.le_refl _⟩, by rw [hp, show k = nr by omega], rfl, I.1, C1⟩
    | succ m ih =>
      intro k x S1 B1 k0 km hx xr I
      have hs := fnF_s (f := f) (R := R) (n := n) k0
      have hrg := fnF_rg (R := R) hl hK (by omega) z2.1 k.toNat
      obtain ⟨m1, m2, m3⟩ := hl.mns (r := R k) hK n.toNat (by omega)
      have ha := sArr_rg m1
      have h5 := m1.met
      have hc := m1.clock
      have h5' := hl.met
      have hc' := hl.clock
      have ih' := fun x S2 B2 => ih (k + 1) x S2 B2 (by omega) (by omega)
      rw [hs] at ih'
      generalize hQ : fnF f R n k.toNat = q at *
      -- behind the minutes
      have fin : ∀ (S1 : SS) (B1 : SB), KpI (qW S o τ) Lw S o τ f wr gr lt (sp_mns f (R k) n.toNat) S1 → vc_J 74 (vc_up (fun v Lw' S' B' => v = some (ii V) ∧ Lw = Lw' ∧ Ag (qW S o τ) S S' ∧ CLd Lw S' o f wr gr lt)) X 75 [(0, .inr (.inr o)), (1, ii n), (2, ii q.1), (3, ii q.2.1), (4, ii x), (5, ii k)] [] Lw S1 B1 0 0 := by
        intro S1 B1 I
        have C1 := I.2.1
        have e32 := I.e32 hw h0
        have ok := (I.kp hw hsh).1
        have c4 := C1.2.2.2.2.2.2.2.1
        have k10 := I.2.2.2.2.2.2.2
        refine vc_walk hX ck_X0_finest [(32, [0, 1, 2, 3, 4, 5])] 60 hd ?_
        refine vc_kv C1.1 (cm_atAims (d := D + d + 6) C1 m1) ⟨Nat.le_refl _, Nat.le_refl _⟩ ?_
        refine ⟨C1.1, C1.1, ?_⟩
        rw [e32]
        refine ⟨ok, C1.1, ?_⟩
        rw [e32, c4, k10]
        refine vc_kp ok (cm_backK (d := D + d + 5) hw hsh I m2 hj hl) ⟨Nat.le_refl _, Nat.le_refl _⟩ ?_
        rintro _ _ S2 _ ⟨rfl, rfl, rfl, A2, C2⟩
        have I2 := I.u hw hsh A2.wu C2
        have new : ¬ (0 ≤ q.1 ∧ (sArr (sp_mns f (R k) n.toNat) < q.2.1 ∨ (sArr (sp_mns f (R k) n.toNat) = q.2.1 ∧ q.2.2 ≤ sp_mns f (R k) n.toNat 5))) → vc_J 74 (vc_up (fun v Lw' S' B' => v = some (ii V) ∧ Lw = Lw' ∧ Ag (qW S o τ) S S' ∧ CLd Lw S' o f wr gr lt)) X 32 [(0, .inr (.inr o)), (1, ii n), (2, ii k), (3, ii (sArr (sp_mns f (R k) n.toNat))), (4, ii (sp_mns f (R k) n.toNat 5 - f 5)), (5, ii (k + 1))] [] Lw S2 B1 0 0 := by
          intro hn
          have e : fnS f R n k q = (k, sArr (sp_mns f (R k) n.toNat), sp_mns f (R k) n.toNat 5) := if_neg hn
          rw [e] at ih'
          exact ih' (sp_mns f (R k) n.toNat 5 - f 5) S2 B1 (fun _ => rfl) (by omega) I2
        have old : (0 ≤ q.1 ∧ (sArr (sp_mns f (R k) n.toNat) < q.2.1 ∨ (sArr (sp_mns f (R k) n.toNat) = q.2.1 ∧ q.2.2 ≤ sp_mns f (R k) n.toNat 5))) → vc_J 74 (vc_up (fun v Lw' S' B' => v = some (ii V) ∧ Lw = Lw' ∧ Ag (qW S o τ) S S' ∧ CLd Lw S' o f wr gr lt)) X 32 [(0, .inr (.inr o)), (1, ii n), (2, ii q.1), (3, ii q.2.1), (4, ii x), (5, ii (k + 1))] [] Lw S2 B1 0 0 := by
          intro hn
          have e : fnS f R n k q = q := if_pos hn
          rw [e] at ih'
          exact ih' x S2 B1 hx xr I2
        refine ⟨by omega, fun y => ?_, fun y => ?_⟩
        · exact new (fun z => by omega)
        refine ⟨by omega, fun y1 => ?_, fun y1 => ?_⟩
        · exact old ⟨by omega, Or.inl y1⟩
        refine ⟨by omega, fun y2 => ?_, fun y2 => ?_⟩
        · exact new (fun z => by omega)
        have hx := hx (by omega)
        refine ⟨by omega, fun y3 => ?_, fun y3 => ?_⟩
        · exact new (fun z => by omega)
        · exact old ⟨by omega, Or.inr ⟨y2, by omega⟩⟩
      have inner : ∀ (a : Nat) (j : Int) (S1 : SS) (B1 : SB), 0 ≤ j → j + a = n → KpI (qW S o τ) Lw S o τ f wr gr lt (sp_mns f (R k) j.toNat) S1 → vc_J 74 (vc_up (fun v Lw' S' B' => v = some (ii V) ∧ Lw = Lw' ∧ Ag (qW S o τ) S S' ∧ CLd Lw S' o f wr gr lt)) X 47 [(0, .inr (.inr o)), (1, ii n), (2, ii q.1), (3, ii q.2.1), (4, ii x), (5, ii k), (6, ii j)] [] Lw S1 B1 0 0 := by
        intro a
        induction a with
        | zero =>
          intro j S1 B1 j0 ja I
          rw [show j = n by omega] at I ⊢
          refine vc_walk hX ck_X0_finest [(75, [0, 1, 2, 3, 4, 5])] 60 hd ?_
          refine ⟨by omega, fun _ => ?_, fun z => absurd z (by omega)⟩
          exact fin S1 B1 I
        | succ a ihj =>
          intro j S1 B1 j0 ja I
          obtain ⟨p1, p2, p3⟩ := hl.mns (r := R k) hK j.toNat (by omega)
          have ihj' := fun S2 B2 => ihj (j + 1) S2 B2 (by omega) (by omega)
          rw [mns_s j0] at ihj'
          have C1 := I.2.1
          have R1 := hR.ag hC.1.2 (hw.ag I.1)
          have r6 := R1.2.2 k k0 (by omega)
          refine vc_walk hX ck_X0_finest [(47, [0, 1, 2, 3, 4, 5, 6])] 60 hd ?_
          refine ⟨by omega, fun z => absurd z (by omega), fun _ => ?_⟩
          refine ⟨C1.1, ?_⟩
          refine vc_kv R1.1.1 (cm_get (d := D + d + 7) R1.1 (i := k) ⟨k0, by omega⟩) ⟨Nat.le_refl _, Nat.le_refl _⟩ ?_
          refine ⟨Or.inr r6.1, ?_⟩
          refine vc_kp C1.1 (cm_minute (d := d) r6 (hsh.ag (hw.ag I.1)) (hj.of (p2.1 0 (by omega)) (p2.1 1 (by omega))) C1 p1 hK) ⟨Nat.le_refl _, Nat.le_refl _⟩ ?_
          rintro _ _ S2 B2 ⟨rfl, rfl, A2, C2⟩
          exact ihj' S2 B2 (I.u hw hsh A2 C2)
      have C1 := I.2.1
      have R1 := hR.ag hC.1.2 (hw.ag I.1)
      have e2 := R1.1.2.1
      refine vc_walk hX ck_X0_finest [(47, [0, 1, 2, 3, 4, 5, 6])] 60 hd ?_
      refine ⟨C1.1, ?_⟩
      refine vc_kv R1.1.1 (cm_size (d := D + d + 9) R1.1.1) ⟨Nat.le_refl _, Nat.le_refl _⟩ ?_
      rw [e2]
      refine ⟨by omega, fun z => absurd z (by omega), fun _ => ?_⟩
      exact inner n.toNat 0 S1 B1 (by decide) (by omega) I
  exact loop nr.toNat 0 0 S1 B (by decide) (by omega) (fun (z : (0 : Int) ≤ -2) => absurd z (by decide)) (by decide) I1
end CNG
