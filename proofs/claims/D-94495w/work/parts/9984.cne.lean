/-! THE COMPONENT's methods: who is there; minutes; minutes ahead -/
set_option maxRecDepth 100000
/-- the rules' list -/
def CRl (Lw : List Nat) (S : SS) (o D : Nat) (nr : Int) (rr : Int → Nat) (R : RU) : Prop := vc_li Lw S (S o 6).toNat nr rr ∧ (0 ≤ nr ∧ nr ≤ 6) ∧ ∀ k, 0 ≤ k → k < nr → CRu Lw S D (rr k) (R k)
theorem upF_eq {f : Int → Int} {i : Int} : upF f i (f i) = f := by
  funext j
  by_cases c : j = i
  · subst c; exact upF_self
  · exact upF_ne c
section CNE
variable {Lw Lw' : List Nat} {S0 S : SS} {B : SB} {d o D : Nat} {τ τ' : Nat → Nat} {f : Int → Int} {wr gr rr : Int → Nat} {lt : Int → Int} {K nr : Int} {R : RU}
theorem CRl.ag (h : CRl Lw S0 o D nr rr R) (h0 : S0 o (-2) = 0) (hA : Ag (pW S0 o τ) S0 S) : CRl Lw S o D nr rr R := by
  obtain ⟨h1, h2, h3⟩ := h
  refine ⟨?_, h2, fun k k0 k1 => (h3 k k0 k1).ext (hA.mono (fun _ _ z => Or.inl z) : Ag (eW S0 o τ) S0 S).ext h0⟩
  rw [hA o 6 (pW.ob0 h0 rfl (by decide))]
  exact hA.li h0 h1
theorem cm_atAims (hC : CLd Lw S o f wr gr lt) (hl : LI K f) : vc_M (d + 3) 0 0 73 [.inr (.inr o)] Lw S B (vc_eq (some (ii (sArr f))) Lw S B) := by
  refine vc_start rfl rfl (Nat.le_of_ble_eq_true rfl) (fun X hX hd => ?_)
  have n0 := hl.nW
  have n1 := hl.nG
  have gl := hC.2.2.1
  have e2 := gl.2.1
  have loop : ∀ (m : Nat) (k : Int), 0 ≤ k → k + m = f 1 → vc_J 73 (vc_eq (some (ii (sArr f))) Lw S B) X 4 [(0, .inr (.inr o)), (1, ii (cntB (fun g => sG f g 0 == sG f g 1) k.toNat)), (2, ii k)] [] Lw S B 0 0 := by
    intro m
    induction m with
    | zero =>
      intro k k0 km
      refine vc_walk hX ck_X0_atAims [] 60 hd ?_
      refine ⟨hC.1, ?_⟩
      refine vc_kv gl.1 (cm_size (d := d + 2) gl.1) ⟨Nat.le_refl _, Nat.le_refl _⟩ ?_
      refine ⟨by omega, fun _ => ?_, fun z => absurd z (by omega)⟩
      refine ⟨⟨Nat.le_refl _, Nat.le_refl _⟩, ?_, rfl, rfl, rfl⟩
      unfold sArr
      rw [show k = f 1 by omega]
    | succ m ih =>
      intro k k0 km
      have ih' := ih (k + 1) (by omega) (by omega)
      rw [cntB_s k0] at ih'
      have hG := hC.2.2.2.2.1 k k0 (by omega)
      have hgi := hl.g k0 (show k < f 1 by omega)
      have hr := hgi.way n0.2
      have q1 := hG.2.1
      have q3 := hG.2.2.2.1
      have q4 := hG.2.2.2.2.1
      have ga := hgi.1
      have hbs := bI_rg (S (gr k) 3 == -1 && S (gr k) 2 == S (gr k) 0)
      have eb : (S (gr k) 3 == -1 && S (gr k) 2 == S (gr k) 0) = (sG f k 0 == sG f k 1) := by
        rw [q4, q1]
        obtain ⟨-, -, -, gd | gd⟩ := hgi
        · rw [q3.2 gd.1, gd.1]; rfl
        · rw [show (sG f k 3 == -1) = false from beq_false_of_ne (by omega), show (sG f k 0 == sG f k 1) = false from beq_false_of_ne (by omega)]
          rfl
      refine vc_walk hX ck_X0_atAims [(38, [0, 2])] 60 hd ?_
      refine ⟨hC.1, ?_⟩
      refine vc_kv gl.1 (cm_size (d := d + 2) gl.1) ⟨Nat.le_refl _, Nat.le_refl _⟩ ?_
      refine ⟨by omega, fun z => absurd z (by omega), fun _ => ?_⟩
      refine ⟨hC.1, ?_⟩
      refine vc_kv gl.1 (cm_get (d := d) gl (i := k) ⟨k0, by omega⟩) ⟨Nat.le_refl _, Nat.le_refl _⟩ ?_
      refine ⟨Or.inr hG.1, ?_⟩
      refine vc_kv hG.1 (cm_isThere (d := d + 1) hG.1 (by omega) (by omega) (by omega)) ⟨Nat.le_refl _, Nat.le_refl _⟩ ?_
      refine ⟨by omega, fun z => ?_, fun z => ?_⟩
      · have z := bI_0.mp z
        rw [eb] at z
        rw [z, if_neg (by decide)] at ih'
        refine vc_walk hX ck_X0_atAims [(4, [0, 1, 2])] 60 hd ?_
        exact ih'
      · have z := bI_n0.mp z
        rw [eb] at z
        rw [z, if_pos rfl] at ih'
        refine vc_walk hX ck_X0_atAims [(4, [0, 1, 2])] 60 hd ?_
        exact ih'
  refine vc_walk hX ck_X0_atAims [(4, [0, 1, 2])] 60 hd ?_
  exact loop (f 1).toNat 0 (by decide) (by omega)
theorem cm_tick {t n : Int} (ht : -2147483648 ≤ t ∧ t ≤ 2147483647) (hn : -2147483648 ≤ n ∧ n ≤ 2147483647) (hR : CRl Lw S o D nr rr R) (hsh : CSh Lw S o τ) (hj : CIj f wr gr) (hC : CLd Lw S o f wr gr lt) (hl : LI K f) (hK : K + 6 ≤ 100000) : vc_M (D + d + 10) 0 0 64 [.inr (.inr o), ii t, ii n] Lw S B (vc_up (fun v Lw' S' B' => v = some (ii (sp_tick f R nr t n).1) ∧ Lw = Lw' ∧ Ag (uW S o) S S' ∧ CLd Lw S' o (sp_tick f R nr t n).2 wr gr lt)) := by
  refine vc_start rfl rfl (Nat.le_of_ble_eq_true rfl) (fun X hX hd => ?_)
  have h4 := hl.clock
  have hb := bI_rg (decide (0 ≤ t ∧ t < nr))
  have hb2 := bI_rg (sIn n 1 600)
  have c3 := hC.2.2.2.2.2.2.1
  have hno : ¬ ((0 ≤ t ∧ t < nr) ∧ (1 ≤ n ∧ n ≤ 600) ∧ f 4 + n ≤ 99999) → (some (ii (-1)) = some (ii (sp_tick f R nr t n).1) ∧ Lw = Lw ∧ Ag (uW S o) S S ∧ CLd Lw S o (sp_tick f R nr t n).2 wr gr lt) := by
    intro z
    unfold sp_tick
    rw [if_neg z]
    exact ⟨rfl, rfl, Ag.rf, hC⟩
  refine vc_walk hX ck_X0_tick [(36, [0, 1, 2, 3])] 60 hd ?_
  refine vc_kv hC.1 (cm_isRule (d := D + d + 8) ht hC.1 hR.1) ⟨Nat.le_refl _, Nat.le_refl _⟩ ?_
  refine ⟨by omega, fun z => ⟨⟨Nat.le_refl _, Nat.le_refl _⟩, hno (fun q => of_decide_eq_false (bI_0.mp z) q.1)⟩, fun z => ?_⟩
  have z1 := of_decide_eq_true (bI_n0.mp z)
  refine ⟨by omega, vc_k (cm_in (by omega) (by decide) (by decide)) ⟨Nat.le_refl _, Nat.le_refl _⟩ ?_⟩
  refine ⟨by omega, fun z => ⟨⟨Nat.le_refl _, Nat.le_refl _⟩, hno (fun q => of_decide_eq_false (bI_0.mp z) q.2.1)⟩, fun z => ?_⟩
  have z2 := of_decide_eq_true (bI_n0.mp z)
  refine ⟨hC.1, by omega, fun z3 => ?_, fun z3 => ⟨⟨Nat.le_refl _, Nat.le_refl _⟩, hno (fun q => by omega)⟩⟩
  have hy : (0 ≤ t ∧ t < nr) ∧ (1 ≤ n ∧ n ≤ 600) ∧ f 4 + n ≤ 99999 := ⟨z1, z2, by omega⟩
  have ey : sp_tick f R nr t n = (f 4 + n, sp_mns f (R t) n.toNat) := if_pos hy
  rw [ey]
  have loop : ∀ (m : Nat) (k : Int) (S1 : SS) (B1 : SB), 0 ≤ k → k + m = n → Ag (uW S o) S S1 → CLd Lw S1 o (sp_mns f (R t) k.toNat) wr gr lt → vc_J 64 (vc_up (fun v Lw' S' B' => v = some (ii (f 4 + n)) ∧ Lw = Lw' ∧ Ag (uW S o) S S' ∧ CLd Lw S' o (sp_mns f (R t) n.toNat) wr gr lt)) X 36 [(0, .inr (.inr o)), (1, ii t), (2, ii n), (3, ii k)] [] Lw S1 B1 0 0 := by
    intro m
    induction m with
    | zero =>
      intro k S1 B1 k0 km A1 C1
      rw [show k = n by omega] at C1 ⊢
      obtain ⟨m1, m2, m3⟩ := hl.mns (r := R t) hK n.toNat (by omega)
      have d3 := C1.2.2.2.2.2.2.1
      refine vc_walk hX ck_X0_tick [] 60 hd ?_
      refine ⟨by omega, fun _ => ?_, fun z => absurd z (by omega)⟩
      refine ⟨C1.1, ⟨Nat.le_refl _, Nat.le_refl _⟩, ?_, rfl, A1, C1⟩
      rw [d3, m3, Int.toNat_of_nonneg (by omega)]
    | succ m ih =>
      intro k S1 B1 k0 km A1 C1
      obtain ⟨m1, m2, m3⟩ := hl.mns (r := R t) hK k.toNat (by omega)
      have ih' := fun S2 B2 => ih (k + 1) S2 B2 (by omega) (by omega)
      rw [mns_s k0] at ih'
      have R1 := hR.ag hC.1.2 (A1.uq (τ := τ)).p
      have r6 := R1.2.2 t z1.1 z1.2
      refine vc_walk hX ck_X0_tick [(36, [0, 1, 2, 3])] 60 hd ?_
      refine ⟨by omega, fun z => absurd z (by omega), fun _ => ?_⟩
      refine ⟨C1.1, ?_⟩
      refine vc_kv R1.1.1 (cm_get (d := D + d + 7) R1.1 (i := t) z1) ⟨Nat.le_refl _, Nat.le_refl _⟩ ?_
      refine ⟨Or.inr r6.1, ?_⟩
      refine vc_kp C1.1 (cm_minute (d := d) r6 (hsh.ag A1.uq.p) (hj.of (m2.1 0 (by omega)) (m2.1 1 (by omega))) C1 m1 hK) ⟨Nat.le_refl _, Nat.le_refl _⟩ ?_
      rintro _ _ S2 B2 ⟨rfl, rfl, A2, C2⟩
      exact ih' S2 B2 (A1.utr A2) C2
  exact loop n.toNat 0 S B (by decide) (by omega) Ag.rf hC
end CNE
