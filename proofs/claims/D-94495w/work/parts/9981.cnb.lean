/-! THE COMPONENT's methods: meetings, minutes -/
set_option maxRecDepth 100000
section CNB
variable {Lw Lw' : List Nat} {S0 S : SS} {B : SB} {d o D : Nat} {τ τ' : Nat → Nat} {f : Int → Int} {wr gr : Int → Nat} {lt : Int → Int} {K : Int}
theorem cm_meeting (hC : CLd Lw S o f wr gr lt) (hl : LI K f) : vc_M (d + 3) 0 0 71 [.inr (.inr o)] Lw S B (vc_eq (some (ii (sp_mt f))) Lw S B) := by
  refine vc_start rfl rfl (Nat.le_of_ble_eq_true rfl) (fun X hX hd => ?_)
  have n1 := hl.nG
  have gl := hC.2.2.1
  have e2 := gl.2.1
  have l2 : ∀ (a : Int), 0 ≤ a → a < f 1 → ∀ (m : Nat) (b s : Int), 0 ≤ b → b + m = a → vc_J 71 (vc_eq (some (ii (sp_mt f))) Lw S B) X 115 [(0, .inr (.inr o)), (1, ii (s + cntB (mtB f a) a.toNat)), (2, ii a)] [] Lw S B 0 0 → vc_J 71 (vc_eq (some (ii (sp_mt f))) Lw S B) X 17 [(0, .inr (.inr o)), (1, ii (s + cntB (mtB f a) b.toNat)), (2, ii a), (3, ii b)] [] Lw S B 0 0 := by
    intro a a0 a1 m
    have hA := hC.2.2.2.2.1 a a0 a1
    have hai := hl.g a0 a1
    have har := hai.way hl.nW.2
    have qa4 := hA.2.2.2.2.1
    have qa6 := hA.2.2.2.2.2.2.1
    have hat : -1 ≤ sG f a 6 ∧ sG f a 6 ≤ 7 := by obtain ⟨-, -, -, q | q⟩ := hai <;> omega
    have hbs := bI_rg (S (gr a) 3 == -1)
    induction m with
    | zero =>
      intro b s b0 bm go
      refine vc_walk hX ck_X0_meeting [(115, [0, 1, 2])] 60 hd ?_
      refine ⟨by omega, fun _ => ?_, fun z => absurd z (by omega)⟩
      rw [show b = a by omega]
      exact go
    | succ m ih =>
      intro b s b0 bm go
      have hB := hC.2.2.2.2.1 b b0 (by omega)
      have hbi := hl.g b0 (show b < f 1 by omega)
      have hbr := hbi.way hl.nW.2
      have qb4 := hB.2.2.2.2.1
      have qb6 := hB.2.2.2.2.2.2.1
      have hbt : -1 ≤ sG f b 6 ∧ sG f b 6 ≤ 7 := by obtain ⟨-, -, -, q | q⟩ := hbi <;> omega
      have ih' := ih (b + 1) s (by omega) (by omega) go
      rw [cntB_s b0] at ih'
      have no : mtB f a b = false → vc_J 71 (vc_eq (some (ii (sp_mt f))) Lw S B) X 106 [(0, .inr (.inr o)), (2, ii a), (3, ii b)] [ii (s + cntB (mtB f a) b.toNat)] Lw S B 0 0 := by
        intro h
        rw [h, if_neg (by decide)] at ih'
        refine vc_walk hX ck_X0_meeting [(17, [0, 1, 2, 3])] 60 hd ?_
        show vc_J _ _ _ _ _ _ _ _ _ _ _
        rw [Int.add_assoc]
        exact ih'
      refine vc_walk hX ck_X0_meeting [(106, [0, 2, 3]), (17, [0, 1, 2, 3])] 60 hd ?_
      refine ⟨by omega, fun z => absurd z (by omega), fun _ => ?_⟩
      refine ⟨hC.1, ?_⟩
      refine vc_kv gl.1 (cm_get (d := d) gl (i := a) ⟨a0, a1⟩) ⟨Nat.le_refl _, Nat.le_refl _⟩ ?_
      refine ⟨Or.inr hA.1, ?_⟩
      refine vc_kv hA.1 (cm_stands (d := d + 2) hA.1 (by omega)) ⟨Nat.le_refl _, Nat.le_refl _⟩ ?_
      refine ⟨by omega, fun c1 => ?_, fun c1 => ?_⟩
      · have := eq_of_beq (bI_n0.mp c1)
        exact no (by unfold mtB; rw [show (sG f a 3 != -1) = false by rw [show sG f a 3 = -1 by omega]; rfl]; rfl)
      have hn1 : sG f a 3 ≠ -1 := by
        have := ne_of_beq_false ((bI_0 (b := S (gr a) 3 == -1)).mp (by omega))
        omega
      refine ⟨hC.1, ?_⟩
      refine vc_kv gl.1 (cm_get (d := d) gl (i := a) ⟨a0, a1⟩) ⟨Nat.le_refl _, Nat.le_refl _⟩ ?_
      refine ⟨Or.inr hA.1, hA.1, hC.1, ?_⟩
      refine vc_kv gl.1 (cm_get (d := d) gl (i := b) ⟨b0, by omega⟩) ⟨Nat.le_refl _, Nat.le_refl _⟩ ?_
      refine ⟨Or.inr hB.1, hB.1, by omega, fun c2 => ?_, fun c2 => ?_⟩
      · exact no (by unfold mtB; rw [show (sG f a 3 == sG f b 3) = false from beq_false_of_ne (by omega), Bool.and_false, Bool.false_and])
      refine ⟨hC.1, ?_⟩
      refine vc_kv gl.1 (cm_get (d := d) gl (i := a) ⟨a0, a1⟩) ⟨Nat.le_refl _, Nat.le_refl _⟩ ?_
      refine ⟨Or.inr hA.1, hA.1, hC.1, ?_⟩
      refine vc_kv gl.1 (cm_get (d := d) gl (i := b) ⟨b0, by omega⟩) ⟨Nat.le_refl _, Nat.le_refl _⟩ ?_
      refine ⟨Or.inr hB.1, hB.1, by omega, fun c3 => ?_, fun c3 => ?_⟩
      · exact no (by unfold mtB; rw [show (sG f a 6 != sG f b 6) = false by rw [show sG f a 6 = sG f b 6 by omega]; exact bne_self_eq_false _, Bool.and_false])
      · have hm : mtB f a b = true := by
          unfold mtB
          rw [show (sG f a 3 != -1) = true from bne_iff_ne.mpr hn1, show (sG f a 3 == sG f b 3) = true from beq_iff_eq.mpr (by omega), show (sG f a 6 != sG f b 6) = true from bne_iff_ne.mpr (by omega)]
          rfl
        rw [hm, if_pos rfl] at ih'
        show vc_J _ _ _ _ _ _ _ _ _ _ _
        rw [Int.add_assoc]
        exact ih'
  have l1 : ∀ (m : Nat) (a : Int), 0 ≤ a → a + m = f 1 → vc_J 71 (vc_eq (some (ii (sp_mt f))) Lw S B) X 4 [(0, .inr (.inr o)), (1, ii (sumI (fun g => cntB (mtB f g) g.toNat) a.toNat)), (2, ii a)] [] Lw S B 0 0 := by
    intro m
    induction m with
    | zero =>
      intro a a0 am
      refine vc_walk hX ck_X0_meeting [] 60 hd ?_
      refine ⟨hC.1, ?_⟩
      refine vc_kv gl.1 (cm_size (d := d + 2) gl.1) ⟨Nat.le_refl _, Nat.le_refl _⟩ ?_
      refine ⟨by omega, fun _ => ?_, fun z => absurd z (by omega)⟩
      rw [show a = f 1 by omega]
      exact ⟨⟨Nat.le_refl _, Nat.le_refl _⟩, rfl, rfl, rfl, rfl⟩
    | succ m ih =>
      intro a a0 am
      have ih' := ih (a + 1) (by omega) (by omega)
      rw [sumI_s a0] at ih'
      refine vc_walk hX ck_X0_meeting [(17, [0, 1, 2, 3])] 60 hd ?_
      refine ⟨hC.1, ?_⟩
      refine vc_kv gl.1 (cm_size (d := d + 2) gl.1) ⟨Nat.le_refl _, Nat.le_refl _⟩ ?_
      refine ⟨by omega, fun z => absurd z (by omega), fun _ => ?_⟩
      have nx := l2 a a0 (by omega) a.toNat 0 (sumI (fun g => cntB (mtB f g) g.toNat) a.toNat) (by decide) (by omega) (by
        refine vc_walk hX ck_X0_meeting [(4, [0, 1, 2])] 60 hd ?_
        exact ih')
      rw [show (sumI (fun g => cntB (mtB f g) g.toNat) a.toNat + cntB (mtB f a) (0 : Int).toNat) = sumI (fun g => cntB (mtB f g) g.toNat) a.toNat from Int.add_zero _] at nx
      exact nx
  refine vc_walk hX ck_X0_meeting [(4, [0, 1, 2])] 60 hd ?_
  exact l1 (f 1).toNat 0 (by decide) (by omega)
/-- a goer sets out on a way -/
theorem CLd.on {g w : Int} (hw : 0 ≤ w) (h : CLd Lw S o f wr gr lt) (hj : CIj f wr gr) (hl : LI K f) (hg : 0 ≤ g ∧ g < f 1) : CLd Lw (vt_up (vt_up (vt_up S (gr g) 3 w) (gr g) 5 (sE f (f 2) w 1)) (gr g) 4 0) o (sp_on f g w) wr gr lt := by
  have n0 := hl.nW
  have n1 := hl.nG
  have hg5 : 0 ≤ g ∧ g ≤ 5 := by omega
  have hG := h.2.2.2.2.1 g hg.1 hg.2
  refine h.goer hj n0 n1 hg (fun r i hr => by rw [up_ne (Or.inl hr), up_ne (Or.inl hr), up_ne (Or.inl hr)]) (fun i hi => on_x hg5 hi) (fun v k v0 v1 hv k0 k1 => by rw [on_G hg5 ⟨v0, v1⟩ ⟨k0, k1⟩, if_neg hv]) ?_
  obtain ⟨q0, q1, q2, ⟨q3, q3b⟩, q4, q5, q6, q7, q8⟩ := hG
  have er : ∀ i, i ≠ 3 → i ≠ 4 → i ≠ 5 → (vt_up (vt_up (vt_up S (gr g) 3 w) (gr g) 5 (sE f (f 2) w 1)) (gr g) 4 0) (gr g) i = S (gr g) i := fun i h3 h4 h5 => by rw [up_ne (Or.inr h4), up_ne (Or.inr h5), up_ne (Or.inr h3)]
  unfold CG
  rw [on_G hg5 hg5 (by decide), on_G hg5 hg5 (by decide), on_G hg5 hg5 (by decide), on_G hg5 hg5 (by decide), on_G hg5 hg5 (by decide), on_G hg5 hg5 (by decide), on_G hg5 hg5 (by decide)]
  rw [if_pos (rfl : g = g), if_pos (rfl : g = g), if_pos (rfl : g = g), if_pos (rfl : g = g), if_pos (rfl : g = g), if_pos (rfl : g = g), if_pos (rfl : g = g)]
  refine ⟨ob_up (ob_up (ob_up q0 (by decide)) (by decide)) (by decide), ?_, ?_, ⟨?_, ?_⟩, ?_, ?_, ?_, ?_, ?_⟩
  · rw [er _ (by decide) (by decide) (by decide)]; exact q1
  · rw [er _ (by decide) (by decide) (by decide)]; exact q2
  · rw [er _ (by decide) (by decide) (by decide)]; exact q3
  · intro z
    have z : w = -1 := z
    omega
  · rw [up_ne (Or.inr (by decide)), up_ne (Or.inr (by decide)), vt_up_self]; rfl
  · rw [vt_up_self]; rfl
  · rw [up_ne (Or.inr (by decide)), vt_up_self]; rfl
  · rw [er _ (by decide) (by decide) (by decide)]; exact q7
  · rw [er _ (by decide) (by decide) (by decide)]; exact q8
theorem CIj.of {f' : Int → Int} (h : CIj f wr gr) (h0 : f' 0 = f 0) (h1 : f' 1 = f 1) : CIj f' wr gr := by
  unfold CIj
  rw [h0, h1]
  exact h
theorem cm_minute {rr : Nat} {ru : RU1} (hR : CRu Lw S D rr ru) (hsh : CSh Lw S o τ) (hj : CIj f wr gr) (hC : CLd Lw S o f wr gr lt) (hl : LI K f) (hK : K + 6 ≤ 100000) : vc_M (D + d + 9) 0 0 66 [.inr (.inr o), .inr (.inr rr)] Lw S B (vc_up (fun v Lw' S' B' => v = none ∧ Lw = Lw' ∧ Ag (uW S o) S S' ∧ CLd Lw S' o (sp_min f ru) wr gr lt)) := by
  refine vc_start rfl rfl (Nat.le_of_ble_eq_true rfl) (fun X hX hd => ?_)
  have n0 := hl.nW
  have n1 := hl.nG
  have hm1 := hl.m1s hK
  obtain ⟨L1, s1⟩ := hm1 (f 1).toNat (by omega)
  have L1 : LI (K + 6) (sp_m1s f (f 1).toNat) := L1.mono (by omega) hK
  have e11 : sp_m1s f (f 1).toNat 1 = f 1 := s1.1 1 (by omega)
  have e10 : sp_m1s f (f 1).toNat 0 = f 0 := s1.1 0 (by omega)
  have hm2 := L1.m2s (r := ru)
  -- behind the loops
  have fin : ∀ (S1 : SS) (B1 : SB), Ag (uW S o) S S1 → CLd Lw S1 o (sp_m2s (sp_m1s f (f 1).toNat) ru (f 1).toNat) wr gr lt → vc_J 66 (vc_up (fun v Lw' S' B' => v = none ∧ Lw = Lw' ∧ Ag (uW S o) S S' ∧ CLd Lw S' o (sp_min f ru) wr gr lt)) X 149 [(0, .inr (.inr o))] [] Lw S1 B1 0 0 := by
    intro S1 B1 A1 C1
    obtain ⟨L2, s2⟩ := hm2 (f 1).toNat (by rw [e11]; omega)
    have hmr := mt_rg L2
    have h5 := L2.met
    have h4 := L2.clock
    unfold sp_min
    generalize hF : sp_m2s (sp_m1s f (f 1).toNat) ru (f 1).toNat = F at *
    have c4 := C1.2.2.2.2.2.2.2.1
    refine vc_walk hX ck_X0_minute [] 60 hd ?_
    refine ⟨C1.1, ?_⟩
    refine vc_kv C1.1 (cm_meeting (d := D + d + 5) C1 L2) ⟨Nat.le_refl _, Nat.le_refl _⟩ ?_
    have A2 : Ag (uW S o) S (vt_up S1 o 4 (S1 o 4 + sp_mt F)) := A1.up (Or.inr (Or.inl ⟨rfl, by decide, by decide⟩))
    have C2 : CLd Lw (vt_up S1 o 4 (S1 o 4 + sp_mt F)) o (upF F 5 (F 5 + sp_mt F)) wr gr lt := by
      refine C1.own (by decide) (fun j _ _ _ _ h5 _ _ => upF_ne h5) L2.nW L2.nG ?_ ?_ ?_ ?_ ?_
      · rw [up_ne (Or.inr (by decide)), upF_ne (by decide)]; exact C1.2.2.2.2.2.1
      · rw [up_ne (Or.inr (by decide)), upF_ne (by decide)]; exact C1.2.2.2.2.2.2.1
      · rw [vt_up_self, upF_self, c4]
      · rw [up_ne (Or.inr (by decide)), upF_ne (by decide)]; exact C1.2.2.2.2.2.2.2.2.1
      · rw [up_ne (Or.inr (by decide)), upF_ne (by decide)]; exact C1.2.2.2.2.2.2.2.2.2
    have c3 : (vt_up S1 o 4 (S1 o 4 + sp_mt F)) o 3 = F 4 := by rw [up_ne (Or.inr (by decide))]; exact C1.2.2.2.2.2.2.1
    refine ⟨C1.1, C2.1, C2.1, ?_⟩
    rw [c3]
    refine ⟨⟨Nat.le_refl _, Nat.le_refl _⟩, rfl, rfl, A2.up (Or.inr (Or.inl ⟨rfl, by decide, by decide⟩)), ?_⟩
    refine C2.own (by decide) (fun j _ _ _ h4 _ _ _ => upF_ne h4) (by rw [upF_ne (by decide)]; exact L2.nW) (by rw [upF_ne (by decide)]; exact L2.nG) ?_ ?_ ?_ ?_ ?_
    · rw [up_ne (Or.inr (by decide)), upF_ne (by decide)]; exact C2.2.2.2.2.2.1
    · rw [vt_up_self, upF_self]
    · rw [up_ne (Or.inr (by decide)), upF_ne (by decide)]; exact C2.2.2.2.2.2.2.2.1
    · rw [up_ne (Or.inr (by decide)), upF_ne (by decide)]; exact C2.2.2.2.2.2.2.2.2.1
    · rw [up_ne (Or.inr (by decide)), upF_ne (by decide)]; exact C2.2.2.2.2.2.2.2.2.2
  -- who leaves
  have l2 : ∀ (m : Nat) (k : Int) (S1 : SS) (B1 : SB), 0 ≤ k → k + m = f 1 → Ag (uW S o) S S1 → CLd Lw S1 o (sp_m2s (sp_m1s f (f 1).toNat) ru k.toNat) wr gr lt → vc_J 66 (vc_up (fun v Lw' S' B' => v = none ∧ Lw = Lw' ∧ Ag (uW S o) S S' ∧ CLd Lw S' o (sp_min f ru) wr gr lt)) X 36 [(0, .inr (.inr o)), (1, .inr (.inr rr)), (2, ii k)] [] Lw S1 B1 0 0 := by
    intro m
    induction m with
    | zero =>
      intro k S1 B1 k0 km A1 C1
      have gl := C1.2.2.1
      have e2 := gl.2.1
      obtain ⟨L2, s2⟩ := hm2 k.toNat (by rw [e11]; omega)
      have f1 : sp_m2s (sp_m1s f (f 1).toNat) ru k.toNat 1 = f 1 := by rw [s2.1 1 (by omega)]; exact e11
      refine vc_walk hX ck_X0_minute [(149, [0])] 60 hd ?_
      refine ⟨C1.1, ?_⟩
      refine vc_kv gl.1 (cm_size (d := D + d + 8) gl.1) ⟨Nat.le_refl _, Nat.le_refl _⟩ ?_
      rw [e2, f1]
      refine ⟨by omega, fun _ => ?_, fun z => absurd z (by omega)⟩
      exact fin S1 B1 A1 (by rw [show f 1 = k by omega]; rw [show f 1 = k by omega] at C1; exact C1)
    | succ m ih =>
      intro k S1 B1 k0 km A1 C1
      obtain ⟨L2, s2⟩ := hm2 k.toNat (by rw [e11]; omega)
      have f1 : sp_m2s (sp_m1s f (f 1).toNat) ru k.toNat 1 = f 1 := by rw [s2.1 1 (by omega)]; exact e11
      have f0 : sp_m2s (sp_m1s f (f 1).toNat) ru k.toNat 0 = f 0 := by rw [s2.1 0 (by omega)]; exact e10
      have ih' := fun S2 B2 => ih (k + 1) S2 B2 (by omega) (by omega)
      rw [m2s_s k0] at ih'
      generalize hF : sp_m2s (sp_m1s f (f 1).toNat) ru k.toNat = F at *
      have gl := C1.2.2.1
      have e2 := gl.2.1
      have hkF : 0 ≤ k ∧ k < F 1 := by omega
      have hG := C1.2.2.2.2.1 k hkF.1 hkF.2
      have hgi := L2.g hkF.1 hkF.2
      have hr := hgi.way L2.nW.2
      have q4 := hG.2.2.2.2.1
      have q8 := hG.2.2.2.2.2.2.2.2
      have q2 := hG.2.2.1
      have q1 := hG.2.1
      have ga := hgi.1
      have gb := hgi.2.1
      have hpl := hG.2.2.2.1.1
      have hbs := bI_rg (S1 (gr k) 3 == -1)
      have hck := L2.clock
      have c3 := C1.2.2.2.2.2.2.1
      have H1 := hsh.ag A1.uq.p
      have R1 := hR.ext (A1.uq (τ := τ)).ee hC.1.2
      have jF : CIj F wr gr := hj.of f0 f1
      have no : ¬ (sG F k 3 = -1 ∧ sG F k 0 ≠ sG F k 1 ∧ sG F k 2 ≤ F 4) → ∀ B2, vc_J 66 (vc_up (fun v Lw' S' B' => v = none ∧ Lw = Lw' ∧ Ag (uW S o) S S' ∧ CLd Lw S' o (sp_min f ru) wr gr lt)) X 143 [(0, .inr (.inr o)), (1, .inr (.inr rr)), (2, ii k)] [] Lw S1 B2 0 0 := by
        intro hn B2
        refine vc_walk hX ck_X0_minute [(36, [0, 1, 2])] 60 hd ?_
        refine ih' S1 B2 A1 ?_
        have e : sp_m2 F ru k = F := if_neg hn
        rw [e]; exact C1
      refine vc_walk hX ck_X0_minute [(143, [0, 1, 2]), (96, [0, 1, 2, 3])] 60 hd ?_
      refine ⟨C1.1, ?_⟩
      refine vc_kv gl.1 (cm_size (d := D + d + 8) gl.1) ⟨Nat.le_refl _, Nat.le_refl _⟩ ?_
      refine ⟨by omega, fun z => absurd z (by omega), fun _ => ?_⟩
      refine ⟨C1.1, ?_⟩
      refine vc_kv gl.1 (cm_get (d := D + d + 6) gl (i := k) hkF) ⟨Nat.le_refl _, Nat.le_refl _⟩ ?_
      refine ⟨Or.inr hG.1, ?_⟩
      refine vc_kv hG.1 (cm_stands (d := D + d + 8) hG.1 (by omega)) ⟨Nat.le_refl _, Nat.le_refl _⟩ ?_
      refine ⟨by omega, fun z => no (fun q => by have := ne_of_beq_false (bI_0.mp z); omega) B1, fun z => ?_⟩
      have hs : sG F k 3 = -1 := by have := eq_of_beq (bI_n0.mp z); omega
      have hp := hG.2.2.2.1.2 hs
      refine ⟨hG.1, hG.1, by omega, fun z => no (fun q => q.2.1 (by omega)) B1, fun z => ?_⟩
      refine ⟨C1.1, hG.1, hG.1, by omega, fun z2 => ?_, fun z2 => no (fun q => by omega) B1⟩
      have hy : sG F k 3 = -1 ∧ sG F k 0 ≠ sG F k 1 ∧ sG F k 2 ≤ F 4 := ⟨hs, by omega, by omega⟩
      have em : sp_m2 F ru k = sp_lv F ru k := if_pos hy
      rw [em] at ih'
      have htr := tkn_rg (r := ru) (g := k) L2.nW.1
      refine vc_walk hX ck_X0_minute [(143, [0, 1, 2])] 60 hd ?_
      refine vc_kp C1.1 (cm_taken (d := d) hkF hs R1 H1 C1 L2) ⟨Nat.le_refl _, Nat.le_refl _⟩ ?_
      rintro _ _ _ B2 ⟨rfl, rfl, rfl⟩
      refine ⟨by omega, fun z3 => ?_, fun z3 => ?_⟩
      · have htw : 0 ≤ tkn F ru k ∧ tkn F ru k < F 0 := by omega
        have el : sp_lv F ru k = sp_on F k (tkn F ru k) := if_neg (by omega)
        rw [el] at ih'
        have hon := C1.on (w := tkn F ru k) htw.1 jF L2 hkF
        have A2 := A1.up (v := tkn F ru k) (r := gr k) (i := 3) (Or.inr (Or.inr (Or.inr ⟨by rw [← (A1.uq (τ := τ)).p (gr k) (-2) (pW.neg (by decide))]; exact hG.1.2, by decide, by decide⟩)))
        have q5 : S (gr k) (-2) = 5 := by rw [← (A1.uq (τ := τ)).p (gr k) (-2) (pW.neg (by decide))]; exact hG.1.2
        have hW := C1.2.2.2.1 _ htw.1 htw.2
        have nwg : wr (tkn F ru k) ≠ gr k := ob_ne hW.1 hG.1 (by decide)
        have ul := C1.2.1
        have ngo : o ≠ gr k := ob_ne C1.1 hG.1 (by decide)
        have ul2 : vc_li Lw (vt_up S1 (gr k) 3 (tkn F ru k)) (vt_up S1 (gr k) 3 (tkn F ru k) o 0).toNat (F 0) wr := by
          rw [up_ne (Or.inl ngo)]
          exact li_of ul (fun q c hq hc i => up_ne (Or.inl (ob_ne hq hG.1 (by omega))))
        have oW2 : vc_ob Lw (vt_up S1 (gr k) 3 (tkn F ru k)) (wr (tkn F ru k)) 4 := ob_up hW.1 (by decide)
        have hto : (if vt_up S1 (gr k) 3 (tkn F ru k) (wr (tkn F ru k)) 5 = 0 then vt_up S1 (gr k) 3 (tkn F ru k) (wr (tkn F ru k)) 1 else vt_up S1 (gr k) 3 (tkn F ru k) (wr (tkn F ru k)) 0) = sE F (F 2) (tkn F ru k) 1 := by
          rw [up_ne (Or.inl nwg), up_ne (Or.inl nwg), up_ne (Or.inl nwg)]
          exact hW.to
        have A3 := A2.up (v := sE F (F 2) (tkn F ru k) 1) (r := gr k) (i := 5) (Or.inr (Or.inr (Or.inr ⟨q5, by decide, by decide⟩)))
        refine ⟨hG.1, ob_up C1.1 (by decide), ?_⟩
        refine vc_kv ul2.1 (cm_get (d := D + d + 6) ul2 (i := tkn F ru k) htw) ⟨Nat.le_refl _, Nat.le_refl _⟩ ?_
        refine ⟨Or.inr oW2, ?_⟩
        refine vc_kv oW2 (cm_to (d := D + d + 8) oW2 (by rw [up_ne (Or.inl nwg)]; exact hW.b)) ⟨Nat.le_refl _, Nat.le_refl _⟩ ?_
        rw [hto]
        refine ⟨ob_up hG.1 (by decide), ob_up (ob_up hG.1 (by decide)) (by decide), ?_⟩
        refine vc_walk hX ck_X0_minute [(36, [0, 1, 2])] 60 hd ?_
        exact ih' _ B2 (A3.up (Or.inr (Or.inr (Or.inr ⟨q5, by decide, by decide⟩)))) hon
      · have el : sp_lv F ru k = F := if_pos (by omega)
        rw [el] at ih'
        refine vc_walk hX ck_X0_minute [(36, [0, 1, 2])] 60 hd ?_
        exact ih' S1 B2 A1 C1
  -- who goes on
  have l1 : ∀ (m : Nat) (k : Int) (S1 : SS), 0 ≤ k → k + m = f 1 → Ag (uW S o) S S1 → CLd Lw S1 o (sp_m1s f k.toNat) wr gr lt → vc_J 66 (vc_up (fun v Lw' S' B' => v = none ∧ Lw = Lw' ∧ Ag (uW S o) S S' ∧ CLd Lw S' o (sp_min f ru) wr gr lt)) X 2 [(0, .inr (.inr o)), (1, .inr (.inr rr)), (2, ii k)] [] Lw S1 B 0 0 := by
    intro m
    induction m with
    | zero =>
      intro k S1 k0 km A1 C1
      obtain ⟨L2, s2⟩ := hm1 k.toNat (by omega)
      have f1 : sp_m1s f k.toNat 1 = f 1 := s2.1 1 (by omega)
      have gl := C1.2.2.1
      have e2 := gl.2.1
      refine vc_walk hX ck_X0_minute [(36, [0, 1, 2])] 60 hd ?_
      refine ⟨C1.1, ?_⟩
      refine vc_kv gl.1 (cm_size (d := D + d + 8) gl.1) ⟨Nat.le_refl _, Nat.le_refl _⟩ ?_
      rw [e2, f1]
      refine ⟨by omega, fun _ => ?_, fun z => absurd z (by omega)⟩
      refine l2 (f 1).toNat 0 S1 B (by decide) (by omega) A1 ?_
      show CLd Lw S1 o (sp_m1s f (f 1).toNat) wr gr lt
      rw [show f 1 = k by omega]
      exact C1
    | succ m ih =>
      intro k S1 k0 km A1 C1
      obtain ⟨L2, s2⟩ := hm1 k.toNat (by omega)
      have f1 : sp_m1s f k.toNat 1 = f 1 := s2.1 1 (by omega)
      have f0 : sp_m1s f k.toNat 0 = f 0 := s2.1 0 (by omega)
      have gl := C1.2.2.1
      have e2 := gl.2.1
      have ih' := fun S2 => ih (k + 1) S2 (by omega) (by omega)
      rw [m1s_s k0] at ih'
      have hkF : 0 ≤ k ∧ k < sp_m1s f k.toNat 1 := by omega
      have hG := C1.2.2.2.2.1 k hkF.1 hkF.2
      refine vc_walk hX ck_X0_minute [(2, [0, 1, 2])] 60 hd ?_
      refine ⟨C1.1, ?_⟩
      refine vc_kv gl.1 (cm_size (d := D + d + 8) gl.1) ⟨Nat.le_refl _, Nat.le_refl _⟩ ?_
      rw [e2, f1]
      refine ⟨by omega, fun z => absurd z (by omega), fun _ => ?_⟩
      refine ⟨C1.1, ?_⟩
      refine vc_kv gl.1 (cm_get (d := D + d + 6) gl (i := k) hkF) ⟨Nat.le_refl _, Nat.le_refl _⟩ ?_
      refine ⟨Or.inr hG.1, ?_⟩
      refine vc_kp C1.1 (cm_goesOn (d := D + d + 4) hkF (hj.of f0 f1) C1 L2) ⟨Nat.le_refl _, Nat.le_refl _⟩ ?_
      rintro _ _ S2 _ ⟨rfl, rfl, rfl, A2, C2⟩
      exact ih' S2 (Ag.utr A1 A2) C2
  refine vc_walk hX ck_X0_minute [(2, [0, 1, 2])] 60 hd ?_
  exact l1 (f 1).toNat 0 S (by decide) (by omega) Ag.rf hC
end CNB
