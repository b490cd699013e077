/-! THE COMPONENT's methods: what a goer asks, the way he takes -/
set_option maxRecDepth 100000
section CMZ
variable {Lw : List Nat} {S : SS} {B : SB} {d o D : Nat} {τ : Nat → Nat} {f : Int → Int} {wr gr : Int → Nat} {lt : Int → Int} {K : Int}
theorem ub_rd {B : SB} {r : Nat} {i j : Int} {v : Int64} : vt_ub B r i v r j = if j = i then v else B r j := by rw [vt_ub_at]
theorem cm_asks {g p : Int} (hg : 0 ≤ g ∧ g < f 1) (hp : 0 ≤ p ∧ p ≤ 7) (hsh : CSh Lw S o τ) (hC : CLd Lw S o f wr gr lt) (hl : LI K f) : vc_M (d + 5) 0 0 69 [.inr (.inr o), ii g, ii p] Lw S B (vc_up (fun v Lw' S' B' => v = none ∧ Lw = Lw' ∧ S = S' ∧ ∀ k, 0 ≤ k → k ≤ 11 → B' (S o 31).toNat k = wv (wdA f g p) k)) := by
  refine vc_start rfl rfl (Nat.le_of_ble_eq_true rfl) (fun X hX hd => ?_)
  have n0 := hl.nW
  have n1 := hl.nG
  have hck := hl.clock
  have a31 := hsh.2.1.2.2.2.2.2.2.2.2.2.2.2
  have l31 : S (S o 31).toNat (-1) = 12 := a31.2.1
  have a31 : vc_ob Lw S (S o 31).toNat 102 := a31.1
  have gl := hC.2.2.1
  have hG := hC.2.2.2.2.1 g hg.1 hg.2
  have hga := (hl.g hg.1 hg.2).1
  have hds := dst_le hl hp hga
  have hld := sLd_rg hl (f 2) p 0
  have hst := sSt_rg hl p
  have h3 := hC.2.2.2.2.2.2.1
  have fin : ∀ B1 : SB, (∀ k, 0 ≤ k → k < 4 → B1 (S o 31).toNat k = Int64.ofInt 0) → vc_J 69 (vc_up (fun v Lw' S' B' => v = none ∧ Lw = Lw' ∧ S = S' ∧ ∀ k, 0 ≤ k → k ≤ 11 → B' (S o 31).toNat k = wv (wdA f g p) k)) X 20 [(0, .inr (.inr o)), (1, ii g), (2, ii p)] [] Lw S B1 0 0 := by
    intro B1 hB1
    refine vc_walk hX ck_X0_asks [] 90 hd ?_
    refine ⟨hC.1, by omega, ⟨a31, by omega, by omega, by omega⟩, ?_⟩
    refine ⟨hC.1, hC.1, ?_⟩
    refine vc_kv gl.1 (cm_get (d := d + 2) gl (i := g) hg) ⟨Nat.le_refl _, Nat.le_refl _⟩ ?_
    refine ⟨Or.inr hG.1, hG.1, ?_⟩
    rw [hG.2.1]
    refine vc_kv hC.1 (cm_farOf (d := d) hp hga hC hl) ⟨Nat.le_refl _, Nat.le_refl _⟩ ?_
    refine ⟨by split <;> omega, ⟨a31, by omega, by omega, by omega⟩, ?_⟩
    refine ⟨hC.1, ?_⟩
    refine vc_kv hC.1 (cm_out (d := d + 1) (by omega) hC hl) ⟨Nat.le_refl _, Nat.le_refl _⟩ ?_
    refine ⟨by omega, ⟨a31, by omega, by omega, by omega⟩, ?_⟩
    refine ⟨hC.1, ?_⟩
    refine vc_kv hC.1 (cm_standing (d := d + 1) hp hC hl) ⟨Nat.le_refl _, Nat.le_refl _⟩ ?_
    refine ⟨by omega, ⟨a31, by omega, by omega, by omega⟩, ?_⟩
    refine ⟨hC.1, by omega, ⟨a31, by omega, by omega, by omega⟩, ?_⟩
    refine ⟨hC.1, hC.1, ?_⟩
    refine vc_kv gl.1 (cm_get (d := d + 2) gl (i := g) hg) ⟨Nat.le_refl _, Nat.le_refl _⟩ ?_
    refine ⟨Or.inr hG.1, hG.1, ?_⟩
    rw [hG.2.1]
    refine ⟨by omega, ⟨a31, by omega, by omega, by omega⟩, ?_⟩
    refine ⟨hC.1, hC.1, ?_⟩
    rw [h3]
    refine ⟨by omega, ⟨a31, by omega, by omega, by omega⟩, ?_⟩
    refine ⟨hC.1, ⟨a31, by omega, by omega, by omega⟩, ?_⟩
    refine ⟨⟨Nat.le_refl _, Nat.le_refl _⟩, rfl, rfl, rfl, fun k k0 k1 => ?_⟩
    rw [ub_rd, ub_rd, ub_rd, ub_rd, ub_rd, ub_rd, ub_rd, ub_rd]
    unfold wv wdA wd0
    by_cases c11 : k = 11
    · subst c11; rfl
    rw [if_neg c11]
    by_cases c10 : k = 10
    · subst c10; rfl
    rw [if_neg c10]
    by_cases c9 : k = 9
    · subst c9; rfl
    rw [if_neg c9]
    by_cases c8 : k = 8
    · subst c8; rfl
    rw [if_neg c8]
    by_cases c7 : k = 7
    · subst c7; rfl
    rw [if_neg c7]
    by_cases c6 : k = 6
    · subst c6; rfl
    rw [if_neg c6]
    by_cases c5 : k = 5
    · subst c5; rfl
    rw [if_neg c5]
    by_cases c4 : k = 4
    · subst c4; rfl
    rw [if_neg c4, hB1 k k0 (by omega), if_neg c4, if_neg c5, if_neg c6, if_neg c7, if_neg c8, if_neg c9, if_neg c10]
  have loop : ∀ (m : Nat) (k : Int) (B1 : SB), 0 ≤ k → k + m = 4 → (∀ i, 0 ≤ i → i < k → B1 (S o 31).toNat i = Int64.ofInt 0) → vc_J 69 (vc_up (fun v Lw' S' B' => v = none ∧ Lw = Lw' ∧ S = S' ∧ ∀ k, 0 ≤ k → k ≤ 11 → B' (S o 31).toNat k = wv (wdA f g p) k)) X 2 [(0, .inr (.inr o)), (1, ii g), (2, ii p), (3, ii k)] [] Lw S B1 0 0 := by
    intro m
    induction m with
    | zero =>
      intro k B1 k0 km hB
      refine vc_walk hX ck_X0_asks [(20, [0, 1, 2])] 60 hd ?_
      refine ⟨by omega, fun _ => ?_, fun z => absurd z (by omega)⟩
      exact fin B1 (fun i i0 i1 => hB i i0 (by omega))
    | succ m ih =>
      intro k B1 k0 km hB
      refine vc_walk hX ck_X0_asks [(2, [0, 1, 2, 3])] 60 hd ?_
      refine ⟨by omega, fun z => absurd z (by omega), fun _ => ?_⟩
      refine ⟨hC.1, ⟨a31, by omega, by omega, by omega⟩, ?_⟩
      refine ih (k + 1) _ (by omega) (by omega) (fun i i0 i1 => ?_)
      rw [ub_rd]
      by_cases c : i = k
      · rw [if_pos c]
      · rw [if_neg c]; exact hB i i0 (by omega)
  refine vc_walk hX ck_X0_asks [(2, [0, 1, 2, 3])] 60 hd ?_
  exact loop 4 0 B (by decide) (by decide) (fun i i0 i1 => by omega)
theorem cm_asksOf {g w : Int} (hg : 0 ≤ g ∧ g < f 1) (hw : 0 ≤ w ∧ w < f 0) (hsh : CSh Lw S o τ) (hC : CLd Lw S o f wr gr lt) (hl : LI K f) : vc_M (d + 6) 0 0 70 [.inr (.inr o), ii g, ii w] Lw S B (vc_up (fun v Lw' S' B' => v = none ∧ Lw = Lw' ∧ S = S' ∧ ∀ k, 0 ≤ k → k ≤ 11 → B' (S o 31).toNat k = wv (wdW f g w) k)) := by
  refine vc_start rfl rfl (Nat.le_of_ble_eq_true rfl) (fun X hX hd => ?_)
  have n0 := hl.nW
  have h3g := hl.goings
  have h4c := hl.clock
  have a31 := hsh.2.1.2.2.2.2.2.2.2.2.2.2.2
  have l31 : S (S o 31).toNat (-1) = 12 := a31.2.1
  have a31 : vc_ob Lw S (S o 31).toNat 102 := a31.1
  have u1 := hC.2.1
  have hW := hC.2.2.2.1 w hw.1 hw.2
  have hwi := hl.w hw.1 hw.2
  have he1 := sE_rg (x := f 2) (e := 1) hwi (.inr rfl)
  have hon := sOn_rg hl w
  obtain ⟨-, -, -, i2, i3, i4⟩ := hwi
  refine vc_walk hX ck_X0_asksOf [] 60 hd ?_
  refine ⟨hC.1, ?_⟩
  refine vc_kv u1.1 (cm_get (d := d + 3) u1 (i := w) hw) ⟨Nat.le_refl _, Nat.le_refl _⟩ ?_
  refine ⟨Or.inr hW.1, ?_⟩
  refine vc_kv hW.1 (cm_to (d := d + 5) hW.1 hW.b) ⟨Nat.le_refl _, Nat.le_refl _⟩ ?_
  rw [hW.to]
  refine vc_kp hC.1 (cm_asks (d := d) hg he1 hsh hC hl) ⟨Nat.le_refl _, Nat.le_refl _⟩ ?_
  rintro _ _ _ B1 ⟨rfl, rfl, rfl, hB1⟩
  obtain ⟨hw0, w0, w1, w2, w3, w4, w5⟩ := hW
  refine ⟨hC.1, by omega, ⟨a31, by omega, by omega, by omega⟩, ?_⟩
  refine ⟨hC.1, hw0, ?_⟩
  rw [w2]
  refine ⟨by omega, ⟨a31, by omega, by omega, by omega⟩, ?_⟩
  refine ⟨hC.1, hw0, ?_⟩
  rw [w3]
  refine ⟨by omega, ⟨a31, by omega, by omega, by omega⟩, ?_⟩
  refine ⟨hC.1, hw0, ?_⟩
  rw [w4]
  refine ⟨by omega, ⟨a31, by omega, by omega, by omega⟩, ?_⟩
  refine ⟨hC.1, ?_⟩
  refine vc_kv hC.1 (cm_on (d := d + 2) (by omega) hC hl) ⟨Nat.le_refl _, Nat.le_refl _⟩ ?_
  refine ⟨by omega, ⟨a31, by omega, by omega, by omega⟩, ?_⟩
  refine ⟨⟨Nat.le_refl _, Nat.le_refl _⟩, rfl, rfl, rfl, fun k k0 k1 => ?_⟩
  rw [ub_rd, ub_rd, ub_rd, ub_rd, ub_rd]
  unfold wv wdW
  by_cases c11 : k = 11
  · subst c11; rfl
  rw [if_neg c11]
  by_cases c3 : k = 3
  · subst c3; rfl
  rw [if_neg c3]
  by_cases c2 : k = 2
  · subst c2; rfl
  rw [if_neg c2]
  by_cases c1 : k = 1
  · subst c1; rfl
  rw [if_neg c1]
  by_cases c0 : k = 0
  · subst c0; rfl
  rw [if_neg c0, hB1 k k0 k1, if_neg c0, if_neg c1, if_neg c2, if_neg c3, if_neg c11]
  rfl
theorem cm_taken {g : Int} {rr : Nat} {ru : RU1} (hg : 0 ≤ g ∧ g < f 1) (hs : sG f g 3 = -1) (hR : CRu Lw S D rr ru) (hsh : CSh Lw S o τ) (hC : CLd Lw S o f wr gr lt) (hl : LI K f) : vc_M (D + d + 8) 0 0 68 [.inr (.inr o), .inr (.inr rr), ii g] Lw S B (vc_up (fun v Lw' S' B' => v = some (ii (tkn f ru g)) ∧ Lw = Lw' ∧ S = S')) := by
  refine vc_start rfl rfl (Nat.le_of_ble_eq_true rfl) (fun X hX hd => ?_)
  have n0 := hl.nW
  have a31 := hsh.2.1.2.2.2.2.2.2.2.2.2.2.2
  have l31 : S (S o 31).toNat (-1) = 12 := a31.2.1
  have a31 : vc_ob Lw S (S o 31).toNat 102 := a31.1
  have gl := hC.2.2.1
  have u1 := hC.2.1
  have u2 := u1.2.1
  have hG := hC.2.2.2.2.1 g hg.1 hg.2
  have hgp := hG.2.2.2.1.2 hs
  have hp : 0 ≤ sG f g 0 ∧ sG f g 0 ≤ 7 := by obtain ⟨-, -, -, q | q⟩ := hl.g hg.1 hg.2 <;> omega
  have hbw := bI_rg (decide (0 ≤ cth ru 1 (wv (wdA f g (sG f g 0)))))
  refine vc_walk hX ck_X0_taken [(40, [0, 1, 2, 3, 4, 6])] 60 hd ?_
  refine ⟨hC.1, ?_⟩
  refine vc_kv gl.1 (cm_get (d := D + d + 5) gl (i := g) hg) ⟨Nat.le_refl _, Nat.le_refl _⟩ ?_
  refine ⟨Or.inr hG.1, hG.1, ?_⟩
  rw [hgp]
  refine vc_kp hC.1 (cm_asks (d := D + d + 2) hg hp hsh hC hl) ⟨Nat.le_refl _, Nat.le_refl _⟩ ?_
  rintro _ _ _ B1 ⟨rfl, rfl, rfl, hB1⟩
  refine ⟨hC.1, ?_⟩
  refine vc_kv hR.1 (cm_isWait (d := d + 4) (B := B1) hR (wd := wv (wdA f g (sG f g 0))) ⟨a31, l31, hB1⟩) ⟨Nat.le_refl _, Nat.le_refl _⟩ ?_
  refine ⟨by omega, fun z => ?_, fun z => ?_⟩
  rotate_left
  · have : 0 ≤ cth ru 1 (wv (wdA f g (sG f g 0))) := of_decide_eq_true (bI_n0.mp z)
    have e : tkn f ru g = -1 := if_pos this
    rw [e]
    exact ⟨⟨Nat.le_refl _, Nat.le_refl _⟩, rfl, rfl, rfl⟩
  have hnw : ¬ 0 ≤ cth ru 1 (wv (wdA f g (sG f g 0))) := of_decide_eq_false (bI_0.mp z)
  have etk : tkn f ru g = (tkF f ru g (f 0).toNat).1 := if_neg hnw
  rw [etk]
  have loop : ∀ (m : Nat) (k : Int) (B1 : SB), 0 ≤ k → k + m = f 0 → vc_J 68 (vc_up (fun v Lw' S' B' => v = some (ii (tkF f ru g (f 0).toNat).1) ∧ Lw = Lw' ∧ S = S')) X 40 [(0, .inr (.inr o)), (1, .inr (.inr rr)), (2, ii g), (3, ii (tkF f ru g k.toNat).1), (4, ll (tkF f ru g k.toNat).2), (6, ii k)] [] Lw S B1 0 0 := by
    intro m
    induction m with
    | zero =>
      intro k B1 k0 km
      refine vc_walk hX ck_X0_taken [] 60 hd ?_
      refine ⟨hC.1, ?_⟩
      refine vc_kv u1.1 (cm_size (d := D + d + 7) u1.1) ⟨Nat.le_refl _, Nat.le_refl _⟩ ?_
      refine ⟨by omega, fun _ => ?_, fun z => absurd z (by omega)⟩
      rw [show k = f 0 by omega]
      exact ⟨⟨Nat.le_refl _, Nat.le_refl _⟩, rfl, rfl, rfl⟩
    | succ m ih =>
      intro k B1 k0 km
      have hW := hC.2.2.2.1 k k0 (by omega)
      have he := sE_rg (x := f 2) (e := 0) (hl.w k0 (show k < f 0 by omega)) (.inl rfl)
      have htr := tkF_rg f ru g k.toNat
      have ih' := fun B2 => ih (k + 1) B2 (by omega) (by omega)
      rw [tkF_s k0] at ih'
      unfold tkS at ih'
      refine vc_walk hX ck_X0_taken [(40, [0, 1, 2, 3, 4, 6])] 60 hd ?_
      refine ⟨hC.1, ?_⟩
      refine vc_kv u1.1 (cm_size (d := D + d + 7) u1.1) ⟨Nat.le_refl _, Nat.le_refl _⟩ ?_
      refine ⟨by omega, fun z => absurd z (by omega), fun _ => ?_⟩
      refine ⟨hC.1, ?_⟩
      refine vc_kv u1.1 (cm_get (d := D + d + 5) u1 (i := k) ⟨k0, by omega⟩) ⟨Nat.le_refl _, Nat.le_refl _⟩ ?_
      refine ⟨Or.inr hW.1, ?_⟩
      refine vc_kv hW.1 (cm_from (d := D + d + 7) hW.1 hW.b) ⟨Nat.le_refl _, Nat.le_refl _⟩ ?_
      rw [hW.from]
      refine ⟨hC.1, ?_⟩
      refine vc_kv gl.1 (cm_get (d := D + d + 5) gl (i := g) hg) ⟨Nat.le_refl _, Nat.le_refl _⟩ ?_
      refine ⟨Or.inr hG.1, hG.1, ?_⟩
      rw [hgp]
      refine ⟨by omega, fun c1 => ?_, fun c1 => ?_⟩
      rotate_left
      · have := ih' B1
        rw [if_neg c1] at this
        exact this
      simp only [if_pos c1] at ih'
      refine vc_kp hC.1 (cm_asksOf (d := D + d + 1) hg ⟨k0, by omega⟩ hsh hC hl) ⟨Nat.le_refl _, Nat.le_refl _⟩ ?_
      rintro _ _ _ B2 ⟨rfl, rfl, rfl, hB2⟩
      have hwd : CWd Lw S B2 (S o 31).toNat (wv (wdW f g k)) := ⟨a31, l31, hB2⟩
      refine ⟨hC.1, ?_⟩
      refine vc_kp hR.1 (cm_take (d := d + 4) (B := B2) hR hwd) ⟨Nat.le_refl _, Nat.le_refl _⟩ ?_
      rintro _ _ _ _ ⟨rfl, rfl, rfl, r', rfl, hr'⟩
      rcases hr' with ⟨hc, rfl⟩ | ⟨hc, hT⟩
      · refine ⟨fun z => absurd rfl z, fun _ => ⟨fun _ => ?_, fun z => absurd rfl z⟩⟩
        have := ih' B2
        rw [if_pos (by omega)] at this
        exact this
      · have hrn : r' ≠ 0 := by
          obtain ⟨⟨a, ha, -⟩, -⟩ := hT.1
          omega
        have c2 := cm_valu hwd D _ _ (d + 7) hT.2.1
        refine ⟨fun _ => ?_, fun z => absurd z hrn⟩
        refine ⟨hT.1, hC.1, ?_⟩
        refine vc_ka c2 ⟨Nat.le_refl _, Nat.le_refl _⟩ ?_
        refine ⟨fun z => absurd z hrn, fun _ => ?_⟩
        have ihB := ih' B2
        rw [if_neg (by omega)] at ihB
        generalize hv : (ru.2 (cth ru 0 (wv (wdW f g k)))).2.1 (wv (wdW f g k)) = v at *
        have hcr := cmp_rg v (tkF f ru g k.toNat).2
        have hgt := cmp_gt0 (x := v) (y := (tkF f ru g k.toNat).2)
        refine ⟨by omega, fun c3 => ?_, fun c3 => ?_⟩
        · rw [if_neg (by omega)] at ihB
          exact ihB
        · refine ⟨by omega, fun c4 => ?_, fun c4 => ?_⟩
          · rw [if_neg (fun q => Int64.not_le.mpr (hgt.mp c4) q.2)] at ihB
            exact ihB
          · rw [if_pos ⟨by omega, Int64.not_lt.mp (fun q => absurd (hgt.mpr q) (by omega))⟩] at ihB
            exact ihB
  exact loop (f 0).toNat 0 B1 (by decide) (by omega)
end CMZ
