/-! THE COMPONENT's land against f -/
set_option maxRecDepth 100000
/-- a way's object -/
def CW (Lw : List Nat) (S : SS) (r : Nat) (f : Int → Int) (w : Int) : Prop := vc_ob Lw S r 4 ∧ S r 0 = sW f w 0 ∧ S r 1 = sW f w 1 ∧ S r 2 = sW f w 2 ∧ S r 3 = sW f w 3 ∧ S r 4 = sW f w 4 ∧ S r 5 = bI ((f 2).toNat.testBit w.toNat)
/-- a goer's object; x: how much later he leaves -/
def CG (Lw : List Nat) (S : SS) (r : Nat) (f : Int → Int) (g x : Int) : Prop := vc_ob Lw S r 5 ∧ S r 0 = sG f g 1 ∧ S r 1 = sG f g 2 - x ∧ ((0 ≤ S r 2 ∧ S r 2 ≤ 7) ∧ (sG f g 3 = -1 → S r 2 = sG f g 0)) ∧ S r 3 = sG f g 3 ∧ S r 4 = sG f g 4 ∧ S r 5 = sG f g 6 ∧ S r 6 = sG f g 5 ∧ S r 7 = x
/-- the land: o the object, wr the ways' cells, gr the goers' -/
def CLd (Lw : List Nat) (S : SS) (o : Nat) (f : Int → Int) (wr gr : Int → Nat) (lt : Int → Int) : Prop := vc_ob Lw S o 0 ∧ vc_li Lw S (S o 0).toNat (f 0) wr ∧ vc_li Lw S (S o 1).toNat (f 1) gr ∧ (∀ w, 0 ≤ w → w < f 0 → CW Lw S (wr w) f w) ∧ (∀ g, 0 ≤ g → g < f 1 → CG Lw S (gr g) f g (lt g)) ∧ S o 2 = f 3 ∧ S o 3 = f 4 ∧ S o 4 = f 5 ∧ S o 5 = f 7 + lt (-1) ∧ S o 29 = f 6
section CMC
variable {Lw : List Nat} {S : SS} {B : SB} {d o : Nat} {f : Int → Int} {wr gr : Int → Nat} {lt : Int → Int} {K : Int}
theorem cm_isWay {w : Int} (hw : -2147483648 ≤ w ∧ w ≤ 2147483647) (h : CLd Lw S o f wr gr lt) (hl : LI K f) : vc_M (d + 1) 0 0 9 [.inr (.inr o), ii w] Lw S B (vc_eq (some (ii (bI (sIsW f w)))) Lw S B) := by
  refine vc_start rfl rfl (Nat.le_of_ble_eq_true rfl) (fun X hX hd => ?_)
  obtain ⟨h1, h2, -⟩ := h
  have hn := hl.nW
  have e2 := h2.2.1
  refine vc_walk hX ck_X0_isWay [] 60 hd ?_
  refine ⟨hw, h1, ?_⟩
  refine vc_kv h2.1 (cm_size (d := d) h2.1) ⟨Nat.le_refl _, Nat.le_refl _⟩ ?_
  refine ⟨by omega, ?_⟩
  rw [e2]
  refine vc_k (cm_in (d := d) (by omega) (by decide) (by omega)) ⟨Nat.le_refl _, Nat.le_refl _⟩ ?_
  refine ⟨⟨?_, Nat.le_refl _, Nat.le_refl _⟩, ?_, rfl, rfl, rfl⟩
  · exact bI_01 _
  · rw [show sIn w 0 (f 0 - 1) = sIsW f w from decide_eq_decide.mpr ⟨fun z => by omega, fun z => by omega⟩]
theorem cm_isGoer {g : Int} (hg : -2147483648 ≤ g ∧ g ≤ 2147483647) (h : CLd Lw S o f wr gr lt) (hl : LI K f) : vc_M (d + 1) 0 0 12 [.inr (.inr o), ii g] Lw S B (vc_eq (some (ii (bI (sIsG f g)))) Lw S B) := by
  refine vc_start rfl rfl (Nat.le_of_ble_eq_true rfl) (fun X hX hd => ?_)
  obtain ⟨h1, -, h2, -⟩ := h
  have hn := hl.nG
  have e2 := h2.2.1
  refine vc_walk hX ck_X0_isGoer [] 60 hd ?_
  refine ⟨hg, h1, ?_⟩
  refine vc_kv h2.1 (cm_size (d := d) h2.1) ⟨Nat.le_refl _, Nat.le_refl _⟩ ?_
  refine ⟨by omega, ?_⟩
  rw [e2]
  refine vc_k (cm_in (d := d) (by omega) (by decide) (by omega)) ⟨Nat.le_refl _, Nat.le_refl _⟩ ?_
  refine ⟨⟨?_, Nat.le_refl _, Nat.le_refl _⟩, ?_, rfl, rfl, rfl⟩
  · exact bI_01 _
  · rw [show sIn g 0 (f 1 - 1) = sIsG f g from decide_eq_decide.mpr ⟨fun z => by omega, fun z => by omega⟩]
theorem cm_on {w : Int} (hw : -2147483648 ≤ w ∧ w ≤ 2147483647) (h : CLd Lw S o f wr gr lt) (hl : LI K f) : vc_M (d + 3) 0 0 10 [.inr (.inr o), ii w] Lw S B (vc_eq (some (ii (sOn f w))) Lw S B) := by
  refine vc_start rfl rfl (Nat.le_of_ble_eq_true rfl) (fun X hX hd => ?_)
  obtain ⟨h1, -, h2, -, h3, -⟩ := h
  have hn := hl.nG
  have e2 := h2.2.1
  have loop : ∀ (m : Nat) (k : Int), 0 ≤ k → k + m = f 1 → vc_J 10 (vc_eq (some (ii (sOn f w))) Lw S B) X 4 [(0, .inr (.inr o)), (1, ii w), (2, ii (cntB (fun g => sG f g 3 == w) k.toNat)), (3, ii k)] [] Lw S B 0 0 := by
    intro m
    induction m with
    | zero =>
      intro k k0 km
      refine vc_walk hX ck_X0_on [] 60 hd ?_
      refine ⟨h1, ?_⟩
      refine vc_kv h2.1 (cm_size (d := d + 2) h2.1) ⟨Nat.le_refl _, Nat.le_refl _⟩ ?_
      refine ⟨by omega, fun _ => ?_, fun c => absurd c (by omega)⟩
      refine ⟨⟨Nat.le_refl _, Nat.le_refl _⟩, ?_, rfl, rfl, rfl⟩
      unfold sOn
      rw [show k = f 1 by omega]
    | succ m ih =>
      intro k k0 km
      have hG := h3 k k0 (by omega)
      have hr := (hl.g k0 (by omega)).way hl.nW.2
      refine vc_walk hX ck_X0_on [(4, [0, 1, 2, 3])] 60 hd ?_
      refine ⟨h1, ?_⟩
      refine vc_kv h2.1 (cm_size (d := d + 2) h2.1) ⟨Nat.le_refl _, Nat.le_refl _⟩ ?_
      refine ⟨by omega, fun c => absurd c (by omega), fun _ => ?_⟩
      refine ⟨h1, ?_⟩
      refine vc_kv h2.1 (cm_get (d := d) h2 (i := k) ⟨k0, by omega⟩) ⟨Nat.le_refl _, Nat.le_refl _⟩ ?_
      refine ⟨Or.inr hG.1, hG.1, by rw [hG.2.2.2.2.1]; omega, fun c => ?_, fun c => ?_⟩
      · have := ih (k + 1) (by omega) (by omega)
        rw [cntB_s k0, show (sG f k 3 == w) = false from beq_false_of_ne (by rw [← hG.2.2.2.2.1]; exact c)] at this
        exact this
      · have := ih (k + 1) (by omega) (by omega)
        rw [cntB_s k0, show (sG f k 3 == w) = true from beq_iff_eq.mpr (by rw [← hG.2.2.2.2.1]; exact c)] at this
        exact this
  refine vc_walk hX ck_X0_on [(4, [0, 1, 2, 3])] 60 hd ?_
  exact loop (f 1).toNat 0 (by decide) (by omega)
end CMC
