/-! THE COMPONENT's methods: counts over ways and goers -/
set_option maxRecDepth 100000
section CMD
variable {Lw : List Nat} {S : SS} {B : SB} {d o : Nat} {f : Int → Int} {wr gr : Int → Nat} {lt : Int → Int} {K : Int}
theorem CW.from {r : Nat} {w : Int} (h : CW Lw S r f w) : (if S r 5 = 0 then S r 0 else S r 1) = sE f (f 2) w 0 := by
  obtain ⟨-, h0, h1, -, -, -, h5⟩ := h
  unfold sE
  cases hb : (f 2).toNat.testBit w.toNat with
  | false => rw [hb] at h5; rw [if_pos (show S r 5 = 0 from h5), h0]; rfl
  | true => rw [hb] at h5; rw [if_neg (by rw [h5]; decide), h1]; rfl
theorem CW.to {r : Nat} {w : Int} (h : CW Lw S r f w) : (if S r 5 = 0 then S r 1 else S r 0) = sE f (f 2) w 1 := by
  obtain ⟨-, h0, h1, -, -, -, h5⟩ := h
  unfold sE
  cases hb : (f 2).toNat.testBit w.toNat with
  | false => rw [hb] at h5; rw [if_pos (show S r 5 = 0 from h5), h1]; rfl
  | true => rw [hb] at h5; rw [if_neg (by rw [h5]; decide), h0]; rfl
theorem CW.b {r : Nat} {w : Int} (h : CW Lw S r f w) : S r 5 = 0 ∨ S r 5 = 1 := by rw [h.2.2.2.2.2.2]; exact bI_01 _
theorem sE_rg {x w e : Int} (h : WI f w) (he : e = 0 ∨ e = 1) : 0 ≤ sE f x w e ∧ sE f x w e ≤ 7 := by
  unfold sE
  rcases he with rfl | rfl
  · split
    · exact h.2.1
    · exact h.1
  · split
    · exact h.1
    · exact h.2.1
theorem cm_isPlace {p : Int} (hp : -2147483648 ≤ p ∧ p ≤ 2147483647) : vc_M (d + 1) 0 0 14 [ii p] Lw S B (vc_eq (some (ii (bI (sIsP p)))) Lw S B) := by
  refine vc_start rfl rfl (Nat.le_of_ble_eq_true rfl) (fun X hX hd => ?_)
  refine vc_walk hX ck_X0_isPlace [] 60 hd ?_
  refine ⟨hp, ?_⟩
  refine vc_k (cm_in (d := d) (by omega) (by decide) (by decide)) ⟨Nat.le_refl _, Nat.le_refl _⟩ ?_
  refine ⟨⟨bI_01 _, Nat.le_refl _, Nat.le_refl _⟩, ?_, rfl, rfl, rfl⟩
  rw [show sIn p 0 7 = sIsP p from decide_eq_decide.mpr ⟨fun z => by omega, fun z => by omega⟩]
theorem cm_out {p : Int} (hp : -2147483648 ≤ p ∧ p ≤ 2147483647) (h : CLd Lw S o f wr gr lt) (hl : LI K f) : vc_M (d + 3) 0 0 15 [.inr (.inr o), ii p] Lw S B (vc_eq (some (ii (sLd f (f 2) p 0))) Lw S B) := by
  refine vc_start rfl rfl (Nat.le_of_ble_eq_true rfl) (fun X hX hd => ?_)
  obtain ⟨h1, h2, -, h3, -⟩ := h
  have hn := hl.nW
  have e2 := h2.2.1
  have loop : ∀ (m : Nat) (k : Int), 0 ≤ k → k + m = f 0 → vc_J 15 (vc_eq (some (ii (sLd f (f 2) p 0))) Lw S B) X 4 [(0, .inr (.inr o)), (1, ii p), (2, ii (cntB (fun w => sE f (f 2) w 0 == p) k.toNat)), (3, ii k)] [] Lw S B 0 0 := by
    intro m
    induction m with
    | zero =>
      intro k k0 km
      refine vc_walk hX ck_X0_out [] 60 hd ?_
      refine ⟨h1, ?_⟩
      refine vc_kv h2.1 (cm_size (d := d + 2) h2.1) ⟨Nat.le_refl _, Nat.le_refl _⟩ ?_
      refine ⟨by omega, fun _ => ?_, fun c => absurd c (by omega)⟩
      refine ⟨⟨Nat.le_refl _, Nat.le_refl _⟩, ?_, rfl, rfl, rfl⟩
      unfold sLd
      rw [show k = f 0 by omega]
    | succ m ih =>
      intro k k0 km
      have hW := h3 k k0 (by omega)
      have hr := sE_rg (x := f 2) (e := 0) (hl.w k0 (by omega)) (.inl rfl)
      refine vc_walk hX ck_X0_out [(4, [0, 1, 2, 3])] 60 hd ?_
      refine ⟨h1, ?_⟩
      refine vc_kv h2.1 (cm_size (d := d + 2) h2.1) ⟨Nat.le_refl _, Nat.le_refl _⟩ ?_
      refine ⟨by omega, fun c => absurd c (by omega), fun _ => ?_⟩
      refine ⟨h1, ?_⟩
      refine vc_kv h2.1 (cm_get (d := d) h2 (i := k) ⟨k0, by omega⟩) ⟨Nat.le_refl _, Nat.le_refl _⟩ ?_
      refine ⟨Or.inr hW.1, ?_⟩
      refine vc_kv hW.1 (cm_from (d := d + 2) hW.1 hW.b) ⟨Nat.le_refl _, Nat.le_refl _⟩ ?_
      rw [hW.from]
      refine ⟨by omega, fun c => ?_, fun c => ?_⟩
      · have := ih (k + 1) (by omega) (by omega)
        rw [cntB_s k0, show (sE f (f 2) k 0 == p) = false from beq_false_of_ne c] at this
        exact this
      · have := ih (k + 1) (by omega) (by omega)
        rw [cntB_s k0, show (sE f (f 2) k 0 == p) = true from beq_iff_eq.mpr c] at this
        exact this
  refine vc_walk hX ck_X0_out [(4, [0, 1, 2, 3])] 60 hd ?_
  exact loop (f 0).toNat 0 (by decide) (by omega)
theorem cm_into {p : Int} (hp : -2147483648 ≤ p ∧ p ≤ 2147483647) (h : CLd Lw S o f wr gr lt) (hl : LI K f) : vc_M (d + 3) 0 0 16 [.inr (.inr o), ii p] Lw S B (vc_eq (some (ii (sLd f (f 2) p 1))) Lw S B) := by
  refine vc_start rfl rfl (Nat.le_of_ble_eq_true rfl) (fun X hX hd => ?_)
  obtain ⟨h1, h2, -, h3, -⟩ := h
  have hn := hl.nW
  have e2 := h2.2.1
  have loop : ∀ (m : Nat) (k : Int), 0 ≤ k → k + m = f 0 → vc_J 16 (vc_eq (some (ii (sLd f (f 2) p 1))) Lw S B) X 4 [(0, .inr (.inr o)), (1, ii p), (2, ii (cntB (fun w => sE f (f 2) w 1 == p) k.toNat)), (3, ii k)] [] Lw S B 0 0 := by
    intro m
    induction m with
    | zero =>
      intro k k0 km
      refine vc_walk hX ck_X0_into [] 60 hd ?_
      refine ⟨h1, ?_⟩
      refine vc_kv h2.1 (cm_size (d := d + 2) h2.1) ⟨Nat.le_refl _, Nat.le_refl _⟩ ?_
      refine ⟨by omega, fun _ => ?_, fun c => absurd c (by omega)⟩
      refine ⟨⟨Nat.le_refl _, Nat.le_refl _⟩, ?_, rfl, rfl, rfl⟩
      unfold sLd
      rw [show k = f 0 by omega]
    | succ m ih =>
      intro k k0 km
      have hW := h3 k k0 (by omega)
      have hr := sE_rg (x := f 2) (e := 1) (hl.w k0 (by omega)) (.inr rfl)
      refine vc_walk hX ck_X0_into [(4, [0, 1, 2, 3])] 60 hd ?_
      refine ⟨h1, ?_⟩
      refine vc_kv h2.1 (cm_size (d := d + 2) h2.1) ⟨Nat.le_refl _, Nat.le_refl _⟩ ?_
      refine ⟨by omega, fun c => absurd c (by omega), fun _ => ?_⟩
      refine ⟨h1, ?_⟩
      refine vc_kv h2.1 (cm_get (d := d) h2 (i := k) ⟨k0, by omega⟩) ⟨Nat.le_refl _, Nat.le_refl _⟩ ?_
      refine ⟨Or.inr hW.1, ?_⟩
      refine vc_kv hW.1 (cm_to (d := d + 2) hW.1 hW.b) ⟨Nat.le_refl _, Nat.le_refl _⟩ ?_
      rw [hW.to]
      refine ⟨by omega, fun c => ?_, fun c => ?_⟩
      · have := ih (k + 1) (by omega) (by omega)
        rw [cntB_s k0, show (sE f (f 2) k 1 == p) = false from beq_false_of_ne c] at this
        exact this
      · have := ih (k + 1) (by omega) (by omega)
        rw [cntB_s k0, show (sE f (f 2) k 1 == p) = true from beq_iff_eq.mpr c] at this
        exact this
  refine vc_walk hX ck_X0_into [(4, [0, 1, 2, 3])] 60 hd ?_
  exact loop (f 0).toNat 0 (by decide) (by omega)
theorem cm_standing {p : Int} (hp : 0 ≤ p ∧ p ≤ 7) (h : CLd Lw S o f wr gr lt) (hl : LI K f) : vc_M (d + 3) 0 0 17 [.inr (.inr o), ii p] Lw S B (vc_eq (some (ii (sSt f p))) Lw S B) := by
  refine vc_start rfl rfl (Nat.le_of_ble_eq_true rfl) (fun X hX hd => ?_)
  obtain ⟨h1, -, h2, -, h3, -⟩ := h
  have hn := hl.nG
  have e2 := h2.2.1
  have loop : ∀ (m : Nat) (k : Int), 0 ≤ k → k + m = f 1 → vc_J 17 (vc_eq (some (ii (sSt f p))) Lw S B) X 4 [(0, .inr (.inr o)), (1, ii p), (2, ii (cntB (fun g => sG f g 0 == p) k.toNat)), (3, ii k)] [] Lw S B 0 0 := by
    intro m
    induction m with
    | zero =>
      intro k k0 km
      refine vc_walk hX ck_X0_standing [] 60 hd ?_
      refine ⟨h1, ?_⟩
      refine vc_kv h2.1 (cm_size (d := d + 2) h2.1) ⟨Nat.le_refl _, Nat.le_refl _⟩ ?_
      refine ⟨by omega, fun _ => ?_, fun c => absurd c (by omega)⟩
      refine ⟨⟨Nat.le_refl _, Nat.le_refl _⟩, ?_, rfl, rfl, rfl⟩
      unfold sSt
      rw [show k = f 1 by omega]
    | succ m ih =>
      intro k k0 km
      obtain ⟨g1, g2, g3, ⟨g4, g4b⟩, g5, -⟩ := h3 k k0 (by omega)
      have hGI := hl.g k0 (show k < f 1 by omega)
      have hr := hGI.way hl.nW.2
      have ih' := ih (k + 1) (by omega) (by omega)
      rw [cntB_s k0] at ih'
      refine vc_walk hX ck_X0_standing [(4, [0, 1, 2, 3])] 60 hd ?_
      refine ⟨h1, ?_⟩
      refine vc_kv h2.1 (cm_size (d := d + 2) h2.1) ⟨Nat.le_refl _, Nat.le_refl _⟩ ?_
      refine ⟨by omega, fun c => absurd c (by omega), fun _ => ?_⟩
      refine ⟨h1, ?_⟩
      refine vc_kv h2.1 (cm_get (d := d) h2 (i := k) ⟨k0, by omega⟩) ⟨Nat.le_refl _, Nat.le_refl _⟩ ?_
      refine ⟨Or.inr g1, ?_⟩
      refine vc_kv g1 (cm_stands (d := d + 2) g1 (by omega)) ⟨Nat.le_refl _, Nat.le_refl _⟩ ?_
      by_cases hs : S (gr k) 3 = -1
      · have hp2 := g4b (by omega)
        rw [show (S (gr k) 3 == -1) = true from beq_iff_eq.mpr hs]
        refine ⟨by decide, fun z => absurd z (by decide), fun _ => ?_⟩
        refine ⟨h1, ?_⟩
        refine vc_kv h2.1 (cm_get (d := d) h2 (i := k) ⟨k0, by omega⟩) ⟨Nat.le_refl _, Nat.le_refl _⟩ ?_
        refine ⟨Or.inr g1, g1, by omega, fun c => ?_, fun c => ?_⟩
        · rw [show (sG f k 0 == p) = false from beq_false_of_ne (by omega)] at ih'
          exact ih'
        · rw [show (sG f k 0 == p) = true from beq_iff_eq.mpr (by omega)] at ih'
          exact ih'
      · rw [show (S (gr k) 3 == -1) = false from beq_false_of_ne hs]
        refine ⟨by decide, fun _ => ?_, fun z => absurd rfl z⟩
        have h8 : sG f k 0 = 8 := by
          obtain ⟨-, -, -, hh | hh⟩ := hGI
          · omega
          · exact hh.2.2.2.2.2.2
        rw [show (sG f k 0 == p) = false from beq_false_of_ne (by omega)] at ih'
        exact ih'
  refine vc_walk hX ck_X0_standing [(4, [0, 1, 2, 3])] 60 hd ?_
  exact loop (f 1).toNat 0 (by decide) (by omega)
end CMD
