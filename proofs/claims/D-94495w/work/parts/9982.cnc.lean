/-! THE COMPONENT's methods: what minutes change, kept and laid back -/
set_option maxRecDepth 100000
/-- what is kept of a land -/
def CKc (S : SS) (kr : Nat) (f : Int → Int) : Prop := (∀ g, 0 ≤ g → g < f 1 → ((0 ≤ S (S kr 0).toNat g ∧ S (S kr 0).toNat g ≤ 7) ∧ (sG f g 3 = -1 → S (S kr 0).toNat g = sG f g 0)) ∧ S (S kr 1).toNat g = sG f g 3 ∧ S (S kr 2).toNat g = sG f g 4 ∧ S (S kr 3).toNat g = sG f g 6 ∧ S (S kr 4).toNat g = sG f g 5) ∧ (∀ w, 0 ≤ w → w < f 0 → S (S kr 5).toNat w = sW f w 3 ∧ S (S kr 6).toNat w = sW f w 4) ∧ S kr 7 = f 2 ∧ S kr 8 = f 3 ∧ S kr 9 = f 4 ∧ S kr 10 = f 5
/-- what keeping writes -/
def kW (S0 : SS) (kr : Nat) (τ : Nat → Nat) (b : Nat) (r : Nat) (i : Int) : Prop := (r = kr ∧ 7 ≤ i ∧ i ≤ 10) ∨ (S0 r (-2) = 100 ∧ (b ≤ τ r ∧ τ r ≤ b + 6) ∧ 0 ≤ i)
section CNC
variable {Lw Lw' : List Nat} {S0 S : SS} {B : SB} {d o D kr b : Nat} {τ τ' : Nat → Nat} {f : Int → Int} {wr gr : Int → Nat} {lt : Int → Int} {K : Int}
theorem CLd.kw (h : CLd Lw S0 o f wr gr lt) (hk : vc_ob Lw S0 kr 2) (hA : Ag (kW S0 kr τ b) S0 S) : CLd Lw S o f wr gr lt := by
  refine h.same (fun _ h => h) (fun q c hq hc i => hA q i ?_) (fun i hi => hA o i ?_)
  · rintro (⟨z, -⟩ | ⟨z, -⟩)
    · exact ob_ne hq hk (by omega) z
    · have := hq.2; omega
  · rintro (⟨z, -⟩ | ⟨z, -⟩)
    · exact ob_ne h.1 hk (by decide) z
    · have := h.1.2; omega
theorem kW.neg {r : Nat} {i : Int} (hi : i < 0) : ¬ kW S0 kr τ b r i := by
  rintro (⟨-, z, -⟩ | ⟨-, -, z⟩) <;> omega
theorem kW.a {k : Nat} {len i : Int} (h : CAk Lw S0 kr τ k b len) (hk : k ≤ 6) (hi : 0 ≤ i) : kW S0 kr τ b (S0 kr (k : Int)).toNat i := Or.inr ⟨h.1.2, by rw [h.2.2]; omega, hi⟩
theorem CAk.kw {k : Nat} {len : Int} (h : CAk Lw S0 kr τ k b len) (hk : k ≤ 6) (h2 : vc_ob Lw S0 kr 2) (hA : Ag (kW S0 kr τ b) S0 S) : CAk Lw S kr τ k b len := by
  unfold CAk
  rw [hA kr k (by
    rintro (⟨-, z, -⟩ | ⟨z, -⟩)
    · omega
    · have := h2.2; omega), hA _ (-1) (kW.neg (by decide))]
  exact ⟨⟨h.1.1, by rw [hA _ (-2) (kW.neg (by decide))]; exact h.1.2⟩, h.2⟩
theorem CAk.ne {k k' : Nat} {len len' : Int} (h : CAk Lw S kr τ k b len) (h' : CAk Lw S kr τ k' b len') (hk : k ≠ k') : (S kr (k : Int)).toNat ≠ (S kr (k' : Int)).toNat := by
  intro z
  have e1 := h.2.2
  rw [z, h'.2.2] at e1
  omega
theorem cm_keeps (hK : CKp Lw S kr o τ b) (hC : CLd Lw S o f wr gr lt) (hl : LI K f) : vc_M (d + 4) 0 0 84 [.inr (.inr kr)] Lw S B (vc_up (fun v Lw' S' B' => v = none ∧ Lw = Lw' ∧ B = B' ∧ Ag (kW S kr τ b) S S' ∧ CKc S' kr f)) := by
  refine vc_start rfl rfl (Nat.le_of_ble_eq_true rfl) (fun X hX hd => ?_)
  have n0 := hl.nW
  have n1 := hl.nG
  obtain ⟨hk, ⟨a0, a1, a2, a3, a4, a5, a6⟩, h11⟩ := hK
  have e11 : ∀ S1, Ag (kW S kr τ b) S S1 → (S1 kr 11).toNat = o := fun S1 A => by
    rw [A kr 11 (by
      rintro (⟨-, z, z2⟩ | ⟨z, -⟩)
      · omega
      · have := hk.2; omega), h11, Int.toNat_natCast]
  have ek : ∀ S1, Ag (kW S kr τ b) S S1 → ∀ i : Int, i ≤ 6 → S1 kr i = S kr i := fun S1 A i hi => A kr i (by
    rintro (⟨-, z, -⟩ | ⟨z, -⟩)
    · omega
    · have := hk.2; omega)
  have ok : ∀ S1, Ag (kW S kr τ b) S S1 → vc_ob Lw S1 kr 2 := fun S1 A => ⟨hk.1, by rw [A kr (-2) (kW.neg (by decide))]; exact hk.2⟩
  have ob : ∀ S1, Ag (kW S kr τ b) S S1 → ∀ q c, vc_ob Lw S q c → vc_ob Lw S1 q c := fun S1 A q c hq => ⟨hq.1, by rw [A q (-2) (kW.neg (by decide))]; exact hq.2⟩
  have ln : ∀ S1, Ag (kW S kr τ b) S S1 → ∀ q, S1 q (-1) = S q (-1) := fun S1 A q => A q (-1) (kW.neg (by decide))
  have n01 : (S kr 0).toNat ≠ (S kr 1).toNat := a0.ne a1 (by decide)
  have n02 : (S kr 0).toNat ≠ (S kr 2).toNat := a0.ne a2 (by decide)
  have n03 : (S kr 0).toNat ≠ (S kr 3).toNat := a0.ne a3 (by decide)
  have n04 : (S kr 0).toNat ≠ (S kr 4).toNat := a0.ne a4 (by decide)
  have n12 : (S kr 1).toNat ≠ (S kr 2).toNat := a1.ne a2 (by decide)
  have n13 : (S kr 1).toNat ≠ (S kr 3).toNat := a1.ne a3 (by decide)
  have n14 : (S kr 1).toNat ≠ (S kr 4).toNat := a1.ne a4 (by decide)
  have n23 : (S kr 2).toNat ≠ (S kr 3).toNat := a2.ne a3 (by decide)
  have n24 : (S kr 2).toNat ≠ (S kr 4).toNat := a2.ne a4 (by decide)
  have n34 : (S kr 3).toNat ≠ (S kr 4).toNat := a3.ne a4 (by decide)
  have n05 : (S kr 0).toNat ≠ (S kr 5).toNat := a0.ne a5 (by decide)
  have n15 : (S kr 1).toNat ≠ (S kr 5).toNat := a1.ne a5 (by decide)
  have n25 : (S kr 2).toNat ≠ (S kr 5).toNat := a2.ne a5 (by decide)
  have n35 : (S kr 3).toNat ≠ (S kr 5).toNat := a3.ne a5 (by decide)
  have n45 : (S kr 4).toNat ≠ (S kr 5).toNat := a4.ne a5 (by decide)
  have n06 : (S kr 0).toNat ≠ (S kr 6).toNat := a0.ne a6 (by decide)
  have n16 : (S kr 1).toNat ≠ (S kr 6).toNat := a1.ne a6 (by decide)
  have n26 : (S kr 2).toNat ≠ (S kr 6).toNat := a2.ne a6 (by decide)
  have n36 : (S kr 3).toNat ≠ (S kr 6).toNat := a3.ne a6 (by decide)
  have n46 : (S kr 4).toNat ≠ (S kr 6).toNat := a4.ne a6 (by decide)
  have n56 : (S kr 5).toNat ≠ (S kr 6).toNat := a5.ne a6 (by decide)
  have o0 : vc_ob Lw S (S kr 0).toNat 100 := a0.1
  have o1 : vc_ob Lw S (S kr 1).toNat 100 := a1.1
  have o2 : vc_ob Lw S (S kr 2).toNat 100 := a2.1
  have o3 : vc_ob Lw S (S kr 3).toNat 100 := a3.1
  have o4 : vc_ob Lw S (S kr 4).toNat 100 := a4.1
  have o5 : vc_ob Lw S (S kr 5).toNat 100 := a5.1
  have o6 : vc_ob Lw S (S kr 6).toNat 100 := a6.1
  have l0 : S (S kr 0).toNat (-1) = 6 := a0.2.1
  have l1 : S (S kr 1).toNat (-1) = 6 := a1.2.1
  have l2 : S (S kr 2).toNat (-1) = 6 := a2.2.1
  have l3 : S (S kr 3).toNat (-1) = 6 := a3.2.1
  have l4 : S (S kr 4).toNat (-1) = 6 := a4.2.1
  have l5 : S (S kr 5).toNat (-1) = 14 := a5.2.1
  have l6 : S (S kr 6).toNat (-1) = 14 := a6.2.1
  have GK : SS → Int → Prop := fun S1 k => ∀ g, 0 ≤ g → g < k → ((0 ≤ S1 (S kr 0).toNat g ∧ S1 (S kr 0).toNat g ≤ 7) ∧ (sG f g 3 = -1 → S1 (S kr 0).toNat g = sG f g 0)) ∧ S1 (S kr 1).toNat g = sG f g 3 ∧ S1 (S kr 2).toNat g = sG f g 4 ∧ S1 (S kr 3).toNat g = sG f g 6 ∧ S1 (S kr 4).toNat g = sG f g 5
  have lp2 : ∀ (m : Nat) (k : Int) (S1 : SS), 0 ≤ k → k + m = f 0 → Ag (kW S kr τ b) S S1 → (∀ g, 0 ≤ g → g < f 1 → ((0 ≤ S1 (S kr 0).toNat g ∧ S1 (S kr 0).toNat g ≤ 7) ∧ (sG f g 3 = -1 → S1 (S kr 0).toNat g = sG f g 0)) ∧ S1 (S kr 1).toNat g = sG f g 3 ∧ S1 (S kr 2).toNat g = sG f g 4 ∧ S1 (S kr 3).toNat g = sG f g 6 ∧ S1 (S kr 4).toNat g = sG f g 5) → (∀ w, 0 ≤ w → w < k → S1 (S kr 5).toNat w = sW f w 3 ∧ S1 (S kr 6).toNat w = sW f w 4) → vc_J 84 (vc_up (fun v Lw' S' B' => v = none ∧ Lw = Lw' ∧ B = B' ∧ Ag (kW S kr τ b) S S' ∧ CKc S' kr f)) X 89 [(0, .inr (.inr kr)), (1, ii k)] [] Lw S1 B 0 0 := by
    intro m
    induction m with
    | zero =>
      intro k S1 k0 km A1 P1 Q1
      have C1 := hC.kw hk A1
      have ul := C1.2.1
      have e2 := ul.2.1
      refine vc_walk hX ck_X2_keep [] 90 hd ?_
      refine ⟨ok S1 A1, ?_⟩
      rw [e11 S1 A1]
      refine ⟨C1.1, ?_⟩
      refine vc_kv ul.1 (cm_size (d := d + 3) ul.1) ⟨Nat.le_refl _, Nat.le_refl _⟩ ?_
      refine ⟨by omega, fun _ => ?_, fun z => absurd z (by omega)⟩
      refine ⟨ok S1 A1, ?_⟩
      rw [e11 S1 A1]
      refine ⟨C1.1, vc_k (cm_directions (d := d) C1 hl) ⟨Nat.le_refl _, Nat.le_refl _⟩ ?_⟩
      have A2 := A1.up (r := kr) (i := 7) (v := f 2) (Or.inl ⟨rfl, by decide, by decide⟩)
      have C2 := hC.kw hk A2
      refine ⟨ok S1 A1, ok _ A2, ?_⟩
      rw [e11 _ A2]
      refine ⟨C2.1, ?_⟩
      rw [C2.2.2.2.2.2.1]
      have A3 := A2.up (r := kr) (i := 8) (v := f 3) (Or.inl ⟨rfl, by decide, by decide⟩)
      have C3 := hC.kw hk A3
      refine ⟨ok _ A2, ok _ A3, ?_⟩
      rw [e11 _ A3]
      refine ⟨C3.1, ?_⟩
      rw [C3.2.2.2.2.2.2.1]
      have A4 := A3.up (r := kr) (i := 9) (v := f 4) (Or.inl ⟨rfl, by decide, by decide⟩)
      have C4 := hC.kw hk A4
      refine ⟨ok _ A3, ok _ A4, ?_⟩
      rw [e11 _ A4]
      refine ⟨C4.1, ?_⟩
      rw [C4.2.2.2.2.2.2.2.1]
      have A5 := A4.up (r := kr) (i := 10) (v := f 5) (Or.inl ⟨rfl, by decide, by decide⟩)
      refine ⟨ok _ A4, ⟨Nat.le_refl _, Nat.le_refl _⟩, rfl, rfl, rfl, A5, ?_⟩
      have nk : ∀ q, vc_ob Lw S q 100 → q ≠ kr := fun q hq => ob_ne hq hk (by decide)
      have rr : ∀ q i, vc_ob Lw S q 100 → (vt_up (vt_up (vt_up (vt_up S1 kr 7 (f 2)) kr 8 (f 3)) kr 9 (f 4)) kr 10 (f 5)) q i = S1 q i := fun q i hq => by
        rw [up_ne (Or.inl (nk q hq)), up_ne (Or.inl (nk q hq)), up_ne (Or.inl (nk q hq)), up_ne (Or.inl (nk q hq))]
      have e5 := ek _ A5
      refine ⟨fun g g0 g1 => ?_, fun w w0 w1 => ?_, ?_, ?_, ?_, ?_⟩
      · rw [e5 0 (by decide), e5 1 (by decide), e5 2 (by decide), e5 3 (by decide), e5 4 (by decide), rr _ g o0, rr _ g o1, rr _ g o2, rr _ g o3, rr _ g o4]
        exact P1 g g0 g1
      · rw [e5 5 (by decide), e5 6 (by decide), rr _ w o5, rr _ w o6]
        exact Q1 w w0 (by omega)
      · rw [up_ne (Or.inr (by decide)), up_ne (Or.inr (by decide)), up_ne (Or.inr (by decide)), vt_up_self]
      · rw [up_ne (Or.inr (by decide)), up_ne (Or.inr (by decide)), vt_up_self]
      · rw [up_ne (Or.inr (by decide)), vt_up_self]
      · rw [vt_up_self]
    | succ m ih =>
      intro k S1 k0 km A1 P1 Q1
      have C1 := hC.kw hk A1
      have ul := C1.2.1
      have e2 := ul.2.1
      have hW := C1.2.2.2.1 k k0 (by omega)
      have ek1 := ek S1 A1
      have ln1 := ln S1 A1
      refine vc_walk hX ck_X2_keep [(89, [0, 1])] 60 hd ?_
      refine ⟨ok S1 A1, ?_⟩
      rw [e11 S1 A1]
      refine ⟨C1.1, ?_⟩
      refine vc_kv ul.1 (cm_size (d := d + 3) ul.1) ⟨Nat.le_refl _, Nat.le_refl _⟩ ?_
      refine ⟨by omega, fun z => absurd z (by omega), fun _ => ?_⟩
      refine ⟨ok S1 A1, ok S1 A1, ?_⟩
      rw [e11 S1 A1, ek1 5 (by decide)]
      refine ⟨C1.1, ?_⟩
      refine vc_kv ul.1 (cm_get (d := d + 1) ul (i := k) ⟨k0, by omega⟩) ⟨Nat.le_refl _, Nat.le_refl _⟩ ?_
      refine ⟨Or.inr hW.1, hW.1, ⟨ob S1 A1 _ _ o5, by omega, by rw [ln1]; omega, by rw [ln1]; omega⟩, ?_⟩
      rw [hW.2.2.2.2.1]
      have w5 : kW S kr τ b (S kr 5).toNat k := kW.a a5 (by decide) k0
      have A2 := A1.up (v := sW f k 3) w5
      have C2 := hC.kw hk A2
      have ul2 := C2.2.1
      have hW2 := C2.2.2.2.1 k k0 (by omega)
      have ek2 := ek _ A2
      have ln2 := ln _ A2
      refine ⟨ok _ A2, ok _ A2, ?_⟩
      rw [e11 _ A2, ek2 6 (by decide)]
      refine ⟨C2.1, ?_⟩
      refine vc_kv ul2.1 (cm_get (d := d + 1) ul2 (i := k) ⟨k0, by omega⟩) ⟨Nat.le_refl _, Nat.le_refl _⟩ ?_
      refine ⟨Or.inr hW2.1, hW2.1, ⟨ob _ A2 _ _ o6, by omega, by rw [ln2]; omega, by rw [ln2]; omega⟩, ?_⟩
      rw [hW2.2.2.2.2.2.1]
      have w6 : kW S kr τ b (S kr 6).toNat k := kW.a a6 (by decide) k0
      refine ih (k + 1) _ (by omega) (by omega) (A2.up w6) (fun g g0 g1 => ?_) (fun w w0 w1 => ?_)
      · rw [up_ne (Or.inl n06), up_ne (Or.inl n16), up_ne (Or.inl n26), up_ne (Or.inl n36), up_ne (Or.inl n46), up_ne (Or.inl n05), up_ne (Or.inl n15), up_ne (Or.inl n25), up_ne (Or.inl n35), up_ne (Or.inl n45)]
        exact P1 g g0 g1
      · rw [up_ne (Or.inl n56), up_rd, up_rd]
        by_cases c : w = k
        · subst c
          rw [if_pos ⟨rfl, rfl⟩, if_pos ⟨rfl, rfl⟩]
          exact ⟨rfl, rfl⟩
        · rw [if_neg (fun z => c z.2), if_neg (fun z => c z.2), up_ne (Or.inr c)]
          exact Q1 w w0 (by omega)
  have lp1 : ∀ (m : Nat) (k : Int) (S1 : SS), 0 ≤ k → k + m = f 1 → Ag (kW S kr τ b) S S1 → (∀ g, 0 ≤ g → g < k → ((0 ≤ S1 (S kr 0).toNat g ∧ S1 (S kr 0).toNat g ≤ 7) ∧ (sG f g 3 = -1 → S1 (S kr 0).toNat g = sG f g 0)) ∧ S1 (S kr 1).toNat g = sG f g 3 ∧ S1 (S kr 2).toNat g = sG f g 4 ∧ S1 (S kr 3).toNat g = sG f g 6 ∧ S1 (S kr 4).toNat g = sG f g 5) → vc_J 84 (vc_up (fun v Lw' S' B' => v = none ∧ Lw = Lw' ∧ B = B' ∧ Ag (kW S kr τ b) S S' ∧ CKc S' kr f)) X 2 [(0, .inr (.inr kr)), (1, ii k)] [] Lw S1 B 0 0 := by
    intro m
    induction m with
    | zero =>
      intro k S1 k0 km A1 P1
      have C1 := hC.kw hk A1
      have gl := C1.2.2.1
      have e2 := gl.2.1
      refine vc_walk hX ck_X2_keep [(89, [0, 1])] 60 hd ?_
      refine ⟨ok S1 A1, ?_⟩
      rw [e11 S1 A1]
      refine ⟨C1.1, ?_⟩
      refine vc_kv gl.1 (cm_size (d := d + 3) gl.1) ⟨Nat.le_refl _, Nat.le_refl _⟩ ?_
      refine ⟨by omega, fun _ => ?_, fun z => absurd z (by omega)⟩
      exact lp2 (f 0).toNat 0 S1 (by decide) (by omega) A1 (fun g g0 g1 => P1 g g0 (by omega)) (fun w w0 w1 => by omega)
    | succ m ih =>
      intro k S1 k0 km A1 P1
      have C1 := hC.kw hk A1
      have gl := C1.2.2.1
      have e2 := gl.2.1
      have hG := C1.2.2.2.2.1 k k0 (by omega)
      obtain ⟨q0, q1, q2, ⟨q3, q3b⟩, q4, q5, q6, q7, q8⟩ := hG
      have w0 : kW S kr τ b (S kr 0).toNat k := kW.a a0 (by decide) k0
      have w1 : kW S kr τ b (S kr 1).toNat k := kW.a a1 (by decide) k0
      have w2 : kW S kr τ b (S kr 2).toNat k := kW.a a2 (by decide) k0
      have w3 : kW S kr τ b (S kr 3).toNat k := kW.a a3 (by decide) k0
      have w4 : kW S kr τ b (S kr 4).toNat k := kW.a a4 (by decide) k0
      have A2 := A1.up (v := S1 (gr k) 2) w0
      have A3 := A2.up (v := sG f k 3) w1
      have A4 := A3.up (v := sG f k 4) w2
      have A5 := A4.up (v := sG f k 6) w3
      have A6 := A5.up (v := sG f k 5) w4
      have hg : ∀ S2, Ag (kW S kr τ b) S S2 → CG Lw S2 (gr k) f k (lt k) := fun S2 A => (hC.kw hk A).2.2.2.2.1 k k0 (by omega)
      have at1 : ∀ S2 (q : Nat) (len : Int), Ag (kW S kr τ b) S S2 → vc_ob Lw S q 100 → S q (-1) = 6 → vc_ob Lw S2 q 100 ∧ 0 ≤ k ∧ k < S2 q (-1) ∧ S2 q (-1) ≤ 1048576 := fun S2 q len A hq hlen => ⟨ob S2 A q 100 hq, k0, by rw [ln S2 A]; omega, by rw [ln S2 A]; omega⟩
      refine vc_walk hX ck_X2_keep [(2, [0, 1])] 60 hd ?_
      refine ⟨ok S1 A1, ?_⟩
      rw [e11 S1 A1]
      refine ⟨C1.1, ?_⟩
      refine vc_kv gl.1 (cm_size (d := d + 3) gl.1) ⟨Nat.le_refl _, Nat.le_refl _⟩ ?_
      refine ⟨by omega, fun z => absurd z (by omega), fun _ => ?_⟩
      refine ⟨ok S1 A1, ?_⟩
      rw [e11 S1 A1]
      refine ⟨C1.1, ?_⟩
      refine vc_kv gl.1 (cm_get (d := d + 1) gl (i := k) ⟨k0, by omega⟩) ⟨Nat.le_refl _, Nat.le_refl _⟩ ?_
      refine ⟨Or.inr q0, ok S1 A1, q0, ?_⟩
      rw [ek S1 A1 0 (by decide)]
      refine ⟨at1 S1 _ 6 A1 o0 l0, ok _ A2, (hg _ A2).1, ?_⟩
      rw [ek _ A2 1 (by decide), (hg _ A2).2.2.2.2.1]
      refine ⟨at1 _ _ 6 A2 o1 l1, ok _ A3, (hg _ A3).1, ?_⟩
      rw [ek _ A3 2 (by decide), (hg _ A3).2.2.2.2.2.1]
      refine ⟨at1 _ _ 6 A3 o2 l2, ok _ A4, (hg _ A4).1, ?_⟩
      rw [ek _ A4 3 (by decide), (hg _ A4).2.2.2.2.2.2.1]
      refine ⟨at1 _ _ 6 A4 o3 l3, ok _ A5, (hg _ A5).1, ?_⟩
      rw [ek _ A5 4 (by decide), (hg _ A5).2.2.2.2.2.2.2.1]
      refine ⟨at1 _ _ 6 A5 o4 l4, ?_⟩
      refine ih (k + 1) _ (by omega) (by omega) A6 (fun g g0 g1 => ?_)
      rw [up_ne (Or.inl n04), up_ne (Or.inl n03), up_ne (Or.inl n02), up_ne (Or.inl n01), up_ne (Or.inl n14), up_ne (Or.inl n13), up_ne (Or.inl n12), up_ne (Or.inl n24), up_ne (Or.inl n23), up_ne (Or.inl n34)]
      by_cases c : g = k
      · subst c
        rw [vt_up_self, vt_up_self, vt_up_self, vt_up_self, vt_up_self]
        exact ⟨⟨q3, q3b⟩, rfl, rfl, rfl, rfl⟩
      · have hh : ∀ (S' : SS) (r r' : Nat) (v : Int), vt_up S' r k v r' g = S' r' g := fun _ _ _ _ => up_ne (Or.inr c)
        simp only [hh]
        exact P1 g g0 (by omega)
  refine vc_walk hX ck_X2_keep [(2, [0, 1])] 60 hd ?_
  exact lp1 (f 1).toNat 0 S (by decide) (by omega) Ag.rf (fun g g0 g1 => by omega)
end CNC
