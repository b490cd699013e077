/-! THE COMPONENT's methods: what was kept is laid back -/
set_option maxRecDepth 100000
/-- what of a land never changes -/
def CFx (Lw : List Nat) (S : SS) (o : Nat) (f : Int → Int) (wr gr : Int → Nat) (lt : Int → Int) : Prop := vc_ob Lw S o 0 ∧ vc_li Lw S (S o 0).toNat (f 0) wr ∧ vc_li Lw S (S o 1).toNat (f 1) gr ∧ (∀ w, 0 ≤ w → w < f 0 → vc_ob Lw S (wr w) 4 ∧ S (wr w) 0 = sW f w 0 ∧ S (wr w) 1 = sW f w 1 ∧ S (wr w) 2 = sW f w 2) ∧ ∀ g, 0 ≤ g → g < f 1 → vc_ob Lw S (gr g) 5 ∧ S (gr g) 0 = sG f g 1 ∧ S (gr g) 1 = sG f g 2 - lt g ∧ S (gr g) 7 = lt g
/-- what laying back writes -/
def wW (S0 : SS) (o : Nat) (r : Nat) (i : Int) : Prop := (S0 r (-2) = 5 ∧ 2 ≤ i ∧ i ≤ 6) ∨ (S0 r (-2) = 4 ∧ 3 ≤ i ∧ i ≤ 5) ∨ (r = o ∧ 2 ≤ i ∧ i ≤ 4)
section CND
variable {Lw Lw' : List Nat} {S0 S : SS} {B : SB} {d o D kr b : Nat} {τ τ' : Nat → Nat} {f : Int → Int} {wr gr : Int → Nat} {lt : Int → Int} {K : Int}
theorem wW.q {r : Nat} {i : Int} (h : wW S0 o r i) : qW S0 o τ r i := by
  rcases h with ⟨h1, h2⟩ | h | ⟨h1, h2⟩
  · exact Or.inr (Or.inr (Or.inr ⟨h1, by omega, by omega⟩))
  · exact Or.inr (Or.inr (Or.inl h))
  · exact Or.inr (Or.inl ⟨h1, by omega, by omega⟩)
theorem Ag.wq (h : Ag (wW S0 o) S0 S) : Ag (qW S0 o τ) S0 S := h.mono (fun _ _ z => z.q)
theorem wW.k {r : Nat} {c i : Int} (h0 : S0 o (-2) = 0) (h : S0 r (-2) = c) (hc : c ≠ 0 ∧ c ≠ 4 ∧ c ≠ 5) : ¬ wW S0 o r i := by
  rintro (⟨z, -⟩ | ⟨z, -⟩ | ⟨z, -⟩)
  · omega
  · omega
  · subst z; omega
theorem CLd.fx {f' : Int → Int} (h : CLd Lw S o f' wr gr lt) (h0 : f' 0 = f 0) (h1 : f' 1 = f 1) (hw : ∀ w k, 0 ≤ w → w < f 0 → 0 ≤ k → k ≤ 2 → sW f' w k = sW f w k) (hg : ∀ g k, 0 ≤ g → g < f 1 → k = 1 ∨ k = 2 → sG f' g k = sG f g k) : CFx Lw S o f wr gr lt := by
  obtain ⟨a1, a2, a3, a4, a5, -⟩ := h
  rw [h0] at a2 a4
  rw [h1] at a3 a5
  refine ⟨a1, a2, a3, fun w w0 w1 => ?_, fun g g0 g1 => ?_⟩
  · obtain ⟨b0, b1, b2, b3, -⟩ := a4 w w0 w1
    rw [hw w 0 w0 w1 (by decide) (by decide)] at b1
    rw [hw w 1 w0 w1 (by decide) (by decide)] at b2
    rw [hw w 2 w0 w1 (by decide) (by decide)] at b3
    exact ⟨b0, b1, b2, b3⟩
  · obtain ⟨b0, b1, b2, -, -, -, -, -, b8⟩ := a5 g g0 g1
    rw [hg g 1 g0 g1 (Or.inl rfl)] at b1
    rw [hg g 2 g0 g1 (Or.inr rfl)] at b2
    exact ⟨b0, b1, b2, b8⟩
theorem cm_backs (hK : CKp Lw S kr o τ b) (hc : CKc S kr f) (hx : CFx Lw S o f wr gr lt) (hj : CIj f wr gr) (hl : LI K f) : vc_M (d + 4) 0 0 85 [.inr (.inr kr)] Lw S B (vc_up (fun v Lw' S' B' => v = none ∧ Lw = Lw' ∧ B = B' ∧ Ag (wW S o) S S' ∧ CLd Lw S' o (upF (upF f 7 (S o 5 - lt (-1))) 6 (S o 29)) wr gr lt)) := by
  refine vc_start rfl rfl (Nat.le_of_ble_eq_true rfl) (fun X hX hd => ?_)
  have n0 := hl.nW
  have n1 := hl.nG
  obtain ⟨hk, ⟨a0, a1, a2, a3, a4, a5, a6⟩, h11⟩ := hK
  obtain ⟨x1, x2, x3, x4, x5⟩ := hx
  obtain ⟨k1, k2, k7, k8, k9, k10⟩ := hc
  have k0 := x1.2
  -- what stays
  have ek : ∀ S1, Ag (wW S o) S S1 → ∀ i, S1 kr i = S kr i := fun S1 A i => A kr i (wW.k k0 hk.2 (by decide))
  have e11 : ∀ S1, Ag (wW S o) S S1 → (S1 kr 11).toNat = o := fun S1 A => by rw [ek S1 A, h11, Int.toNat_natCast]
  have ob : ∀ S1, Ag (wW S o) S S1 → ∀ q c, vc_ob Lw S q c → vc_ob Lw S1 q c := fun S1 A q c hq => A.wq.p.ob (τ := τ) hq
  have ear : ∀ S1, Ag (wW S o) S S1 → ∀ q, vc_ob Lw S q 100 → ∀ i, S1 q i = S q i := fun S1 A q hq i => A q i (wW.k k0 hq.2 (by decide))
  have li : ∀ S1, Ag (wW S o) S S1 → ∀ r n g, vc_li Lw S r n g → vc_li Lw S1 r n g := fun S1 A r n g h => A.wq.p.li (τ := τ) k0 h
  have eo : ∀ S1, Ag (wW S o) S S1 → ∀ i, i < 2 ∨ 4 < i → S1 o i = S o i := fun S1 A i hi => A o i (by
    rintro (⟨z, -⟩ | ⟨z, -⟩ | ⟨-, z⟩) <;> omega)
  have o0 : vc_ob Lw S (S kr 0).toNat 100 := a0.1
  have o1 : vc_ob Lw S (S kr 1).toNat 100 := a1.1
  have o2 : vc_ob Lw S (S kr 2).toNat 100 := a2.1
  have o3 : vc_ob Lw S (S kr 3).toNat 100 := a3.1
  have o4 : vc_ob Lw S (S kr 4).toNat 100 := a4.1
  have o5 : vc_ob Lw S (S kr 5).toNat 100 := a5.1
  have o6 : vc_ob Lw S (S kr 6).toNat 100 := a6.1
  have l0 : S (S kr 0).toNat (-1) = 6 := a0.2.1
  have l1 : S (S kr 1).toNat (-1) = 6 := a1.2.1
  have l2 : S (S kr 2).toNat (-1) = 6 := a2.2.1
  have l3 : S (S kr 3).toNat (-1) = 6 := a3.2.1
  have l4 : S (S kr 4).toNat (-1) = 6 := a4.2.1
  have l5 : S (S kr 5).toNat (-1) = 14 := a5.2.1
  have l6 : S (S kr 6).toNat (-1) = 14 := a6.2.1
  have wg : ∀ g i, 0 ≤ g → g < f 1 → 2 ≤ i → i ≤ 6 → wW S o (gr g) i := fun g i g0 g1 h1 h2 => Or.inl ⟨(x5 g g0 g1).1.2, h1, h2⟩
  have ww : ∀ w i, 0 ≤ w → w < f 0 → 3 ≤ i → i ≤ 5 → wW S o (wr w) i := fun w i w0 w1 h1 h2 => Or.inr (Or.inl ⟨(x4 w w0 w1).1.2, h1, h2⟩)
  have lp2 : ∀ (m : Nat) (k : Int) (S1 : SS), 0 ≤ k → k + m = f 0 → Ag (wW S o) S S1 → (∀ g, 0 ≤ g → g < f 1 → S1 (gr g) 2 = S (S kr 0).toNat g ∧ S1 (gr g) 3 = S (S kr 1).toNat g ∧ S1 (gr g) 4 = S (S kr 2).toNat g ∧ S1 (gr g) 5 = S (S kr 3).toNat g ∧ S1 (gr g) 6 = S (S kr 4).toNat g) → (∀ w, 0 ≤ w → w < k → S1 (wr w) 3 = S (S kr 5).toNat w ∧ S1 (wr w) 4 = S (S kr 6).toNat w) → vc_J 85 (vc_up (fun v Lw' S' B' => v = none ∧ Lw = Lw' ∧ B = B' ∧ Ag (wW S o) S S' ∧ CLd Lw S' o (upF (upF f 7 (S o 5 - lt (-1))) 6 (S o 29)) wr gr lt)) X 89 [(0, .inr (.inr kr)), (1, ii k)] [] Lw S1 B 0 0 := by
    intro m
    induction m with
    | zero =>
      intro k S1 k0' km A1 P1 Q1
      have ul := li S1 A1 _ _ _ x2
      rw [← eo S1 A1 0 (by decide)] at ul
      have e2 := ul.2.1
      have hdd := hl.dirs
      have hdr := hl.dir
      refine vc_walk hX ck_X2_back [] 90 hd ?_
      refine ⟨ob S1 A1 _ _ hk, ?_⟩
      rw [e11 S1 A1]
      refine ⟨ob S1 A1 _ _ x1, ?_⟩
      refine vc_kv ul.1 (cm_size (d := d + 3) ul.1) ⟨Nat.le_refl _, Nat.le_refl _⟩ ?_
      refine ⟨by omega, fun _ => ?_, fun z => absurd z (by omega)⟩
      refine ⟨ob S1 A1 _ _ hk, ob S1 A1 _ _ hk, ?_⟩
      rw [e11 S1 A1, ek S1 A1, k7]
      refine ⟨ob S1 A1 _ _ x1, 0, 0, _, cm_lays (d := d) (τ := τ) (S0 := S) (gr := gr) hdr (A1.wq.p) x1 n0 x2 (fun w w0 w1 => (x4 w w0 w1).1) hj, ⟨Nat.le_refl _, Nat.le_refl _⟩, ?_⟩
      rintro _ _ S2 _ ⟨rfl, rfl, rfl, -, F2, D2⟩
      have A2 : Ag (wW S o) S S2 := fun r i hn => (F2 r i (by
        by_cases c : i = 5
        · right
          rintro w w0 w1 rfl
          exact hn (ww w i w0 w1 (by omega) (by omega))
        · exact Or.inl c)).trans (A1 r i hn)
      have A3 := A2.up (r := o) (i := 2) (v := f 3) (Or.inr (Or.inr ⟨rfl, by decide, by decide⟩))
      have A4 := A3.up (r := o) (i := 3) (v := f 4) (Or.inr (Or.inr ⟨rfl, by decide, by decide⟩))
      have A5 := A4.up (r := o) (i := 4) (v := f 5) (Or.inr (Or.inr ⟨rfl, by decide, by decide⟩))
      refine ⟨ob _ A2 _ _ hk, ob _ A2 _ _ hk, ?_⟩
      rw [e11 _ A2, ek _ A2, k8]
      refine ⟨ob _ A2 _ _ x1, ob _ A3 _ _ hk, ob _ A3 _ _ hk, ?_⟩
      rw [e11 _ A3, ek _ A3, k9]
      refine ⟨ob _ A3 _ _ x1, ob _ A4 _ _ hk, ob _ A4 _ _ hk, ?_⟩
      rw [e11 _ A4, ek _ A4, k10]
      refine ⟨ob _ A4 _ _ x1, ⟨Nat.le_refl _, Nat.le_refl _⟩, rfl, rfl, rfl, A5, ?_⟩
      have efW : ∀ w k, 0 ≤ w → w ≤ 13 → 0 ≤ k → k ≤ 4 → sW (upF (upF f 7 (S o 5 - lt (-1))) 6 (S o 29)) w k = sW f w k := fun w k a b c d => by
        unfold sW
        rw [upF_ne (by omega), upF_ne (by omega)]
      have efG : ∀ w k, 0 ≤ w → w ≤ 5 → 0 ≤ k → k ≤ 6 → sG (upF (upF f 7 (S o 5 - lt (-1))) 6 (S o 29)) w k = sG f w k := fun w k a b c d => by
        unfold sG
        rw [upF_ne (by omega), upF_ne (by omega)]
      have ef : ∀ i, i ≠ 6 → i ≠ 7 → upF (upF f 7 (S o 5 - lt (-1))) 6 (S o 29) i = f i := fun i a b => by rw [upF_ne a, upF_ne b]
      have roo : ∀ q c, vc_ob Lw S q c → c ≠ 0 → ∀ i, (vt_up (vt_up (vt_up S2 o 2 (f 3)) o 3 (f 4)) o 4 (f 5)) q i = S2 q i := fun q c hq hc i => by
        have hn := ob_ne hq x1 hc
        rw [up_ne (Or.inl hn), up_ne (Or.inl hn), up_ne (Or.inl hn)]
      refine ⟨ob _ A5 _ _ x1, ?_, ?_, fun w w0 w1 => ?_, fun g g0 g1 => ?_, ?_, ?_, ?_, ?_, ?_⟩
      · rw [ef 0 (by decide) (by decide), eo _ A5 0 (by decide)]; exact li _ A5 _ _ _ x2
      · rw [ef 1 (by decide) (by decide), eo _ A5 1 (by decide)]; exact li _ A5 _ _ _ x3
      · rw [ef 0 (by decide) (by decide)] at w1
        obtain ⟨b0, b1, b2, b3⟩ := x4 w w0 w1
        have hw13 : w ≤ 13 := by omega
        have q := Q1 w w0 (by omega)
        have kk := k2 w w0 w1
        have hst : ∀ i, i < 3 → (vt_up (vt_up (vt_up S2 o 2 (f 3)) o 3 (f 4)) o 4 (f 5)) (wr w) i = S (wr w) i := fun i hi => A5 _ i (by
          rintro (⟨z, -⟩ | ⟨-, z, -⟩ | ⟨z, -⟩)
          · have := b0.2; omega
          · omega
          · exact ob_ne b0 x1 (by decide) z)
        unfold CW
        rw [efW w 0 w0 hw13 (by decide) (by decide), efW w 1 w0 hw13 (by decide) (by decide), efW w 2 w0 hw13 (by decide) (by decide), efW w 3 w0 hw13 (by decide) (by decide), efW w 4 w0 hw13 (by decide) (by decide), ef 2 (by decide) (by decide), hst 0 (by decide), hst 1 (by decide), hst 2 (by decide), roo _ 4 b0 (by decide), roo _ 4 b0 (by decide), roo _ 4 b0 (by decide), F2 _ 3 (Or.inl (by decide)), F2 _ 4 (Or.inl (by decide)), D2 w w0 w1, q.1, q.2, kk.1, kk.2]
        exact ⟨ob _ A5 _ _ b0, b1, b2, b3, rfl, rfl, rfl⟩
      · rw [ef 1 (by decide) (by decide)] at g1
        obtain ⟨b0, b1, b2, b8⟩ := x5 g g0 g1
        have hg5 : g ≤ 5 := by omega
        have p := P1 g g0 g1
        have kk := k1 g g0 g1
        have hst : ∀ i, i < 2 ∨ 6 < i → (vt_up (vt_up (vt_up S2 o 2 (f 3)) o 3 (f 4)) o 4 (f 5)) (gr g) i = S (gr g) i := fun i hi => A5 _ i (by
          rintro (⟨-, z⟩ | ⟨z, -⟩ | ⟨z, -⟩)
          · omega
          · have := b0.2; omega
          · exact ob_ne b0 x1 (by decide) z)
        have hng : ∀ i, (∀ w, 0 ≤ w → w < f 0 → gr g ≠ wr w) → S2 (gr g) i = S1 (gr g) i := fun i h => F2 _ i (Or.inr h)
        have hnw : ∀ w, 0 ≤ w → w < f 0 → gr g ≠ wr w := fun w w0 w1 => ob_ne b0 (x4 w w0 w1).1 (by decide)
        unfold CG
        rw [efG g 0 g0 hg5 (by decide) (by decide), efG g 1 g0 hg5 (by decide) (by decide), efG g 2 g0 hg5 (by decide) (by decide), efG g 3 g0 hg5 (by decide) (by decide), efG g 4 g0 hg5 (by decide) (by decide), efG g 5 g0 hg5 (by decide) (by decide), efG g 6 g0 hg5 (by decide) (by decide), hst 0 (by decide), hst 1 (by decide), hst 7 (by decide), roo _ 5 b0 (by decide), roo _ 5 b0 (by decide), roo _ 5 b0 (by decide), roo _ 5 b0 (by decide), roo _ 5 b0 (by decide), hng 2 hnw, hng 3 hnw, hng 4 hnw, hng 5 hnw, hng 6 hnw, p.1, p.2.1, p.2.2.1, p.2.2.2.1, p.2.2.2.2]
        exact ⟨ob _ A5 _ _ b0, b1, b2, kk.1, kk.2.1, kk.2.2.1, kk.2.2.2.1, kk.2.2.2.2, b8⟩
      · rw [up_ne (Or.inr (by decide)), up_ne (Or.inr (by decide)), vt_up_self, ef 3 (by decide) (by decide)]
      · rw [up_ne (Or.inr (by decide)), vt_up_self, ef 4 (by decide) (by decide)]
      · rw [vt_up_self, ef 5 (by decide) (by decide)]
      · rw [eo _ A5 5 (by decide), upF_ne (by decide), upF_self, Int.sub_add_cancel]
      · rw [eo _ A5 29 (by decide), upF_self]
    | succ m ih =>
      intro k S1 k0' km A1 P1 Q1
      have ul := li S1 A1 _ _ _ x2
      rw [← eo S1 A1 0 (by decide)] at ul
      have e2 := ul.2.1
      have hW := (x4 k k0' (by omega)).1
      have q5 := ear S1 A1 _ o5
      refine vc_walk hX ck_X2_back [(89, [0, 1])] 60 hd ?_
      refine ⟨ob S1 A1 _ _ hk, ?_⟩
      rw [e11 S1 A1]
      refine ⟨ob S1 A1 _ _ x1, ?_⟩
      refine vc_kv ul.1 (cm_size (d := d + 3) ul.1) ⟨Nat.le_refl _, Nat.le_refl _⟩ ?_
      refine ⟨by omega, fun z => absurd z (by omega), fun _ => ?_⟩
      refine ⟨ob S1 A1 _ _ hk, ?_⟩
      rw [e11 S1 A1]
      refine ⟨ob S1 A1 _ _ x1, ?_⟩
      refine vc_kv ul.1 (cm_get (d := d + 1) ul (i := k) ⟨k0', by omega⟩) ⟨Nat.le_refl _, Nat.le_refl _⟩ ?_
      refine ⟨Or.inr (ob S1 A1 _ _ hW), ob S1 A1 _ _ hk, ?_⟩
      rw [ek S1 A1]
      refine ⟨⟨ob S1 A1 _ _ o5, by omega, by rw [q5]; omega, by rw [q5]; omega⟩, ob S1 A1 _ _ hW, ?_⟩
      rw [q5]
      have A2 := A1.up (v := S (S kr 5).toNat k) (ww k 3 k0' (by omega) (by decide) (by decide))
      have ul2 := li _ A2 _ _ _ x2
      rw [← eo _ A2 0 (by decide)] at ul2
      have q6 := ear _ A2 _ o6
      refine ⟨ob _ A2 _ _ hk, ?_⟩
      rw [e11 _ A2]
      refine ⟨ob _ A2 _ _ x1, ?_⟩
      refine vc_kv ul2.1 (cm_get (d := d + 1) ul2 (i := k) ⟨k0', by omega⟩) ⟨Nat.le_refl _, Nat.le_refl _⟩ ?_
      refine ⟨Or.inr (ob _ A2 _ _ hW), ob _ A2 _ _ hk, ?_⟩
      rw [ek _ A2]
      refine ⟨⟨ob _ A2 _ _ o6, by omega, by rw [q6]; omega, by rw [q6]; omega⟩, ob _ A2 _ _ hW, ?_⟩
      rw [q6]
      refine ih (k + 1) _ (by omega) (by omega) (A2.up (ww k 4 k0' (by omega) (by decide) (by decide))) (fun g g0 g1 => ?_) (fun w w0 w1 => ?_)
      · have hn : gr g ≠ wr k := ob_ne (x5 g g0 g1).1 hW (by decide)
        have hh : ∀ (S' : SS) (i j v : Int), vt_up S' (wr k) i v (gr g) j = S' (gr g) j := fun _ _ _ _ => up_ne (Or.inl hn)
        simp only [hh]
        exact P1 g g0 g1
      · by_cases c : w = k
        · subst c
          rw [up_ne (Or.inr (by decide)), vt_up_self, vt_up_self]
          exact ⟨rfl, rfl⟩
        · have hn : wr w ≠ wr k := fun z => c (hj.1 w k w0 (by omega) k0' (by omega) z)
          have hh : ∀ (S' : SS) (i j v : Int), vt_up S' (wr k) i v (wr w) j = S' (wr w) j := fun _ _ _ _ => up_ne (Or.inl hn)
          simp only [hh]
          exact Q1 w w0 (by omega)
  have lp1 : ∀ (m : Nat) (k : Int) (S1 : SS), 0 ≤ k → k + m = f 1 → Ag (wW S o) S S1 → (∀ g, 0 ≤ g → g < k → S1 (gr g) 2 = S (S kr 0).toNat g ∧ S1 (gr g) 3 = S (S kr 1).toNat g ∧ S1 (gr g) 4 = S (S kr 2).toNat g ∧ S1 (gr g) 5 = S (S kr 3).toNat g ∧ S1 (gr g) 6 = S (S kr 4).toNat g) → vc_J 85 (vc_up (fun v Lw' S' B' => v = none ∧ Lw = Lw' ∧ B = B' ∧ Ag (wW S o) S S' ∧ CLd Lw S' o (upF (upF f 7 (S o 5 - lt (-1))) 6 (S o 29)) wr gr lt)) X 2 [(0, .inr (.inr kr)), (1, ii k)] [] Lw S1 B 0 0 := by
    intro m
    induction m with
    | zero =>
      intro k S1 k0' km A1 P1
      have gl := li S1 A1 _ _ _ x3
      rw [← eo S1 A1 1 (by decide)] at gl
      have e2 := gl.2.1
      refine vc_walk hX ck_X2_back [(89, [0, 1])] 60 hd ?_
      refine ⟨ob S1 A1 _ _ hk, ?_⟩
      rw [e11 S1 A1]
      refine ⟨ob S1 A1 _ _ x1, ?_⟩
      refine vc_kv gl.1 (cm_size (d := d + 3) gl.1) ⟨Nat.le_refl _, Nat.le_refl _⟩ ?_
      refine ⟨by omega, fun _ => ?_, fun z => absurd z (by omega)⟩
      exact lp2 (f 0).toNat 0 S1 (by decide) (by omega) A1 (fun g g0 g1 => P1 g g0 (by omega)) (fun w w0 w1 => by omega)
    | succ m ih =>
      intro k S1 k0' km A1 P1
      have gl := li S1 A1 _ _ _ x3
      rw [← eo S1 A1 1 (by decide)] at gl
      have e2 := gl.2.1
      have hg1 : k < f 1 := by omega
      have hG := (x5 k k0' hg1).1
      have A2 := A1.up (v := S (S kr 0).toNat k) (wg k 2 k0' hg1 (by decide) (by decide))
      have A3 := A2.up (v := S (S kr 1).toNat k) (wg k 3 k0' hg1 (by decide) (by decide))
      have A4 := A3.up (v := S (S kr 2).toNat k) (wg k 4 k0' hg1 (by decide) (by decide))
      have A5 := A4.up (v := S (S kr 3).toNat k) (wg k 5 k0' hg1 (by decide) (by decide))
      have A6 := A5.up (v := S (S kr 4).toNat k) (wg k 6 k0' hg1 (by decide) (by decide))
      have at1 : ∀ S2 (q : Nat), Ag (wW S o) S S2 → vc_ob Lw S q 100 → S q (-1) = 6 → vc_ob Lw S2 q 100 ∧ 0 ≤ k ∧ k < S2 q (-1) ∧ S2 q (-1) ≤ 1048576 := fun S2 q A hq hlen => ⟨ob S2 A q 100 hq, k0', by rw [ear S2 A q hq]; omega, by rw [ear S2 A q hq]; omega⟩
      refine vc_walk hX ck_X2_back [(2, [0, 1])] 60 hd ?_
      refine ⟨ob S1 A1 _ _ hk, ?_⟩
      rw [e11 S1 A1]
      refine ⟨ob S1 A1 _ _ x1, ?_⟩
      refine vc_kv gl.1 (cm_size (d := d + 3) gl.1) ⟨Nat.le_refl _, Nat.le_refl _⟩ ?_
      refine ⟨by omega, fun z => absurd z (by omega), fun _ => ?_⟩
      refine ⟨ob S1 A1 _ _ hk, ?_⟩
      rw [e11 S1 A1]
      refine ⟨ob S1 A1 _ _ x1, ?_⟩
      refine vc_kv gl.1 (cm_get (d := d + 1) gl (i := k) ⟨k0', by omega⟩) ⟨Nat.le_refl _, Nat.le_refl _⟩ ?_
      refine ⟨Or.inr (ob S1 A1 _ _ hG), ob S1 A1 _ _ hk, ?_⟩
      rw [ek S1 A1]
      refine ⟨at1 _ _ A1 o0 l0, ob S1 A1 _ _ hG, ?_⟩
      rw [ear S1 A1 _ o0]
      refine ⟨ob _ A2 _ _ hk, ?_⟩
      rw [ek _ A2]
      refine ⟨at1 _ _ A2 o1 l1, ob _ A2 _ _ hG, ?_⟩
      rw [ear _ A2 _ o1]
      refine ⟨ob _ A3 _ _ hk, ?_⟩
      rw [ek _ A3]
      refine ⟨at1 _ _ A3 o2 l2, ob _ A3 _ _ hG, ?_⟩
      rw [ear _ A3 _ o2]
      refine ⟨ob _ A4 _ _ hk, ?_⟩
      rw [ek _ A4]
      refine ⟨at1 _ _ A4 o3 l3, ob _ A4 _ _ hG, ?_⟩
      rw [ear _ A4 _ o3]
      refine ⟨ob _ A5 _ _ hk, ?_⟩
      rw [ek _ A5]
      refine ⟨at1 _ _ A5 o4 l4, ob _ A5 _ _ hG, ?_⟩
      rw [ear _ A5 _ o4]
      refine ih (k + 1) _ (by omega) (by omega) A6 (fun g g0 g1 => ?_)
      by_cases c : g = k
      · subst c
        refine ⟨?_, ?_, ?_, ?_, vt_up_self⟩
        · rw [up_ne (Or.inr (by decide)), up_ne (Or.inr (by decide)), up_ne (Or.inr (by decide)), up_ne (Or.inr (by decide)), vt_up_self]
        · rw [up_ne (Or.inr (by decide)), up_ne (Or.inr (by decide)), up_ne (Or.inr (by decide)), vt_up_self]
        · rw [up_ne (Or.inr (by decide)), up_ne (Or.inr (by decide)), vt_up_self]
        · rw [up_ne (Or.inr (by decide)), vt_up_self]
      · have hn : gr g ≠ gr k := fun z => c (hj.2 g k g0 (by omega) k0' hg1 z)
        have hh : ∀ (S' : SS) (i j v : Int), vt_up S' (gr k) i v (gr g) j = S' (gr g) j := fun _ _ _ _ => up_ne (Or.inl hn)
        simp only [hh]
        exact P1 g g0 (by omega)
  refine vc_walk hX ck_X2_back [(2, [0, 1])] 60 hd ?_
  exact lp1 (f 1).toNat 0 S (by decide) (by omega) Ag.rf (fun g g0 g1 => by omega)
end CND
