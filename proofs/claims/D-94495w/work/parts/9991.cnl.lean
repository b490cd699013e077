/-! THE COMPONENT's methods: images are kept and laid back -/
set_option maxRecDepth 100000
/-- the labels of a land's list -/
def liLb (S : SS) (τ : Nat → Nat) (r : Nat) : Prop := τ r = 42 ∧ τ (S r 1).toNat = 43
/-- what an image holds: f, with the cells wr, gr -/
def ImC (Lw : List Nat) (S : SS) (τ : Nat → Nat) (ir : Nat) (f : Int → Int) (wr gr : Int → Nat) : Prop := CKc S (S ir 0).toNat f ∧ vc_li Lw S (S ir 3).toNat (f 0) wr ∧ vc_li Lw S (S ir 4).toNat (f 1) gr ∧ (liLb S τ (S ir 3).toNat ∧ liLb S τ (S ir 4).toNat) ∧ (∀ w, 0 ≤ w → w < f 0 → vc_ob Lw S (wr w) 4 ∧ S (wr w) 0 = sW f w 0 ∧ S (wr w) 1 = sW f w 1 ∧ S (wr w) 2 = sW f w 2) ∧ (∀ g, 0 ≤ g → g < f 1 → vc_ob Lw S (gr g) 5 ∧ S (gr g) 0 = sG f g 1 ∧ S (gr g) 1 = sG f g 2 ∧ S (gr g) 7 = 0) ∧ S ir 5 = f 6 ∧ S ir 6 = f 7 ∧ ∀ k, 0 ≤ k → k < f 6 → S (S ir 1).toNat k = f (122 + 2 * k) ∧ S (S ir 2).toNat k = f (122 + 2 * k + 1)
/-- what an image's keep writes -/
def jW (S0 : SS) (ir kr : Nat) (τ : Nat → Nat) (b : Nat) (r : Nat) (i : Int) : Prop := (r = ir ∧ 3 ≤ i ∧ i ≤ 6) ∨ (r = kr ∧ 7 ≤ i ∧ i ≤ 10) ∨ (S0 r (-2) = 100 ∧ (b ≤ τ r ∧ τ r ≤ b + 9) ∧ 0 ≤ i)
section CNL
variable {Lw Lw' : List Nat} {S0 S : SS} {B : SB} {d o D kr ir b : Nat} {τ τ' : Nat → Nat} {f F l : Int → Int} {wr gr rr : Int → Nat} {lt : Int → Int} {K k c n : Int}
theorem jW.neg {r : Nat} {i : Int} (hi : i < 0) : ¬ jW S0 ir kr τ b r i := by
  rintro (⟨-, z, -⟩ | ⟨-, z, -⟩ | ⟨-, -, z⟩) <;> omega
theorem jW.kd {r : Nat} {c i : Int} (h1 : vc_ob Lw S0 ir 14) (h2 : vc_ob Lw S0 kr 2) (h : vc_ob Lw S0 r c) (hc : c ≠ 14 ∧ c ≠ 2 ∧ c ≠ 100) : ¬ jW S0 ir kr τ b r i := by
  rintro (⟨z, -⟩ | ⟨z, -⟩ | ⟨z, -⟩)
  · exact ob_ne h h1 hc.1 z
  · exact ob_ne h h2 hc.2.1 z
  · have := h.2; omega
theorem kW.j {r : Nat} {i : Int} (h : kW S0 kr τ b r i) : jW S0 ir kr τ b r i := by
  rcases h with h | ⟨h1, h2, h3⟩
  · exact Or.inr (Or.inl h)
  · exact Or.inr (Or.inr ⟨h1, by omega, h3⟩)
theorem CLd.jw (h : CLd Lw S0 o f wr gr lt) (h1 : vc_ob Lw S0 ir 14) (h2 : vc_ob Lw S0 kr 2) (hA : Ag (jW S0 ir kr τ b) S0 S) : CLd Lw S o f wr gr lt := h.same (fun _ h => h) (fun q c hq hc i => hA q i (jW.kd h1 h2 hq (by omega))) (fun i hi => hA o i (jW.kd h1 h2 h.1 (by decide)))
theorem CKp.ak {j : Nat} (h : CKp Lw S kr o τ b) (hj : j ≤ 6) : vc_ob Lw S (S kr (j : Int)).toNat 100 ∧ τ (S kr (j : Int)).toNat = b + j := by
  obtain ⟨-, ⟨a0, a1, a2, a3, a4, a5, a6⟩, -⟩ := h
  have : j = 0 ∨ j = 1 ∨ j = 2 ∨ j = 3 ∨ j = 4 ∨ j = 5 ∨ j = 6 := by omega
  rcases this with rfl | rfl | rfl | rfl | rfl | rfl | rfl
  · exact ⟨a0.1, a0.2.2⟩
  · exact ⟨a1.1, a1.2.2⟩
  · exact ⟨a2.1, a2.2.2⟩
  · exact ⟨a3.1, a3.2.2⟩
  · exact ⟨a4.1, a4.2.2⟩
  · exact ⟨a5.1, a5.2.2⟩
  · exact ⟨a6.1, a6.2.2⟩
theorem CKc.cong (h : CKc S0 kr f) (e : ∀ i, S kr i = S0 kr i) (ea : ∀ (j : Nat) (i : Int), j ≤ 6 → 0 ≤ i → S (S0 kr (j : Int)).toNat i = S0 (S0 kr (j : Int)).toNat i) : CKc S kr f := by
  obtain ⟨k1, k2, k3, k4, k5, k6⟩ := h
  have a0 : ∀ i, 0 ≤ i → S (S0 kr 0).toNat i = S0 (S0 kr 0).toNat i := fun i hi => ea 0 i (by decide) hi
  have a1 : ∀ i, 0 ≤ i → S (S0 kr 1).toNat i = S0 (S0 kr 1).toNat i := fun i hi => ea 1 i (by decide) hi
  have a2 : ∀ i, 0 ≤ i → S (S0 kr 2).toNat i = S0 (S0 kr 2).toNat i := fun i hi => ea 2 i (by decide) hi
  have a3 : ∀ i, 0 ≤ i → S (S0 kr 3).toNat i = S0 (S0 kr 3).toNat i := fun i hi => ea 3 i (by decide) hi
  have a4 : ∀ i, 0 ≤ i → S (S0 kr 4).toNat i = S0 (S0 kr 4).toNat i := fun i hi => ea 4 i (by decide) hi
  have a5 : ∀ i, 0 ≤ i → S (S0 kr 5).toNat i = S0 (S0 kr 5).toNat i := fun i hi => ea 5 i (by decide) hi
  have a6 : ∀ i, 0 ≤ i → S (S0 kr 6).toNat i = S0 (S0 kr 6).toNat i := fun i hi => ea 6 i (by decide) hi
  refine ⟨fun g g0 g1 => ?_, fun w w0 w1 => ?_, ?_, ?_, ?_, ?_⟩
  · rw [e, e, e, e, e, a0 g g0, a1 g g0, a2 g g0, a3 g g0, a4 g g0]
    exact k1 g g0 g1
  · rw [e, e, a5 w w0, a6 w w0]
    exact k2 w w0 w1
  · rw [e]; exact k3
  · rw [e]; exact k4
  · rw [e]; exact k5
  · rw [e]; exact k6
theorem CKc.upd {q : Nat} {i v : Int} (h : CKc S kr f) (h1 : q ≠ kr) (h2 : ∀ j : Nat, j ≤ 6 → q ≠ (S kr (j : Int)).toNat) : CKc (vt_up S q i v) kr f := h.cong (fun _ => up_ne (Or.inl (fun z => h1 z.symm))) (fun j _ hj _ => up_ne (Or.inl (fun z => h2 j hj z.symm)))
theorem cm_imageKeep (hb : 100 ≤ b) (hlt : ∀ g, lt g = 0) (hI : ImN Lw S o τ b ir) (hsh : CSh Lw S o τ) (hC : CLd Lw S o f wr gr lt) (hr : CRw S o f) (hlb : liLb S τ (S o 0).toNat ∧ liLb S τ (S o 1).toNat) (hl : LI K f) : vc_M (d + 5) 0 0 136 [.inr (.inr ir)] Lw S B (vc_up (fun v Lw' S' B' => v = none ∧ Lw = Lw' ∧ B = B' ∧ Ag (jW S ir (S ir 0).toNat τ b) S S' ∧ ImC Lw S' τ ir f wr gr)) := by
  refine vc_start rfl rfl (Nat.le_of_ble_eq_true rfl) (fun X hX hd => ?_)
  obtain ⟨i14, i7, iK, i1, i2⟩ := hI
  have h0 := hC.1
  have k2 := iK.1
  have i1' : vc_ob Lw S (S ir 1).toNat 100 := i1.1
  have i2' : vc_ob Lw S (S ir 2).toNat 100 := i2.1
  have l1 : S (S ir 1).toNat (-1) = 40 := i1.2.1
  have l2 : S (S ir 2).toNat (-1) = 40 := i2.2.1
  have t1 : τ (S ir 1).toNat = b + 7 + 1 := i1.2.2
  have t2 : τ (S ir 2).toNat = b + 7 + 2 := i2.2.2
  have a25 := hsh.2.1.2.2.2.2.2.1
  have a26 := hsh.2.1.2.2.2.2.2.2.1
  have o25 : vc_ob Lw S (S o 25).toNat 100 := a25.1
  have o26 : vc_ob Lw S (S o 26).toNat 100 := a26.1
  have m25 : S (S o 25).toNat (-1) = 40 := a25.2.1
  have m26 : S (S o 26).toNat (-1) = 40 := a26.2.1
  have t25 : τ (S o 25).toNat = 25 := a25.2.2
  have t26 : τ (S o 26).toNat = 26 := a26.2.2
  have r6 := hl.rows
  -- what stays
  have ob : ∀ S1, Ag (jW S ir (S ir 0).toNat τ b) S S1 → ∀ q c, vc_ob Lw S q c → vc_ob Lw S1 q c := fun S1 A q c hq => ⟨hq.1, by rw [A q (-2) (jW.neg (by decide))]; exact hq.2⟩
  have ei : ∀ S1, Ag (jW S ir (S ir 0).toNat τ b) S S1 → ∀ i, i < 3 ∨ 6 < i → S1 ir i = S ir i := fun S1 A i hi => A ir i (by
    rintro (⟨-, z⟩ | ⟨z, -⟩ | ⟨z, -⟩)
    · omega
    · exact ob_ne i14 k2 (by decide) z
    · have := i14.2; omega)
  have eo : ∀ S1, Ag (jW S ir (S ir 0).toNat τ b) S S1 → ∀ i, S1 o i = S o i := fun S1 A i => A o i (jW.kd i14 k2 h0 (by decide))
  have e25 : ∀ S1, Ag (jW S ir (S ir 0).toNat τ b) S S1 → ∀ i, S1 (S o 25).toNat i = S (S o 25).toNat i := fun S1 A i => A _ i (by
    rintro (⟨z, -⟩ | ⟨z, -⟩ | ⟨-, z, -⟩)
    · exact ob_ne o25 i14 (by decide) z
    · exact ob_ne o25 k2 (by decide) z
    · omega)
  have e26 : ∀ S1, Ag (jW S ir (S ir 0).toNat τ b) S S1 → ∀ i, S1 (S o 26).toNat i = S (S o 26).toNat i := fun S1 A i => A _ i (by
    rintro (⟨z, -⟩ | ⟨z, -⟩ | ⟨-, z, -⟩)
    · exact ob_ne o26 i14 (by decide) z
    · exact ob_ne o26 k2 (by decide) z
    · omega)
  have n1 : ∀ S1, Ag (jW S ir (S ir 0).toNat τ b) S S1 → ∀ q, S1 q (-1) = S q (-1) := fun S1 A q => A q (-1) (jW.neg (by decide))
  have e7 : ∀ S1, Ag (jW S ir (S ir 0).toNat τ b) S S1 → (S1 ir 7).toNat = o := fun S1 A => by rw [ei S1 A 7 (by decide), i7, Int.toNat_natCast]
  have w1 : ∀ i, 0 ≤ i → jW S ir (S ir 0).toNat τ b (S ir 1).toNat i := fun i hi => Or.inr (Or.inr ⟨i1'.2, by omega, hi⟩)
  have w2 : ∀ i, 0 ≤ i → jW S ir (S ir 0).toNat τ b (S ir 2).toNat i := fun i hi => Or.inr (Or.inr ⟨i2'.2, by omega, hi⟩)
  have ne12 : (S ir 1).toNat ≠ (S ir 2).toNat := fun z => by rw [z] at t1; omega
  have ek : ∀ S1, Ag (jW S ir (S ir 0).toNat τ b) S S1 → ∀ i, i < 7 → S1 (S ir 0).toNat i = S (S ir 0).toNat i := fun S1 A i hi => A _ i (by
    rintro (⟨z, -⟩ | ⟨-, z, -⟩ | ⟨z, -⟩)
    · exact ob_ne k2 i14 (by decide) z
    · omega
    · have := k2.2; omega)
  have hsep : ∀ S1, Ag (jW S ir (S ir 0).toNat τ b) S S1 → ∀ q, q = ir ∨ q = (S ir 1).toNat ∨ q = (S ir 2).toNat → q ≠ (S ir 0).toNat ∧ ∀ j : Nat, j ≤ 6 → q ≠ (S1 (S ir 0).toNat (j : Int)).toNat := by
    intro S1 A q hq
    refine ⟨?_, fun j hj => ?_⟩
    · rcases hq with rfl | rfl | rfl
      · exact ob_ne i14 k2 (by decide)
      · exact ob_ne i1' k2 (by decide)
      · exact ob_ne i2' k2 (by decide)
    · rw [ek S1 A _ (by omega)]
      obtain ⟨x1, x2⟩ := iK.ak hj
      rcases hq with rfl | rfl | rfl
      · exact ob_ne i14 x1 (by decide)
      · exact fun z => by rw [z, x2] at t1; omega
      · exact fun z => by rw [z, x2] at t2; omega
  refine vc_walk hX ck_X17_keep [(53, [0, 1])] 60 hd ?_
  refine ⟨i14, ?_⟩
  refine vc_kp k2 (cm_keeps (d := d) iK hC hl) ⟨Nat.le_refl _, Nat.le_refl _⟩ ?_
  rintro _ _ S1 _ ⟨rfl, rfl, rfl, A1, c1⟩
  have A1 : Ag (jW S ir (S ir 0).toNat τ b) S S1 := A1.mono (fun _ _ z => z.j)
  have wi : ∀ i, 3 ≤ i → i ≤ 6 → jW S ir (S ir 0).toNat τ b ir i := fun i h1 h2 => Or.inl ⟨rfl, h1, h2⟩
  refine ⟨ob S1 A1 _ _ i14, ?_⟩
  rw [e7 S1 A1]
  refine ⟨ob S1 A1 _ _ h0, ob S1 A1 _ _ i14, ?_⟩
  rw [eo S1 A1]
  have A2 := A1.up (v := (((S o 0).toNat : Nat) : Int)) (wi 3 (by decide) (by decide))
  have c2 := c1.upd (v := (((S o 0).toNat : Nat) : Int)) (i := 3) (hsep S1 A1 ir (Or.inl rfl)).1 (hsep S1 A1 ir (Or.inl rfl)).2
  refine ⟨ob _ A2 _ _ i14, ?_⟩
  rw [e7 _ A2]
  refine ⟨ob _ A2 _ _ h0, ob _ A2 _ _ i14, ?_⟩
  rw [eo _ A2]
  have A3 := A2.up (v := (((S o 1).toNat : Nat) : Int)) (wi 4 (by decide) (by decide))
  have c3 := c2.upd (v := (((S o 1).toNat : Nat) : Int)) (i := 4) (hsep _ A2 ir (Or.inl rfl)).1 (hsep _ A2 ir (Or.inl rfl)).2
  refine ⟨ob _ A3 _ _ i14, ?_⟩
  rw [e7 _ A3]
  refine ⟨ob _ A3 _ _ h0, ob _ A3 _ _ i14, ?_⟩
  rw [eo _ A3]
  have A4 := A3.up (v := S o 29) (wi 5 (by decide) (by decide))
  have c4 := c3.upd (v := S o 29) (i := 5) (hsep _ A3 ir (Or.inl rfl)).1 (hsep _ A3 ir (Or.inl rfl)).2
  refine ⟨ob _ A4 _ _ i14, ?_⟩
  rw [e7 _ A4]
  refine ⟨ob _ A4 _ _ h0, ob _ A4 _ _ i14, ?_⟩
  rw [eo _ A4]
  have A5 := A4.up (v := S o 5) (wi 6 (by decide) (by decide))
  have c5 := c4.upd (v := S o 5) (i := 6) (hsep _ A4 ir (Or.inl rfl)).1 (hsep _ A4 ir (Or.inl rfl)).2
  have loop : ∀ (m : Nat) (j : Int) (S1 : SS), 0 ≤ j → j + m = f 6 → Ag (jW S ir (S ir 0).toNat τ b) S S1 → CKc S1 (S ir 0).toNat f → (S1 ir 3 = (((S o 0).toNat : Nat) : Int) ∧ S1 ir 4 = (((S o 1).toNat : Nat) : Int) ∧ S1 ir 5 = f 6 ∧ S1 ir 6 = f 7) → (∀ k, 0 ≤ k → k < j → S1 (S ir 1).toNat k = f (122 + 2 * k) ∧ S1 (S ir 2).toNat k = f (122 + 2 * k + 1)) → vc_J 136 (vc_up (fun v Lw' S' B' => v = none ∧ Lw = Lw' ∧ B = B' ∧ Ag (jW S ir (S ir 0).toNat τ b) S S' ∧ ImC Lw S' τ ir f wr gr)) X 53 [(0, .inr (.inr ir)), (1, ii j)] [] Lw S1 B 0 0 := by
    intro m
    induction m with
    | zero =>
      intro j S1 j0 jm A cc ⟨x3, x4, x5, x6⟩ rows
      have C1 := hC.jw i14 k2 A
      refine vc_walk hX ck_X17_keep [] 60 hd ?_
      refine ⟨ob _ A _ _ i14, ?_⟩
      rw [x5]
      refine ⟨by omega, fun _ => ?_, fun z => absurd z (by omega)⟩
      refine ⟨⟨Nat.le_refl _, Nat.le_refl _⟩, rfl, rfl, rfl, A, ?_⟩
      unfold ImC
      rw [ei _ A 0 (by decide), ei _ A 1 (by decide), ei _ A 2 (by decide), x3, x4, x5, x6, Int.toNat_natCast, Int.toNat_natCast]
      have ly := hC.2.1
      have lg := hC.2.2.1
      have y1 := C1.2.1
      have y2 := C1.2.2.1
      rw [eo _ A] at y1 y2
      refine ⟨cc, y1, y2, ?_, fun w w0 w1 => ?_, fun g g0 g1 => ?_, rfl, rfl, fun k k0 k1 => rows k k0 (by omega)⟩
      · unfold liLb at hlb ⊢
        rw [A _ 1 (jW.kd i14 k2 ly.1 (by decide)), A _ 1 (jW.kd i14 k2 lg.1 (by decide))]
        exact hlb
      · obtain ⟨q1, q2, q3, q4, -⟩ := C1.2.2.2.1 w w0 w1
        exact ⟨q1, q2, q3, q4⟩
      · obtain ⟨q1, q2, q3, -, -, -, -, -, q8⟩ := C1.2.2.2.2.1 g g0 g1
        rw [hlt, Int.sub_zero] at q3
        rw [hlt] at q8
        exact ⟨q1, q2, q3, q8⟩
    | succ m ih =>
      intro j S1 j0 jm A cc ⟨x3, x4, x5, x6⟩ rows
      have hrw := hr j j0 (by omega)
      have u1 := e25 S1 A
      have A' := A.up (v := S (S o 25).toNat j) (w1 j j0)
      have cc' := cc.upd (v := S (S o 25).toNat j) (i := j) (hsep _ A _ (Or.inr (Or.inl rfl))).1 (hsep _ A _ (Or.inr (Or.inl rfl))).2
      have A'' := A'.up (v := S (S o 26).toNat j) (w2 j j0)
      have cc'' := cc'.upd (v := S (S o 26).toNat j) (i := j) (hsep _ A' _ (Or.inr (Or.inr rfl))).1 (hsep _ A' _ (Or.inr (Or.inr rfl))).2
      have ni1 : ir ≠ (S ir 1).toNat := ob_ne i14 i1' (by decide)
      have ni2 : ir ≠ (S ir 2).toNat := ob_ne i14 i2' (by decide)
      refine vc_walk hX ck_X17_keep [(53, [0, 1])] 60 hd ?_
      refine ⟨ob _ A _ _ i14, ?_⟩
      rw [x5]
      refine ⟨by omega, fun z => absurd z (by omega), fun _ => ?_⟩
      refine ⟨ob _ A _ _ i14, ob _ A _ _ i14, ?_⟩
      rw [e7 _ A, ei _ A 1 (by decide)]
      refine ⟨ob _ A _ _ h0, ?_⟩
      rw [eo _ A]
      refine ⟨⟨ob _ A _ _ o25, j0, by rw [n1 _ A]; omega, by rw [n1 _ A]; omega⟩, ⟨ob _ A _ _ i1', j0, by rw [n1 _ A]; omega, by rw [n1 _ A]; omega⟩, ?_⟩
      rw [e25 _ A]
      refine ⟨ob _ A' _ _ i14, ob _ A' _ _ i14, ?_⟩
      rw [e7 _ A', ei _ A' 2 (by decide)]
      refine ⟨ob _ A' _ _ h0, ?_⟩
      rw [eo _ A']
      refine ⟨⟨ob _ A' _ _ o26, j0, by rw [n1 _ A']; omega, by rw [n1 _ A']; omega⟩, ⟨ob _ A' _ _ i2', j0, by rw [n1 _ A']; omega, by rw [n1 _ A']; omega⟩, ?_⟩
      rw [e26 _ A']
      refine ih (j + 1) _ (by omega) (by omega) A'' cc'' ⟨?_, ?_, ?_, ?_⟩ (fun k k0 k1 => ?_)
      · rw [up_ne (Or.inl ni2), up_ne (Or.inl ni1)]; exact x3
      · rw [up_ne (Or.inl ni2), up_ne (Or.inl ni1)]; exact x4
      · rw [up_ne (Or.inl ni2), up_ne (Or.inl ni1)]; exact x5
      · rw [up_ne (Or.inl ni2), up_ne (Or.inl ni1)]; exact x6
      · rw [up_ne (r' := (S ir 1).toNat) (Or.inl ne12)]
        by_cases ck : k = j
        · subst ck
          rw [vt_up_self, vt_up_self]
          exact hrw
        · rw [up_ne (Or.inr ck), up_ne (Or.inr ck), up_ne (Or.inl (fun z => ne12 z.symm))]
          exact rows k k0 (by omega)
  have r29 := hC.2.2.2.2.2.2.2.2.2
  have r5 := hC.2.2.2.2.2.2.2.2.1
  rw [hlt, Int.add_zero] at r5
  refine loop (f 6).toNat 0 _ (by decide) (by omega) A5 c5 ⟨?_, ?_, ?_, ?_⟩ (fun k k0 k1 => by omega)
  · rw [up_ne (Or.inr (by decide)), up_ne (Or.inr (by decide)), up_ne (Or.inr (by decide)), vt_up_self]
  · rw [up_ne (Or.inr (by decide)), up_ne (Or.inr (by decide)), vt_up_self]
  · rw [up_ne (Or.inr (by decide)), vt_up_self, r29]
  · rw [vt_up_self, r5]
end CNL
