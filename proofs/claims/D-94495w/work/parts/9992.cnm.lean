/-! THE COMPONENT's methods: an image is laid back -/
set_option maxRecDepth 100000
/-- what an image's back writes -/
def bkW (S0 : SS) (o : Nat) (τ : Nat → Nat) (r : Nat) (i : Int) : Prop := (r = o ∧ ((0 ≤ i ∧ i ≤ 5) ∨ i = 29)) ∨ (S0 r (-2) = 4 ∧ 3 ≤ i ∧ i ≤ 5) ∨ (S0 r (-2) = 5 ∧ 2 ≤ i ∧ i ≤ 6) ∨ (S0 r (-2) = 100 ∧ (τ r = 25 ∨ τ r = 26) ∧ 0 ≤ i)
section CNM
variable {Lw Lw' : List Nat} {S0 S : SS} {B : SB} {d o D kr ir b : Nat} {τ τ' : Nat → Nat} {f F l : Int → Int} {wr gr rr : Int → Nat} {lt : Int → Int} {K c n : Int}
theorem bkW.neg {r : Nat} {i : Int} (hi : i < 0) : ¬ bkW S0 o τ r i := by
  rintro (⟨-, z⟩ | ⟨-, z, -⟩ | ⟨-, z, -⟩ | ⟨-, -, z⟩) <;> omega
theorem bkW.k {r : Nat} {c i : Int} (h0 : vc_ob Lw S0 o 0) (h : vc_ob Lw S0 r c) (hc : c ≠ 0 ∧ c ≠ 4 ∧ c ≠ 5 ∧ c ≠ 100) : ¬ bkW S0 o τ r i := by
  have := h.2
  rintro (⟨z, -⟩ | ⟨z, -⟩ | ⟨z, -⟩ | ⟨z, -⟩)
  · exact ob_ne h h0 hc.1 z
  all_goals omega
theorem cm_imageBack (hb : 100 ≤ b) (hI : ImN Lw S o τ b ir) (hM : ImC Lw S τ ir f wr gr) (hj : CIj f wr gr) (h0 : vc_ob Lw S o 0) (hsh : CSh Lw S o τ) (hl : LI K f) : vc_M (d + 5) 0 0 137 [.inr (.inr ir)] Lw S B (vc_up (fun v Lw' S' B' => v = none ∧ Lw = Lw' ∧ B = B' ∧ Ag (bkW S o τ) S S' ∧ CLd Lw S' o f wr gr (fun _ => 0) ∧ CRw S' o f ∧ S' o 0 = (((S ir 3).toNat : Nat) : Int) ∧ S' o 1 = (((S ir 4).toNat : Nat) : Int))) := by
  refine vc_start rfl rfl (Nat.le_of_ble_eq_true rfl) (fun X hX hd => ?_)
  obtain ⟨i14, i7, iK, i1, i2⟩ := hI
  obtain ⟨m1, m2, m3, m4, m5, m6, m7, m8, m9⟩ := hM
  have k2 := iK.1
  have n0 := hl.nW
  have n1 := hl.nG
  have r6 := hl.rows
  have i1' : vc_ob Lw S (S ir 1).toNat 100 := i1.1
  have i2' : vc_ob Lw S (S ir 2).toNat 100 := i2.1
  have l1 : S (S ir 1).toNat (-1) = 40 := i1.2.1
  have l2 : S (S ir 2).toNat (-1) = 40 := i2.2.1
  have t1 : τ (S ir 1).toNat = b + 7 + 1 := i1.2.2
  have t2 : τ (S ir 2).toNat = b + 7 + 2 := i2.2.2
  have a25 := hsh.2.1.2.2.2.2.2.1
  have a26 := hsh.2.1.2.2.2.2.2.2.1
  have o25 : vc_ob Lw S (S o 25).toNat 100 := a25.1
  have o26 : vc_ob Lw S (S o 26).toNat 100 := a26.1
  have m25 : S (S o 25).toNat (-1) = 40 := a25.2.1
  have m26 : S (S o 26).toNat (-1) = 40 := a26.2.1
  have t25 : τ (S o 25).toNat = 25 := a25.2.2
  have t26 : τ (S o 26).toNat = 26 := a26.2.2
  have ne56 : (S o 25).toNat ≠ (S o 26).toNat := fun z => by rw [z] at t25; omega
  -- what stays
  have ob : ∀ S1, Ag (bkW S o τ) S S1 → ∀ q c, vc_ob Lw S q c → vc_ob Lw S1 q c := fun S1 A q c hq => ⟨hq.1, by rw [A q (-2) (bkW.neg (by decide))]; exact hq.2⟩
  have ei : ∀ S1, Ag (bkW S o τ) S S1 → ∀ i, S1 ir i = S ir i := fun S1 A i => A ir i (bkW.k h0 i14 (by decide))
  have eo : ∀ S1, Ag (bkW S o τ) S S1 → ∀ i, 5 < i → i ≠ 29 → S1 o i = S o i := fun S1 A i hi h2 => A o i (by
    have := h0.2
    rintro (⟨-, z⟩ | ⟨z, -⟩ | ⟨z, -⟩ | ⟨z, -⟩) <;> omega)
  have e7 : ∀ S1, Ag (bkW S o τ) S S1 → (S1 ir 7).toNat = o := fun S1 A => by rw [ei S1 A 7, i7, Int.toNat_natCast]
  have ea : ∀ S1, Ag (bkW S o τ) S S1 → ∀ q, vc_ob Lw S q 100 → τ q ≠ 25 ∧ τ q ≠ 26 → ∀ i, S1 q i = S q i := fun S1 A q hq ht i => A q i (by
    have := hq.2
    rintro (⟨z, -⟩ | ⟨z, -⟩ | ⟨z, -⟩ | ⟨-, z, -⟩)
    · exact ob_ne hq h0 (by decide) z
    all_goals omega)
  have nl : ∀ S1, Ag (bkW S o τ) S S1 → ∀ q, S1 q (-1) = S q (-1) := fun S1 A q => A q (-1) (bkW.neg (by decide))
  have wo : ∀ i, (0 ≤ i ∧ i ≤ 5) ∨ i = 29 → bkW S o τ o i := fun i hi => Or.inl ⟨rfl, hi⟩
  have w25 : ∀ i, 0 ≤ i → bkW S o τ (S o 25).toNat i := fun i hi => Or.inr (Or.inr (Or.inr ⟨o25.2, Or.inl t25, hi⟩))
  have w26 : ∀ i, 0 ≤ i → bkW S o τ (S o 26).toNat i := fun i hi => Or.inr (Or.inr (Or.inr ⟨o26.2, Or.inr t26, hi⟩))
  refine vc_walk hX ck_X17_back [(53, [0, 1])] 60 hd ?_
  refine ⟨i14, ?_⟩
  rw [show (S ir 7).toNat = o by rw [i7, Int.toNat_natCast]]
  refine ⟨i14, h0, ?_⟩
  have A1 : Ag (bkW S o τ) S (vt_up S o 0 (((S ir 3).toNat : Nat) : Int)) := Ag.rf.up (wo 0 (by decide))
  have X1 : Ext (fun r i => r = o ∧ i = 0) Lw S τ Lw (vt_up S o 0 (((S ir 3).toNat : Nat) : Int)) τ := (Ag.rf.up ⟨rfl, rfl⟩ : Ag (fun r i => r = o ∧ i = 0) S _).ext
  have nko : (S ir 0).toNat ≠ o := ob_ne k2 h0 (by decide)
  have K1 := iK.iro X1 (by decide) nko
  have c1 := m1.upd (q := o) (i := 0) (v := (((S ir 3).toNat : Nat) : Int)) (fun z => nko z.symm) (fun j hj z => ob_ne (iK.ak hj).1 h0 (by decide) z.symm)
  have z1 : vt_up S o 0 (((S ir 3).toNat : Nat) : Int) o 0 = (((S ir 3).toNat : Nat) : Int) := vt_up_self
  refine ⟨ob _ A1 _ _ i14, ?_⟩
  rw [e7 _ A1]
  refine ⟨ob _ A1 _ _ i14, ob _ A1 _ _ h0, ?_⟩
  rw [ei _ A1]
  have A2 := A1.up (v := (((S ir 4).toNat : Nat) : Int)) (wo 1 (by decide))
  have X2 : Ext (fun r i => r = o ∧ i = 1) Lw (vt_up S o 0 (((S ir 3).toNat : Nat) : Int)) τ Lw (vt_up (vt_up S o 0 (((S ir 3).toNat : Nat) : Int)) o 1 (((S ir 4).toNat : Nat) : Int)) τ := (Ag.rf.up ⟨rfl, rfl⟩ : Ag (fun r i => r = o ∧ i = 1) _ _).ext
  have K2 := K1.iro X2 (by decide) nko
  have c2 := c1.upd (q := o) (i := 1) (v := (((S ir 4).toNat : Nat) : Int)) (fun z => nko z.symm) (fun j hj z => ob_ne (K1.ak hj).1 (ob _ A1 _ _ h0) (by decide) z.symm)
  have z2 : vt_up (vt_up S o 0 (((S ir 3).toNat : Nat) : Int)) o 1 (((S ir 4).toNat : Nat) : Int) o 0 = (((S ir 3).toNat : Nat) : Int) := by rw [up_ne (Or.inr (by decide))]; exact z1
  have z3 : vt_up (vt_up S o 0 (((S ir 3).toNat : Nat) : Int)) o 1 (((S ir 4).toNat : Nat) : Int) o 1 = (((S ir 4).toNat : Nat) : Int) := vt_up_self
  have off : ∀ q, q ≠ o → ∀ i, vt_up (vt_up S o 0 (((S ir 3).toNat : Nat) : Int)) o 1 (((S ir 4).toNat : Nat) : Int) q i = S q i := fun q hq i => by rw [up_ne (Or.inl hq), up_ne (Or.inl hq)]
  generalize vt_up (vt_up S o 0 (((S ir 3).toNat : Nat) : Int)) o 1 (((S ir 4).toNat : Nat) : Int) = S2 at *
  refine ⟨ob _ A2 _ _ i14, ?_⟩
  rw [ei _ A2]
  have offc : ∀ q c, vc_ob Lw S q c → c ≠ 0 → ∀ i, S2 q i = S q i := fun q c hq hc i => off q (ob_ne hq h0 hc) i
  have Fx : CFx Lw S2 o f wr gr (fun _ => 0) := by
    refine ⟨ob _ A2 _ _ h0, ?_, ?_, fun w w0 w1 => ?_, fun g g0 g1 => ?_⟩
    · rw [z2, Int.toNat_natCast]; exact li_of m2 (fun q c hq hc => offc q c hq (by omega))
    · rw [z3, Int.toNat_natCast]; exact li_of m3 (fun q c hq hc => offc q c hq (by omega))
    · obtain ⟨q1, q2⟩ := m5 w w0 w1
      have e := offc _ 4 q1 (by decide)
      rw [e, e, e]
      exact ⟨ob _ A2 _ _ q1, q2⟩
    · obtain ⟨q1, q2, q3, q4⟩ := m6 g g0 g1
      have e := offc _ 5 q1 (by decide)
      rw [e, e, e, Int.sub_zero]
      exact ⟨ob _ A2 _ _ q1, q2, q3, q4⟩
  refine vc_kp (K2.1) (cm_backs (d := d) K2 c2 Fx hj hl) ⟨Nat.le_refl _, Nat.le_refl _⟩ ?_
  rintro _ _ S3 _ ⟨rfl, rfl, rfl, A3, C3⟩
  have k5 : ∀ r, S2 r (-2) = S r (-2) := fun r => A2 r (-2) (bkW.neg (by decide))
  have A3' : Ag (bkW S o τ) S S3 := fun r i hn => (A3 r i (fun z => hn (by
    rcases z with ⟨y1, y2, y3⟩ | ⟨y1, y2⟩ | ⟨y1, y2, y3⟩
    · exact Or.inr (Or.inr (Or.inl ⟨by rw [← k5]; exact y1, y2, y3⟩))
    · exact Or.inr (Or.inl ⟨by rw [← k5]; exact y1, y2⟩)
    · exact Or.inl ⟨y1, Or.inl (by omega)⟩))).trans (A2 r i hn)
  have x0 : S3 o 0 = (((S ir 3).toNat : Nat) : Int) := by
    rw [A3 o 0 (by
      have := (ob _ A2 _ _ h0).2
      rintro (⟨z, -⟩ | ⟨z, -⟩ | ⟨-, z, -⟩) <;> omega)]
    exact z2
  have x1 : S3 o 1 = (((S ir 4).toNat : Nat) : Int) := by
    rw [A3 o 1 (by
      have := (ob _ A2 _ _ h0).2
      rintro (⟨z, -⟩ | ⟨z, -⟩ | ⟨-, z, -⟩) <;> omega)]
    exact z3
  refine ⟨ob _ A3' _ _ i14, ?_⟩
  rw [e7 _ A3']
  refine ⟨ob _ A3' _ _ i14, ob _ A3' _ _ h0, ?_⟩
  rw [ei _ A3', m7]
  have A4 := A3'.up (v := f 6) (wo 29 (by decide))
  have C4 : CLd Lw (vt_up S3 o 29 (f 6)) o (upF f 7 (S2 o 5 - 0)) wr gr (fun _ => 0) := by
    refine C3.own (by decide) (fun j _ _ _ _ _ _ h6 => by rw [upF_ne h6]) (by rw [upF_ne (by decide), upF_ne (by decide)]; exact n0) (by rw [upF_ne (by decide), upF_ne (by decide)]; exact n1) ?_ ?_ ?_ ?_ ?_
    · rw [up_ne (Or.inr (by decide)), C3.2.2.2.2.2.1, upF_ne (by decide)]
    · rw [up_ne (Or.inr (by decide)), C3.2.2.2.2.2.2.1, upF_ne (by decide)]
    · rw [up_ne (Or.inr (by decide)), C3.2.2.2.2.2.2.2.1, upF_ne (by decide)]
    · rw [up_ne (Or.inr (by decide)), C3.2.2.2.2.2.2.2.2.1, upF_ne (by decide)]
    · rw [vt_up_self, upF_ne (by decide)]
  refine ⟨ob _ A4 _ _ i14, ?_⟩
  rw [e7 _ A4]
  refine ⟨ob _ A4 _ _ i14, ob _ A4 _ _ h0, ?_⟩
  rw [ei _ A4, m8]
  have A5 := A4.up (v := f 7) (wo 5 (by decide))
  have C5 : CLd Lw (vt_up (vt_up S3 o 29 (f 6)) o 5 (f 7)) o f wr gr (fun _ => 0) := by
    refine C4.own (by decide) (fun j _ _ _ _ _ h7 _ => by rw [upF_ne h7]) (by rw [upF_ne (by decide)]; exact n0) (by rw [upF_ne (by decide)]; exact n1) ?_ ?_ ?_ ?_ ?_
    · rw [up_ne (Or.inr (by decide)), C4.2.2.2.2.2.1, upF_ne (by decide)]
    · rw [up_ne (Or.inr (by decide)), C4.2.2.2.2.2.2.1, upF_ne (by decide)]
    · rw [up_ne (Or.inr (by decide)), C4.2.2.2.2.2.2.2.1, upF_ne (by decide)]
    · rw [vt_up_self]; exact (Int.add_zero _).symm
    · rw [up_ne (Or.inr (by decide)), C4.2.2.2.2.2.2.2.2.2, upF_ne (by decide)]
  have x0' : vt_up (vt_up S3 o 29 (f 6)) o 5 (f 7) o 0 = (((S ir 3).toNat : Nat) : Int) := by rw [up_ne (Or.inr (by decide)), up_ne (Or.inr (by decide))]; exact x0
  have x1' : vt_up (vt_up S3 o 29 (f 6)) o 5 (f 7) o 1 = (((S ir 4).toNat : Nat) : Int) := by rw [up_ne (Or.inr (by decide)), up_ne (Or.inr (by decide))]; exact x1
  generalize vt_up (vt_up S3 o 29 (f 6)) o 5 (f 7) = S5 at *
  have loop : ∀ (m : Nat) (j : Int) (S1 : SS), 0 ≤ j → j + m = f 6 → Ag (bkW S o τ) S S1 → (∀ r i, (r ≠ (S o 25).toNat ∧ r ≠ (S o 26).toNat) ∨ i < 0 → S1 r i = S5 r i) → (∀ k, 0 ≤ k → k < j → S1 (S o 25).toNat k = f (122 + 2 * k) ∧ S1 (S o 26).toNat k = f (122 + 2 * k + 1)) → vc_J 137 (vc_up (fun v Lw' S' B' => v = none ∧ Lw = Lw' ∧ B = B' ∧ Ag (bkW S o τ) S S' ∧ CLd Lw S' o f wr gr (fun _ => 0) ∧ CRw S' o f ∧ S' o 0 = (((S ir 3).toNat : Nat) : Int) ∧ S' o 1 = (((S ir 4).toNat : Nat) : Int))) X 53 [(0, .inr (.inr ir)), (1, ii j)] [] Lw S1 B 0 0 := by
    intro m
    have no5 : o ≠ (S o 25).toNat := ob_ne h0 o25 (by decide)
    have no6 : o ≠ (S o 26).toNat := ob_ne h0 o26 (by decide)
    induction m with
    | zero =>
      intro j S1 j0 jm A es rows
      refine vc_walk hX ck_X17_back [] 60 hd ?_
      refine ⟨ob _ A _ _ i14, ?_⟩
      rw [ei _ A, m7]
      refine ⟨by omega, fun _ => ?_, fun z => absurd z (by omega)⟩
      have eo' : ∀ i, S1 o i = S5 o i := fun i => es o i (Or.inl ⟨no5, no6⟩)
      refine ⟨⟨Nat.le_refl _, Nat.le_refl _⟩, rfl, rfl, rfl, A, ?_, fun k k0 k1 => ?_, by rw [eo']; exact x0', by rw [eo']; exact x1'⟩
      · refine C5.same (fun _ h => h) (fun q c hq hc i => ?_) (fun i _ => eo' i)
        have hq' : vc_ob Lw S q c := ⟨hq.1, by rw [← A5 q (-2) (bkW.neg (by decide))]; exact hq.2⟩
        exact es q i (Or.inl ⟨ob_ne hq' o25 (by omega), ob_ne hq' o26 (by omega)⟩)
      · rw [eo _ A 25 (by decide) (by decide), eo _ A 26 (by decide) (by decide)]
        exact rows k k0 (by omega)
    | succ m ih =>
      intro j S1 j0 jm A es rows
      have q1 := m9 j j0 (by omega)
      have A' := A.up (v := S (S ir 1).toNat j) (w25 j j0)
      have A'' := A'.up (v := S (S ir 2).toNat j) (w26 j j0)
      refine vc_walk hX ck_X17_back [(53, [0, 1])] 60 hd ?_
      refine ⟨ob _ A _ _ i14, ?_⟩
      rw [ei _ A, m7]
      refine ⟨by omega, fun z => absurd z (by omega), fun _ => ?_⟩
      refine ⟨ob _ A _ _ i14, ?_⟩
      rw [e7 _ A]
      refine ⟨ob _ A _ _ h0, ob _ A _ _ i14, ?_⟩
      rw [eo _ A 25 (by decide) (by decide), ei _ A]
      refine ⟨⟨ob _ A _ _ i1', j0, by rw [nl _ A]; omega, by rw [nl _ A]; omega⟩, ⟨ob _ A _ _ o25, j0, by rw [nl _ A]; omega, by rw [nl _ A]; omega⟩, ?_⟩
      rw [ea _ A _ i1' (by omega)]
      refine ⟨ob _ A' _ _ i14, ?_⟩
      rw [e7 _ A']
      refine ⟨ob _ A' _ _ h0, ob _ A' _ _ i14, ?_⟩
      rw [eo _ A' 26 (by decide) (by decide), ei _ A']
      refine ⟨⟨ob _ A' _ _ i2', j0, by rw [nl _ A']; omega, by rw [nl _ A']; omega⟩, ⟨ob _ A' _ _ o26, j0, by rw [nl _ A']; omega, by rw [nl _ A']; omega⟩, ?_⟩
      rw [ea _ A' _ i2' (by omega)]
      refine ih (j + 1) _ (by omega) (by omega) A'' (fun r i hri => ?_) (fun k k0 k1 => ?_)
      · rw [up_ne (by rcases hri with h | h
                      · exact Or.inl h.2
                      · exact Or.inr (by omega)), up_ne (by rcases hri with h | h
                                                            · exact Or.inl h.1
                                                            · exact Or.inr (by omega))]
        exact es r i hri
      · rw [up_ne (r' := (S o 25).toNat) (Or.inl ne56)]
        by_cases ck : k = j
        · subst ck
          rw [vt_up_self, vt_up_self]
          exact q1
        · rw [up_ne (Or.inr ck), up_ne (Or.inr ck), up_ne (Or.inl (fun z => ne56 z.symm))]
          exact rows k k0 (by omega)
  exact loop (f 6).toNat 0 S5 (by decide) (by omega) A5 (fun _ _ _ => rfl) (fun k k0 k1 => by omega)
end CNM
