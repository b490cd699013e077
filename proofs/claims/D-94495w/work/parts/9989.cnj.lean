/-! THE COMPONENT's methods: the tape -/
set_option maxRecDepth 100000
/-- the tape's bytes and how many count -/
def CTp (S : SS) (o : Nat) (tp : Int → Int) (t : Int) : Prop := S o 9 = t ∧ ∀ i, 0 ≤ i → i < 400 → S (S o 8).toNat i = tp i
def tpW (S0 : SS) (o : Nat) (r : Nat) (i : Int) : Prop := (r = o ∧ i = 9) ∨ (S0 r (-2) = 101 ∧ 0 ≤ i)
section CNJ
variable {Lw Lw' : List Nat} {S0 S : SS} {B : SB} {d o D kr b : Nat} {τ τ' : Nat → Nat} {f F l : Int → Int} {wr gr rr : Int → Nat} {lt : Int → Int} {K nr : Int} {tp : Int → Int} {t : Int}
theorem tpW.p {r : Nat} {i : Int} (h : tpW S0 o r i) : pW S0 o τ r i := by
  rcases h with ⟨h1, h2⟩ | h
  · exact Or.inr (Or.inl ⟨h1, Or.inr (Or.inl h2)⟩)
  · exact Or.inr (Or.inr (Or.inr (Or.inr (Or.inr h))))
theorem Ag.tpp (h : Ag (tpW S0 o) S0 S) : Ag (pW S0 o τ) S0 S := h.mono (fun _ _ z => z.p)
theorem tpW.k {r : Nat} {c i : Int} (h0 : S0 o (-2) = 0) (h : S0 r (-2) = c) (hc : c ≠ 0 ∧ c ≠ 101) : ¬ tpW S0 o r i := by
  rintro (⟨z, -⟩ | ⟨z, -⟩)
  · subst z; omega
  · omega
theorem tpW.o0 {i : Int} (h0 : S0 o (-2) = 0) (hi : i ≠ 9) : ¬ tpW S0 o o i := by
  rintro (⟨-, z⟩ | ⟨z, -⟩)
  · omega
  · omega
/-- the land does not see the tape -/
theorem CLd.tape (h : CLd Lw S0 o f wr gr lt) (hA : Ag (tpW S0 o) S0 S) : CLd Lw S o f wr gr lt := h.same (fun _ h => h) (fun q c hq hc i => hA q i (tpW.k h.1.2 hq.2 (by omega))) (fun i hi => hA o i (tpW.o0 h.1.2 (by omega)))
theorem CTp.put {S1 : SS} {v : Int} (h0 : vc_ob Lw S o 0) (h8 : vc_ob Lw S (S o 8).toNat 101) (hA : Ag (tpW S o) S S1) (h : CTp S1 o tp t) (ht : 0 ≤ t) : Ag (tpW S o) S (vt_up (vt_up S1 (S o 8).toNat t v) o 9 (t + 1)) ∧ CTp (vt_up (vt_up S1 (S o 8).toNat t v) o 9 (t + 1)) o (upF tp t v) (t + 1) := by
  have e8 : S1 o 8 = S o 8 := hA o 8 (tpW.o0 h0.2 (by decide))
  have hne : (S o 8).toNat ≠ o := ob_ne h8 h0 (by decide)
  refine ⟨(hA.up (Or.inr ⟨h8.2, ht⟩)).up (Or.inl ⟨rfl, rfl⟩), vt_up_self, fun i i0 i1 => ?_⟩
  rw [up_ne (r := o) (r' := o) (Or.inr (by decide)), up_ne (r := (S o 8).toNat) (r' := o) (Or.inl (fun z => hne z.symm)), e8, up_ne (Or.inl hne)]
  by_cases c : i = t
  · subst c; rw [vt_up_self, upF_self]
  · rw [up_ne (Or.inr c), upF_ne c, ← e8]; exact h.2 i i0 i1
theorem cm_put {v : Int} (hv : -2147483648 ≤ v ∧ v ≤ 2147483647) (h0 : vc_ob Lw S o 0) (h8 : vc_ob Lw S (S o 8).toNat 101) (hn : S (S o 8).toNat (-1) = 400) (hT : CTp S o tp t) (ht : 0 ≤ t ∧ t ≤ 396) : vc_M d 0 0 2 [.inr (.inr o), ii v] Lw S B (vc_up (fun r Lw' S' B' => r = none ∧ Lw = Lw' ∧ B = B' ∧ Ag (tpW S o) S S' ∧ CTp S' o (tp4 tp t v) (t + 4))) := by
  refine vc_start rfl rfl (Nat.le_of_ble_eq_true rfl) (fun X hX hd => ?_)
  generalize hPost : (vc_up (fun r Lw' S' B' => r = none ∧ Lw = Lw' ∧ B = B' ∧ Ag (tpW S o) S S' ∧ CTp S' o (tp4 tp t v) (t + 4))) = Post
  have step : ∀ (q : Int → Int) (t k : Int) (S1 : SS), 0 ≤ t → t ≤ 399 → 0 ≤ k → k ≤ 24 → Ag (tpW S o) S S1 → CTp S1 o q t → (∀ S2, Ag (tpW S o) S S2 → CTp S2 o (upF q t (vt_i2b (v / 2 ^ k.toNat))) (t + 1) → vc_J 2 Post X 3 [(0, .inr (.inr o)), (1, ii v), (2, ii (k + -8))] [] Lw S2 B 0 0) → vc_J 2 Post X 3 [(0, .inr (.inr o)), (1, ii v), (2, ii k)] [] Lw S1 B 0 0 := by
    intro q t k S1 t0 t1 k0 k1 A1 T1 hJ
    have e8 : S1 o 8 = S o 8 := A1 o 8 (tpW.o0 h0.2 (by decide))
    have o1 : vc_ob Lw S1 o 0 := (A1.tpp (τ := fun _ => 0)).ob h0
    have a1 : vc_ob Lw S1 (S o 8).toNat 101 := (A1.tpp (τ := fun _ => 0)).ob h8
    have l1 : S1 (S o 8).toNat (-1) = 400 := by rw [(A1.tpp (τ := fun _ => 0)).ln]; exact hn
    have hne : (S o 8).toNat ≠ o := ob_ne h8 h0 (by decide)
    obtain ⟨A2, T2⟩ := CTp.put (v := vt_i2b (v / 2 ^ k.toNat)) h0 h8 A1 T1 t0
    refine vc_walk hX ck_X0_put [(20, [0, 1, 2]), (3, [0, 1, 2])] 80 hd ?_
    refine ⟨by omega, fun c => absurd c (by omega), fun _ => ?_⟩
    refine ⟨o1, o1, ?_⟩
    rw [e8, T1.1]
    refine ⟨by omega, ⟨a1, by omega, i2b_rg _⟩, ?_⟩
    have o2 : vc_ob Lw (vt_up S1 (S o 8).toNat t (vt_i2b (v / 2 ^ k.toNat))) o 0 := ob_up o1 (by omega)
    have e9 : vt_up S1 (S o 8).toNat t (vt_i2b (v / 2 ^ k.toNat)) o 9 = t := by rw [up_ne (Or.inl (fun z => hne z.symm))]; exact T1.1
    show vc_J _ _ _ _ _ _ _ _ _ _ _
    refine vc_walk hX ck_X0_put [(3, [0, 1, 2])] 80 hd ?_
    refine ⟨o2, o2, ?_⟩
    rw [e9]
    exact hJ _ A2 T2
  refine vc_walk hX ck_X0_put [(3, [0, 1, 2])] 80 hd ?_
  refine step tp t 24 S (by omega) (by omega) (by decide) (by decide) Ag.rf hT (fun S1 A1 T1 => ?_)
  refine step _ (t + 1) (24 + -8) S1 (by omega) (by omega) (by decide) (by decide) A1 T1 (fun S2 A2 T2 => ?_)
  refine step _ (t + 1 + 1) (24 + -8 + -8) S2 (by omega) (by omega) (by decide) (by decide) A2 T2 (fun S3 A3 T3 => ?_)
  refine step _ (t + 1 + 1 + 1) (24 + -8 + -8 + -8) S3 (by omega) (by omega) (by decide) (by decide) A3 T3 (fun S4 A4 T4 => ?_)
  refine vc_walk hX ck_X0_put [] 80 hd ?_
  refine ⟨by omega, fun _ => ?_, fun c => absurd c (by decide)⟩
  refine ⟨⟨Nat.le_refl _, Nat.le_refl _⟩, ?_⟩
  rw [← hPost]
  refine ⟨rfl, rfl, rfl, A4, ?_⟩
  unfold tp4
  rw [show t + 1 + 1 = t + 2 by omega, show t + 2 + 1 = t + 3 by omega, show t + 3 + 1 = t + 4 by omega] at T4
  exact T4
theorem tpW.tr {S1 S2 : SS} (h : Ag (tpW S0 o) S0 S1) (h2 : Ag (tpW S1 o) S1 S2) : Ag (tpW S0 o) S0 S2 := fun r i hn => (h2 r i (fun z => hn (by
  have e : S1 r (-2) = S0 r (-2) := h r (-2) (by
    rintro (⟨-, z⟩ | ⟨-, z⟩) <;> omega)
  unfold tpW at z ⊢
  rw [e] at z
  exact z))).trans (h r i hn)
theorem cm_feed {x1 x2 x3 x4 x5 : Int} (r1 : -2147483648 ≤ x1 ∧ x1 ≤ 2147483647) (r2 : -2147483648 ≤ x2 ∧ x2 ≤ 2147483647) (r3 : -2147483648 ≤ x3 ∧ x3 ≤ 2147483647) (r4 : -2147483648 ≤ x4 ∧ x4 ≤ 2147483647) (r5 : -2147483648 ≤ x5 ∧ x5 ≤ 2147483647) (h0 : vc_ob Lw S o 0) (h8 : vc_ob Lw S (S o 8).toNat 101) (hn : S (S o 8).toNat (-1) = 400) (hT : CTp S o tp t) (ht : 0 ≤ t ∧ t ≤ 400) : vc_M (d + 1) 0 0 1 [.inr (.inr o), ii x1, ii x2, ii x3, ii x4, ii x5] Lw S B (vc_up (fun r Lw' S' B' => r = some (ii (sp_feed tp t x1 x2 x3 x4 x5).1) ∧ Lw = Lw' ∧ B = B' ∧ Ag (tpW S o) S S' ∧ CTp S' o (sp_feed tp t x1 x2 x3 x4 x5).2.1 (sp_feed tp t x1 x2 x3 x4 x5).2.2)) := by
  refine vc_start rfl rfl (Nat.le_of_ble_eq_true rfl) (fun X hX hd => ?_)
  have e9 := hT.1
  refine vc_walk hX ck_X0_feed [] 80 hd ?_
  refine ⟨h0, ?_⟩
  refine ⟨by omega, fun z => ?_, fun z => ?_⟩
  · have e : sp_feed tp t x1 x2 x3 x4 x5 = (t + 20, tp4 (tp4 (tp4 (tp4 (tp4 tp t x1) (t + 4) x2) (t + 8) x3) (t + 12) x4) (t + 16) x5, t + 20) := if_neg (by omega)
    rw [e]
    have nx : ∀ (S1 : SS), Ag (tpW S o) S S1 → vc_ob Lw S1 o 0 ∧ vc_ob Lw S1 (S1 o 8).toNat 101 ∧ S1 (S1 o 8).toNat (-1) = 400 := fun S1 A => by
      rw [A o 8 (tpW.o0 h0.2 (by decide)), (A.tpp (τ := fun _ => 0)).ln]
      exact ⟨(A.tpp (τ := fun _ => 0)).ob h0, (A.tpp (τ := fun _ => 0)).ob h8, hn⟩
    refine vc_kp h0 (cm_put (d := d) r1 h0 h8 hn hT (by omega)) ⟨Nat.le_refl _, Nat.le_refl _⟩ ?_
    rintro _ _ S1 _ ⟨rfl, rfl, rfl, A1, T1⟩
    obtain ⟨b0, b8, bn⟩ := nx S1 A1
    refine vc_kp b0 (cm_put (d := d) r2 b0 b8 bn T1 (by omega)) ⟨Nat.le_refl _, Nat.le_refl _⟩ ?_
    rintro _ _ S2 _ ⟨rfl, rfl, rfl, A2, T2⟩
    have A2 := tpW.tr A1 A2
    obtain ⟨b0, b8, bn⟩ := nx S2 A2
    refine vc_kp b0 (cm_put (d := d) r3 b0 b8 bn T2 (by omega)) ⟨Nat.le_refl _, Nat.le_refl _⟩ ?_
    rintro _ _ S3 _ ⟨rfl, rfl, rfl, A3, T3⟩
    have A3 := tpW.tr A2 A3
    obtain ⟨b0, b8, bn⟩ := nx S3 A3
    refine vc_kp b0 (cm_put (d := d) r4 b0 b8 bn T3 (by omega)) ⟨Nat.le_refl _, Nat.le_refl _⟩ ?_
    rintro _ _ S4 _ ⟨rfl, rfl, rfl, A4, T4⟩
    have A4 := tpW.tr A3 A4
    obtain ⟨b0, b8, bn⟩ := nx S4 A4
    refine vc_kp b0 (cm_put (d := d) r5 b0 b8 bn T4 (by omega)) ⟨Nat.le_refl _, Nat.le_refl _⟩ ?_
    rintro _ _ S5 _ ⟨rfl, rfl, rfl, A5, T5⟩
    have A5 := tpW.tr A4 A5
    obtain ⟨b0, b8, bn⟩ := nx S5 A5
    rw [show t + 4 + 4 = t + 8 by omega, show t + 8 + 4 = t + 12 by omega, show t + 12 + 4 = t + 16 by omega, show t + 16 + 4 = t + 20 by omega] at T5
    refine ⟨b0, ⟨Nat.le_refl _, Nat.le_refl _⟩, ?_, rfl, rfl, A5, T5⟩
    rw [T5.1]
  · have e : sp_feed tp t x1 x2 x3 x4 x5 = (-1, tp, t) := if_pos (by omega)
    rw [e]
    exact ⟨⟨Nat.le_refl _, Nat.le_refl _⟩, rfl, rfl, rfl, Ag.rf, hT⟩
theorem cm_end {n : Int} (hn : -2147483648 ≤ n ∧ n ≤ 2147483647) (h0 : vc_ob Lw S o 0) (h8 : vc_ob Lw S (S o 8).toNat 101) (hT : CTp S o tp t) (ht : 0 ≤ t ∧ t ≤ 400) : vc_M d 0 0 3 [.inr (.inr o), ii n] Lw S B (vc_up (fun r Lw' S' B' => r = some (ii (if 0 ≤ n ∧ n ≤ t then n else -1)) ∧ Lw = Lw' ∧ B = B' ∧ Ag (tpW S o) S S' ∧ CTp S' o tp (if 0 ≤ n ∧ n ≤ t then n else t))) := by
  refine vc_start rfl rfl (Nat.le_of_ble_eq_true rfl) (fun X hX hd => ?_)
  have e9 := hT.1
  have hne : (S o 8).toNat ≠ o := ob_ne h8 h0 (by decide)
  refine vc_walk hX ck_X0_end [] 80 hd ?_
  refine ⟨by omega, fun c => ?_, fun c => ?_⟩
  · rw [if_neg (by omega), if_neg (by omega)]
    exact ⟨⟨Nat.le_refl _, Nat.le_refl _⟩, rfl, rfl, rfl, Ag.rf, hT⟩
  · refine ⟨h0, by omega, fun z => ?_, fun z => ?_⟩
    · rw [if_pos (by omega), if_pos (by omega)]
      refine ⟨h0, ⟨Nat.le_refl _, Nat.le_refl _⟩, rfl, rfl, rfl, Ag.rf.up (Or.inl ⟨rfl, rfl⟩), vt_up_self, fun i i0 i1 => ?_⟩
      rw [up_ne (r := o) (r' := o) (Or.inr (by decide)), up_ne (Or.inl hne)]
      exact hT.2 i i0 i1
    · rw [if_neg (by omega), if_neg (by omega)]
      exact ⟨⟨Nat.le_refl _, Nat.le_refl _⟩, rfl, rfl, rfl, Ag.rf, hT⟩
end CNJ
