/-! THE COMPONENT's methods: puts, spreads -/
set_option maxRecDepth 100000
/-- what a search writes -/
def sbW (S0 : SS) (o : Nat) (r : Nat) (i : Int) : Prop := (r = (S0 o 10).toNat ∧ 0 ≤ i) ∨ (r = (S0 o 11).toNat ∧ 0 ≤ i) ∨ (r = o ∧ i = 15)
/-- the queue, and how far states are -/
def CBq (N : Int) (S : SS) (o : Nat) (q : CQ) : Prop := S o 15 = q.1 ∧ (∀ i, 0 ≤ i → i < q.1 → S (S o 11).toNat i = q.2.1 i) ∧ ∀ s, 0 ≤ s → s < N → S (S o 10).toNat s = q.2.2 s
/-- ready for a search -/
def CRd (Lw : List Nat) (S : SS) (o : Nat) (τ : Nat → Nat) (f : Int → Int) (wr gr : Int → Nat) (lt : Int → Int) (c : Int) (mv : Int → Int) : Prop := CSh Lw S o τ ∧ CLd Lw S o f wr gr lt ∧ CAr Lw S o τ 10 100 1048576 ∧ CAr Lw S o τ 11 100 1048576 ∧ CSc S o f c mv ∧ S o 14 = (shB f : Int)
section CMP
variable {Lw : List Nat} {S0 S : SS} {B : SB} {d o : Nat} {τ : Nat → Nat} {f : Int → Int} {wr gr : Int → Nat} {lt : Int → Int} {K c : Int} {mv : Int → Int} {N : Int}
theorem sbW.sc (h : CRd Lw S0 o τ f wr gr lt c mv) {r : Nat} {i : Int} (hw : sbW S0 o r i) : scW S0 o τ r i := by
  obtain ⟨-, -, a10, a11, -⟩ := h
  rcases hw with ⟨rfl, h2⟩ | ⟨rfl, h2⟩ | ⟨rfl, rfl⟩
  · exact scW.a a10 rfl h2
  · exact scW.a a11 rfl h2
  · exact scW.fl rfl
theorem Ag.sc (h : CRd Lw S0 o τ f wr gr lt c mv) (hA : Ag (sbW S0 o) S0 S) : Ag (scW S0 o τ) S0 S := hA.mono (fun _ _ z => z.sc h)
theorem sbW.ow (h : CRd Lw S0 o τ f wr gr lt c mv) {i : Int} (hi : i ≠ 15) : ¬ sbW S0 o o i := by
  obtain ⟨h0, -, a10, a11, -⟩ := h
  rintro (⟨z, -⟩ | ⟨z, -⟩ | ⟨-, z⟩)
  · exact a10.ne0 h0.1 (by decide) z.symm
  · exact a11.ne0 h0.1 (by decide) z.symm
  · exact hi z
theorem CRd.ag (h : CRd Lw S0 o τ f wr gr lt c mv) (hA : Ag (sbW S0 o) S0 S) : CRd Lw S o τ f wr gr lt c mv := by
  have hs := hA.sc h
  have eo : ∀ i, i ≠ 15 → S o i = S0 o i := fun i hi => hA o i (sbW.ow h hi)
  obtain ⟨h0, h1, a10, a11, h4, h5⟩ := h
  have a12 := h0.2.1.1
  have x0 : (S0 o 12).toNat ≠ (S0 o 10).toNat := a12.ne a10 (by decide)
  have x1 : (S0 o 12).toNat ≠ (S0 o 11).toNat := a12.ne a11 (by decide)
  have x2 : (S0 o 12).toNat ≠ o := a12.ne0 h0.1 (by decide)
  refine ⟨h0.ag hs.q, h1.ag hs, a10.ag h0.1.2 hs.q rfl (by decide), a11.ag h0.1.2 hs.q rfl (by decide), h4.ext (τ' := τ) (Lw' := Lw) (eo 13 (by decide)) (eo 12 (by decide)) (fun i _ => hA _ i ?_), by rw [eo 14 (by decide)]; exact h5⟩
  rintro (⟨z, -⟩ | ⟨z, -⟩ | ⟨z, -⟩)
  · exact x0 z
  · exact x1 z
  · exact x2 z
theorem cm_puts {s l : Int} {q : CQ} (hs : s = -1 ∨ (0 ≤ s ∧ s < N)) (hN : N ≤ 1048576) (hq : 0 ≤ q.1) (hr : 0 ≤ s → -1 ≤ q.2.2 s ∧ q.2.2 s < 1048576) (hf : 0 ≤ s → q.2.2 s = -1 → q.1 < N) (hR : CRd Lw S0 o τ f wr gr lt c mv) (hA : Ag (sbW S0 o) S0 S) (hB : CBq N S o q) : vc_M d 0 0 33 [.inr (.inr o), ii s, ii l] Lw S B (vc_up (fun v Lw' S' B' => v = none ∧ Lw = Lw' ∧ B = B' ∧ Ag (sbW S0 o) S0 S' ∧ CBq N S' o (cput q s l))) := by
  refine vc_start rfl rfl (Nat.le_of_ble_eq_true rfl) (fun X hX hd => ?_)
  have R1 := hR.ag hA
  obtain ⟨H1, C1, a10, a11, -, -⟩ := R1
  have e10 : S o 10 = S0 o 10 := hA o 10 (sbW.ow hR (by decide))
  have e11 : S o 11 = S0 o 11 := hA o 11 (sbW.ow hR (by decide))
  have l10 : S (S o 10).toNat (-1) = 1048576 := a10.2.1
  have l11 : S (S o 11).toNat (-1) = 1048576 := a11.2.1
  have n10 : (S o 10).toNat ≠ o := a10.ne0 H1.1 (by decide)
  have n11 : (S o 11).toNat ≠ o := a11.ne0 H1.1 (by decide)
  have n01 : (S o 10).toNat ≠ (S o 11).toNat := a10.ne a11 (by decide)
  obtain ⟨b1, b2, b3⟩ := hB
  refine vc_walk hX ck_X0_puts [(16, [0, 1, 2])] 60 hd ?_
  refine ⟨by omega, fun c1 => ?_, fun c1 => ?_⟩
  · have e : cput q s l = q := if_pos (Or.inl c1)
    rw [e]
    exact ⟨⟨Nat.le_refl _, Nat.le_refl _⟩, rfl, rfl, rfl, hA, b1, b2, b3⟩
  have s0 : 0 ≤ s ∧ s < N := by omega
  have hr := hr s0.1
  have hf := hf s0.1
  have hss := b3 s s0.1 s0.2
  refine ⟨C1.1, ⟨a10.1, by omega, by omega, by omega⟩, by omega, fun c2 => ?_, fun c2 => ?_⟩
  rotate_left
  · have e : cput q s l = q := if_pos (Or.inr (by omega))
    rw [e]
    exact ⟨⟨Nat.le_refl _, Nat.le_refl _⟩, rfl, rfl, rfl, hA, b1, b2, b3⟩
  have hq2 : q.2.2 s = -1 := by omega
  have hf := hf hq2
  have e : cput q s l = (q.1 + 1, upF q.2.1 q.1 s, upF q.2.2 s l) := if_neg (by omega)
  rw [e]
  refine vc_walk hX ck_X0_puts [] 60 hd ?_
  have A1 : Ag (sbW S0 o) S0 (vt_up S (S o 10).toNat s l) := hA.up (Or.inl ⟨by rw [e10], s0.1⟩)
  have ro : ∀ i, vt_up S (S o 10).toNat s l o i = S o i := fun i => up_ne (Or.inl (fun z => n10 z.symm))
  refine ⟨C1.1, ⟨a10.1, by omega, by omega, by omega⟩, (hR.ag A1).2.1.1, (hR.ag A1).2.1.1, ?_⟩
  rw [ro, ro, b1]
  have A2 : Ag (sbW S0 o) S0 (vt_up (vt_up S (S o 10).toNat s l) (S o 11).toNat q.1 s) := A1.up (Or.inr (Or.inl ⟨by rw [e11], hq⟩))
  have ro2 : ∀ i, vt_up (vt_up S (S o 10).toNat s l) (S o 11).toNat q.1 s o i = S o i := fun i => by rw [up_ne (Or.inl (fun z => n11 z.symm)), ro]
  have x11 : vc_ob Lw (vt_up S (S o 10).toNat s l) (S o 11).toNat 100 := ob_up a11.1 (by omega)
  have y11 : vt_up S (S o 10).toNat s l (S o 11).toNat (-1) = 1048576 := by rw [up_ne (Or.inr (by omega))]; exact l11
  refine ⟨⟨x11, by omega, by omega, by omega⟩, (hR.ag A2).2.1.1, (hR.ag A2).2.1.1, ?_⟩
  rw [ro2, b1]
  refine ⟨⟨Nat.le_refl _, Nat.le_refl _⟩, rfl, rfl, rfl, A2.up (Or.inr (Or.inr ⟨rfl, rfl⟩)), vt_up_self, fun i i0 i1 => ?_, fun t t0 t1 => ?_⟩
  · have i1 : i < q.1 + 1 := i1
    rw [up_ne (r' := o) (i' := 11) (Or.inr (by decide)), ro2, up_ne (Or.inl n11), up_rd]
    show _ = upF q.2.1 q.1 s i
    by_cases ci : i = q.1
    · rw [if_pos ⟨rfl, ci⟩, ci, upF_self]
    · rw [if_neg (fun z => ci z.2), upF_ne ci, up_ne (Or.inl (fun z => n01 z.symm))]
      exact b2 i i0 (by omega)
  · rw [up_ne (r' := o) (i' := 10) (Or.inr (by decide)), ro2, up_ne (Or.inl n10), up_ne (Or.inl n01), up_rd]
    show _ = upF q.2.2 s l t
    by_cases ci : t = s
    · rw [if_pos ⟨rfl, ci⟩, ci, upF_self]
    · rw [if_neg (fun z => ci z.2), upF_ne ci]
      exact b3 t t0 t1
theorem cput_le {q : CQ} {s l : Int} : q.1 ≤ (cput q s l).1 := by
  unfold cput
  split
  · exact Int.le_refl _
  · show q.1 ≤ q.1 + 1; omega
theorem cput_qu {q : CQ} {s l i : Int} (hi : i < q.1) : (cput q s l).2.1 i = q.2.1 i := by
  unfold cput
  split
  · rfl
  · exact upF_ne (by omega)
theorem cput_st {q : CQ} {s l t : Int} (ht : q.2.2 t ≠ -1) : (cput q s l).2.2 t = q.2.2 t := by
  unfold cput
  split
  · rfl
  · rename_i h
    exact upF_ne (fun z => h (Or.inr (by rw [← z]; exact ht)))
theorem cm_spreads {src : Int → Prop} {q : CQ} (hR : CRd Lw S0 o τ f wr gr lt c mv) (hl : LI K f) (hA : Ag (sbW S0 o) S0 S) (hB : CBq (nSt f c) S o q) (hI : CBI (nSt f c) c (f 0) (scc f) src 0 0 0 q) : vc_M (d + 4) 0 0 34 [.inr (.inr o)] Lw S B (vc_up (fun v Lw' S' B' => v = none ∧ Lw = Lw' ∧ B = B' ∧ Ag (sbW S0 o) S0 S' ∧ ∃ q' k, CBq (nSt f c) S' o q' ∧ CBI (nSt f c) c (f 0) (scc f) src k 0 0 q' ∧ q'.1 ≤ k)) := by
  refine vc_start rfl rfl (Nat.le_of_ble_eq_true rfl) (fun X hX hd => ?_)
  have n0 := hl.nW
  obtain ⟨e13, hc, h20, hmv⟩ := hR.2.2.2.2.1
  have hN := nSt_le h20
  have hsc : ∀ s m w, (0 ≤ s ∧ s < nSt f c) → (0 ≤ m ∧ m < c) → (0 ≤ w ∧ w < f 0) → scc f s m w = -1 ∨ (0 ≤ scc f s m w ∧ scc f s m w < nSt f c) := scc_rg hl h20
  have l3 : ∀ (n3 : Nat) (k m w : Int) (q : CQ) (S1 : SS), 0 ≤ k → k < q.1 → 0 ≤ m → m < c → 0 ≤ w → w + n3 = f 0 → Ag (sbW S0 o) S0 S1 → CBq (nSt f c) S1 o q → CBI (nSt f c) c (f 0) (scc f) src k m w q → (∀ (q' : CQ) (S2 : SS), k < q'.1 → Ag (sbW S0 o) S0 S2 → CBq (nSt f c) S2 o q' → CBI (nSt f c) c (f 0) (scc f) src k m (f 0) q' → vc_J 34 (vc_up (fun v Lw' S' B' => v = none ∧ Lw = Lw' ∧ B = B' ∧ Ag (sbW S0 o) S0 S' ∧ ∃ q' k, CBq (nSt f c) S' o q' ∧ CBI (nSt f c) c (f 0) (scc f) src k 0 0 q' ∧ q'.1 ≤ k)) X 68 [(0, .inr (.inr o)), (1, ii k), (2, ii m)] [] Lw S2 B 0 0) → vc_J 34 (vc_up (fun v Lw' S' B' => v = none ∧ Lw = Lw' ∧ B = B' ∧ Ag (sbW S0 o) S0 S' ∧ ∃ q' k, CBq (nSt f c) S' o q' ∧ CBI (nSt f c) c (f 0) (scc f) src k 0 0 q' ∧ q'.1 ≤ k)) X 22 [(0, .inr (.inr o)), (1, ii k), (2, ii m), (3, ii w)] [] Lw S1 B 0 0 := by
    intro n3
    induction n3 with
    | zero =>
      intro k m w q S1 k0 k1 m0 m1 w0 wn A1 B1 I1 go
      have R1 := hR.ag A1
      have u1 := R1.2.1.2.1
      have u2 := u1.2.1
      refine vc_walk hX ck_X0_spreads [(68, [0, 1, 2])] 60 hd ?_
      refine ⟨R1.1.1, ?_⟩
      refine vc_kv u1.1 (cm_size (d := d + 3) u1.1) ⟨Nat.le_refl _, Nat.le_refl _⟩ ?_
      refine ⟨by omega, fun _ => ?_, fun z => absurd z (by omega)⟩
      exact go q S1 k1 A1 B1 (by rw [show w = f 0 by omega] at I1; exact I1)
    | succ n3 ih =>
      intro k m w q S1 k0 k1 m0 m1 w0 wn A1 B1 I1 go
      have R1 := hR.ag A1
      have u1 := R1.2.1.2.1
      have u2 := u1.2.1
      have a10 := R1.2.2.1
      have a11 := R1.2.2.2.1
      have l10 : S1 (S1 o 10).toNat (-1) = 1048576 := a10.2.1
      have l11 : S1 (S1 o 11).toNat (-1) = 1048576 := a11.2.1
      have hk := I1.2.1 k k0 k1
      have hle : q.1 ≤ nSt f c := by rcases I1.le with x | x <;> omega
      have x1 := B1.2.1 k k0 k1
      have x2 := B1.2.2 (q.2.1 k) hk.1.1 hk.1.2
      have hrg := hsc (q.2.1 k) m w hk.1 ⟨m0, m1⟩ ⟨w0, by omega⟩
      refine vc_walk hX ck_X0_spreads [(22, [0, 1, 2, 3])] 60 hd ?_
      refine ⟨R1.1.1, ?_⟩
      refine vc_kv u1.1 (cm_size (d := d + 3) u1.1) ⟨Nat.le_refl _, Nat.le_refl _⟩ ?_
      refine ⟨by omega, fun z => absurd z (by omega), fun _ => ?_⟩
      refine ⟨R1.1.1, ⟨a11.1, by omega, by omega, by omega⟩, ?_⟩
      rw [x1]
      refine vc_kv R1.1.1 (cm_goes (d := d) (by omega) (by omega) (by omega) ⟨w0, by omega⟩ R1.2.1 hl R1.2.2.2.2.2) ⟨Nat.le_refl _, Nat.le_refl _⟩ ?_
      refine ⟨R1.1.1, R1.1.1, ⟨a11.1, by omega, by omega, by omega⟩, ?_⟩
      rw [x1]
      refine ⟨⟨a10.1, by omega, by omega, by omega⟩, ?_⟩
      rw [x2]
      refine vc_kp R1.1.1 (cm_puts (d := d + 3) (N := nSt f c) (q := q) hrg hN.2 (by omega) (fun z => by
        have := I1.rg z (show scc f (q.2.1 k) m w < nSt f c by omega)
        omega) (fun z z2 => I1.lt z (by omega) z2) hR A1 B1) ⟨Nat.le_refl _, Nat.le_refl _⟩ ?_
      rintro _ _ S2 _ ⟨rfl, rfl, rfl, A2, B2⟩
      exact ih k m (w + 1) _ S2 k0 (Int.lt_of_lt_of_le k1 cput_le) m0 m1 (by omega) (by omega) A2 B2 (I1.step k1 ⟨m0, m1⟩ ⟨w0, by omega⟩ hsc rfl) go
  have l2 : ∀ (n2 : Nat) (k m : Int) (q : CQ) (S1 : SS), 0 ≤ k → k < q.1 → 0 ≤ m → m + n2 = c → Ag (sbW S0 o) S0 S1 → CBq (nSt f c) S1 o q → CBI (nSt f c) c (f 0) (scc f) src k m 0 q → (∀ (q' : CQ) (S2 : SS), k < q'.1 → Ag (sbW S0 o) S0 S2 → CBq (nSt f c) S2 o q' → CBI (nSt f c) c (f 0) (scc f) src k c 0 q' → vc_J 34 (vc_up (fun v Lw' S' B' => v = none ∧ Lw = Lw' ∧ B = B' ∧ Ag (sbW S0 o) S0 S' ∧ ∃ q' k, CBq (nSt f c) S' o q' ∧ CBI (nSt f c) c (f 0) (scc f) src k 0 0 q' ∧ q'.1 ≤ k)) X 74 [(0, .inr (.inr o)), (1, ii k)] [] Lw S2 B 0 0) → vc_J 34 (vc_up (fun v Lw' S' B' => v = none ∧ Lw = Lw' ∧ B = B' ∧ Ag (sbW S0 o) S0 S' ∧ ∃ q' k, CBq (nSt f c) S' o q' ∧ CBI (nSt f c) c (f 0) (scc f) src k 0 0 q' ∧ q'.1 ≤ k)) X 12 [(0, .inr (.inr o)), (1, ii k), (2, ii m)] [] Lw S1 B 0 0 := by
    intro n2
    induction n2 with
    | zero =>
      intro k m q S1 k0 k1 m0 mn A1 B1 I1 go
      have R1 := hR.ag A1
      have x13 := R1.2.2.2.2.1.1
      refine vc_walk hX ck_X0_spreads [(74, [0, 1])] 60 hd ?_
      refine ⟨R1.1.1, by omega, fun _ => ?_, fun z => absurd z (by omega)⟩
      exact go q S1 k1 A1 B1 (by rw [show m = c by omega] at I1; exact I1)
    | succ n2 ih =>
      intro k m q S1 k0 k1 m0 mn A1 B1 I1 go
      have R1 := hR.ag A1
      have x13 := R1.2.2.2.2.1.1
      refine vc_walk hX ck_X0_spreads [(22, [0, 1, 2, 3])] 60 hd ?_
      refine ⟨R1.1.1, by omega, fun z => absurd z (by omega), fun _ => ?_⟩
      refine l3 (f 0).toNat k m 0 q S1 k0 k1 m0 (by omega) (by decide) (by omega) A1 B1 I1 (fun q' S2 k2 A2 B2 I2 => ?_)
      refine vc_walk hX ck_X0_spreads [(12, [0, 1, 2])] 60 hd ?_
      exact ih k (m + 1) q' S2 k0 k2 (by omega) (by omega) A2 B2 (I2.nextM (Int.le_refl _)) go
  have l1 : ∀ (n1 : Nat) (k : Int) (q : CQ) (S1 : SS), 0 ≤ k → k + n1 = nSt f c → Ag (sbW S0 o) S0 S1 → CBq (nSt f c) S1 o q → CBI (nSt f c) c (f 0) (scc f) src k 0 0 q → vc_J 34 (vc_up (fun v Lw' S' B' => v = none ∧ Lw = Lw' ∧ B = B' ∧ Ag (sbW S0 o) S0 S' ∧ ∃ q' k, CBq (nSt f c) S' o q' ∧ CBI (nSt f c) c (f 0) (scc f) src k 0 0 q' ∧ q'.1 ≤ k)) X 2 [(0, .inr (.inr o)), (1, ii k)] [] Lw S1 B 0 0 := by
    intro n1
    induction n1 with
    | zero =>
      intro k q S1 k0 kn A1 B1 I1
      have R1 := hR.ag A1
      have hle : q.1 ≤ nSt f c := by rcases I1.le with x | x <;> omega
      have x15 := B1.1
      have hk := I1.1
      refine vc_walk hX ck_X0_spreads [] 60 hd ?_
      refine ⟨R1.1.1, by omega, fun _ => ?_, fun z => absurd z (by omega)⟩
      exact ⟨⟨Nat.le_refl _, Nat.le_refl _⟩, rfl, rfl, rfl, A1, q, k, B1, I1, by omega⟩
    | succ n1 ih =>
      intro k q S1 k0 kn A1 B1 I1
      have R1 := hR.ag A1
      have hle : q.1 ≤ nSt f c := by rcases I1.le with x | x <;> omega
      have x15 := B1.1
      have hk := I1.1
      refine vc_walk hX ck_X0_spreads [(12, [0, 1, 2])] 60 hd ?_
      refine ⟨R1.1.1, by omega, fun z => ?_, fun z => ?_⟩
      · exact ⟨⟨Nat.le_refl _, Nat.le_refl _⟩, rfl, rfl, rfl, A1, q, k, B1, I1, by omega⟩
      · refine l2 c.toNat k 0 q S1 k0 (by omega) (by decide) (by omega) A1 B1 I1 (fun q' S2 k2 A2 B2 I2 => ?_)
        refine vc_walk hX ck_X0_spreads [(2, [0, 1])] 60 hd ?_
        exact ih (k + 1) q' S2 (by omega) (by omega) A2 B2 (I2.nextK (Int.le_refl _) k2)
  refine vc_walk hX ck_X0_spreads [(2, [0, 1])] 60 hd ?_
  exact l1 (nSt f c).toNat 0 q S (by decide) (by omega) hA hB hI
end CMP
