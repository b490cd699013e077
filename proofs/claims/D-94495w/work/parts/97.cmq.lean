/-! THE COMPONENT's methods: searches from now, from aims -/
set_option maxRecDepth 100000
section SRC
variable {K : Int} {f : Int → Int} {c : Int} {mv : Int → Int}
theorem bgS_b {n d : Nat} {pl : Int → Int} (hd : d < 2 ^ n) (i : Nat) : ∀ k : Nat, (∀ j : Int, 0 ≤ j → j < k → 0 ≤ pl j ∧ pl j ≤ 7) → (bgS n d pl k).testBit i = if i < n then d.testBit i else (decide (i < n + 3 * k) && (pl (((i - n) / 3 : Nat) : Int)).toNat.testBit ((i - n) % 3))
  | 0, _ => by
    show d.testBit i = _
    by_cases c : i < n
    · rw [if_pos c]
    · rw [if_neg c, decide_eq_false (by omega), Bool.false_and]
      exact bit_hi hd (by omega)
  | k + 1, h => by
    have ih := bgS_b (d := d) (pl := pl) hd i k (fun j a b => h j a (by omega))
    have hk := h k (by omega) (by omega)
    show (bgS n d pl k ||| (pl (k : Int)).toNat * 2 ^ (n + 3 * k)).testBit i = _
    rw [Nat.testBit_or, ih, Nat.testBit_mul_two_pow]
    by_cases c : i < n
    · rw [if_pos c, if_pos c, decide_eq_false (by omega), Bool.false_and, Bool.or_false]
    · rw [if_neg c, if_neg c]
      by_cases c2 : i < n + 3 * k
      · rw [decide_eq_true c2, decide_eq_true (by omega : i < n + 3 * (k + 1)), decide_eq_false (by omega), Bool.false_and, Bool.or_false]
      · rw [decide_eq_false c2, Bool.false_and, Bool.false_or, decide_eq_true (by omega : n + 3 * k ≤ i), Bool.true_and]
        by_cases c3 : i < n + 3 * (k + 1)
        · rw [decide_eq_true c3, Bool.true_and, show (i - n) / 3 = k by omega, show (i - n) % 3 = i - (n + 3 * k) by omega]
        · rw [decide_eq_false c3, Bool.false_and]
          exact bit_hi (n := 3) (by omega) (by omega)
theorem plc_bgS {n : Int} {d : Nat} {pl : Int → Int} {k : Int} (n0 : 0 ≤ n) (hd : d < 2 ^ n.toNat) (hpl : ∀ j : Int, 0 ≤ j → j < c → 0 ≤ pl j ∧ pl j ≤ 7) (k0 : 0 ≤ k) (k1 : k < c) : plc n ((bgS n.toNat d pl c.toNat : Nat) : Int) k = pl k := by
  have h1 := plc_rg n ((bgS n.toNat d pl c.toNat : Nat) : Int) k
  have h2 := hpl k k0 k1
  have : (plc n ((bgS n.toNat d pl c.toNat : Nat) : Int) k).toNat = (pl k).toNat := by
    apply Nat.eq_of_testBit_eq
    intro j
    rw [plc_bit, Int.toNat_natCast, bgS_b hd _ _ (fun j a b => hpl j a (by omega))]
    by_cases cj : j < 3
    · rw [decide_eq_true cj, if_neg (by omega), decide_eq_true (by omega), Bool.true_and, Bool.true_and, show ((((n + 3 * k).toNat + j - n.toNat) / 3 : Nat) : Int) = k by omega, show ((n + 3 * k).toNat + j - n.toNat) % 3 = j by omega]
    · rw [decide_eq_false cj, Bool.false_and]
      exact (bit_hi (n := 3) (by omega) (by omega)).symm
  omega
/-- states with all at their aims -/
theorem aim_iff (hl : LI K f) (hc : 0 ≤ c ∧ f 0 + 3 * c ≤ 20) (hmv : ∀ i, 0 ≤ i → i < c → 0 ≤ mv i ∧ mv i < f 1) {s : Int} : ((0 ≤ s ∧ s < nSt f c) ∧ hmA f c mv s = true) ↔ ∃ d : Nat, d < 2 ^ (f 0).toNat ∧ s = ((bgS (f 0).toNat d (fun k => sG f (mv k) 1) c.toNat : Nat) : Int) := by
  have n0 := hl.nW
  have hpl : ∀ j : Int, 0 ≤ j → j < c → 0 ≤ sG f (mv j) 1 ∧ sG f (mv j) 1 ≤ 7 := fun j a b => (hl.g (hmv j a b).1 (hmv j a b).2).1
  have e2 : (f 0 + 3 * c).toNat = (f 0).toNat + 3 * c.toNat := by omega
  constructor
  · rintro ⟨⟨s0, s1⟩, hm⟩
    have s1' : s.toNat < 2 ^ ((f 0).toNat + 3 * c.toNat) := by unfold nSt at s1; rw [← e2]; omega
    have hd : s.toNat % 2 ^ (f 0).toNat < 2 ^ (f 0).toNat := Nat.mod_lt _ (Nat.two_pow_pos _)
    refine ⟨s.toNat % 2 ^ (f 0).toNat, hd, ?_⟩
    have : s.toNat = bgS (f 0).toNat (s.toNat % 2 ^ (f 0).toNat) (fun k => sG f (mv k) 1) c.toNat := by
      apply Nat.eq_of_testBit_eq
      intro i
      rw [bgS_b hd i _ (fun j a b => hpl j a (by omega)), Nat.testBit_mod_two_pow]
      by_cases c1 : i < (f 0).toNat
      · rw [if_pos c1, decide_eq_true c1, Bool.true_and]
      · rw [if_neg c1]
        by_cases c2 : i < (f 0).toNat + 3 * c.toNat
        · have := allB_iff.mp hm (((i - (f 0).toNat) / 3 : Nat) : Int) (by omega) (by omega)
          have := beq_iff_eq.mp this
          rw [decide_eq_true c2, Bool.true_and, ← this, plc_bit, decide_eq_true (by omega), Bool.true_and]
          congr 1
          omega
        · rw [decide_eq_false c2, Bool.false_and]
          exact bit_hi s1' (by omega)
    omega
  · rintro ⟨d, hd, rfl⟩
    refine ⟨⟨Int.natCast_nonneg _, ?_⟩, allB_iff.mpr (fun k k0 k1 => beq_iff_eq.mpr (plc_bgS n0.1 hd hpl k0 (by omega)))⟩
    unfold nSt
    rw [e2]
    exact Int.ofNat_lt.mpr (bgS_lt hd _ (fun j a b => hpl j a (by omega)))
theorem bgS_inj {n d d' : Nat} {pl : Int → Int} (hd : d < 2 ^ n) (hd' : d' < 2 ^ n) {k : Nat} (hpl : ∀ j : Int, 0 ≤ j → j < k → 0 ≤ pl j ∧ pl j ≤ 7) (h : bgS n d pl k = bgS n d' pl k) : d = d' := by
  apply Nat.eq_of_testBit_eq
  intro i
  by_cases c : i < n
  · have := congrArg (fun x => x.testBit i) h
    simp only [bgS_b hd i k hpl, bgS_b hd' i k hpl, if_pos c] at this
    exact this
  · rw [bit_hi hd (by omega), bit_hi hd' (by omega)]
/-- a going undoes itself -/
theorem scc_rev (hl : LI K f) {s m w : Int} (hs : 0 ≤ s) (hm : 0 ≤ m) (hw : 0 ≤ w ∧ w < f 0) (h : scc f s m w ≠ -1) : scc f (scc f s m w) m w = s := by
  have n0 := hl.nW
  by_cases c : sOn f w = 0 ∧ sE f s w 0 = plc (f 0) s m
  · have e : scc f s m w = nxt f s m w := if_pos c
    rw [e]
    have hb := nxt_dir (s := s) hl hm hw hw
    rw [decide_eq_true rfl, Bool.xor_true] at hb
    have ee : ∀ k : Int, k = 0 ∨ k = 1 → sE f (nxt f s m w) w k = sE f s w (1 - k) := by
      intro k hk
      unfold sE
      rw [hb]
      cases s.toNat.testBit w.toNat
      · rfl
      · rw [if_neg (by decide), if_pos rfl, show 1 - (1 - k) = k by omega]
    have hc : sOn f w = 0 ∧ sE f (nxt f s m w) w 0 = plc (f 0) (nxt f s m w) m := ⟨c.1, by rw [ee 0 (Or.inl rfl), nxt_plc hl hm hw]; rfl⟩
    have e2 : scc f (nxt f s m w) m w = nxt f (nxt f s m w) m w := if_pos hc
    rw [e2]
    have he1 : sE f (nxt f s m w) w 1 = plc (f 0) s m := by rw [ee 1 (Or.inr rfl)]; exact c.2
    have hp := plc_rg (f 0) s m
    have he := (hl.w hw.1 hw.2).end (d := s) (Or.inr rfl)
    have h1 : 0 ≤ nxt f (nxt f s m w) m w := Int.natCast_nonneg _
    have : (nxt f (nxt f s m w) m w).toNat = s.toNat := by
      apply Nat.eq_of_testBit_eq
      intro i
      rw [nxt_bit (by omega) (by rw [he1]; exact hp), he1]
      by_cases ci : (f 0 + 3 * m).toNat ≤ i ∧ i < (f 0 + 3 * m).toNat + 3
      · rw [if_pos ci, plc_bit, decide_eq_true (by omega), Bool.true_and]
        congr 1
        omega
      · rw [if_neg ci, nxt_bit (by omega) he, if_neg ci]
        cases s.toNat.testBit i <;> cases decide (w.toNat = i) <;> rfl
    omega
  · exact absurd (if_neg c) h
end SRC
section CMQ
variable {Lw : List Nat} {S : SS} {B : SB} {d o : Nat} {τ : Nat → Nat} {f : Int → Int} {wr gr : Int → Nat} {lt : Int → Int} {K c : Int} {mv : Int → Int}
/-- behind a search -/
def SpP (Lw : List Nat) (S : SS) (o : Nat) (τ : Nat → Nat) (f : Int → Int) (wr gr : Int → Nat) (lt : Int → Int) (c : Int) (mv : Int → Int) (src : Int → Prop) (v : Option AV) (Lw' : List Nat) (S' : SS) : Prop := v = none ∧ ∃ τ', Ext (bW S o τ) Lw S τ Lw' S' τ' ∧ CRd Lw' S' o τ' f wr gr lt c mv ∧ ∃ q k, CBq (nSt f c) S' o q ∧ CBI (nSt f c) c (f 0) (scc f) src k 0 0 q ∧ q.1 ≤ k
theorem sst_lt (hl : LI K f) (hS : CSc S o f c mv) : 0 ≤ sst f c mv ∧ sst f c mv < nSt f c := by
  obtain ⟨-, hc, h20, hmv⟩ := hS
  have n0 := hl.nW
  refine ⟨Int.natCast_nonneg _, ?_⟩
  have hdd := hl.dirs
  have hd2 : (f 2).toNat < 2 ^ (f 0).toNat := by
    have e : ((2 ^ (f 0).toNat : Nat) : Int) = (2 : Int) ^ (f 0).toNat := by simp
    rw [← e] at hdd
    omega
  unfold nSt sst
  rw [show (f 0 + 3 * c).toNat = (f 0).toNat + 3 * c.toNat by omega]
  refine Int.ofNat_lt.mpr (bgS_lt hd2 _ (fun i i0 i1 => ?_))
  obtain ⟨-, a2, a3⟩ := hmv i i0 (by omega)
  obtain ⟨-, -, -, q | q⟩ := hl.g a2.1 a2.2 <;> omega
theorem cm_spreadsFromNow (hsh : CSh Lw S o τ) (hC : CLd Lw S o f wr gr lt) (hl : LI K f) (hS : CSc S o f c mv) : vc_M (d + 5) (bgc S o) (bgs S o) 41 [.inr (.inr o)] Lw S B (vc_up (fun v Lw' S' _ => SpP Lw S o τ f wr gr lt c mv (fun s => s = sst f c mv) v Lw' S')) := by
  refine vc_start rfl rfl (Nat.le_of_ble_eq_true rfl) (fun X hX hd => ?_)
  have hN := nSt_le hS.2.2.1
  have hst := sst_lt hl hS
  refine vc_walk hX ck_X0_spreadsFromNow [] 60 hd ?_
  refine vc_kp hC.1 (cm_begins (d := d) hsh hC hl hS) ⟨by omega, by omega⟩ ?_
  rintro _ Lw1 S1 B1 ⟨rfl, τ1, E1, H1, a10, a11, C1, h14, hst1⟩
  have R1 : CRd Lw1 S1 o τ1 f wr gr lt c mv := ⟨H1, hC.ext E1, a10, a11, C1, h14⟩
  have A2 : Ag (sbW S1 o) S1 (vt_up S1 o 15 0) := Ag.rf.up (Or.inr (Or.inr ⟨rfl, rfl⟩))
  have R2 := R1.ag A2
  have n10 : (S1 o 10).toNat ≠ o := a10.ne0 H1.1 (by decide)
  refine ⟨H1.1, ?_⟩
  refine vc_kv R2.1.1 (cm_stateNow (d := d) R2.2.1 R2.1 hl R2.2.2.2.2.1) ⟨by omega, by omega⟩ ?_
  have B2 : CBq (nSt f c) (vt_up S1 o 15 0) o (0, fun i => vt_up S1 o 15 0 (vt_up S1 o 15 0 o 11).toNat i, fun s => vt_up S1 o 15 0 (vt_up S1 o 15 0 o 10).toNat s) := ⟨vt_up_self, fun _ _ _ => rfl, fun _ _ _ => rfl⟩
  have hm1 : ∀ s, 0 ≤ s → s < nSt f c → vt_up S1 o 15 0 (vt_up S1 o 15 0 o 10).toNat s = -1 := fun s s0 s1 => by
    rw [up_ne (r' := o) (i' := 10) (Or.inr (by decide)), up_ne (Or.inl n10)]
    exact hst1 s s0 s1
  have I0 : CBI (nSt f c) c (f 0) (scc f) (fun _ => False) 0 0 0 (0, (fun i => vt_up S1 o 15 0 (vt_up S1 o 15 0 o 11).toNat i), fun s => vt_up S1 o 15 0 (vt_up S1 o 15 0 o 10).toNat s) := CBI.nil hm1 (fun _ h => h)
  have I1 := (I0.more (src' := fun s => s = sst f c mv) (fun j j0 j1 => by have j1 : j < 0 := j1; omega) hst.1 hst.2 (hm1 _ hst.1 hst.2) (fun s => ⟨fun h => Or.inr h, fun h => h.elim (fun z => z.elim) (fun z => z)⟩)).1
  refine vc_kp R2.1.1 (cm_puts (d := d + 4) (N := nSt f c) (Or.inr hst) hN.2 (Int.le_refl _) (fun _ => (by rw [hm1 _ hst.1 hst.2]; decide : -1 ≤ vt_up S1 o 15 0 (vt_up S1 o 15 0 o 10).toNat (sst f c mv) ∧ vt_up S1 o 15 0 (vt_up S1 o 15 0 o 10).toNat (sst f c mv) < 1048576)) (fun _ _ => by show (0 : Int) < _; omega) R1 A2 B2) ⟨by omega, by omega⟩ ?_
  rintro _ _ S3 _ ⟨rfl, rfl, rfl, A3, B3⟩
  refine vc_kp (R1.ag A3).1.1 (cm_spreads (d := d) R1 hl A3 B3 I1) ⟨by omega, by omega⟩ ?_
  rintro _ _ S4 _ ⟨rfl, rfl, rfl, A4, q, k, B4, I4, hk⟩
  exact ⟨⟨by omega, by omega⟩, rfl, τ1, E1.ag hC.1 (A4.sc R1), R1.ag A4, q, k, B4, I4, hk⟩
theorem cm_spreadsFromAims (hsh : CSh Lw S o τ) (hC : CLd Lw S o f wr gr lt) (hl : LI K f) (hS : CSc S o f c mv) : vc_M (d + 5) (bgc S o) (bgs S o) 31 [.inr (.inr o)] Lw S B (vc_up (fun v Lw' S' _ => SpP Lw S o τ f wr gr lt c mv (fun s => (0 ≤ s ∧ s < nSt f c) ∧ hmA f c mv s = true) v Lw' S')) := by
  refine vc_start rfl rfl (Nat.le_of_ble_eq_true rfl) (fun X hX hd => ?_)
  have n0 := hl.nW
  have h14p := pow14 n0.2
  have hN := nSt_le hS.2.2.1
  obtain ⟨-, hc, h20, hmv0⟩ := id hS
  have hmv : ∀ i, 0 ≤ i → i < c → 0 ≤ mv i ∧ mv i < f 1 := fun i a b => (hmv0 i a b).2.1
  have hpl : ∀ j : Int, 0 ≤ j → j < c → 0 ≤ sG f (mv j) 1 ∧ sG f (mv j) 1 ≤ 7 := fun j a b => (hl.g (hmv j a b).1 (hmv j a b).2).1
  have hai := fun s => aim_iff (s := s) hl ⟨hc.1, h20⟩ hmv
  have ep : ((2 ^ (f 0).toNat : Nat) : Int) = (2 : Int) ^ (f 0).toNat := by simp
  have hd0 : (0 : Nat) < 2 ^ (f 0).toNat := Nat.two_pow_pos _
  have hab := bgS_lt (pl := fun k => sG f (mv k) 1) hd0 c.toNat (fun j a b => hpl j a (by omega))
  have e20 : 2 ^ ((f 0).toNat + 3 * c.toNat) ≤ 2 ^ 20 := Nat.pow_le_pow_right (by decide) (by omega)
  refine vc_walk hX ck_X0_spreadsFromAims [(13, [0, 1, 2])] 60 hd ?_
  refine vc_kp hC.1 (cm_begins (d := d) hsh hC hl hS) ⟨by omega, by omega⟩ ?_
  rintro _ Lw1 S1 B1 ⟨rfl, τ1, E1, H1, a10, a11, C1, h14, hst1⟩
  have R1 : CRd Lw1 S1 o τ1 f wr gr lt c mv := ⟨H1, hC.ext E1, a10, a11, C1, h14⟩
  have A2 : Ag (sbW S1 o) S1 (vt_up S1 o 15 0) := Ag.rf.up (Or.inr (Or.inr ⟨rfl, rfl⟩))
  have R2 := R1.ag A2
  have n10 : (S1 o 10).toNat ≠ o := a10.ne0 H1.1 (by decide)
  have B2 : CBq (nSt f c) (vt_up S1 o 15 0) o (0, fun i => vt_up S1 o 15 0 (vt_up S1 o 15 0 o 11).toNat i, fun s => vt_up S1 o 15 0 (vt_up S1 o 15 0 o 10).toNat s) := ⟨vt_up_self, fun _ _ _ => rfl, fun _ _ _ => rfl⟩
  have hm1 : ∀ s, 0 ≤ s → s < nSt f c → vt_up S1 o 15 0 (vt_up S1 o 15 0 o 10).toNat s = -1 := fun s s0 s1 => by
    rw [up_ne (r' := o) (i' := 10) (Or.inr (by decide)), up_ne (Or.inl n10)]
    exact hst1 s s0 s1
  have I0 : CBI (nSt f c) c (f 0) (scc f) (fun s => ∃ e : Nat, e < 0 ∧ s = ((bgS (f 0).toNat e (fun k => sG f (mv k) 1) c.toNat : Nat) : Int)) 0 0 0 (0, (fun i => vt_up S1 o 15 0 (vt_up S1 o 15 0 o 11).toNat i), fun s => vt_up S1 o 15 0 (vt_up S1 o 15 0 o 10).toNat s) := CBI.nil hm1 (fun _ ⟨e, h, _⟩ => absurd h (Nat.not_lt_zero _))
  refine ⟨H1.1, ?_⟩
  generalize hS2 : vt_up S1 o 15 0 = S2 at *
  -- second: the sources
  have l2 : ∀ (m : Nat) (k : Nat) (q : CQ) (S3 : SS), k + m = 2 ^ (f 0).toNat → Ag (sbW S1 o) S1 S3 → CBq (nSt f c) S3 o q → CBI (nSt f c) c (f 0) (scc f) (fun s => ∃ e : Nat, e < k ∧ s = ((bgS (f 0).toNat e (fun k => sG f (mv k) 1) c.toNat : Nat) : Int)) 0 0 0 q → (∀ j, 0 ≤ j → j < q.1 → q.2.2 (q.2.1 j) = 0) → (∀ e : Nat, k ≤ e → e < 2 ^ (f 0).toNat → q.2.2 ((bgS (f 0).toNat e (fun k => sG f (mv k) 1) c.toNat : Nat) : Int) = -1) → vc_J 31 (vc_up (fun v Lw' S' _ => SpP Lw S o τ f wr gr lt c mv (fun s => (0 ≤ s ∧ s < nSt f c) ∧ hmA f c mv s = true) v Lw' S')) X 63 [(0, .inr (.inr o)), (1, ii ((bgS (f 0).toNat 0 (fun k => sG f (mv k) 1) c.toNat : Nat) : Int)), (2, ii (k : Int))] [] Lw1 S3 B1 (0 + bgc S o) (0 + bgs S o) := by
    intro m
    induction m with
    | zero =>
      intro k q S3 km A3 B3 I3 hz hno
      have R3 := R1.ag A3
      have u1 := R3.2.1.2.1
      have u2 := u1.2.1
      have hk : k = 2 ^ (f 0).toNat := by omega
      refine vc_walk hX ck_X0_spreadsFromAims [] 60 hd ?_
      refine ⟨R3.1.1, ?_⟩
      refine vc_kv u1.1 (cm_size (d := d + 4) u1.1) ⟨by omega, by omega⟩ ?_
      rw [u2]
      refine ⟨by omega, by omega, fun _ => ?_, fun z => absurd z (by omega)⟩
      have I4 : CBI (nSt f c) c (f 0) (scc f) (fun s => (0 ≤ s ∧ s < nSt f c) ∧ hmA f c mv s = true) 0 0 0 q := by
        have e : (fun s => (0 ≤ s ∧ s < nSt f c) ∧ hmA f c mv s = true) = (fun s => ∃ e : Nat, e < k ∧ s = ((bgS (f 0).toNat e (fun k => sG f (mv k) 1) c.toNat : Nat) : Int)) := by
          funext s
          rw [hk]
          exact propext (hai s)
        rw [e]
        exact I3
      refine vc_kp R3.1.1 (cm_spreads (d := d) R1 hl A3 B3 I4) ⟨by omega, by omega⟩ ?_
      rintro _ _ S4 _ ⟨rfl, rfl, rfl, A4, q', k', B4, I4, hk'⟩
      exact ⟨⟨by omega, by omega⟩, rfl, τ1, E1.ag hC.1 (A4.sc R1), R1.ag A4, q', k', B4, I4, hk'⟩
    | succ m ih =>
      intro k q S3 km A3 B3 I3 hz hno
      have R3 := R1.ag A3
      have u1 := R3.2.1.2.1
      have u2 := u1.2.1
      have hk : k < 2 ^ (f 0).toNat := by omega
      have hor : vt_or ((bgS (f 0).toNat 0 (fun k => sG f (mv k) 1) c.toNat : Nat) : Int) (k : Int) = ((bgS (f 0).toNat k (fun k => sG f (mv k) 1) c.toNat : Nat) : Int) := by
        rw [bt_or ⟨Int.natCast_nonneg _, by omega⟩ ⟨Int.natCast_nonneg _, by omega⟩, Int.toNat_natCast, Int.toNat_natCast]
        have := bgS_or (n := (f 0).toNat) (d := 0) (d' := k) (pl := fun k => sG f (mv k) 1) hd0 hk c.toNat
        rw [Nat.xor_zero] at this
        rw [this]
      have hin := ((hai ((bgS (f 0).toNat k (fun k => sG f (mv k) 1) c.toNat : Nat) : Int)).mpr ⟨k, hk, rfl⟩).1
      have hm0 := hno k (Nat.le_refl _) hk
      refine vc_walk hX ck_X0_spreadsFromAims [(63, [0, 1, 2])] 60 hd ?_
      refine ⟨R3.1.1, ?_⟩
      refine vc_kv u1.1 (cm_size (d := d + 4) u1.1) ⟨by omega, by omega⟩ ?_
      rw [u2]
      refine ⟨by omega, by omega, fun z => absurd z (by omega), fun _ => ?_⟩
      have hmore := I3.more (src' := fun s => ∃ e : Nat, e < k + 1 ∧ s = ((bgS (f 0).toNat e (fun k => sG f (mv k) 1) c.toNat : Nat) : Int)) hz hin.1 hin.2 hm0 (fun s => ⟨fun ⟨e, h1, h2⟩ => by
        by_cases ce : e = k
        · right; rw [h2, ce]
        · exact Or.inl ⟨e, by omega, h2⟩, fun h => by
        rcases h with ⟨e, h1, h2⟩ | h
        · exact ⟨e, by omega, h2⟩
        · exact ⟨k, by omega, h⟩⟩)
      have key := cm_puts (d := d + 4) (B := B1) (l := 0) (N := nSt f c) (Or.inr hin) hN.2 (I3.1.2) (fun _ => by rw [hm0]; decide) (fun _ z => I3.lt hin.1 hin.2 z) R1 A3 B3
      rw [← hor] at key
      refine vc_kp R3.1.1 key ⟨by omega, by omega⟩ ?_
      rw [hor]
      rintro _ _ S4 _ ⟨rfl, rfl, rfl, A4, B4⟩
      refine ih (k + 1) _ S4 (by omega) A4 B4 hmore.1 hmore.2.1 (fun e e0 e1 => ?_)
      rw [hmore.2.2.2 _ (fun z => by
        have := bgS_inj e1 hk (k := c.toNat) (pl := fun k => sG f (mv k) 1) (fun j a b => hpl j a (by omega)) (Int.ofNat_inj.mp z)
        omega)]
      exact hno e (by omega) e1
  -- first: the aims
  have l1 : ∀ (m : Nat) (k : Int), 0 ≤ k → k + m = c → vc_J 31 (vc_up (fun v Lw' S' _ => SpP Lw S o τ f wr gr lt c mv (fun s => (0 ≤ s ∧ s < nSt f c) ∧ hmA f c mv s = true) v Lw' S')) X 13 [(0, .inr (.inr o)), (1, ii ((bgS (f 0).toNat 0 (fun k => sG f (mv k) 1) k.toNat : Nat) : Int)), (2, ii k)] [] Lw1 S2 B1 (0 + bgc S o) (0 + bgs S o) := by
    intro m
    obtain ⟨e13, -, -, hmv1⟩ := R2.2.2.2.2.1
    induction m with
    | zero =>
      intro k k0 km
      refine vc_walk hX ck_X0_spreadsFromAims [(63, [0, 1, 2])] 60 hd ?_
      refine ⟨R2.1.1, by rw [e13]; omega, fun _ => ?_, fun z => absurd z (by rw [e13]; omega)⟩
      rw [show k = c by omega]
      refine l2 (2 ^ (f 0).toNat) 0 _ S2 (by omega) A2 B2 I0 (fun j j0 j1 => by have j1 : j < 0 := j1; omega) (fun e _ e1 => ?_)
      have hin := ((hai ((bgS (f 0).toNat e (fun k => sG f (mv k) 1) c.toNat : Nat) : Int)).mpr ⟨e, e1, rfl⟩).1
      exact hm1 _ hin.1 hin.2
    | succ m ih =>
      intro k k0 km
      obtain ⟨a1, a2, a3⟩ := hmv1 k k0 (by omega)
      have hp := hpl k k0 (by omega)
      have hi := ih (k + 1) (by omega) (by omega)
      rw [show (k + 1).toNat = k.toNat + 1 by omega] at hi
      have hlt := bgS_lt (pl := fun k => sG f (mv k) 1) hd0 k.toNat (fun i i0 i1 => hpl i i0 (by omega))
      have e20' : 2 ^ ((f 0).toNat + 3 * k.toNat) ≤ 2 ^ 20 := Nat.pow_le_pow_right (by decide) (by omega)
      have ek : (f 0 + 3 * k).toNat = (f 0).toNat + 3 * k.toNat := by omega
      have em : sG f (mv k) 1 * 2 ^ (f 0 + 3 * k).toNat = (((sG f (mv k) 1).toNat * 2 ^ ((f 0).toNat + 3 * k.toNat) : Nat) : Int) := by
        rw [ek]
        have : ((sG f (mv k) 1).toNat : Int) = sG f (mv k) 1 := by omega
        simp [this]
      have hml : (sG f (mv k) 1).toNat * 2 ^ ((f 0).toNat + 3 * k.toNat) ≤ 7 * 2 ^ 20 := Nat.mul_le_mul (by omega) e20'
      rw [show bgS (f 0).toNat 0 (fun k => sG f (mv k) 1) (k.toNat + 1) = (bgS (f 0).toNat 0 (fun k => sG f (mv k) 1) k.toNat ||| (sG f (mv ((k.toNat : Nat) : Int)) 1).toNat * 2 ^ ((f 0).toNat + 3 * k.toNat)) from rfl, show ((k.toNat : Nat) : Int) = k by omega] at hi
      have h := R2.2.1
      have hG := h.2.2.2.2.1 (mv k) a2.1 a2.2
      have hg0 := hG.2.1
      have u1 := h.2.1
      have u2 := u1.2.1
      have g1 := h.2.2.1
      have a12 := R2.1.2.1.1
      have l12 : S2 (S2 o 12).toNat (-1) = 6 := a12.2.1
      refine vc_walk hX ck_X0_spreadsFromAims [(13, [0, 1, 2])] 60 hd ?_
      refine ⟨h.1, by rw [e13]; omega, fun z => absurd z (by rw [e13]; omega), fun _ => ?_⟩
      refine ⟨h.1, h.1, ⟨a12.1, by omega, by omega, by omega⟩, ?_⟩
      rw [a1]
      refine vc_kv g1.1 (cm_get (d := d + 2) g1 (i := mv k) a2) ⟨by omega, by omega⟩ ?_
      refine ⟨Or.inr hG.1, hG.1, h.1, ?_⟩
      refine vc_kv u1.1 (cm_size (d := d + 4) u1.1) ⟨by omega, by omega⟩ ?_
      rw [u2, hg0]
      refine ⟨by omega, ?_⟩
      show vc_J _ _ _ _ _ _ _ _ _ _ _
      rw [em, bt_or ⟨Int.natCast_nonneg _, by omega⟩ ⟨Int.natCast_nonneg _, by omega⟩, Int.toNat_natCast, Int.toNat_natCast]
      exact hi
  exact l1 c.toNat 0 (by decide) (by omega)
end CMQ
