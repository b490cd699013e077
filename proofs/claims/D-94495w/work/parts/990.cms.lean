/-! THE COMPONENT's methods: comes, closed, alike -/
set_option maxRecDepth 100000
section CMS
variable {Lw : List Nat} {S S0 : SS} {B : SB} {d o : Nat} {τ : Nat → Nat} {f : Int → Int} {wr gr : Int → Nat} {lt : Int → Int} {K c : Int} {mv : Int → Int}
/-- the state now, with other directions -/
theorem now_dir (hl : LI K f) (hS : CSc S o f c mv) {x : Int} (hx : 0 ≤ x ∧ x < 2 ^ (f 0).toNat) : vt_or (vt_and (sst f c mv) (-1 * 2 ^ (f 0).toNat)) x = tgt f c mv x ∧ 0 ≤ tgt f c mv x ∧ tgt f c mv x < nSt f c := by
  obtain ⟨-, hc, h20, hmv⟩ := hS
  have n0 := hl.nW
  have hdd := hl.dirs
  have h14 := pow14 n0.2
  have ep : ((2 ^ (f 0).toNat : Nat) : Int) = (2 : Int) ^ (f 0).toNat := by simp
  have hN := nSt_le h20
  have hpl : ∀ i : Int, 0 ≤ i → i < c → 0 ≤ sG f (mv i) 0 ∧ sG f (mv i) 0 ≤ 7 := by
    intro i i0 i1
    obtain ⟨-, a2, a3⟩ := hmv i i0 i1
    obtain ⟨-, -, -, q | q⟩ := hl.g a2.1 a2.2 <;> omega
  have hd2 : (f 2).toNat < 2 ^ (f 0).toNat := by omega
  have hx2 : x.toNat < 2 ^ (f 0).toNat := by omega
  have e2 : (f 0 + 3 * c).toNat = (f 0).toNat + 3 * c.toNat := by omega
  have lt1 := bgS_lt (pl := fun k => sG f (mv k) 0) hd2 c.toNat (fun j a b => hpl j a (by omega))
  have lt2 := bgS_lt (pl := fun k => sG f (mv k) 0) hx2 c.toNat (fun j a b => hpl j a (by omega))
  have hNe : nSt f c = ((2 ^ ((f 0).toNat + 3 * c.toNat) : Nat) : Int) := by unfold nSt; rw [e2]
  have hmod : bgS (f 0).toNat (f 2).toNat (fun k => sG f (mv k) 0) c.toNat % 2 ^ (f 0).toNat = (f 2).toNat := by
    apply Nat.eq_of_testBit_eq
    intro i
    rw [Nat.testBit_mod_two_pow, bgS_b hd2 i _ (fun j a b => hpl j a (by omega))]
    by_cases ci : i < (f 0).toNat
    · rw [decide_eq_true ci, if_pos ci, Bool.true_and]
    · rw [decide_eq_false ci, Bool.false_and]
      exact (bit_hi hd2 (by omega)).symm
  refine ⟨?_, Int.natCast_nonneg _, by unfold tgt; rw [hNe]; exact Int.ofNat_lt.mpr lt2⟩
  unfold sst tgt
  have hxl : bgS (f 0).toNat (f 2).toNat (fun k => sG f (mv k) 0) c.toNat ^^^ (f 2).toNat < 2 ^ 31 := Nat.xor_lt_two_pow (by omega) (by omega)
  rw [andHi ⟨Int.natCast_nonneg _, by omega⟩ (by omega), Int.toNat_natCast, hmod, bt_or ⟨Int.natCast_nonneg _, by omega⟩ (by omega), Int.toNat_natCast, bgS_or hd2 hx2]
theorem cm_comes {s x : Int} {mc ms : Nat} (hmc : sAre f s = true ∧ 0 ≤ x ∧ x < 2 ^ (f 0).toNat → bgc S o ≤ mc ∧ bgs S o ≤ ms) (hs : -2147483648 ≤ s ∧ s ≤ 2147483647) (hx : -2147483648 ≤ x ∧ x ≤ 2147483647) (hsh : CSh Lw S o τ) (hC : CLd Lw S o f wr gr lt) (hl : LI K f) : vc_M (d + 6) mc ms 40 [.inr (.inr o), ii s, ii x] Lw S B (vc_up (fun v Lw' S' _ => FwP Lw S o τ (sAre f s = true ∧ 0 ≤ x ∧ x < 2 ^ (f 0).toNat) (fun z => z = sp_com f s x) v Lw' S')) := by
  refine vc_start rfl rfl (Nat.le_of_ble_eq_true rfl) (fun X hX hd => ?_)
  have n0 := hl.nW
  have h14 := pow14 n0.2
  have hp1 : (0 : Int) < 2 ^ (f 0).toNat := Int.pow_pos (by decide)
  have hb := bI_rg (sAre f s)
  have hb2 := bI_rg (sIn x 0 (1 * 2 ^ (f 0).toNat - 1))
  refine vc_walk hX ck_X0_comes [(55, [0])] 60 hd ?_
  refine vc_kp hC.1 (cm_chooses (d := d + 2) hs hsh hC hl Ag.rf) ⟨by omega, by omega⟩ ?_
  rintro _ _ S1 _ ⟨rfl, rfl, rfl, A1, h10, hSc⟩
  have noA : ¬ (sAre f s = true ∧ 0 ≤ x ∧ x < 2 ^ (f 0).toNat) → FwP Lw S o τ (sAre f s = true ∧ 0 ≤ x ∧ x < 2 ^ (f 0).toNat) (fun z => z = sp_com f s x) (some (ii (-1))) Lw S1 := by
    intro hn
    refine ⟨⟨-1, rfl, ?_⟩, (fun z => absurd z hn), τ, (A1.mono (fun _ _ z => Or.inl z) : Ag (bW S o τ) S S1).ext, hsh.ag A1.q⟩
    unfold sp_com
    rw [if_neg hn]
  refine ⟨by omega, fun c1 => ⟨⟨by omega, by omega⟩, noA (by rw [bI_0.mp c1]; simp)⟩, fun c1 => ?_⟩
  have hy := bI_n0.mp c1
  have D1 := hC.ag A1
  have u1 := D1.2.1
  have u2 := u1.2.1
  refine ⟨hx, D1.1, ?_⟩
  refine vc_kv u1.1 (cm_size (d := d + 5) u1.1) ⟨by omega, by omega⟩ ?_
  rw [u2]
  refine ⟨by omega, by omega, ?_⟩
  refine vc_k (cm_in (d := d + 5) (by omega) (by decide) (by omega)) ⟨by omega, by omega⟩ ?_
  refine ⟨by omega, fun c2 => ?_, fun c2 => ⟨⟨by omega, by omega⟩, noA (by
    have := of_decide_eq_false ((bI_0 (b := sIn x 0 (1 * 2 ^ (f 0).toNat - 1))).mp (by omega))
    omega)⟩⟩
  have hx2 : 0 ≤ x ∧ x ≤ 1 * 2 ^ (f 0).toNat - 1 := of_decide_eq_true (bI_n0.mp c2)
  have C1 := hSc hy
  have hmc := hmc ⟨hy, by omega⟩
  have hbc : bgc S1 o = bgc S o := by unfold bgc; rw [h10]
  have hbs : bgs S1 o = bgs S o := by unfold bgs; rw [h10]
  refine vc_kp D1.1 (cm_spreadsFromNow (d := d) (hsh.ag A1.q) D1 hl C1) ⟨by omega, by omega⟩ ?_
  rintro _ Lw2 S2 B2 ⟨rfl, τ2, E2, R2, q, k', B2q, I2, hk'⟩
  have EE := Ext.pre A1 hC.1 E2
  have C2 := R2.2.2.2.2.1
  have hN := nSt_le C2.2.2.1
  have D2 := R2.2.1
  have v1 := D2.2.1
  have v2 := v1.2.1
  obtain ⟨e1, e2, e3⟩ := now_dir hl C2 (x := x) (by omega)
  have a10 := R2.2.2.1
  have l10 : S2 (S2 o 10).toNat (-1) = 1048576 := a10.2.1
  refine ⟨D2.1, ?_⟩
  refine vc_kv D2.1 (cm_stateNow (d := d + 1) D2 R2.1 hl C2) ⟨by omega, by omega⟩ ?_
  refine ⟨D2.1, ?_⟩
  refine vc_kv v1.1 (cm_size (d := d + 5) v1.1) ⟨by omega, by omega⟩ ?_
  rw [v2]
  have y1 := B2q.2.2 _ e2 e3
  have y2 := I2.rg e2 e3
  have hiff := now_iff hl C2 I2 hk' e2 e3
  have hsp : sp_com f s x = bI (rcB f s x) := if_pos ⟨hy, by omega⟩
  refine ⟨by omega, ?_⟩
  show vc_J _ _ _ _ _ _ _ _ _ _ _
  rw [e1]
  refine vc_walk hX ck_X0_comes [] 60 hd ?_
  refine ⟨⟨a10.1, by omega, by omega, by omega⟩, by omega, fun c3 => ?_, fun c3 => ?_⟩
  · refine ⟨⟨by omega, by omega⟩, ⟨0, rfl, ?_⟩, (fun _ => R2.2.2.1.nz), τ2, EE, R2.1⟩
    rw [hsp, show rcB f s x = false from pB_f.mpr (fun z => hiff.mpr z (by omega))]; rfl
  · refine ⟨⟨by omega, by omega⟩, ⟨1, rfl, ?_⟩, (fun _ => R2.2.2.1.nz), τ2, EE, R2.1⟩
    rw [hsp, show rcB f s x = true from pB_t.mpr (hiff.mp (by omega))]; rfl
theorem cm_closedMany {s : Int} (hs : sAre f s = true) (hsh : CSh Lw S o τ) (hC : CLd Lw S o f wr gr lt) (hl : LI K f) (hS : CSc S o f (mvC f s) (mvG f s)) : vc_M (d + 6) (bgc S o) (bgs S o) 43 [.inr (.inr o)] Lw S B (vc_up (fun v Lw' S' _ => FwP Lw S o τ True (fun z => z = cntB (rcB f s) (2 ^ (f 0).toNat)) v Lw' S')) := by
  refine vc_start rfl rfl (Nat.le_of_ble_eq_true rfl) (fun X hX hd => ?_)
  have n0 := hl.nW
  have h14 := pow14 n0.2
  have ep : ((2 ^ (f 0).toNat : Nat) : Int) = (2 : Int) ^ (f 0).toNat := by simp
  have hp1 : (0 : Int) < 2 ^ (f 0).toNat := Int.pow_pos (by decide)
  refine vc_walk hX ck_X0_closedMany [(23, [0, 1, 2, 3])] 60 hd ?_
  refine vc_kp hC.1 (cm_spreadsFromNow (d := d) hsh hC hl hS) ⟨by omega, by omega⟩ ?_
  rintro _ Lw2 S2 B2 ⟨rfl, τ2, E2, R2, q, k', B2q, I2, hk'⟩
  have C2 := R2.2.2.2.2.1
  have hN := nSt_le C2.2.2.1
  have D2 := R2.2.1
  have v1 := D2.2.1
  have v2 := v1.2.1
  have a10 := R2.2.2.1
  have l10 : S2 (S2 o 10).toNat (-1) = 1048576 := a10.2.1
  refine vc_kv D2.1 (cm_stateNow (d := d + 1) D2 R2.1 hl C2) ⟨by omega, by omega⟩ ?_
  refine ⟨D2.1, ?_⟩
  refine vc_kv v1.1 (cm_size (d := d + 5) v1.1) ⟨by omega, by omega⟩ ?_
  rw [v2]
  refine ⟨by omega, ?_⟩
  have loop : ∀ (m : Nat) (x : Int), 0 ≤ x → x + m = 2 ^ (f 0).toNat → vc_J 43 (vc_up (fun v Lw' S' _ => FwP Lw S o τ True (fun z => z = cntB (rcB f s) (2 ^ (f 0).toNat)) v Lw' S')) X 23 [(0, .inr (.inr o)), (1, ii (vt_and (sst f (mvC f s) (mvG f s)) (-1 * 2 ^ (f 0).toNat))), (2, ii (cntB (rcB f s) x.toNat)), (3, ii x)] [] Lw2 S2 B2 (0 + bgc S o + 0 + 0) (0 + bgs S o + 0 + 0) := by
    intro m
    induction m with
    | zero =>
      intro x x0 xm
      refine vc_walk hX ck_X0_closedMany [] 60 hd ?_
      refine ⟨D2.1, ?_⟩
      refine vc_kv v1.1 (cm_size (d := d + 5) v1.1) ⟨by omega, by omega⟩ ?_
      rw [v2]
      refine ⟨by omega, by omega, fun _ => ?_, fun z => absurd z (by omega)⟩
      refine ⟨⟨by omega, by omega⟩, ⟨_, rfl, ?_⟩, (fun _ => R2.2.2.1.nz), τ2, E2, R2.1⟩
      rw [show x.toNat = 2 ^ (f 0).toNat by omega]
    | succ m ih =>
      intro x x0 xm
      obtain ⟨e1, e2, e3⟩ := now_dir hl C2 (x := x) (by omega)
      have y1 := B2q.2.2 _ e2 e3
      have y2 := I2.rg e2 e3
      have hiff := now_iff hl C2 I2 hk' e2 e3
      have ih' := ih (x + 1) (by omega) (by omega)
      rw [cntB_s x0] at ih'
      refine vc_walk hX ck_X0_closedMany [(44, [0, 1, 2, 3])] 60 hd ?_
      refine ⟨D2.1, ?_⟩
      refine vc_kv v1.1 (cm_size (d := d + 5) v1.1) ⟨by omega, by omega⟩ ?_
      rw [v2]
      refine ⟨by omega, by omega, fun z => absurd z (by omega), fun _ => ?_⟩
      refine ⟨D2.1, ?_⟩
      show vc_J _ _ _ _ _ _ _ _ _ _ _
      rw [e1]
      refine vc_walk hX ck_X0_closedMany [(23, [0, 1, 2, 3])] 60 hd ?_
      refine ⟨⟨a10.1, by omega, by omega, by omega⟩, by omega, fun c3 => ?_, fun c3 => ?_⟩
      · rw [show rcB f s x = false from pB_f.mpr (fun z => hiff.mpr z (by omega))] at ih'
        exact ih'
      · rw [show rcB f s x = true from pB_t.mpr (hiff.mp (by omega))] at ih'
        exact ih'
  exact loop (2 ^ (f 0).toNat) 0 (by decide) (by omega)
/-- only a row of scratch is written -/
def orW (S0 : SS) (o : Nat) (r : Nat) (i : Int) : Prop := r = (S0 o 16).toNat ∧ 0 ≤ i
theorem orW.sc (h : CSh Lw S0 o τ) {r : Nat} {i : Int} (hw : orW S0 o r i) : scW S0 o τ r i := by
  obtain ⟨rfl, h2⟩ := hw
  exact scW.a h.2.1.2.1 rfl h2
theorem cm_isWanted {x : Int} {wn : Int → Int} (hx : 0 ≤ x ∧ x < 16384) (hsh : CSh Lw S0 o τ) (hC : CLd Lw S0 o f wr gr lt) (hl : LI K f) (hA : Ag (orW S0 o) S0 S) (hw : ∀ p, 0 ≤ p → p ≤ 7 → S0 (S0 o 17).toNat p = wn p ∧ -100 ≤ wn p ∧ wn p ≤ 100) : vc_M (d + 3) 0 0 46 [.inr (.inr o), ii x] Lw S B (vc_up (fun v Lw' S' B' => v = some (ii (bI (allB (fun p => sLd f x p 0 == wn p) 8))) ∧ Lw = Lw' ∧ B = B' ∧ Ag (orW S0 o) S0 S')) := by
  refine vc_start rfl rfl (Nat.le_of_ble_eq_true rfl) (fun X hX hd => ?_)
  have n0 := hl.nW
  have a16 := hsh.2.1.2.1
  have a17 := hsh.2.1.2.2.1
  have n16 : (S0 o 16).toNat ≠ o := a16.ne0 hsh.1 (by decide)
  have n67 : (S0 o 17).toNat ≠ (S0 o 16).toNat := a17.ne a16 (by decide)
  have toS : ∀ S1, Ag (orW S0 o) S0 S1 → Ag (scW S0 o τ) S0 S1 := fun S1 h => h.mono (fun _ _ z => z.sc hsh)
  have eo : ∀ S1, Ag (orW S0 o) S0 S1 → ∀ i, S1 o i = S0 o i := fun S1 h i => h o i (fun z => n16 z.1.symm)
  have e17 : ∀ S1, Ag (orW S0 o) S0 S1 → ∀ i, S1 (S0 o 17).toNat i = S0 (S0 o 17).toNat i := fun S1 h i => h _ i (fun z => n67 z.1)
  have l3 : ∀ (S1 : SS), Ag (orW S0 o) S0 S1 → (∀ p, 0 ≤ p → p ≤ 7 → S1 (S0 o 16).toNat p = sLd f x p 0) → ∀ (m : Nat) (p : Int), 0 ≤ p → p + m = 8 → vc_J 46 (vc_up (fun v Lw' S' B' => v = some (ii (bI (allB (fun p => sLd f x p 0 == wn p) 8))) ∧ Lw = Lw' ∧ B = B' ∧ Ag (orW S0 o) S0 S')) X 72 [(0, .inr (.inr o)), (1, ii x), (2, ii (bI (allB (fun p => sLd f x p 0 == wn p) p.toNat))), (3, ii p)] [] Lw S1 B 0 0 := by
    intro S1 A1 P1 m
    have H1 := hsh.ag (toS S1 A1).q
    have b16 := H1.2.1.2.1
    have b17 := H1.2.1.2.2.1
    have m16 : S1 (S1 o 16).toNat (-1) = 8 := b16.2.1
    have m17 : S1 (S1 o 17).toNat (-1) = 8 := b17.2.1
    have e16 := eo S1 A1 16
    have e17' := eo S1 A1 17
    induction m with
    | zero =>
      intro p p0 pm
      refine vc_walk hX ck_X0_isWanted [] 60 hd ?_
      refine ⟨by omega, fun _ => ?_, fun z => absurd z (by omega)⟩
      rw [show p = 8 by omega]
      exact ⟨⟨bI_01 _, Nat.le_refl _, Nat.le_refl _⟩, rfl, rfl, rfl, A1⟩
    | succ m ih =>
      intro p p0 pm
      have ih' := ih (p + 1) (by omega) (by omega)
      have q1 := P1 p p0 (by omega)
      have q2 := hw p p0 (by omega)
      have q3 : S1 (S1 o 17).toNat p = wn p := by rw [e17']; exact (e17 S1 A1 p).trans q2.1
      have q4 := sLd_rg hl x p 0
      rw [← e16] at q1
      have hb := bI_rg (allB (fun p => sLd f x p 0 == wn p) p.toNat)
      have ha : allB (fun p => sLd f x p 0 == wn p) (p + 1).toNat = (allB (fun p => sLd f x p 0 == wn p) p.toNat && (sLd f x p 0 == wn p)) := by
        unfold allB
        rw [anyB_s p0]
        show (!(anyB (fun i => !(sLd f x i 0 == wn i)) p.toNat || !(sLd f x p 0 == wn p))) = _
        cases anyB (fun i => !(sLd f x i 0 == wn i)) p.toNat <;> cases (sLd f x p 0 == wn p) <;> rfl
      rw [ha] at ih'
      refine vc_walk hX ck_X0_isWanted [(72, [0, 1, 2, 3])] 60 hd ?_
      refine ⟨by omega, fun z => absurd z (by omega), fun _ => ?_⟩
      refine ⟨by omega, fun c1 => ?_, fun c1 => ?_⟩
      · rw [bI_0.mp c1, Bool.false_and] at ih'
        exact ih'
      · rw [bI_n0.mp c1, Bool.true_and] at ih'
        refine ⟨H1.1, ⟨b16.1, by omega, by omega, by omega⟩, H1.1, ⟨b17.1, by omega, by omega, by omega⟩, by omega, fun c2 => ?_, fun c2 => ?_⟩
        · rw [show (sLd f x p 0 == wn p) = false from beq_false_of_ne (by omega)] at ih'
          exact ih'
        · rw [show (sLd f x p 0 == wn p) = true from beq_iff_eq.mpr (by omega)] at ih'
          exact ih'
  have l2 : ∀ (m : Nat) (k : Int) (S1 : SS), 0 ≤ k → k + m = f 0 → Ag (orW S0 o) S0 S1 → (∀ p, 0 ≤ p → p ≤ 7 → S1 (S0 o 16).toNat p = cntB (fun w => sE f x w 0 == p) k.toNat) → vc_J 46 (vc_up (fun v Lw' S' B' => v = some (ii (bI (allB (fun p => sLd f x p 0 == wn p) 8))) ∧ Lw = Lw' ∧ B = B' ∧ Ag (orW S0 o) S0 S')) X 23 [(0, .inr (.inr o)), (1, ii x), (2, ii k)] [] Lw S1 B 0 0 := by
    intro m
    induction m with
    | zero =>
      intro k S1 k0 km A1 P1
      have D1 := hC.ag (toS S1 A1)
      have u1 := D1.2.1
      have u2 := u1.2.1
      refine vc_walk hX ck_X0_isWanted [(72, [0, 1, 2, 3])] 60 hd ?_
      refine ⟨D1.1, ?_⟩
      refine vc_kv u1.1 (cm_size (d := d + 2) u1.1) ⟨Nat.le_refl _, Nat.le_refl _⟩ ?_
      refine ⟨by omega, fun _ => ?_, fun z => absurd z (by omega)⟩
      exact l3 S1 A1 (fun p p0 p1 => by rw [P1 p p0 p1, show k = f 0 by omega]; rfl) 8 0 (by decide) (by omega)
    | succ m ih =>
      intro k S1 k0 km A1 P1
      have D1 := hC.ag (toS S1 A1)
      have H1 := hsh.ag (toS S1 A1).q
      have u1 := D1.2.1
      have u2 := u1.2.1
      have b16 := H1.2.1.2.1
      have m16 : S1 (S1 o 16).toNat (-1) = 8 := b16.2.1
      have e16 := eo S1 A1 16
      have hW := D1.2.2.2.1 k k0 (by omega)
      have he := sE_rg (x := x) (e := 0) (hl.w k0 (show k < f 0 by omega)) (.inl rfl)
      refine vc_walk hX ck_X0_isWanted [(23, [0, 1, 2])] 60 hd ?_
      refine ⟨D1.1, ?_⟩
      refine vc_kv u1.1 (cm_size (d := d + 2) u1.1) ⟨Nat.le_refl _, Nat.le_refl _⟩ ?_
      refine ⟨by omega, fun z => absurd z (by omega), fun _ => ?_⟩
      refine ⟨D1.1, D1.1, ?_⟩
      refine vc_kv u1.1 (cm_get (d := d) u1 (i := k) ⟨k0, by omega⟩) ⟨Nat.le_refl _, Nat.le_refl _⟩ ?_
      refine ⟨Or.inr hW.1, by omega, ?_⟩
      refine vc_kv hW.1 (cm_fromB (d := d + 2) hW.1 (bt_01 (by omega))) ⟨Nat.le_refl _, Nat.le_refl _⟩ ?_
      rw [hW.fromB (by omega)]
      refine ⟨⟨b16.1, by omega, by omega, by omega⟩, ⟨b16.1, by omega, by omega, by omega⟩, ?_⟩
      have q1 := P1 _ he.1 he.2
      rw [e16, q1]
      refine ih (k + 1) _ (by omega) (by omega) (A1.up ⟨rfl, he.1⟩) (fun p p0 p1 => ?_)
      rw [cntB_s k0, up_rd]
      by_cases cp : p = sE f x k 0
      · subst cp
        rw [if_pos ⟨rfl, rfl⟩, if_pos (beq_self_eq_true _)]
      · rw [if_neg (fun z => cp z.2), if_neg (fun z => cp (eq_of_beq z).symm), P1 p p0 p1, Int.add_zero]
  have l1 : ∀ (m : Nat) (p : Int) (S1 : SS), 0 ≤ p → p + m = 8 → Ag (orW S0 o) S0 S1 → (∀ j, 0 ≤ j → j < p → S1 (S0 o 16).toNat j = 0) → vc_J 46 (vc_up (fun v Lw' S' B' => v = some (ii (bI (allB (fun p => sLd f x p 0 == wn p) 8))) ∧ Lw = Lw' ∧ B = B' ∧ Ag (orW S0 o) S0 S')) X 2 [(0, .inr (.inr o)), (1, ii x), (2, ii p)] [] Lw S1 B 0 0 := by
    intro m
    induction m with
    | zero =>
      intro p S1 p0 pm A1 P1
      refine vc_walk hX ck_X0_isWanted [(23, [0, 1, 2])] 60 hd ?_
      refine ⟨by omega, fun _ => ?_, fun z => absurd z (by omega)⟩
      exact l2 (f 0).toNat 0 S1 (by decide) (by omega) A1 (fun j j0 j1 => by rw [P1 j j0 (by omega)]; rfl)
    | succ m ih =>
      intro p S1 p0 pm A1 P1
      have H1 := hsh.ag (toS S1 A1).q
      have b16 := H1.2.1.2.1
      have m16 : S1 (S1 o 16).toNat (-1) = 8 := b16.2.1
      have e16 := eo S1 A1 16
      refine vc_walk hX ck_X0_isWanted [(2, [0, 1, 2])] 60 hd ?_
      refine ⟨by omega, fun z => absurd z (by omega), fun _ => ?_⟩
      refine ⟨H1.1, ⟨b16.1, by omega, by omega, by omega⟩, ?_⟩
      rw [e16]
      refine ih (p + 1) _ (by omega) (by omega) (A1.up ⟨rfl, p0⟩) (fun j j0 j1 => ?_)
      rw [up_rd]
      by_cases cj : j = p
      · rw [if_pos ⟨rfl, cj⟩]
      · rw [if_neg (fun z => cj z.2)]; exact P1 j j0 (by omega)
  refine vc_walk hX ck_X0_isWanted [(2, [0, 1, 2])] 60 hd ?_
  exact l1 8 0 S (by decide) (by omega) hA (fun j j0 j1 => by omega)
theorem cm_countWanted {wn : Int → Int} (hsh : CSh Lw S0 o τ) (hC : CLd Lw S0 o f wr gr lt) (hl : LI K f) (hw : ∀ p, 0 ≤ p → p ≤ 7 → S0 (S0 o 17).toNat p = wn p ∧ -100 ≤ wn p ∧ wn p ≤ 100) : vc_M (d + 4) 0 0 45 [.inr (.inr o)] Lw S0 B (vc_up (fun v Lw' S' B' => v = some (ii (cntB (fun x => allB (fun p => sLd f x p 0 == wn p) 8) (2 ^ (f 0).toNat))) ∧ Lw = Lw' ∧ B = B' ∧ Ag (orW S0 o) S0 S')) := by
  refine vc_start rfl rfl (Nat.le_of_ble_eq_true rfl) (fun X hX hd => ?_)
  have n0 := hl.nW
  have h14 := pow14 n0.2
  have ep : ((2 ^ (f 0).toNat : Nat) : Int) = (2 : Int) ^ (f 0).toNat := by simp
  have hp1 : (0 : Int) < 2 ^ (f 0).toNat := Int.pow_pos (by decide)
  have loop : ∀ (m : Nat) (x : Int) (S1 : SS), 0 ≤ x → x + m = 2 ^ (f 0).toNat → Ag (orW S0 o) S0 S1 → vc_J 45 (vc_up (fun v Lw' S' B' => v = some (ii (cntB (fun x => allB (fun p => sLd f x p 0 == wn p) 8) (2 ^ (f 0).toNat))) ∧ Lw = Lw' ∧ B = B' ∧ Ag (orW S0 o) S0 S')) X 4 [(0, .inr (.inr o)), (1, ii (cntB (fun x => allB (fun p => sLd f x p 0 == wn p) 8) x.toNat)), (2, ii x)] [] Lw S1 B 0 0 := by
    intro m
    induction m with
    | zero =>
      intro x S1 x0 xm A1
      have D1 := hC.ag (A1.mono (fun _ _ z => z.sc hsh) : Ag (scW S0 o τ) S0 S1)
      have u1 := D1.2.1
      have u2 := u1.2.1
      refine vc_walk hX ck_X0_countWanted [] 60 hd ?_
      refine ⟨D1.1, ?_⟩
      refine vc_kv u1.1 (cm_size (d := d + 3) u1.1) ⟨Nat.le_refl _, Nat.le_refl _⟩ ?_
      rw [u2]
      refine ⟨by omega, by omega, fun _ => ?_, fun z => absurd z (by omega)⟩
      rw [show x.toNat = 2 ^ (f 0).toNat by omega]
      exact ⟨⟨Nat.le_refl _, Nat.le_refl _⟩, rfl, rfl, rfl, A1⟩
    | succ m ih =>
      intro x S1 x0 xm A1
      have D1 := hC.ag (A1.mono (fun _ _ z => z.sc hsh) : Ag (scW S0 o τ) S0 S1)
      have u1 := D1.2.1
      have u2 := u1.2.1
      have hb := bI_rg (allB (fun p => sLd f x p 0 == wn p) 8)
      refine vc_walk hX ck_X0_countWanted [(4, [0, 1, 2])] 60 hd ?_
      refine ⟨D1.1, ?_⟩
      refine vc_kv u1.1 (cm_size (d := d + 3) u1.1) ⟨Nat.le_refl _, Nat.le_refl _⟩ ?_
      rw [u2]
      refine ⟨by omega, by omega, fun z => absurd z (by omega), fun _ => ?_⟩
      refine vc_kp D1.1 (cm_isWanted (d := d) (by omega) hsh hC hl A1 hw) ⟨Nat.le_refl _, Nat.le_refl _⟩ ?_
      rintro _ _ S2 _ ⟨rfl, rfl, rfl, A2⟩
      have ih' := ih (x + 1) S2 (by omega) (by omega) A2
      rw [cntB_s x0] at ih'
      refine ⟨by omega, fun c1 => ?_, fun c1 => ?_⟩
      · rw [bI_0.mp c1] at ih'
        exact ih'
      · rw [bI_n0.mp c1] at ih'
        exact ih'
  refine vc_walk hX ck_X0_countWanted [(4, [0, 1, 2])] 60 hd ?_
  exact loop (2 ^ (f 0).toNat) 0 S0 (by decide) (by omega) Ag.rf
end CMS
