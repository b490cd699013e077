/-! THE COMPONENT's methods: decoys -/
set_option maxRecDepth 100000
theorem mv_ix1 : ∀ s : Nat, s < 64 → ∀ g : Nat, g < 6 → ∀ n : Nat, n < 7 → g < n → (mvF ((s ||| 2 ^ g : Nat) : Int) n).2 (pc6 ((s &&& (2 ^ g - 1) : Nat) : Int)) = (g : Int) := by decide +kernel
def mvCk (s g n : Nat) : Bool := (List.range 6).all (fun j => !(decide (g < n) && decide ((j : Int) < pc6 ((s &&& (2 ^ g - 1) : Nat) : Int))) || !((mvF ((s ||| 2 ^ g : Nat) : Int) n).2 (j : Int) == (g : Int)))
theorem mv_ck : ∀ s : Nat, s < 64 → ∀ g : Nat, g < 6 → ∀ n : Nat, n < 7 → mvCk s g n = true := by decide +kernel
theorem mv_ix2 (s : Nat) (hs : s < 64) (g : Nat) (hg : g < 6) (n : Nat) (hn : n < 7) (j : Nat) (hj : j < 6) (h : g < n ∧ (j : Int) < pc6 ((s &&& (2 ^ g - 1) : Nat) : Int)) : ¬ (mvF ((s ||| 2 ^ g : Nat) : Int) n).2 (j : Int) = (g : Int) := by
  have h1 := List.all_eq_true.mp (mv_ck s hs g hg n hn) j (List.mem_range.mpr hj)
  rw [decide_eq_true h.1, decide_eq_true h.2] at h1
  intro z
  rw [z] at h1
  simp at h1
theorem mv_idx (s : Nat) (hs : s < 64) (g : Nat) (hg : g < 6) (n : Nat) (hn : n < 7) (h : g < n) : (mvF ((s ||| 2 ^ g : Nat) : Int) n).2 (pc6 ((s &&& (2 ^ g - 1) : Nat) : Int)) = (g : Int) ∧ ∀ j : Nat, j < 6 → (j : Int) < pc6 ((s &&& (2 ^ g - 1) : Nat) : Int) → (mvF ((s ||| 2 ^ g : Nat) : Int) n).2 (j : Int) ≠ (g : Int) := ⟨mv_ix1 s hs g hg n hn h, fun j hj hl => mv_ix2 s hs g hg n hn j hj ⟨h, hl⟩⟩
theorem mv_bits : ∀ s : Nat, s < 64 → ∀ g : Nat, g < 6 → ∀ n : Nat, n < 7 → (g < n ∧ s < 2 ^ n ∧ s.testBit g = false) → pc6 (s : Int) < n := by decide +kernel
section CMU
variable {Lw : List Nat} {S S0 : SS} {B : SB} {d o : Nat} {τ : Nat → Nat} {f : Int → Int} {wr gr : Int → Nat} {lt : Int → Int} {K c : Int} {mv : Int → Int}
/-- some state that is come to from now -/
theorem now_any {q : CQ} {k : Int} {hm : Int → Bool} (hl : LI K f) (hS : CSc S o f c mv) (hI : CBI (nSt f c) c (f 0) (scc f) (fun s => s = sst f c mv) k 0 0 q) (hk : q.1 ≤ k) : (∃ i, 0 ≤ i ∧ i < q.1 ∧ hm (q.2.1 i) = true) ↔ ∃ l, hpt c (f 0) (scc f) hm l (sst f c mv) := by
  have hsc : ∀ s m w, (0 ≤ s ∧ s < nSt f c) → (0 ≤ m ∧ m < c) → (0 ≤ w ∧ w < f 0) → scc f s m w = -1 ∨ (0 ≤ scc f s m w ∧ scc f s m w < nSt f c) := scc_rg hl hS.2.2.1
  constructor
  · rintro ⟨i, i0, i1, h⟩
    have h2 := hI.2.1 i i0 i1
    rcases hI.2.2.1 _ h2.1.1 h2.1.2 with x | ⟨-, x, -⟩
    · omega
    · exact ⟨_, (fpt_app _).mpr ⟨_, h, x⟩⟩
  · rintro ⟨l, h⟩
    obtain ⟨t, a, b⟩ := (fpt_app l).mp h
    obtain ⟨r, x, -⟩ := hI.fin hk hsc l t b
    rcases hI.2.2.1 t r.1 r.2 with y | ⟨-, -, i, i0, i1, i2⟩
    · omega
    · exact ⟨i, i0, i1, by rw [i2]; exact a⟩
theorem cm_canCome {g s : Int} {mc ms : Nat} (hg : 0 ≤ g ∧ g < f 1) (hs : 0 ≤ s ∧ s < 2 ^ (f 1).toNat) (hmc : sAre f (orb s g) = true → bgc S o ≤ mc ∧ bgs S o ≤ ms) (hsh : CSh Lw S o τ) (hC : CLd Lw S o f wr gr lt) (hl : LI K f) : vc_M (d + 6) mc ms 49 [.inr (.inr o), ii g, ii s] Lw S B (vc_up (fun v Lw' S' _ => FwP Lw S o τ (sAre f (orb s g) = true) (fun z => z = bI (dcB f g s)) v Lw' S' ∧ (sAre f (orb s g) = false → S' o 10 = S o 10))) := by
  refine vc_start rfl rfl (Nat.le_of_ble_eq_true rfl) (fun X hX hd => ?_)
  have n0 := hl.nW
  have n1 := hl.nG
  have hp6 := pow6 n1.2
  have ep : (1 : Int) * 2 ^ g.toNat = ((2 ^ g.toNat : Nat) : Int) := by simp
  have hp5 : (2 : Nat) ^ g.toNat ≤ 2 ^ 5 := Nat.pow_le_pow_right (by decide) (by omega)
  have hor : vt_or s (1 * 2 ^ g.toNat) = orb s g := by
    rw [ep, bt_or (by omega) ⟨Int.natCast_nonneg _, by omega⟩, Int.toNat_natCast]
    rfl
  have horr : s.toNat ||| 2 ^ g.toNat < 64 := (dc_cnt s.toNat (by omega) g.toNat (by omega)).2.1
  have hor0 : 0 ≤ orb s g ∧ orb s g < 64 := ⟨Int.natCast_nonneg _, by unfold orb; omega⟩
  have hb := bI_rg (sAre f (orb s g))
  refine vc_walk hX ck_X0_canCome [(6, [0, 1])] 60 hd ?_
  refine ⟨by omega, ?_⟩
  show vc_J _ _ _ _ _ _ _ _ _ _ _
  rw [hor]
  refine vc_walk hX ck_X0_canCome [(20, [0, 1, 3])] 60 hd ?_
  refine vc_kp hC.1 (cm_chooses (d := d + 2) (by omega) hsh hC hl Ag.rf) ⟨by omega, by omega⟩ ?_
  rintro _ _ S1 _ ⟨rfl, rfl, rfl, A1, h10, hSc⟩
  refine ⟨by omega, fun c1 => ?_, fun c1 => ?_⟩
  rotate_left
  · have hn : sAre f (orb s g) = false := (bI_0 (b := sAre f (orb s g))).mp (by omega)
    refine ⟨⟨Or.inl rfl, by omega, by omega⟩, ⟨⟨0, rfl, ?_⟩, (fun z => by rw [hn] at z; cases z), τ, (A1.mono (fun _ _ z => Or.inl z) : Ag (bW S o τ) S S1).ext, hsh.ag A1.q⟩, fun _ => h10⟩
    unfold dcB
    rw [hn]; rfl
  have hy := bI_n0.mp c1
  have hmc := hmc hy
  have C1 := hSc hy
  have D1 := hC.ag A1
  have hbc : bgc S1 o = bgc S o := by unfold bgc; rw [h10]
  have hbs : bgs S1 o = bgs S o := by unfold bgs; rw [h10]
  refine vc_kp D1.1 (cm_spreadsFromNow (d := d) (hsh.ag A1.q) D1 hl C1) ⟨by omega, by omega⟩ ?_
  rintro _ Lw2 S2 B2 ⟨rfl, τ2, E2, R2, q, k', B2q, I2, hk'⟩
  have EE := Ext.pre A1 hC.1 E2
  have C2 := R2.2.2.2.2.1
  have hc6 := C2.2.1
  have hN := nSt_le C2.2.2.1
  have D2 := R2.2.1
  have a12 := R2.1.2.1.1
  have l12 : S2 (S2 o 12).toNat (-1) = 6 := a12.2.1
  have a11 := R2.2.2.2.1
  have l11 : S2 (S2 o 11).toNat (-1) = 1048576 := a11.2.1
  have hany := now_any (hm := hmO f (mvG f (orb s g)) (pc6 (bel s g))) hl C2 I2 hk'
  have hpr := pc6_rg (bel s g)
  obtain ⟨ix1, ix2⟩ := mv_idx s.toNat (by omega) g.toNat (by omega) (f 1).toNat (by omega) (by omega)
  have ix1 : mvG f (orb s g) (pc6 (bel s g)) = g := by
    have : mvG f (orb s g) (pc6 (bel s g)) = ((g.toNat : Nat) : Int) := ix1
    omega
  have ix3 : pc6 (bel s g) < mvC f (orb s g) := by
    have := dc_bel s.toNat (by omega) g.toNat (by omega) (f 1).toNat (by omega) (by omega)
    unfold mvC
    rw [mvF_cnt]
    exact this
  have hsp : dcB f g s = pB (∃ l, hpt (mvC f (orb s g)) (f 0) (scc f) (hmO f (mvG f (orb s g)) (pc6 (bel s g))) l (sst f (mvC f (orb s g)) (mvG f (orb s g)))) := by
    unfold dcB
    rw [hy, Bool.true_and]
  have hG := D2.2.2.2.2.1 g hg.1 hg.2
  have hga := (hl.g hg.1 hg.2).1
  have g1 := D2.2.2.1
  have hqle : q.1 ≤ nSt f (mvC f (orb s g)) := by rcases I2.le with x | x <;> omega
  have fin : ∀ b : Bool, b = dcB f g s → vc_J 49 (vc_up (fun v Lw' S' _ => FwP Lw S o τ (sAre f (orb s g) = true) (fun z => z = bI (dcB f g s)) v Lw' S' ∧ (sAre f (orb s g) = false → S' o 10 = S o 10))) X 98 [(4, ii (bI b))] [] Lw2 S2 B2 (0 + 0 + bgc S1 o) (0 + 0 + bgs S1 o) := by
    intro b hb
    refine vc_walk hX ck_X0_canCome [] 60 hd ?_
    exact ⟨⟨bI_01 _, by omega, by omega⟩, ⟨⟨_, rfl, by rw [hb]⟩, (fun _ => R2.2.2.1.nz), τ2, EE, R2.1⟩, fun z => by rw [hy] at z; cases z⟩
  -- the queue
  have l2 : ∀ (m : Nat) (k : Int), 0 ≤ k → k + m = q.1 → (∀ i, 0 ≤ i → i < k → hmO f (mvG f (orb s g)) (pc6 (bel s g)) (q.2.1 i) = false) → vc_J 49 (vc_up (fun v Lw' S' _ => FwP Lw S o τ (sAre f (orb s g) = true) (fun z => z = bI (dcB f g s)) v Lw' S' ∧ (sAre f (orb s g) = false → S' o 10 = S o 10))) X 42 [(0, .inr (.inr o)), (1, ii g), (3, ii (pc6 (bel s g))), (4, ii 0), (5, ii k)] [] Lw2 S2 B2 (0 + 0 + bgc S1 o) (0 + 0 + bgs S1 o) := by
    intro m
    have x15 := B2q.1
    induction m with
    | zero =>
      intro k k0 km hno
      refine vc_walk hX ck_X0_canCome [(98, [4])] 60 hd ?_
      refine ⟨D2.1, by omega, fun _ => ?_, fun z => absurd z (by omega)⟩
      refine fin false ?_
      rw [hsp]
      refine (pB_f.mpr (fun z => ?_)).symm
      obtain ⟨i, i0, i1, hi⟩ := hany.mpr z
      rw [hno i i0 (by omega)] at hi
      cases hi
    | succ m ih =>
      intro k k0 km hno
      have hqk := I2.2.1 k k0 (by omega)
      have x11 := B2q.2.1 k k0 (by omega)
      have hplr := plc_rg (f 0) (q.2.1 k) (pc6 (bel s g))
      refine vc_walk hX ck_X0_canCome [(98, [4]), (42, [0, 1, 3, 4, 5])] 60 hd ?_
      refine ⟨D2.1, by omega, fun z => absurd z (by omega), fun _ => ?_⟩
      refine ⟨by decide, fun z => absurd rfl z, fun _ => ?_⟩
      refine ⟨D2.1, ⟨a11.1, by omega, by omega, by omega⟩, ?_⟩
      rw [x11]
      refine vc_kv D2.1 (cm_placeIn (d := d + 4) (by omega) (by omega) D2 hl) ⟨by omega, by omega⟩ ?_
      refine ⟨D2.1, ?_⟩
      refine vc_kv g1.1 (cm_get (d := d + 3) g1 (i := g) hg) ⟨by omega, by omega⟩ ?_
      refine ⟨Or.inr hG.1, hG.1, ?_⟩
      rw [hG.2.1]
      refine ⟨by omega, fun c2 => ?_, fun c2 => ?_⟩
      · refine ih (k + 1) (by omega) (by omega) (fun i i0 i1 => ?_)
        by_cases ei : i = k
        · subst ei
          unfold hmO
          rw [ix1]
          exact beq_false_of_ne c2
        · exact hno i i0 (by omega)
      · have hyes : true = dcB f g s := by
          rw [hsp]
          refine (pB_t.mpr (hany.mp ⟨k, k0, by omega, ?_⟩)).symm
          unfold hmO
          rw [ix1]
          exact beq_iff_eq.mpr c2
        refine vc_walk hX ck_X0_canCome [(98, [4])] 60 hd ?_
        refine ⟨D2.1, by omega, fun _ => fin true hyes, fun _ => ?_⟩
        exact ⟨by decide, fun _ => fin true hyes, fun z => absurd z (by decide)⟩
  -- which of the chosen
  have l1 : ∀ (m : Nat) (k : Int), 0 ≤ k → k + m = pc6 (bel s g) → vc_J 49 (vc_up (fun v Lw' S' _ => FwP Lw S o τ (sAre f (orb s g) = true) (fun z => z = bI (dcB f g s)) v Lw' S' ∧ (sAre f (orb s g) = false → S' o 10 = S o 10))) X 20 [(0, .inr (.inr o)), (1, ii g), (3, ii k)] [] Lw2 S2 B2 (0 + 0 + bgc S1 o) (0 + 0 + bgs S1 o) := by
    intro m
    induction m with
    | zero =>
      intro k k0 km
      have hk : k = pc6 (bel s g) := by omega
      have hx := (C2.2.2.2 k k0 (by omega)).1
      rw [hk, ix1] at hx
      refine vc_walk hX ck_X0_canCome [(42, [0, 1, 3, 4, 5])] 60 hd ?_
      refine ⟨D2.1, ⟨a12.1, by omega, by omega, by omega⟩, ?_⟩
      rw [hk, hx]
      refine ⟨by omega, fun _ => ?_, fun z => absurd rfl z⟩
      exact l2 q.1.toNat 0 (by decide) (by have := I2.1; have := (I2.2.2.2.1); have := cntB_b (fun s => decide (0 ≤ q.2.2 s)) (nSt f (mvC f (orb s g))).toNat; omega) (fun i i0 i1 => by omega)
    | succ m ih =>
      intro k k0 km
      have hx := C2.2.2.2 k k0 (by omega)
      have hne : mvG f (orb s g) k ≠ g := by
        have := ix2 k.toNat (by omega) (by show ((k.toNat : Nat) : Int) < pc6 (bel s g); omega)
        rw [show ((k.toNat : Nat) : Int) = k by omega] at this
        intro z
        exact this (by show mvG f (orb s g) k = _; omega)
      refine vc_walk hX ck_X0_canCome [(20, [0, 1, 3])] 60 hd ?_
      refine ⟨D2.1, ⟨a12.1, by omega, by omega, by omega⟩, ?_⟩
      rw [hx.1]
      refine ⟨by omega, fun z => absurd z hne, fun _ => ?_⟩
      exact ih (k + 1) (by omega) (by omega)
  exact l1 (pc6 (bel s g)).toNat 0 (by decide) (by omega)
theorem cm_decoys {g : Int} {mc ms : Nat} (hbit : ∀ (d : Nat) (Lw : List Nat) (S : SS) (B : SB) (s : Int), 0 ≤ s → s < 64 → vc_M d 0 0 159 [ii s] Lw S B (vc_eq (some (ii (pc6 s))) Lw S B)) (hg : -2147483648 ≤ g ∧ g ≤ 2147483647) (hmc : sStd f g = true → bgc S o ≤ mc ∧ bgs S o ≤ ms) (hsh : CSh Lw S o τ) (hC : CLd Lw S o f wr gr lt) (hl : LI K f) : vc_M (d + 7) mc ms 48 [.inr (.inr o), ii g] Lw S B (vc_up (fun v Lw' S' _ => FwP Lw S o τ (sStd f g = true) (fun z => z = sp_dec f g) v Lw' S')) := by
  refine vc_start rfl rfl (Nat.le_of_ble_eq_true rfl) (fun X hX hd => ?_)
  have n0 := hl.nW
  have n1 := hl.nG
  have hp6 := pow6 n1.2
  have hp0 : (0 : Int) < 2 ^ (f 1).toNat := Int.pow_pos (by decide)
  have ep : ((2 ^ (f 1).toNat : Nat) : Int) = (2 : Int) ^ (f 1).toNat := by simp
  have hb := bI_rg (sIsG f g)
  have noA : sStd f g = false → FwP Lw S o τ (sStd f g = true) (fun z => z = sp_dec f g) (some (ii (-1))) Lw S := by
    intro hn
    refine ⟨⟨-1, rfl, ?_⟩, (fun z => by rw [hn] at z; cases z), τ, Ag.rf.ext, hsh⟩
    unfold sp_dec
    rw [hn]; rfl
  refine vc_walk hX ck_X0_decoys [(29, [0, 1, 2])] 60 hd ?_
  refine vc_kv hC.1 (cm_isGoer (d := d + 5) hg hC hl) ⟨by omega, by omega⟩ ?_
  refine ⟨by omega, fun c => ⟨⟨by omega, by omega⟩, noA (by unfold sStd; rw [bI_0.mp c]; rfl)⟩, fun c => ?_⟩
  have c1 := bI_n0.mp c
  have cg := of_decide_eq_true c1
  have hG := hC.2.2.2.2.1 g cg.1 cg.2
  have hgi := hl.g cg.1 cg.2
  have hr := hgi.way hl.nW.2
  have g4 := hG.2.2.2.2.1
  have gl := hC.2.2.1
  have hbs := bI_rg (S (gr g) 3 == -1)
  refine ⟨hC.1, ?_⟩
  refine vc_kv gl.1 (cm_get (d := d + 4) gl (i := g) cg) ⟨by omega, by omega⟩ ?_
  refine ⟨Or.inr hG.1, ?_⟩
  refine vc_kv hG.1 (cm_stands (d := d + 6) hG.1 (by omega)) ⟨by omega, by omega⟩ ?_
  refine ⟨by omega, fun c => ?_, fun c => ?_⟩
  rotate_left
  · have := ne_of_beq_false ((bI_0 (b := S (gr g) 3 == -1)).mp (by omega))
    exact ⟨⟨by omega, by omega⟩, noA (by unfold sStd; rw [show (sG f g 3 == -1) = false from beq_false_of_ne (by omega), Bool.and_false])⟩
  have cs : sG f g 3 = -1 := by have := eq_of_beq (bI_n0.mp c); omega
  have hstd : sStd f g = true := by unfold sStd; rw [c1, show (sG f g 3 == -1) = true from beq_iff_eq.mpr cs]; rfl
  have hmc := hmc hstd
  have hsp : sp_dec f g = if 0 ≤ lst (fun m => decide (0 ≤ dcm f g m)) 6 then dcm f g (lst (fun m => decide (0 ≤ dcm f g m)) 6) else -2 := if_pos hstd
  -- what is found first
  have found : ∀ m s, 0 ≤ m → m < 6 → (∀ i, 0 ≤ i → i < m → dcm f g i = -1) → 0 ≤ s → s < 2 ^ (f 1).toNat → (∀ i, 0 ≤ i → i < s → dcQ f g m i = false) → dcQ f g m s = true → sp_dec f g = s := by
    intro m s m0 m6 hm s0 s1 hs hq
    have e1 : dcm f g m = s := by
      show lst (dcQ f g m) (2 ^ (f 1).toNat) = s
      rcases lst_spec (dcQ f g m) (2 ^ (f 1).toNat) with ⟨x, y⟩ | ⟨x1, x2, x3, x4⟩
      · rw [y s s0 (by omega)] at hq; cases hq
      · rcases Int.lt_trichotomy (lst (dcQ f g m) (2 ^ (f 1).toNat)) s with z | z | z
        · rw [hs _ x1 z] at x3; cases x3
        · exact z
        · rw [x4 s s0 z] at hq; cases hq
    have e2 : lst (fun m => decide (0 ≤ dcm f g m)) 6 = m := by
      rcases lst_spec (fun m => decide (0 ≤ dcm f g m)) 6 with ⟨x, y⟩ | ⟨x1, x2, x3, x4⟩
      · have := y m m0 (by omega)
        simp only [decide_eq_false_iff_not] at this
        omega
      · rcases Int.lt_trichotomy (lst (fun m => decide (0 ≤ dcm f g m)) 6) m with z | z | z
        · have h1 := hm _ x1 z
          simp only [decide_eq_true_eq] at x3
          omega
        · exact z
        · have h1 := x4 m m0 z
          simp only [decide_eq_false_iff_not] at h1
          omega
    rw [hsp, e2, e1, if_pos m0]
  have none_ : (∀ m, 0 ≤ m → m < f 1 → dcm f g m = -1) → sp_dec f g = -2 := by
    intro h
    have all : ∀ m, 0 ≤ m → m < 6 → dcm f g m = -1 := by
      intro m m0 m6
      by_cases z : m < f 1
      · exact h m m0 z
      · show lst (dcQ f g m) (2 ^ (f 1).toNat) = -1
        rcases lst_spec (dcQ f g m) (2 ^ (f 1).toNat) with ⟨x, y⟩ | ⟨x1, x2, x3, x4⟩
        · exact x
        · generalize lst (dcQ f g m) (2 ^ (f 1).toNat) = s at *
          unfold dcQ at x3
          simp only [Bool.and_eq_true, beq_iff_eq, Bool.not_eq_true'] at x3
          have := mv_bits s.toNat (by omega) g.toNat (by omega) (f 1).toNat (by omega) ⟨by omega, by omega, x3.1.2⟩
          rw [show ((s.toNat : Nat) : Int) = s by omega] at this
          omega
    rw [hsp]
    rcases lst_spec (fun m => decide (0 ≤ dcm f g m)) 6 with ⟨x, y⟩ | ⟨x1, x2, x3, x4⟩
    · rw [x, if_neg (by decide)]
    · simp only [decide_eq_true_eq] at x3
      have := all _ x1 (by omega)
      omega
  -- the first set of all is looked at: the arrays are made
  have hare0 : sAre f (orb 0 g) = true := by
    have e0 : orb 0 g = ((2 ^ g.toNat : Nat) : Int) := by unfold orb; simp
    rw [e0]
    have hsb : ∀ i : Int, 0 ≤ i → sBit ((2 ^ g.toNat : Nat) : Int) i = decide (g = i) := by
      intro i i0
      unfold sBit
      rw [Int.toNat_natCast, Nat.testBit_two_pow]
      by_cases e : g = i
      · rw [decide_eq_true e, decide_eq_true (by rw [e])]
      · rw [decide_eq_false e, decide_eq_false (by omega)]
    have hpc : ∀ g : Nat, g < 6 → pc6 ((2 ^ g : Nat) : Int) = 1 := by decide +kernel
    have hlt : 2 ^ g.toNat < 2 ^ (f 1).toNat := Nat.pow_lt_pow_right (by decide) (by omega)
    have hpos : 0 < 2 ^ g.toNat := Nat.two_pow_pos _
    unfold sAre
    rw [hpc g.toNat (by omega), decide_eq_true (show 1 ≤ ((2 ^ g.toNat : Nat) : Int) ∧ ((2 ^ g.toNat : Nat) : Int) < 2 ^ (f 1).toNat by omega), decide_eq_true (show f 0 + 3 * 1 ≤ 20 by omega), Bool.true_and, Bool.true_and]
    refine allB_iff.mpr (fun i i0 i1 => ?_)
    rw [hsb i i0]
    by_cases e : g = i
    · subst e; rw [hstd, Bool.or_true]
    · rw [decide_eq_false e]; rfl
  have l2 : ∀ (m : Int), 0 ≤ m → m < f 1 → (∀ i, 0 ≤ i → i < m → dcm f g i = -1) → ∀ (n2 : Nat) (s : Int) (Lw1 : List Nat) (S1 : SS) (B1 : SB) (τ1 : Nat → Nat) (cc sl : Nat), 0 ≤ s → s + n2 = 2 ^ (f 1).toNat → (∀ i, 0 ≤ i → i < s → dcQ f g m i = false) → Ext (bW S o τ) Lw S τ Lw1 S1 τ1 → CSh Lw1 S1 o τ1 → cc + bgc S1 o ≤ mc → sl + bgs S1 o ≤ ms → ((0 < m ∨ 0 < s) → S1 o 10 ≠ 0) → (∀ (Lw2 : List Nat) (S2 : SS) (B2 : SB) (τ2 : Nat → Nat) (cc2 sl2 : Nat), dcm f g m = -1 → Ext (bW S o τ) Lw S τ Lw2 S2 τ2 → CSh Lw2 S2 o τ2 → cc2 + bgc S2 o ≤ mc → sl2 + bgs S2 o ≤ ms → S2 o 10 ≠ 0 → vc_J 48 (vc_up (fun v Lw' S' _ => FwP Lw S o τ (sStd f g = true) (fun z => z = sp_dec f g) v Lw' S')) X 88 [(0, .inr (.inr o)), (1, ii g), (2, ii m)] [] Lw2 S2 B2 cc2 sl2) → vc_J 48 (vc_up (fun v Lw' S' _ => FwP Lw S o τ (sStd f g = true) (fun z => z = sp_dec f g) v Lw' S')) X 42 [(0, .inr (.inr o)), (1, ii g), (2, ii m), (3, ii s)] [] Lw1 S1 B1 cc sl := by
    intro m m0 m1 hm n2
    induction n2 with
    | zero =>
      intro s Lw1 S1 B1 τ1 cc sl s0 sn hno E1 H1 hcc hsl hnz go
      have D1 := hC.ext E1
      have u1 := D1.2.2.1
      have u2 := u1.2.1
      refine vc_walk hX ck_X0_decoys [(88, [0, 1, 2])] 60 hd ?_
      refine ⟨D1.1, ?_⟩
      refine vc_kv u1.1 (cm_size (d := d + 6) u1.1) ⟨by omega, by omega⟩ ?_
      rw [u2]
      refine ⟨by omega, by omega, fun _ => ?_, fun z => absurd z (by omega)⟩
      refine go Lw1 S1 B1 τ1 _ _ ?_ E1 H1 (by omega) (by omega) (hnz (by omega))
      show lst (dcQ f g m) (2 ^ (f 1).toNat) = -1
      rcases lst_spec (dcQ f g m) (2 ^ (f 1).toNat) with ⟨x, y⟩ | ⟨x1, x2, x3, x4⟩
      · exact x
      · rw [hno _ x1 (by omega)] at x3; cases x3
    | succ n2 ih =>
      intro s Lw1 S1 B1 τ1 cc sl s0 sn hno E1 H1 hcc hsl hnz go
      have D1 := hC.ext E1
      have u1 := D1.2.2.1
      have u2 := u1.2.1
      have hbb := bI_rg (s.toNat.testBit g.toNat)
      have hpr := pc6_rg s
      have next : ∀ (Lw2 : List Nat) (S2 : SS) (B2 : SB) (τ2 : Nat → Nat) (cc2 sl2 : Nat), dcQ f g m s = false → Ext (bW S o τ) Lw S τ Lw2 S2 τ2 → CSh Lw2 S2 o τ2 → cc2 + bgc S2 o ≤ mc → sl2 + bgs S2 o ≤ ms → S2 o 10 ≠ 0 → vc_J 48 (vc_up (fun v Lw' S' _ => FwP Lw S o τ (sStd f g = true) (fun z => z = sp_dec f g) v Lw' S')) X 42 [(0, .inr (.inr o)), (1, ii g), (2, ii m), (3, ii (s + 1))] [] Lw2 S2 B2 cc2 sl2 := by
        intro Lw2 S2 B2 τ2 cc2 sl2 hq E2 H2 h1 h2 h3
        refine ih (s + 1) Lw2 S2 B2 τ2 cc2 sl2 (by omega) (by omega) (fun i i0 i1 => ?_) E2 H2 h1 h2 (fun _ => h3) go
        by_cases e : i = s
        · subst e; exact hq
        · exact hno i i0 (by omega)
      have hfirst : ¬ (0 < m ∨ 0 < s) → m = 0 ∧ s = 0 := by omega
      refine vc_walk hX ck_X0_decoys [(42, [0, 1, 2, 3])] 60 hd ?_
      refine ⟨D1.1, ?_⟩
      refine vc_kv u1.1 (cm_size (d := d + 6) u1.1) ⟨by omega, by omega⟩ ?_
      rw [u2]
      refine ⟨by omega, by omega, fun z => absurd z (by omega), fun _ => ?_⟩
      refine vc_k (cm_has (d := d + 6) (by omega) (by omega)) ⟨by omega, by omega⟩ ?_
      refine ⟨by omega, fun z => ?_, fun z => ?_⟩
      · have hq : dcQ f g m s = false := by
          unfold dcQ sBit
          rw [bI_n0.mp z, Bool.not_true, Bool.and_false, Bool.false_and]
        refine next Lw1 S1 B1 τ1 _ _ hq E1 H1 (by omega) (by omega) (hnz ?_)
        by_cases q : 0 < m ∨ 0 < s
        · exact q
        · exfalso
          have := (hfirst q).2
          subst this
          have := bI_n0.mp z
          simp at this
      · have hnb : sBit s g = false := (bI_0 (b := s.toNat.testBit g.toNat)).mp (by omega)
        refine vc_k (hbit (d + 6) Lw1 S1 B1 s s0 (by omega)) ⟨by omega, by omega⟩ ?_
        refine ⟨by omega, fun z2 => ?_, fun z2 => ?_⟩
        · have hq : dcQ f g m s = false := by
            unfold dcQ
            rw [show (pc6 s == m) = false from beq_false_of_ne z2]; rfl
          refine next Lw1 S1 B1 τ1 _ _ hq E1 H1 (by omega) (by omega) (hnz ?_)
          by_cases q : 0 < m ∨ 0 < s
          · exact q
          · exfalso
            have := hfirst q
            rw [this.1, this.2] at z2
            exact z2 (by decide)
        · have hq : dcQ f g m s = dcB f g s := by
            unfold dcQ
            rw [show (pc6 s == m) = true from beq_iff_eq.mpr z2, hnb]; rfl
          have hbd := bI_rg (dcB f g s)
          have yes : ∀ (Lw2 : List Nat) (S2 : SS) (τ2 : Nat → Nat), dcB f g s = true → Ext (bW S o τ) Lw S τ Lw2 S2 τ2 → CSh Lw2 S2 o τ2 → S2 o 10 ≠ 0 → FwP Lw S o τ (sStd f g = true) (fun z => z = sp_dec f g) (some (ii s)) Lw2 S2 := fun Lw2 S2 τ2 h E2 H2 h3 => ⟨⟨s, rfl, (found m s m0 (by omega) hm s0 (by omega) hno (hq.trans h)).symm⟩, (fun _ => h3), τ2, E2, H2⟩
          by_cases ha : sAre f (orb s g) = true
          · refine vc_kp D1.1 (cm_canCome (d := d) (mc := bgc S1 o) (ms := bgs S1 o) cg ⟨s0, by omega⟩ (fun _ => ⟨Nat.le_refl _, Nat.le_refl _⟩) H1 D1 hl) ⟨by omega, by omega⟩ ?_
            rintro _ Lw2 S2 B2 ⟨⟨⟨_, rfl, rfl⟩, hnz2, τ2, E2, H2⟩, -⟩
            have hz := hnz2 ha
            have E3 : Ext (bW S o τ) Lw S τ Lw2 S2 τ2 := E1.tr E2 (fun r i hr z => by
              rcases z with z | z
              · exact scW.up E1 hC.1 hr z
              · exact Or.inr z)
            have b0 : bgc S2 o = 0 := if_neg hz
            have b1 : bgs S2 o = 0 := if_neg hz
            refine ⟨by omega, fun z3 => ?_, fun z3 => ?_⟩
            · exact next Lw2 S2 B2 τ2 _ _ (hq.trans (bI_0.mp z3)) E3 H2 (by omega) (by omega) hz
            · exact ⟨⟨by omega, by omega⟩, yes Lw2 S2 τ2 (bI_n0.mp z3) E3 H2 hz⟩
          · have ha : sAre f (orb s g) = false := by
              cases h : sAre f (orb s g) with
              | false => rfl
              | true => exact absurd h ha
            have hms : 0 < m ∨ 0 < s := by
              by_cases q : 0 < m ∨ 0 < s
              · exact q
              · exfalso
                rw [(hfirst q).2, hare0] at ha
                cases ha
            refine vc_kp D1.1 (cm_canCome (d := d) (mc := 0) (ms := 0) cg ⟨s0, by omega⟩ (fun z => by rw [ha] at z; cases z) H1 D1 hl) ⟨by omega, by omega⟩ ?_
            rintro _ Lw2 S2 B2 ⟨⟨⟨_, rfl, rfl⟩, hnz2, τ2, E2, H2⟩, h10⟩
            have h10 := h10 ha
            have E3 : Ext (bW S o τ) Lw S τ Lw2 S2 τ2 := E1.tr E2 (fun r i hr z => by
              rcases z with z | z
              · exact scW.up E1 hC.1 hr z
              · exact Or.inr z)
            have b0 : bgc S2 o = bgc S1 o := by unfold bgc; rw [h10]
            have b1 : bgs S2 o = bgs S1 o := by unfold bgs; rw [h10]
            have hf : dcB f g s = false := by unfold dcB; rw [ha]; rfl
            refine ⟨by omega, fun z3 => ?_, fun z3 => ?_⟩
            · exact next Lw2 S2 B2 τ2 _ _ (hq.trans hf) E3 H2 (by omega) (by omega) (by rw [h10]; exact hnz hms)
            · exact absurd (bI_0.mpr hf) z3
  have l1 : ∀ (n1 : Nat) (m : Int) (Lw1 : List Nat) (S1 : SS) (B1 : SB) (τ1 : Nat → Nat) (cc sl : Nat), 0 ≤ m → m + n1 = f 1 → (∀ i, 0 ≤ i → i < m → dcm f g i = -1) → Ext (bW S o τ) Lw S τ Lw1 S1 τ1 → CSh Lw1 S1 o τ1 → cc + bgc S1 o ≤ mc → sl + bgs S1 o ≤ ms → (0 < m → S1 o 10 ≠ 0) → vc_J 48 (vc_up (fun v Lw' S' _ => FwP Lw S o τ (sStd f g = true) (fun z => z = sp_dec f g) v Lw' S')) X 29 [(0, .inr (.inr o)), (1, ii g), (2, ii m)] [] Lw1 S1 B1 cc sl := by
    intro n1
    induction n1 with
    | zero =>
      intro m Lw1 S1 B1 τ1 cc sl m0 mn hm E1 H1 hcc hsl hnz
      have D1 := hC.ext E1
      have u1 := D1.2.2.1
      have u2 := u1.2.1
      refine vc_walk hX ck_X0_decoys [] 60 hd ?_
      refine ⟨D1.1, ?_⟩
      refine vc_kv u1.1 (cm_size (d := d + 6) u1.1) ⟨by omega, by omega⟩ ?_
      refine ⟨by omega, fun _ => ?_, fun z => absurd z (by omega)⟩
      exact ⟨⟨by omega, by omega⟩, ⟨-2, rfl, (none_ (fun i i0 i1 => hm i i0 (by omega))).symm⟩, (fun _ => hnz (by omega)), τ1, E1, H1⟩
    | succ n1 ih =>
      intro m Lw1 S1 B1 τ1 cc sl m0 mn hm E1 H1 hcc hsl hnz
      have D1 := hC.ext E1
      have u1 := D1.2.2.1
      have u2 := u1.2.1
      refine vc_walk hX ck_X0_decoys [(42, [0, 1, 2, 3])] 60 hd ?_
      refine ⟨D1.1, ?_⟩
      refine vc_kv u1.1 (cm_size (d := d + 6) u1.1) ⟨by omega, by omega⟩ ?_
      refine ⟨by omega, fun z => absurd z (by omega), fun _ => ?_⟩
      refine l2 m m0 (by omega) hm (2 ^ (f 1).toNat) 0 Lw1 S1 B1 τ1 _ _ (by decide) (by omega) (fun i i0 i1 => by omega) E1 H1 (by omega) (by omega) (fun z => hnz (by omega)) (fun Lw2 S2 B2 τ2 cc2 sl2 hdc E2 H2 h1 h2 h3 => ?_)
      refine vc_walk hX ck_X0_decoys [(29, [0, 1, 2])] 60 hd ?_
      refine ih (m + 1) Lw2 S2 B2 τ2 cc2 sl2 (by omega) (by omega) (fun i i0 i1 => ?_) E2 H2 h1 h2 (fun _ => h3)
      by_cases e : i = m
      · subst e; exact hdc
      · exact hm i i0 (by omega)
  exact l1 (f 1).toNat 0 Lw S B τ _ _ (by decide) (by omega) (fun i i0 i1 => by omega) Ag.rf.ext hsh (by omega) (by omega) (fun z => by omega)
end CMU
