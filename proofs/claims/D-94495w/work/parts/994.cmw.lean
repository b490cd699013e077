/-! THE COMPONENT's method: post -/
set_option maxRecDepth 100000
/-- ahead of where the search stands all nearer ones are -/
theorem CBI.near {N P n k : Int} {sc : Int → Int → Int → Int} {src : Int → Prop} {q : CQ} (h : CBI N P n sc src k 0 0 q) (hk : k < q.1) (hsc : ∀ s m w, (0 ≤ s ∧ s < N) → (0 ≤ m ∧ m < P) → (0 ≤ w ∧ w < n) → sc s m w = -1 ∨ (0 ≤ sc s m w ∧ sc s m w < N)) : ∀ (l : Nat) (t : Int), fpt P n sc src l t → (l : Int) < q.2.2 (q.2.1 k) → (∃ i, 0 ≤ i ∧ i < k ∧ q.2.1 i = t) ∧ q.2.2 t ≤ l
  | 0, t, hf, hl => by
    obtain ⟨a, b⟩ := h.2.2.2.2.2.2.2 t hf
    refine ⟨?_, by omega⟩
    rcases h.2.2.1 t a.1 a.2 with y | ⟨-, -, i, i0, i1, i2⟩
    · omega
    · refine ⟨i, i0, ?_, i2⟩
      by_cases c : i < k
      · exact c
      · have := h.2.2.2.2.1 k i h.1.1 (by omega) i1
        rw [i2] at this
        omega
  | l + 1, t, ⟨s, m, w, am, aw, hf, hst, hn⟩, hl => by
    obtain ⟨⟨i, i0, i1, i2⟩, hs⟩ := CBI.near h hk hsc l s hf (by omega)
    have h7 := h.2.2.2.2.2.2.1 i m w i0 am aw (Or.inl i1)
    rw [i2, hst] at h7
    rcases h7 with y | ⟨y1, y2⟩
    · exact absurd y hn
    · have htr := hsc s m w (by rw [← i2]; exact (h.2.1 i i0 (by omega)).1) am aw
      rw [hst] at htr
      refine ⟨?_, by omega⟩
      rcases h.2.2.1 t (by omega) (by omega) with z | ⟨-, -, j, j0, j1, j2⟩
      · omega
      · refine ⟨j, j0, ?_, j2⟩
        by_cases c : j < k
        · exact c
        · have h5 := h.2.2.2.2.1 k j h.1.1 (by omega) j1
          rw [j2] at h5
          omega
section CMW
variable {Lw : List Nat} {S S0 : SS} {B : SB} {d o : Nat} {τ : Nat → Nat} {f : Int → Int} {wr gr : Int → Nat} {lt : Int → Int} {K c : Int} {mv : Int → Int}
theorem sAre1 (hl : LI K f) {g : Int} (cg : 0 ≤ g ∧ g < f 1) : sAre f ((2 ^ g.toNat : Nat) : Int) = sStd f g ∧ mvC f ((2 ^ g.toNat : Nat) : Int) = 1 ∧ mvG f ((2 ^ g.toNat : Nat) : Int) 0 = g ∧ ((2 ^ g.toNat : Nat) : Int) < 64 := by
  have n0 := hl.nW
  have n1 := hl.nG
  have hsb : ∀ i : Int, 0 ≤ i → sBit ((2 ^ g.toNat : Nat) : Int) i = decide (g = i) := by
    intro i i0
    unfold sBit
    rw [Int.toNat_natCast, Nat.testBit_two_pow]
    by_cases e : g = i
    · rw [decide_eq_true e, decide_eq_true (by rw [e])]
    · rw [decide_eq_false e, decide_eq_false (by omega)]
  have hpc : ∀ g : Nat, g < 6 → pc6 ((2 ^ g : Nat) : Int) = 1 := by decide +kernel
  have hlt : 2 ^ g.toNat < 2 ^ (f 1).toNat := Nat.pow_lt_pow_right (by decide) (by omega)
  have ep : ((2 ^ (f 1).toNat : Nat) : Int) = (2 : Int) ^ (f 1).toNat := by simp
  have hpos : 0 < 2 ^ g.toNat := Nat.two_pow_pos _
  have h5 : 2 ^ g.toNat ≤ 2 ^ 5 := Nat.pow_le_pow_right (by decide) (by omega)
  refine ⟨?_, ?_, ?_, by omega⟩
  · unfold sAre
    rw [hpc g.toNat (by omega), decide_eq_true (show 1 ≤ ((2 ^ g.toNat : Nat) : Int) ∧ ((2 ^ g.toNat : Nat) : Int) < 2 ^ (f 1).toNat by omega), decide_eq_true (show f 0 + 3 * 1 ≤ 20 by omega), Bool.true_and, Bool.true_and]
    cases hs : sStd f g with
    | true =>
      refine allB_iff.mpr (fun i i0 i1 => ?_)
      rw [hsb i i0]
      by_cases e : g = i
      · subst e; rw [hs, Bool.or_true]
      · rw [decide_eq_false e]; rfl
    | false =>
      cases ha : allB (fun i => !sBit ((2 ^ g.toNat : Nat) : Int) i || sStd f i) (f 1).toNat with
      | false => rfl
      | true =>
        have := allB_iff.mp ha g cg.1 (by omega)
        rw [hsb g cg.1, decide_eq_true rfl, hs] at this
        cases this
  · rw [pc6_mvC hl (by omega) (by omega)]
    exact hpc g.toNat (by omega)
  · have := mv_ix1 0 (by decide) g.toNat (by omega) (f 1).toNat (by omega) (by omega)
    rw [Nat.zero_or, Nat.zero_and] at this
    have h0 : pc6 ((0 : Nat) : Int) = 0 := by decide
    rw [h0] at this
    show (mvF _ _).2 0 = g
    rw [this]
    omega
theorem csc_rg (hl : LI K f) {pl : Int} (h9 : f 0 ≤ 9) (hpl : 0 ≤ pl ∧ pl ≤ 255) : ∀ u m w, (0 ≤ u ∧ u < ((2 ^ (f 0 + 11).toNat : Nat) : Int)) → (0 ≤ m ∧ m < 1) → (0 ≤ w ∧ w < f 0) → csc f pl u m w = -1 ∨ (0 ≤ csc f pl u m w ∧ csc f pl u m w < ((2 ^ (f 0 + 11).toNat : Nat) : Int)) := by
  intro u m w hu hm hw
  have n0 := hl.nW
  unfold csc
  have hlt : u.toNat % 2 ^ (f 0 + 3).toNat < 2 ^ (f 0 + 3).toNat := Nat.mod_lt _ (Nat.two_pow_pos _)
  split
  · exact Or.inl rfl
  · rename_i hn
    right
    refine ⟨Int.natCast_nonneg _, ?_⟩
    have hr := scc_rg hl (c := 1) (by omega) ((u.toNat % 2 ^ (f 0 + 3).toNat : Nat) : Int) 0 w ⟨Int.natCast_nonneg _, by rw [show f 0 + 3 * 1 = f 0 + 3 by omega]; exact Int.ofNat_lt.mpr hlt⟩ ⟨by decide, by decide⟩ hw
    rw [show f 0 + 3 * 1 = f 0 + 3 by omega] at hr
    have h1 : (scc f ((u.toNat % 2 ^ (f 0 + 3).toNat : Nat) : Int) 0 w).toNat < 2 ^ (f 0 + 3).toNat := by omega
    have e11 : (f 0 + 11).toNat = (f 0 + 3).toNat + 8 := by omega
    rw [e11]
    refine Int.ofNat_lt.mpr (cj_lt h1 (Nat.or_lt_two_pow ?_ (Nat.lt_of_le_of_lt Nat.and_le_right (by omega))))
    have : u.toNat < 2 ^ (f 0 + 3).toNat * 2 ^ 8 := by rw [← Nat.pow_add, ← e11]; omega
    exact Nat.div_lt_of_lt_mul this
theorem cm_post {g pl bk : Int} {mc ms : Nat} (hg : -2147483648 ≤ g ∧ g ≤ 2147483647) (hp : -2147483648 ≤ pl ∧ pl ≤ 2147483647) (hbk : bk = 0 ∨ bk = 1) (hmc : sStd f g = true ∧ sIn pl 0 255 = true ∧ f 0 ≤ 9 → bgc S o ≤ mc ∧ bgs S o ≤ ms) (hsh : CSh Lw S o τ) (hC : CLd Lw S o f wr gr lt) (hl : LI K f) : vc_M (d + 6) mc ms 50 [.inr (.inr o), ii g, ii pl, ii bk] Lw S B (vc_up (fun v Lw' S' _ => FwP Lw S o τ (sStd f g = true ∧ sIn pl 0 255 = true ∧ f 0 ≤ 9) (sp_post f g pl bk) v Lw' S')) := by
  refine vc_start rfl rfl (Nat.le_of_ble_eq_true rfl) (fun X hX hd => ?_)
  have n0 := hl.nW
  have n1 := hl.nG
  have hb := bI_rg (sIsG f g)
  have hb2 := bI_rg (sIn pl 0 255)
  have u1 := hC.2.1
  have u2 := u1.2.1
  have no : ¬ (sStd f g = true ∧ sIn pl 0 255 = true ∧ f 0 ≤ 9) → ∀ S1, Ag (scW S o τ) S S1 → FwP Lw S o τ (sStd f g = true ∧ sIn pl 0 255 = true ∧ f 0 ≤ 9) (sp_post f g pl bk) (some (ii (-1))) Lw S1 := by
    intro hn S1 A1
    refine ⟨⟨-1, rfl, ?_⟩, (fun z => absurd z hn), τ, (A1.mono (fun _ _ z => Or.inl z) : Ag (bW S o τ) S S1).ext, hsh.ag A1.q⟩
    unfold sp_post
    rw [if_neg hn]
  refine vc_walk hX ck_X0_post [(36, [0, 1, 2, 3])] 60 hd ?_
  refine vc_kv hC.1 (cm_isGoer (d := d + 4) hg hC hl) ⟨by omega, by omega⟩ ?_
  refine ⟨by omega, fun c1 => ⟨⟨by omega, by omega⟩, no (by unfold sStd; rw [bI_0.mp c1]; simp) S Ag.rf⟩, fun c1 => ?_⟩
  have hy1 := bI_n0.mp c1
  have cg := of_decide_eq_true hy1
  refine ⟨by omega, vc_k (cm_in (d := d + 5) (by omega) (by decide) (by decide)) ⟨by omega, by omega⟩ ?_⟩
  refine ⟨by omega, fun c2 => ⟨⟨by omega, by omega⟩, no (by rw [bI_0.mp c2]; simp) S Ag.rf⟩, fun c2 => ?_⟩
  have hy2 := bI_n0.mp c2
  have hpl : 0 ≤ pl ∧ pl ≤ 255 := of_decide_eq_true hy2
  refine ⟨hC.1, ?_⟩
  refine vc_kv u1.1 (cm_size (d := d + 5) u1.1) ⟨by omega, by omega⟩ ?_
  rw [u2]
  refine ⟨by omega, fun c3 => ⟨⟨by omega, by omega⟩, no (fun z => by omega) S Ag.rf⟩, fun c3 => ?_⟩
  have h9 : f 0 ≤ 9 := by omega
  refine ⟨by omega, ?_⟩
  show vc_J _ _ _ _ _ _ _ _ _ _ _
  have ep : (1 : Int) * 2 ^ g.toNat = ((2 ^ g.toNat : Nat) : Int) := by simp
  rw [ep]
  obtain ⟨q1, q2, q3, q4⟩ := sAre1 hl cg
  have hpos : 0 < 2 ^ g.toNat := Nat.two_pow_pos _
  have hb3 := bI_rg (sAre f ((2 ^ g.toNat : Nat) : Int))
  refine vc_walk hX ck_X0_post [(78, [0, 1, 2, 3, 4, 5, 6])] 60 hd ?_
  refine vc_kp hC.1 (cm_chooses (d := d + 2) (by omega) hsh hC hl Ag.rf) ⟨by omega, by omega⟩ ?_
  rintro _ _ S1 _ ⟨rfl, rfl, rfl, A1, h10, hSc⟩
  refine ⟨by omega, fun c4 => ?_, fun c4 => ?_⟩
  rotate_left
  · have : sAre f ((2 ^ g.toNat : Nat) : Int) = false := (bI_0 (b := sAre f ((2 ^ g.toNat : Nat) : Int))).mp (by omega)
    exact ⟨⟨by omega, by omega⟩, no (by rw [← q1, this]; simp) S1 A1⟩
  have hy3 := bI_n0.mp c4
  have hstd : sStd f g = true := by rw [← q1]; exact hy3
  have hcs : sG f g 3 = -1 := by
    unfold sStd at hstd
    simp only [Bool.and_eq_true, beq_iff_eq] at hstd
    exact hstd.2
  have hall : sStd f g = true ∧ sIn pl 0 255 = true ∧ f 0 ≤ 9 := ⟨hstd, hy2, h9⟩
  have hmc := hmc hall
  have C1 := hSc hy3
  rw [q2] at C1
  have D1 := hC.ag A1
  have hbc : bgc S1 o = bgc S o := by unfold bgc; rw [h10]
  have hbs : bgs S1 o = bgs S o := by unfold bgs; rw [h10]
  have G1 := D1.2.2.2.2.1 g cg.1 cg.2
  have gl := D1.2.2.1
  have w1 := D1.2.1
  have w2 := w1.2.1
  have hgp := G1.2.2.2.1.2 hcs
  have hp7 : 0 ≤ sG f g 0 ∧ sG f g 0 ≤ 7 := by obtain ⟨-, -, -, q | q⟩ := hl.g cg.1 cg.2 <;> omega
  refine ⟨D1.1, ?_⟩
  refine vc_kv gl.1 (cm_get (d := d + 3) gl (i := g) cg) ⟨by omega, by omega⟩ ?_
  refine ⟨Or.inr G1.1, G1.1, D1.1, ?_⟩
  refine vc_kv w1.1 (cm_size (d := d + 5) w1.1) ⟨by omega, by omega⟩ ?_
  rw [hgp, w2]
  refine vc_kp D1.1 (cm_begins (d := d + 1) (hsh.ag A1.q) D1 hl C1) ⟨by omega, by omega⟩ ?_
  rintro _ Lw2 S2 B2 ⟨rfl, τ2, E2, H2, a10, a11, C2, h14, hst1⟩
  have EE := Ext.pre A1 hC.1 E2
  have R2 : CRd Lw2 S2 o τ2 f wr gr lt 1 (mvG f ((2 ^ g.toNat : Nat) : Int)) := ⟨H2, D1.ext E2, a10, a11, C2, h14⟩
  -- what the search rests on
  have e11 : (f 0 + 11).toNat = (f 0 + 3).toNat + 8 := by omega
  have hN : 2 ^ (f 0 + 11).toNat ≤ 2 ^ 20 := Nat.pow_le_pow_right (by decide) (by omega)
  have hNp : 0 < 2 ^ (f 0 + 11).toNat := Nat.two_pow_pos _
  have hAp : 2 ^ (f 0 + 3).toNat ≤ 2 ^ 12 := Nat.pow_le_pow_right (by decide) (by omega)
  have hAp0 : 0 < 2 ^ (f 0 + 3).toNat := Nat.two_pow_pos _
  have eN : (1 : Int) * 2 ^ (f 0 + 3 + 8).toNat = ((2 ^ (f 0 + 11).toNat : Nat) : Int) := by rw [show f 0 + 3 + 8 = f 0 + 11 by omega]; simp
  have eA : (1 : Int) * 2 ^ (f 0 + 3).toNat = ((2 ^ (f 0 + 3).toNat : Nat) : Int) := by simp
  have hcsc := csc_rg (pl := pl) hl h9 hpl
  have hRs := Rps.start (g := g) hl h9 hpl cg hcs
  have hcst := hRs.2.2.2.2
  have hsst : sst f 1 (mvG f ((2 ^ g.toNat : Nat) : Int)) = sst f 1 (fun _ => g) := by
    have : ∀ a b : Int → Int, a 0 = b 0 → bgS (f 0).toNat (f 2).toNat (fun k => sG f (a k) 0) 1 = bgS (f 0).toNat (f 2).toNat (fun k => sG f (b k) 0) 1 := by
      intro a b hab
      show (f 2).toNat ||| (sG f (a 0) 0).toNat * 2 ^ ((f 0).toNat + 3 * 0) = (f 2).toNat ||| (sG f (b 0) 0).toNat * 2 ^ ((f 0).toNat + 3 * 0)
      rw [hab]
    show ((bgS (f 0).toNat (f 2).toNat (fun k => sG f (mvG f ((2 ^ g.toNat : Nat) : Int) k) 0) 1 : Nat) : Int) = ((bgS (f 0).toNat (f 2).toNat (fun k => sG f g 0) 1 : Nat) : Int)
    rw [this (mvG f ((2 ^ g.toNat : Nat) : Int)) (fun _ => g) q3]
  have hsstr := sst_lt hl C2
  have hsstr : 0 ≤ sst f 1 (fun _ => g) ∧ sst f 1 (fun _ => g) < ((2 ^ (f 0 + 3).toNat : Nat) : Int) := by
    rw [← hsst]
    have : nSt f 1 = ((2 ^ (f 0 + 3).toNat : Nat) : Int) := by unfold nSt; rw [show f 0 + 3 * 1 = f 0 + 3 by omega]
    rw [← this]
    exact hsstr
  -- the answer
  have hfin : ∀ (v : Int), ((v = -2 ∧ ∀ l, ¬ hpt 1 (f 0) (csc f pl) (chm f pl bk (sG f g 0)) l (cst f g pl)) ∨ ∃ l : Nat, v = l ∧ isD 1 (f 0) (csc f pl) (chm f pl bk (sG f g 0)) (cst f g pl) l) → sp_post f g pl bk v := by
    intro v h
    have hh := fun l => Rps.hpt (bk := bk) (home := sG f g 0) hl h9 hpl l _ _ hRs
    unfold sp_post
    rw [if_pos hall]
    rcases h with ⟨a, b⟩ | ⟨l, a, b1, b2⟩
    · exact Or.inl ⟨a, fun l hl => b l ((hh l).mpr hl)⟩
    · exact Or.inr ⟨l, a, (hh l).mp b1, fun l' h1 h2 => b2 l' h1 ((hh l').mpr h2)⟩
  -- the ways
  have l3 : ∀ (n3 : Nat) (k w : Int) (q : CQ) (S3 : SS), 0 ≤ k → k < q.1 → 0 ≤ w → w + n3 = f 0 → Ag (sbW S2 o) S2 S3 → CBq ((2 ^ (f 0 + 11).toNat : Nat) : Int) S3 o q → CBI ((2 ^ (f 0 + 11).toNat : Nat) : Int) 1 (f 0) (csc f pl) (fun s => s = cst f g pl) k 0 w q → (∀ (q' : CQ) (S4 : SS), k < q'.1 → (∀ i, i < q.1 → q'.2.1 i = q.2.1 i) → Ag (sbW S2 o) S2 S4 → CBq ((2 ^ (f 0 + 11).toNat : Nat) : Int) S4 o q' → CBI ((2 ^ (f 0 + 11).toNat : Nat) : Int) 1 (f 0) (csc f pl) (fun s => s = cst f g pl) k 0 (f 0) q' → vc_J 50 (vc_up (fun v Lw' S' _ => FwP Lw S o τ (sStd f g = true ∧ sIn pl 0 255 = true ∧ f 0 ≤ 9) (sp_post f g pl bk) v Lw' S')) X 279 [(0, .inr (.inr o)), (2, ii pl), (3, ii bk), (4, ii (sG f g 0)), (5, ii (f 0 + 3)), (6, ii k)] [] Lw2 S4 B2 (0 + 0 + 0 + 0 + 0 + 0 + bgc S1 o) (0 + 0 + 0 + 0 + 0 + 0 + bgs S1 o)) → vc_J 50 (vc_up (fun v Lw' S' _ => FwP Lw S o τ (sStd f g = true ∧ sIn pl 0 255 = true ∧ f 0 ≤ 9) (sp_post f g pl bk) v Lw' S')) X 206 [(0, .inr (.inr o)), (2, ii pl), (3, ii bk), (4, ii (sG f g 0)), (5, ii (f 0 + 3)), (6, ii k), (7, ii (((q.2.1 k).toNat % 2 ^ (f 0 + 3).toNat : Nat) : Int)), (8, ii (((q.2.1 k).toNat / 2 ^ (f 0 + 3).toNat : Nat) : Int)), (9, ii w)] [] Lw2 S3 B2 (0 + 0 + 0 + 0 + 0 + 0 + bgc S1 o) (0 + 0 + 0 + 0 + 0 + 0 + bgs S1 o) := by
    intro n3
    induction n3 with
    | zero =>
      intro k w q S3 k0 k1 w0 wn A3 B3 I3 go
      have R3 := R2.ag A3
      have v1 := R3.2.1.2.1
      have v2 := v1.2.1
      refine vc_walk hX ck_X0_post [(279, [0, 2, 3, 4, 5, 6])] 60 hd ?_
      refine ⟨R3.1.1, ?_⟩
      refine vc_kv v1.1 (cm_size (d := d + 5) v1.1) ⟨by omega, by omega⟩ ?_
      refine ⟨by omega, fun _ => ?_, fun z => absurd z (by omega)⟩
      exact go q S3 k1 (fun _ _ => rfl) A3 B3 (by rw [show w = f 0 by omega] at I3; exact I3)
    | succ n3 ih =>
      intro k w q S3 k0 k1 w0 wn A3 B3 I3 go
      have R3 := R2.ag A3
      have v1 := R3.2.1.2.1
      have v2 := v1.2.1
      have b10 := R3.2.2.1
      have b11 := R3.2.2.2.1
      have m10 : S3 (S3 o 10).toNat (-1) = 1048576 := b10.2.1
      have m11 : S3 (S3 o 11).toNat (-1) = 1048576 := b11.2.1
      have hk := I3.2.1 k k0 k1
      have hle : q.1 ≤ ((2 ^ (f 0 + 11).toNat : Nat) : Int) := by rcases I3.le with x | x <;> omega
      have x1 := B3.2.1 k k0 k1
      have x2 := B3.2.2 (q.2.1 k) hk.1.1 hk.1.2
      have hlt : (q.2.1 k).toNat % 2 ^ (f 0 + 3).toNat < 2 ^ (f 0 + 3).toNat := Nat.mod_lt _ (Nat.two_pow_pos _)
      have hmt : (q.2.1 k).toNat / 2 ^ (f 0 + 3).toNat < 2 ^ 8 := by
        have : (q.2.1 k).toNat < 2 ^ (f 0 + 3).toNat * 2 ^ 8 := by rw [← Nat.pow_add, ← e11]; omega
        exact Nat.div_lt_of_lt_mul this
      have hr := scc_rg hl (c := 1) (by omega) (((q.2.1 k).toNat % 2 ^ (f 0 + 3).toNat : Nat) : Int) 0 w ⟨Int.natCast_nonneg _, by rw [show f 0 + 3 * 1 = f 0 + 3 by omega]; exact Int.ofNat_lt.mpr hlt⟩ ⟨by decide, by decide⟩ ⟨w0, by omega⟩
      rw [show f 0 + 3 * 1 = f 0 + 3 by omega] at hr
      have hI4 := I3.step k1 ⟨by decide, by decide⟩ ⟨w0, by omega⟩ hcsc rfl
      have hq4 : ∀ i, i < q.1 → (cput q (csc f pl (q.2.1 k) 0 w) (q.2.2 (q.2.1 k) + 1)).2.1 i = q.2.1 i := fun i hi => cput_qu hi
      refine vc_walk hX ck_X0_post [(206, [0, 2, 3, 4, 5, 6, 7, 8, 9]), (229, [0, 2, 3, 4, 5, 6, 7, 8, 9, 10])] 60 hd ?_
      refine ⟨R3.1.1, ?_⟩
      refine vc_kv v1.1 (cm_size (d := d + 5) v1.1) ⟨by omega, by omega⟩ ?_
      refine ⟨by omega, fun z => absurd z (by omega), fun _ => ?_⟩
      refine vc_kv R3.1.1 (cm_goes (d := d + 2) ⟨Int.natCast_nonneg _, by omega⟩ (by decide) (by omega) ⟨w0, by omega⟩ R3.2.1 hl R3.2.2.2.2.2) ⟨by omega, by omega⟩ ?_
      show vc_J _ _ _ _ _ _ _ _ _ _ _
      have hcs2 : ∀ T, scc f (((q.2.1 k).toNat % 2 ^ (f 0 + 3).toNat : Nat) : Int) 0 w = T → T ≠ -1 → csc f pl (q.2.1 k) 0 w = ((T.toNat ||| ((q.2.1 k).toNat / 2 ^ (f 0 + 3).toNat ||| (2 ^ (plc (f 0) T 0).toNat &&& pl.toNat)) * 2 ^ (f 0 + 3).toNat : Nat) : Int) := by
        intro T hT hn
        unfold csc
        rw [hT, if_neg hn]
      have hcs3 : scc f (((q.2.1 k).toNat % 2 ^ (f 0 + 3).toNat : Nat) : Int) 0 w = -1 → csc f pl (q.2.1 k) 0 w = -1 := by
        intro hT
        unfold csc
        rw [hT, if_pos rfl]
      generalize scc f (((q.2.1 k).toNat % 2 ^ (f 0 + 3).toNat : Nat) : Int) 0 w = T at *
      refine vc_walk hX ck_X0_post [(206, [0, 2, 3, 4, 5, 6, 7, 8, 9]), (256, [0, 2, 3, 4, 5, 6, 7, 8, 9])] 60 hd ?_
      refine ⟨by omega, fun c5 => ?_, fun c5 => ?_⟩
      · have e := hcs3 c5
        have e2 : cput q (csc f pl (q.2.1 k) 0 w) (q.2.2 (q.2.1 k) + 1) = q := if_pos (Or.inl e)
        rw [e2] at hI4
        exact ih k (w + 1) q S3 k0 k1 (by omega) (by omega) A3 B3 hI4 go
      · have hT0 : 0 ≤ T ∧ T < ((2 ^ (f 0 + 3).toNat : Nat) : Int) := by omega
        have hpr := plc_rg (f 0) T 0
        have hp7 : (2 : Nat) ^ (plc (f 0) T 0).toNat ≤ 2 ^ 7 := Nat.pow_le_pow_right (by decide) (by omega)
        refine vc_kv R3.1.1 (cm_placeIn (d := d + 4) (by omega) (by decide) R3.2.1 hl) ⟨by omega, by omega⟩ ?_
        refine ⟨by omega, by omega, ?_⟩
        show vc_J _ _ _ _ _ _ _ _ _ _ _
        have epp : (1 : Int) * 2 ^ (plc (f 0) T 0).toNat = ((2 ^ (plc (f 0) T 0).toNat : Nat) : Int) := by simp
        have han : 2 ^ (plc (f 0) T 0).toNat &&& pl.toNat < 2 ^ 8 := Nat.lt_of_le_of_lt Nat.and_le_right (by omega)
        have horm : (q.2.1 k).toNat / 2 ^ (f 0 + 3).toNat ||| (2 ^ (plc (f 0) T 0).toNat &&& pl.toNat) < 2 ^ 8 := Nat.or_lt_two_pow hmt han
        have hval : vt_or T (vt_or (((q.2.1 k).toNat / 2 ^ (f 0 + 3).toNat : Nat) : Int) (vt_and (1 * 2 ^ (plc (f 0) T 0).toNat) pl) * 2 ^ (f 0 + 3).toNat) = csc f pl (q.2.1 k) 0 w := by
          rw [hcs2 T rfl c5, epp, bt_and ⟨Int.natCast_nonneg _, by omega⟩ (by omega), Int.toNat_natCast, bt_or (x := (((q.2.1 k).toNat / 2 ^ (f 0 + 3).toNat : Nat) : Int)) ⟨Int.natCast_nonneg _, by omega⟩ ⟨Int.natCast_nonneg _, by omega⟩, Int.toNat_natCast, Int.toNat_natCast]
          have em : (((q.2.1 k).toNat / 2 ^ (f 0 + 3).toNat ||| (2 ^ (plc (f 0) T 0).toNat &&& pl.toNat) : Nat) : Int) * 2 ^ (f 0 + 3).toNat = ((((q.2.1 k).toNat / 2 ^ (f 0 + 3).toNat ||| (2 ^ (plc (f 0) T 0).toNat &&& pl.toNat)) * 2 ^ (f 0 + 3).toNat : Nat) : Int) := by simp
          have hml : ((q.2.1 k).toNat / 2 ^ (f 0 + 3).toNat ||| (2 ^ (plc (f 0) T 0).toNat &&& pl.toNat)) * 2 ^ (f 0 + 3).toNat ≤ 256 * 4096 := Nat.mul_le_mul (by omega) hAp
          rw [em, bt_or (by omega) ⟨Int.natCast_nonneg _, by omega⟩, Int.toNat_natCast]
        rw [hval]
        have hrc := hcsc (q.2.1 k) 0 w hk.1 ⟨by decide, by decide⟩ ⟨w0, by omega⟩
        refine vc_walk hX ck_X0_post [(206, [0, 2, 3, 4, 5, 6, 7, 8, 9])] 60 hd ?_
        refine ⟨R3.1.1, R3.1.1, ⟨b11.1, by omega, by omega, by omega⟩, ?_⟩
        rw [x1]
        refine ⟨⟨b10.1, by omega, by omega, by omega⟩, ?_⟩
        rw [x2]
        refine vc_kp R3.1.1 (cm_puts (d := d + 5) (N := ((2 ^ (f 0 + 11).toNat : Nat) : Int)) (q := q) hrc (by omega) (by omega) (fun z => by
          have := I3.rg z (show csc f pl (q.2.1 k) 0 w < ((2 ^ (f 0 + 11).toNat : Nat) : Int) by omega)
          omega) (fun z z2 => I3.lt z (by omega) z2) R2 A3 B3) ⟨by omega, by omega⟩ ?_
        rintro _ _ S4 _ ⟨rfl, rfl, rfl, A4, B4⟩
        have nx := ih k (w + 1) _ S4 k0 (Int.lt_of_lt_of_le k1 cput_le) (by omega) (by omega) A4 B4 hI4 (fun q' S5 k5 hqq A5 B5 I5 => go q' S5 k5 (fun i hi => (hqq i (Int.lt_of_lt_of_le hi cput_le)).trans (hq4 i hi)) A5 B5 I5)
        rw [hq4 k k1] at nx
        exact nx
  -- the states
  have l2 : ∀ (n2 : Nat) (k : Int) (q : CQ) (S3 : SS), 0 ≤ k → k + n2 = ((2 ^ (f 0 + 11).toNat : Nat) : Int) → Ag (sbW S2 o) S2 S3 → CBq ((2 ^ (f 0 + 11).toNat : Nat) : Int) S3 o q → CBI ((2 ^ (f 0 + 11).toNat : Nat) : Int) 1 (f 0) (csc f pl) (fun s => s = cst f g pl) k 0 0 q → (∀ i, 0 ≤ i → i < k → chm f pl bk (sG f g 0) (q.2.1 i) = false) → vc_J 50 (vc_up (fun v Lw' S' _ => FwP Lw S o τ (sStd f g = true ∧ sIn pl 0 255 = true ∧ f 0 ≤ 9) (sp_post f g pl bk) v Lw' S')) X 131 [(0, .inr (.inr o)), (2, ii pl), (3, ii bk), (4, ii (sG f g 0)), (5, ii (f 0 + 3)), (6, ii k)] [] Lw2 S3 B2 (0 + 0 + 0 + 0 + 0 + 0 + bgc S1 o) (0 + 0 + 0 + 0 + 0 + 0 + bgs S1 o) := by
    have done : ∀ (k : Int) (q : CQ) (S3 : SS), Ag (sbW S2 o) S2 S3 → CBI ((2 ^ (f 0 + 11).toNat : Nat) : Int) 1 (f 0) (csc f pl) (fun s => s = cst f g pl) k 0 0 q → q.1 ≤ k → (∀ i, 0 ≤ i → i < k → chm f pl bk (sG f g 0) (q.2.1 i) = false) → FwP Lw S o τ (sStd f g = true ∧ sIn pl 0 255 = true ∧ f 0 ≤ 9) (sp_post f g pl bk) (some (ii (-2))) Lw2 S3 := by
      intro k q S3 A3 I3 hk hno
      refine ⟨⟨-2, rfl, hfin _ (Or.inl ⟨rfl, fun l hl => ?_⟩)⟩, (fun _ => (R2.ag A3).2.2.1.nz), τ2, EE.ag hC.1 (A3.sc R2), (R2.ag A3).1⟩
      obtain ⟨t, a, b⟩ := (fpt_app l).mp hl
      obtain ⟨r, x, -⟩ := I3.fin hk hcsc l t b
      rcases I3.2.2.1 t r.1 r.2 with y | ⟨-, -, i, i0, i1, i2⟩
      · omega
      · have := hno i i0 (by omega)
        rw [i2, a] at this
        cases this
    intro n2
    induction n2 with
    | zero =>
      intro k q S3 k0 kn A3 B3 I3 hno
      have R3 := R2.ag A3
      have hle : q.1 ≤ ((2 ^ (f 0 + 11).toNat : Nat) : Int) := by rcases I3.le with x | x <;> omega
      have x15 := B3.1
      have hk := I3.1
      refine vc_walk hX ck_X0_post [] 60 hd ?_
      refine ⟨R3.1.1, by omega, fun _ => ?_, fun z => absurd z (by omega)⟩
      exact ⟨⟨by omega, by omega⟩, done k q S3 A3 I3 (by omega) hno⟩
    | succ n2 ih =>
      intro k q S3 k0 kn A3 B3 I3 hno
      have R3 := R2.ag A3
      have hle : q.1 ≤ ((2 ^ (f 0 + 11).toNat : Nat) : Int) := by rcases I3.le with x | x <;> omega
      have x15 := B3.1
      have hkk := I3.1
      have b10 := R3.2.2.1
      have b11 := R3.2.2.2.1
      have m10 : S3 (S3 o 10).toNat (-1) = 1048576 := b10.2.1
      have m11 : S3 (S3 o 11).toNat (-1) = 1048576 := b11.2.1
      refine vc_walk hX ck_X0_post [(156, [0, 2, 3, 4, 5, 6, 7])] 60 hd ?_
      refine ⟨R3.1.1, by omega, fun z => ⟨⟨by omega, by omega⟩, done k q S3 A3 I3 (by omega) hno⟩, fun z => ?_⟩
      have k1 : k < q.1 := by omega
      have hk := I3.2.1 k k0 k1
      have x1 := B3.2.1 k k0 k1
      have x2 := B3.2.2 (q.2.1 k) hk.1.1 hk.1.2
      have hmt : (q.2.1 k).toNat / 2 ^ (f 0 + 3).toNat < 2 ^ 8 := by
        have : (q.2.1 k).toNat < 2 ^ (f 0 + 3).toNat * 2 ^ 8 := by rw [← Nat.pow_add, ← e11]; omega
        exact Nat.div_lt_of_lt_mul this
      have hlt : (q.2.1 k).toNat % 2 ^ (f 0 + 3).toNat < 2 ^ (f 0 + 3).toNat := Nat.mod_lt _ (Nat.two_pow_pos _)
      have hmn : (0 : Int) ≤ (((q.2.1 k).toNat / 2 ^ (f 0 + 3).toNat : Nat) : Int) := Int.natCast_nonneg _
      have hmu : (((q.2.1 k).toNat / 2 ^ (f 0 + 3).toNat : Nat) : Int) < 256 := Int.ofNat_lt.mpr hmt
      have ev1 : vt_and (q.2.1 k) (1 * 2 ^ (f 0 + 3).toNat - 1) = (((q.2.1 k).toNat % 2 ^ (f 0 + 3).toNat : Nat) : Int) := by
        rw [eA, show ((2 ^ (f 0 + 3).toNat : Nat) : Int) - 1 = ((2 ^ (f 0 + 3).toNat - 1 : Nat) : Int) by omega, bt_and (by omega) ⟨Int.natCast_nonneg _, by omega⟩, Int.toNat_natCast, Nat.and_two_pow_sub_one_eq_mod]
      have ev2 : q.2.1 k / 2 ^ (f 0 + 3).toNat = (((q.2.1 k).toNat / 2 ^ (f 0 + 3).toNat : Nat) : Int) := by
        have : q.2.1 k = (((q.2.1 k).toNat : Nat) : Int) := by omega
        rw [this]
        simp
      refine ⟨R3.1.1, ⟨b11.1, by omega, by omega, by omega⟩, ?_⟩
      rw [x1]
      refine ⟨by omega, ?_⟩
      show vc_J _ _ _ _ _ _ _ _ _ _ _
      rw [ev1]
      refine vc_walk hX ck_X0_post [(168, [0, 2, 3, 4, 5, 6, 7, 8])] 60 hd ?_
      refine ⟨R3.1.1, ⟨b11.1, by omega, by omega, by omega⟩, ?_⟩
      rw [x1]
      refine ⟨by omega, ?_⟩
      show vc_J _ _ _ _ _ _ _ _ _ _ _
      rw [ev2]
      have hplr := plc_rg (f 0) (((q.2.1 k).toNat % 2 ^ (f 0 + 3).toNat : Nat) : Int) 0
      have cont : chm f pl bk (sG f g 0) (q.2.1 k) = false → vc_J 50 (vc_up (fun v Lw' S' _ => FwP Lw S o τ (sStd f g = true ∧ sIn pl 0 255 = true ∧ f 0 ≤ 9) (sp_post f g pl bk) v Lw' S')) X 203 [(0, .inr (.inr o)), (2, ii pl), (3, ii bk), (4, ii (sG f g 0)), (5, ii (f 0 + 3)), (6, ii k), (7, ii (((q.2.1 k).toNat % 2 ^ (f 0 + 3).toNat : Nat) : Int)), (8, ii (((q.2.1 k).toNat / 2 ^ (f 0 + 3).toNat : Nat) : Int))] [] Lw2 S3 B2 (0 + 0 + 0 + 0 + 0 + 0 + bgc S1 o) (0 + 0 + 0 + 0 + 0 + 0 + bgs S1 o) := by
        intro hc
        refine vc_walk hX ck_X0_post [(206, [0, 2, 3, 4, 5, 6, 7, 8, 9])] 60 hd ?_
        refine l3 (f 0).toNat k 0 q S3 k0 k1 (by decide) (by omega) A3 B3 I3 (fun q' S4 k4 hqq A4 B4 I4 => ?_)
        refine vc_walk hX ck_X0_post [(131, [0, 2, 3, 4, 5, 6])] 60 hd ?_
        refine ih (k + 1) q' S4 (by omega) (by omega) A4 B4 ((I4.nextM (Int.le_refl _)).nextK (by decide) k4) (fun i i0 i1 => ?_)
        rw [hqq i (by omega)]
        by_cases e : i = k
        · subst e; exact hc
        · exact hno i i0 (by omega)
      have goal : chm f pl bk (sG f g 0) (q.2.1 k) = true → FwP Lw S o τ (sStd f g = true ∧ sIn pl 0 255 = true ∧ f 0 ≤ 9) (sp_post f g pl bk) (some (ii (q.2.2 (q.2.1 k)))) Lw2 S3 := by
        intro hc
        refine ⟨⟨_, rfl, hfin _ (Or.inr ⟨(q.2.2 (q.2.1 k)).toNat, by omega, ?_, fun l' h1 h2 => ?_⟩)⟩, (fun _ => R3.2.2.1.nz), τ2, EE.ag hC.1 (A3.sc R2), R3.1⟩
        · rcases I3.2.2.1 _ hk.1.1 hk.1.2 with y | ⟨-, y, -⟩
          · omega
          · exact (fpt_app _).mpr ⟨_, hc, y⟩
        · obtain ⟨t, a, b⟩ := (fpt_app l').mp h2
          obtain ⟨⟨i, i0, i1, i2⟩, -⟩ := I3.near k1 hcsc l' t b (by omega)
          have := hno i i0 i1
          rw [i2, a] at this
          cases this
      refine vc_walk hX ck_X0_post [(203, [0, 2, 3, 4, 5, 6, 7, 8])] 60 hd ?_
      refine ⟨by omega, fun c5 => ?_, fun c5 => ?_⟩
      · refine cont ?_
        unfold chm
        rw [show ((((q.2.1 k).toNat / 2 ^ (f 0 + 3).toNat : Nat) : Int) == pl) = false from beq_false_of_ne c5]; rfl
      · refine ⟨by omega, fun c6 => ?_, fun c6 => ?_⟩
        · refine ⟨R3.1.1, R3.1.1, ⟨b11.1, by omega, by omega, by omega⟩, ?_⟩
          rw [x1]
          refine ⟨⟨b10.1, by omega, by omega, by omega⟩, ?_⟩
          rw [x2]
          refine ⟨⟨by omega, by omega⟩, goal ?_⟩
          unfold chm
          rw [show ((((q.2.1 k).toNat / 2 ^ (f 0 + 3).toNat : Nat) : Int) == pl) = true from beq_iff_eq.mpr c5, show (bk == 0) = true from beq_iff_eq.mpr c6]; rfl
        · refine vc_kv R3.1.1 (cm_placeIn (d := d + 4) ⟨Int.natCast_nonneg _, by omega⟩ (by decide) R3.2.1 hl) ⟨by omega, by omega⟩ ?_
          refine ⟨by omega, fun c7 => ?_, fun c7 => ?_⟩
          · refine cont ?_
            unfold chm
            rw [show (bk == 0) = false from beq_false_of_ne c6, show (plc (f 0) (((q.2.1 k).toNat % 2 ^ (f 0 + 3).toNat : Nat) : Int) 0 == sG f g 0) = false from beq_false_of_ne c7, Bool.or_false, Bool.and_false]
          · refine ⟨R3.1.1, R3.1.1, ⟨b11.1, by omega, by omega, by omega⟩, ?_⟩
            rw [x1]
            refine ⟨⟨b10.1, by omega, by omega, by omega⟩, ?_⟩
            rw [x2]
            refine ⟨⟨by omega, by omega⟩, goal ?_⟩
            unfold chm
            rw [show ((((q.2.1 k).toNat / 2 ^ (f 0 + 3).toNat : Nat) : Int) == pl) = true from beq_iff_eq.mpr c5, show (plc (f 0) (((q.2.1 k).toNat % 2 ^ (f 0 + 3).toNat : Nat) : Int) 0 == sG f g 0) = true from beq_iff_eq.mpr c7, Bool.or_true]; rfl
  -- nothing is met
  have l1 : ∀ (m : Nat) (k : Int) (S3 : SS), 0 ≤ k → k + m = ((2 ^ (f 0 + 11).toNat : Nat) : Int) → Ag (sbW S2 o) S2 S3 → (∀ s, 0 ≤ s → s < k → S3 (S2 o 10).toNat s = -1) → vc_J 50 (vc_up (fun v Lw' S' _ => FwP Lw S o τ (sStd f g = true ∧ sIn pl 0 255 = true ∧ f 0 ≤ 9) (sp_post f g pl bk) v Lw' S')) X 78 [(0, .inr (.inr o)), (1, ii g), (2, ii pl), (3, ii bk), (4, ii (sG f g 0)), (5, ii (f 0 + 3)), (6, ii k)] [] Lw2 S3 B2 (0 + 0 + 0 + 0 + 0 + 0 + bgc S1 o) (0 + 0 + 0 + 0 + 0 + 0 + bgs S1 o) := by
    intro m
    have n10 : (S2 o 10).toNat ≠ o := a10.ne0 H2.1 (by decide)
    induction m with
    | zero =>
      intro k S3 k0 km A3 P3
      have R3 := R2.ag A3
      have A4 : Ag (sbW S2 o) S2 (vt_up S3 o 15 0) := A3.up (Or.inr (Or.inr ⟨rfl, rfl⟩))
      have R4 := R2.ag A4
      have hcs4 := R4.2.2.2.2.1
      refine vc_walk hX ck_X0_post [(124, [0, 2, 3, 4, 5])] 60 hd ?_
      refine ⟨by omega, ?_⟩
      rw [eN]
      refine ⟨by omega, fun _ => ?_, fun z => absurd z (by omega)⟩
      refine ⟨R3.1.1, ?_⟩
      refine vc_kv R4.1.1 (cm_stateNow (d := d + 1) R4.2.1 R4.1 hl hcs4) ⟨by omega, by omega⟩ ?_
      rw [hsst]
      refine ⟨by omega, by omega, ?_⟩
      show vc_J _ _ _ _ _ _ _ _ _ _ _
      have epp : (1 : Int) * 2 ^ (sG f g 0).toNat = ((2 ^ (sG f g 0).toNat : Nat) : Int) := by simp
      have hp77 : (2 : Nat) ^ (sG f g 0).toNat ≤ 2 ^ 7 := Nat.pow_le_pow_right (by decide) (by omega)
      have han : 2 ^ (sG f g 0).toNat &&& pl.toNat < 2 ^ 8 := Nat.lt_of_le_of_lt Nat.and_le_right (by omega)
      have hval : vt_or (sst f 1 (fun _ => g)) (vt_and (1 * 2 ^ (sG f g 0).toNat) pl * 2 ^ (f 0 + 3).toNat) = cst f g pl := by
        have em : ((2 ^ (sG f g 0).toNat &&& pl.toNat : Nat) : Int) * 2 ^ (f 0 + 3).toNat = (((2 ^ (sG f g 0).toNat &&& pl.toNat) * 2 ^ (f 0 + 3).toNat : Nat) : Int) := by simp
        have hml : (2 ^ (sG f g 0).toNat &&& pl.toNat) * 2 ^ (f 0 + 3).toNat ≤ 256 * 4096 := Nat.mul_le_mul (by omega) hAp
        rw [epp, bt_and ⟨Int.natCast_nonneg _, by omega⟩ (by omega), Int.toNat_natCast, em, bt_or (by omega) ⟨Int.natCast_nonneg _, by omega⟩, Int.toNat_natCast]
        rfl
      rw [hval]
      have hm1 : ∀ s, 0 ≤ s → s < ((2 ^ (f 0 + 11).toNat : Nat) : Int) → vt_up S3 o 15 0 (vt_up S3 o 15 0 o 10).toNat s = -1 := fun s s0 s1 => by
        rw [up_ne (r' := o) (i' := 10) (Or.inr (by decide)), A3 o 10 (sbW.ow R2 (by decide)), up_ne (Or.inl n10)]
        exact P3 s s0 (by omega)
      have B4 : CBq ((2 ^ (f 0 + 11).toNat : Nat) : Int) (vt_up S3 o 15 0) o (0, fun i => vt_up S3 o 15 0 (vt_up S3 o 15 0 o 11).toNat i, fun s => vt_up S3 o 15 0 (vt_up S3 o 15 0 o 10).toNat s) := ⟨vt_up_self, fun _ _ _ => rfl, fun _ _ _ => rfl⟩
      have I0 : CBI ((2 ^ (f 0 + 11).toNat : Nat) : Int) 1 (f 0) (csc f pl) (fun _ => False) 0 0 0 (0, (fun i => vt_up S3 o 15 0 (vt_up S3 o 15 0 o 11).toNat i), fun s => vt_up S3 o 15 0 (vt_up S3 o 15 0 o 10).toNat s) := CBI.nil hm1 (fun _ h => h)
      have I1 := (I0.more (src' := fun s => s = cst f g pl) (fun j j0 j1 => by have j1 : j < 0 := j1; omega) hcst.1 hcst.2 (hm1 _ hcst.1 hcst.2) (fun s => ⟨fun h => Or.inr h, fun h => h.elim (fun z => z.elim) (fun z => z)⟩)).1
      refine vc_walk hX ck_X0_post [(131, [0, 2, 3, 4, 5, 6])] 60 hd ?_
      refine vc_kp R4.1.1 (cm_puts (d := d + 5) (N := ((2 ^ (f 0 + 11).toNat : Nat) : Int)) (Or.inr hcst) (by omega) (Int.le_refl _) (fun _ => (by rw [hm1 _ hcst.1 hcst.2]; decide : -1 ≤ vt_up S3 o 15 0 (vt_up S3 o 15 0 o 10).toNat (cst f g pl) ∧ vt_up S3 o 15 0 (vt_up S3 o 15 0 o 10).toNat (cst f g pl) < 1048576)) (fun _ _ => by show (0 : Int) < _; omega) R2 A4 B4) ⟨by omega, by omega⟩ ?_
      rintro _ _ S5 _ ⟨rfl, rfl, rfl, A5, B5⟩
      exact l2 (2 ^ (f 0 + 11).toNat) 0 _ S5 (by decide) (by omega) A5 B5 I1 (fun i i0 i1 => by omega)
    | succ m ih =>
      intro k S3 k0 km A3 P3
      have R3 := R2.ag A3
      have b10 := R3.2.2.1
      have m10 : S3 (S3 o 10).toNat (-1) = 1048576 := b10.2.1
      have e10 : S3 o 10 = S2 o 10 := A3 o 10 (sbW.ow R2 (by decide))
      refine vc_walk hX ck_X0_post [(78, [0, 1, 2, 3, 4, 5, 6])] 60 hd ?_
      refine ⟨by omega, ?_⟩
      rw [eN]
      refine ⟨by omega, fun z => absurd z (by omega), fun _ => ?_⟩
      refine ⟨R3.1.1, ⟨b10.1, by omega, by omega, by omega⟩, ?_⟩
      rw [e10]
      refine ih (k + 1) _ (by omega) (by omega) (A3.up (Or.inl ⟨rfl, k0⟩)) (fun s s0 s1 => ?_)
      rw [up_rd]
      by_cases cs : s = k
      · rw [if_pos ⟨rfl, cs⟩]
      · rw [if_neg (fun z => cs z.2)]; exact P3 s s0 (by omega)
  exact l1 (2 ^ (f 0 + 11).toNat) 0 S2 (by decide) (by omega) Ag.rf (fun s s0 s1 => by omega)
end CMW
