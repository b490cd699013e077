/-! THE COMPONENT's methods: longest, covers, settles -/
set_option maxRecDepth 100000
theorem lg_sh4 {x y : Int} (hx : 0 ≤ x ∧ x < 72057594037927936) (hy : 0 ≤ y ∧ y ≤ 15) : (Int64.ofInt x <<< ((Int32.ofInt 4).toInt64 &&& 63)) ||| Int64.ofInt y = Int64.ofInt (x * 16 + y) := by
  obtain ⟨n, rfl⟩ := Int.eq_ofNat_of_zero_le hx.1
  obtain ⟨m, rfl⟩ := Int.eq_ofNat_of_zero_le hy.1
  have e0 : ∀ k : Nat, (Int64.ofInt (k : Int)).toBitVec = BitVec.ofNat 64 k := fun k => by rw [Int64.ofInt_eq_ofNat]; rfl
  have e4 : ((Int32.ofInt 4).toInt64 &&& 63) = (4 : Int64) := by decide
  have h2 : ((n : Int) * 16 + m) = ((n * 16 + m : Nat) : Int) := by omega
  rw [e4, h2]
  apply Int64.toBitVec_inj.mp
  rw [Int64.toBitVec_or, Int64.toBitVec_shiftLeft, e0, e0, e0]
  apply BitVec.eq_of_toNat_eq
  rw [BitVec.toNat_or]
  have e5 : (BitVec.ofNat 64 n <<< (Int64.toBitVec 4).smod 64).toNat = n <<< 4 := by
    show (BitVec.ofNat 64 n <<< (4 : BitVec 64)).toNat = _
    rw [BitVec.shiftLeft_eq', BitVec.toNat_shiftLeft, BitVec.toNat_ofNat, Nat.mod_eq_of_lt (show n < 2 ^ 64 by omega)]
    show n <<< 4 % 2 ^ 64 = n <<< 4
    rw [Nat.shiftLeft_eq]
    exact Nat.mod_eq_of_lt (by omega)
  rw [e5, BitVec.toNat_ofNat, BitVec.toNat_ofNat, Nat.mod_eq_of_lt (show m < 2 ^ 64 by omega), Nat.mod_eq_of_lt (show n * 16 + m < 2 ^ 64 by omega), ← Nat.shiftLeft_add_eq_or_of_lt (by omega), Nat.shiftLeft_eq]
def rkC (la : Int → Int) (n w : Int) : Int := cntB (fun o => decide (la o < la w)) n.toNat
theorem rkC_lt {la : Int → Int} {n i j : Int} (i0 : 0 ≤ i) (i1 : i < n) : rkC la n i < rkC la n j ↔ la i < la j := by
  constructor
  · intro h
    by_cases c : la i < la j
    · exact c
    · have : rkC la n j ≤ rkC la n i := cntB_mono _ (fun o _ _ ho => by
        simp only [decide_eq_true_eq] at ho ⊢
        omega)
      omega
  · intro h
    refine cntB_lt (o := i) i0 (decide_eq_false (Int.lt_irrefl _)) (decide_eq_true h) n.toNat (by omega) (fun q _ _ hq => ?_)
    simp only [decide_eq_true_eq] at hq ⊢
    omega
theorem rkC_ord {la lb : Int → Int} {n : Int} : (∀ w, 0 ≤ w → w < n → rkC la n w = rkC lb n w) ↔ ordB n la lb = true := by
  rw [ordB_iff]
  constructor
  · intro h i i0 i1 j j0 j1
    rw [← rkC_lt (la := la) i0 i1, ← rkC_lt (la := lb) i0 i1, h i i0 i1, h j j0 j1]
  · intro h w w0 w1
    refine cntB_congr _ (fun o o0 o1 => ?_)
    exact decide_eq_decide.mpr (h o o0 (by omega) w w0 w1)
theorem rkC_rg {la : Int → Int} {n w : Int} (h0 : 0 ≤ n) (hn : n ≤ 14) : 0 ≤ rkC la n w ∧ rkC la n w ≤ 15 := by
  have := cntB_le (fun o => decide (la o < la w)) h0
  unfold rkC
  omega
/-- the component's number for an order -/
def ordC (n : Int) (la : Int → Int) : Int64 := Int64.ofInt (dgI (rkC la n) n.toNat)
theorem p16_14 {n : Nat} (h : n ≤ 14) : (16 : Int) ^ n ≤ 72057594037927936 := by
  have : (16 : Nat) ^ n ≤ 16 ^ 14 := Nat.pow_le_pow_right (by decide) h
  have e : ((16 ^ n : Nat) : Int) = (16 : Int) ^ n := by simp
  rw [← e]
  exact Int.le_trans (Int.ofNat_le.mpr this) (by decide)
theorem ordC_iff {n : Int} (h0 : 0 ≤ n) (hn : n ≤ 14) {la lb : Int → Int} : ordC n la = ordC n lb ↔ ordB n la lb = true := by
  have r1 := dgI_rg (r := rkC la n) n.toNat (fun i _ _ => rkC_rg h0 hn)
  have r2 := dgI_rg (r := rkC lb n) n.toNat (fun i _ _ => rkC_rg h0 hn)
  have hp := p16_14 (n := n.toNat) (by omega)
  unfold ordC
  rw [← Int64.toInt_inj, Int64.toInt_ofInt_of_le (by omega) (by omega), Int64.toInt_ofInt_of_le (by omega) (by omega), dgI_inj n.toNat (fun i _ _ => rkC_rg h0 hn) (fun i _ _ => rkC_rg h0 hn), ← rkC_ord]
  exact ⟨fun h w w0 w1 => h w w0 (by omega), fun h w w0 w1 => h w w0 (by omega)⟩
theorem ordC_congr {n : Int} {la lb : Int → Int} (h0 : 0 ≤ n) (hn : n ≤ 14) (h : ∀ w, 0 ≤ w → w < n → la w = lb w) : ordC n la = ordC n lb :=
  (ordC_iff h0 hn).mpr (ordB_iff.mpr (fun i i0 i1 j j0 j1 => by rw [h i i0 i1, h j j0 j1]))
section CMI
variable {Lw : List Nat} {S0 S : SS} {B : SB} {d o : Nat} {τ : Nat → Nat} {f : Int → Int} {wr gr : Int → Nat} {lt : Int → Int} {K : Int}
theorem cm_longest {g n k : Int} (hg : -2147483648 ≤ g ∧ g ≤ 2147483647) (hn : -2147483648 ≤ n ∧ n ≤ 2147483647) (hk : -2147483648 ≤ k ∧ k ≤ 2147483647) (hsh : CSh Lw S o τ) (hC : CLd Lw S o f wr gr lt) (hl : LI K f) : vc_M (d + 5) 0 0 51 [.inr (.inr o), ii g, ii n, ii k] Lw S B (vc_up (fun v Lw' S' B' => v = some (ii (sp_long f g n k)) ∧ Lw = Lw' ∧ Ag (scW S o τ) S S')) := by
  refine vc_start rfl rfl (Nat.le_of_ble_eq_true rfl) (fun X hX hd => ?_)
  have n0 := hl.nW
  have h14 := pow14 n0.2
  have h3 := hl.goings
  have h4 := hl.clock
  have hb := bI_rg (sCanT f g)
  have hb2 := bI_rg (sIn n 0 2000)
  have hb3 := bI_rg (sIn k 0 2)
  refine vc_walk hX ck_X0_longest [(42, [0, 2, 3, 4])] 60 hd ?_
  refine vc_kv hC.1 (cm_mayWander (d := d) hg hC hl) ⟨Nat.le_refl _, Nat.le_refl _⟩ ?_
  unfold sp_long
  refine ⟨by omega, fun c => ?_, fun c => ?_⟩
  · rw [if_neg (by rw [bI_0.mp c]; simp)]
    exact ⟨⟨Nat.le_refl _, Nat.le_refl _⟩, rfl, rfl, Ag.rf⟩
  refine ⟨by omega, vc_k (cm_in (d := d + 4) (by omega) (by omega) (by omega)) ⟨Nat.le_refl _, Nat.le_refl _⟩ ?_⟩
  refine ⟨by omega, fun c2 => ?_, fun c2 => ?_⟩
  · rw [if_neg (by rw [bI_0.mp c2]; simp)]
    exact ⟨⟨Nat.le_refl _, Nat.le_refl _⟩, rfl, rfl, Ag.rf⟩
  refine ⟨by omega, vc_k (cm_in (d := d + 4) (by omega) (by omega) (by omega)) ⟨Nat.le_refl _, Nat.le_refl _⟩ ?_⟩
  refine ⟨by omega, fun c3 => ?_, fun c3 => ?_⟩
  · have cc : sCanT f g = true ∧ sIn n 0 2000 = true ∧ sIn k 0 2 = true := ⟨bI_n0.mp c, bI_n0.mp c2, bI_n0.mp c3⟩
    have cg := sCanT_g cc.1
    have cn : 0 ≤ n ∧ n ≤ 2000 := of_decide_eq_true cc.2.1
    have ck : 0 ≤ k ∧ k ≤ 2 := of_decide_eq_true cc.2.2
    rw [if_pos cc]
    refine vc_kp hC.1 (cm_setsOut (d := d) cc.1 hsh hC hl Ag.rf) ⟨Nat.le_refl _, Nat.le_refl _⟩ ?_
    rintro _ _ S1 _ ⟨rfl, rfl, rfl, A1, W1⟩
    have fin : ∀ (t : Int) (b : WS) (S1 : SS), 0 ≤ t → t ≤ 2000 → Ag (scW S o τ) S S1 → CWs S1 o f b → wgo f n.toNat 0 (ws0 f g) = (t, b) → vc_J 51 (vc_up (fun v Lw' S' B' => v = some (ii (if k = 0 then (wgo f n.toNat 0 (ws0 f g)).2.1 else if k = 1 then (wgo f n.toNat 0 (ws0 f g)).2.2.1 else (wgo f n.toNat 0 (ws0 f g)).1)) ∧ Lw = Lw' ∧ Ag (scW S o τ) S S')) X 61 [(0, .inr (.inr o)), (2, ii n), (3, ii k), (4, ii t)] [] Lw S1 B 0 0 := by
      intro t b S1 t0 t1 A1 W1 he
      rw [he]
      have C1 := (hC.ag A1).1
      refine vc_walk hX ck_X0_longest [] 60 hd ?_
      refine ⟨by omega, fun d => ?_, fun d => ?_⟩
      · rw [if_neg d]
        refine ⟨by omega, fun d2 => ?_, fun d2 => ?_⟩
        · rw [if_neg d2]
          exact ⟨⟨Nat.le_refl _, Nat.le_refl _⟩, rfl, rfl, A1⟩
        · rw [if_pos d2]
          exact ⟨C1, ⟨Nat.le_refl _, Nat.le_refl _⟩, by rw [W1.2.1], rfl, A1⟩
      · rw [if_pos d]
        exact ⟨C1, ⟨Nat.le_refl _, Nat.le_refl _⟩, by rw [W1.1], rfl, A1⟩
    have loop : ∀ (m : Nat) (t M : Int) (b : WS) (S1 : SS), 0 ≤ t → t + m = n → M ≤ 1000000000 + t → Ag (scW S o τ) S S1 → CWs S1 o f b → wsVd f M b → wgo f n.toNat 0 (ws0 f g) = wgo f m t b → vc_J 51 (vc_up (fun v Lw' S' B' => v = some (ii (if k = 0 then (wgo f n.toNat 0 (ws0 f g)).2.1 else if k = 1 then (wgo f n.toNat 0 (ws0 f g)).2.2.1 else (wgo f n.toNat 0 (ws0 f g)).1)) ∧ Lw = Lw' ∧ Ag (scW S o τ) S S')) X 42 [(0, .inr (.inr o)), (2, ii n), (3, ii k), (4, ii t)] [] Lw S1 B 0 0 := by
      intro m
      induction m with
      | zero =>
        intro t M b S1 t0 tm hM A1 W1 hV he
        refine vc_walk hX ck_X0_longest [(61, [0, 2, 3, 4])] 60 hd ?_
        refine ⟨by omega, fun _ => ?_, fun z => absurd z (by omega)⟩
        exact fin t b S1 t0 (by omega) A1 W1 he
      | succ m ih =>
        intro t M b S1 t0 tm hM A1 W1 hV he
        have hbs := bI_rg (wst f b).isSome
        refine vc_walk hX ck_X0_longest [(61, [0, 2, 3, 4]), (42, [0, 2, 3, 4])] 60 hd ?_
        refine ⟨by omega, fun z => absurd z (by omega), fun _ => ?_⟩
        refine vc_kp (hC.ag A1).1 (cm_wanders (d := d) (M := M) (by omega) hV hsh hC hl A1 W1) ⟨Nat.le_refl _, Nat.le_refl _⟩ ?_
        rintro _ _ S2 _ ⟨rfl, rfl, rfl, A2, W2⟩
        refine ⟨by omega, fun d => ?_, fun d => ?_⟩
        · have hb : wst f b = none := Option.isNone_iff_eq_none.mp (Option.isSome_eq_false_iff.mp (bI_0.mp d))
          have : wgo f (m + 1) t b = (t, b) := by unfold wgo; rw [hb]
          rw [hb] at W2
          exact fin t b S2 t0 (by omega) A2 W2 (by rw [he, this])
        · obtain ⟨b', hb⟩ := Option.isSome_iff_exists.mp (bI_n0.mp d)
          have : wgo f (m + 1) t b = wgo f m (t + 1) b' := by show (match wst f b with | some b => wgo f m (t + 1) b | none => (t, b)) = _; rw [hb]
          rw [hb] at W2
          exact ih (t + 1) (M + 1) b' S2 (by omega) (by omega) (by omega) A2 W2 (wst_V hl hV hb).1 (by rw [he, this])
    exact loop n.toNat 0 (f 3) (ws0 f g) S1 (by omega) (by omega) (by omega) A1 W1 (ws0_V hl cg.1 cg.2) rfl
  · rw [if_neg (by rw [(bI_0 (b := sIn k 0 2)).mp (by omega)]; simp)]
    exact ⟨⟨Nat.le_refl _, Nat.le_refl _⟩, rfl, rfl, Ag.rf⟩
theorem cm_covers {g : Int} (hg : -2147483648 ≤ g ∧ g ≤ 2147483647) (hsh : CSh Lw S o τ) (hC : CLd Lw S o f wr gr lt) (hl : LI K f) : vc_M (d + 5) 0 0 55 [.inr (.inr o), ii g] Lw S B (vc_up (fun v Lw' S' B' => v = some (ii (sp_cov f g)) ∧ Lw = Lw' ∧ Ag (scW S o τ) S S')) := by
  refine vc_start rfl rfl (Nat.le_of_ble_eq_true rfl) (fun X hX hd => ?_)
  have n0 := hl.nW
  have h14 := pow14 n0.2
  have h3 := hl.goings
  have h4 := hl.clock
  have hb := bI_rg (sCanT f g)
  refine vc_walk hX ck_X0_covers [(29, [0, 2, 3])] 60 hd ?_
  refine vc_kv hC.1 (cm_mayWander (d := d) hg hC hl) ⟨Nat.le_refl _, Nat.le_refl _⟩ ?_
  unfold sp_cov
  refine ⟨by omega, fun c => ?_, fun c => ?_⟩
  rotate_left
  · rw [if_neg (by rw [(bI_0 (b := sCanT f g)).mp (by omega)]; simp)]
    exact ⟨⟨Nat.le_refl _, Nat.le_refl _⟩, rfl, rfl, Ag.rf⟩
  have cc : sCanT f g = true := bI_n0.mp c
  have cg := sCanT_g cc
  rw [if_pos cc]
  generalize hR : cov f 2001 0 (ws0 f g) = R
  refine vc_kp hC.1 (cm_setsOut (d := d) cc hsh hC hl Ag.rf) ⟨Nat.le_refl _, Nat.le_refl _⟩ ?_
  rintro _ _ S1 _ ⟨rfl, rfl, rfl, A1, W1⟩
  have C1 := hC.ag A1
  have e6 := C1.2.1.2.1
  refine ⟨C1.1, ?_⟩
  refine vc_kv C1.2.1.1 (cm_size (d := d + 4) C1.2.1.1) ⟨Nat.le_refl _, Nat.le_refl _⟩ ?_
  rw [e6]
  refine ⟨by omega, ?_⟩
  have hp2 : (2 : Nat) ^ (f 0).toNat ≤ 2 ^ 14 := Nat.pow_le_pow_right (by decide) (by omega)
  have hp0 : 0 < (2 : Nat) ^ (f 0).toNat := Nat.two_pow_pos _
  have ep : (1 : Int) * 2 ^ (f 0).toNat - 1 = ((2 ^ (f 0).toNat - 1 : Nat) : Int) := by
    have : ((2 ^ (f 0).toNat : Nat) : Int) = 2 ^ (f 0).toNat := by simp
    omega
  have loop : ∀ (m : Nat) (t M : Int) (b : WS) (S1 : SS), 0 ≤ t → t + m = 2001 → 1 ≤ m → M ≤ 1000000000 + t → Ag (scW S o τ) S S1 → CWs S1 o f b → wsVd f M b → cov f m t b = R → vc_J 55 (vc_up (fun v Lw' S' B' => v = some (ii R) ∧ Lw = Lw' ∧ Ag (scW S o τ) S S')) X 29 [(0, .inr (.inr o)), (2, ii ((2 ^ (f 0).toNat - 1 : Nat) : Int)), (3, ii t)] [] Lw S1 B 0 0 := by
    intro m
    induction m with
    | zero =>
      intro t M b S1 t0 tm m1
      omega
    | succ m ih =>
      intro t M b S1 t0 tm m1 hM A1 W1 hV he
      have hbs := bI_rg (wst f b).isSome
      have hC1 := hC.ag A1
      have w5 := W1.2.2.2.2.1
      have hbl := bset_lt (fun w => decide (f 3 < b.2.2.2 w)) (f 0).toNat
      have hbe : sBeen f b = true ↔ S1 o 22 = ((2 ^ (f 0).toNat - 1 : Nat) : Int) := by
        rw [w5, Int.natCast_inj, bset_all]
        exact allB_iff
      unfold cov at he
      refine vc_walk hX ck_X0_covers [(29, [0, 2, 3])] 60 hd ?_
      refine ⟨hC1.1, by omega, fun c => ?_, fun c => ?_⟩
      · rw [if_pos (hbe.mpr c)] at he
        rw [he]
        exact ⟨⟨Nat.le_refl _, Nat.le_refl _⟩, rfl, rfl, A1⟩
      · rw [if_neg (fun z => c (hbe.mp z))] at he
        refine ⟨by omega, fun c2 => ?_, fun c2 => ?_⟩
        · have : m = 0 := by omega
          subst this
          have : R = -2 := by
            rw [← he]
            cases wst f b <;> rfl
          rw [this]
          exact ⟨⟨Nat.le_refl _, Nat.le_refl _⟩, rfl, rfl, A1⟩
        · refine vc_kp hC1.1 (cm_wanders (d := d) (M := M) (by omega) hV hsh hC hl A1 W1) ⟨Nat.le_refl _, Nat.le_refl _⟩ ?_
          rintro _ _ S2 _ ⟨rfl, rfl, rfl, A2, W2⟩
          refine ⟨by omega, fun d => ?_, fun d => ?_⟩
          · obtain ⟨b', hb⟩ := Option.isSome_iff_exists.mp (bI_n0.mp d)
            rw [hb] at he W2
            exact ih (t + 1) (M + 1) b' S2 (by omega) (by omega) (by omega) (by omega) A2 W2 (wst_V hl hV hb).1 he
          · have hb : wst f b = none := Option.isNone_iff_eq_none.mp (Option.isSome_eq_false_iff.mp ((bI_0 (b := (wst f b).isSome)).mp (by omega)))
            rw [hb] at he
            rw [← he]
            exact ⟨⟨Nat.le_refl _, Nat.le_refl _⟩, rfl, rfl, A2⟩
  show vc_J _ _ _ _ _ _ _ _ _ _ _
  rw [ep]
  exact loop 2001 0 (f 3) (ws0 f g) S1 (by omega) (by omega) (by omega) (by omega) A1 W1 (ws0_V hl cg.1 cg.2) hR
theorem cm_orderNow {la : Int → Int} (hsh : CSh Lw S o τ) (hC : CLd Lw S o f wr gr lt) (hl : LI K f) (hla : ∀ w, 0 ≤ w → w < f 0 → S (S o 18).toNat w = la w ∧ 0 ≤ la w ∧ la w ≤ 2147483647) : vc_M (d + 1) 0 0 57 [.inr (.inr o)] Lw S B (vc_eq (some (ll (ordC (f 0) la))) Lw S B) := by
  refine vc_start rfl rfl (Nat.le_of_ble_eq_true rfl) (fun X hX hd => ?_)
  have n0 := hl.nW
  have h2 := hC.2.1
  have e6 := h2.2.1
  obtain ⟨l1, l2, l3⟩ := hsh.2.1.2.2.2.1
  have l2 : S (S o 18).toNat (-1) = 14 := l2
  have inner : ∀ (k : Int) (x : Int64), 0 ≤ k → k < f 0 → (vc_J 57 (vc_eq (some (ll (ordC (f 0) la))) Lw S B) X 65 [(0, .inr (.inr o)), (1, .inr (.inl x)), (3, ii k), (4, ii (rkC la (f 0) k))] [] Lw S B 0 0) → ∀ (m : Nat) (z : Int), 0 ≤ z → z + m = f 0 → vc_J 57 (vc_eq (some (ll (ordC (f 0) la))) Lw S B) X 21 [(0, .inr (.inr o)), (1, .inr (.inl x)), (3, ii k), (4, ii (cntB (fun o => decide (la o < la k)) z.toNat)), (5, ii z)] [] Lw S B 0 0 := by
    intro k x k0 k1 hnext m
    induction m with
    | zero =>
      intro z z0 zm
      refine vc_walk hX ck_X0_orderNow [(65, [0, 1, 3, 4])] 60 hd ?_
      refine ⟨hC.1, ?_⟩
      refine vc_kv h2.1 (cm_size (d := d) h2.1) ⟨Nat.le_refl _, Nat.le_refl _⟩ ?_
      refine ⟨by omega, fun _ => ?_, fun c => absurd c (by omega)⟩
      rw [show z = f 0 by omega]
      exact hnext
    | succ m ih =>
      intro z z0 zm
      have ih' := ih (z + 1) (by omega) (by omega)
      rw [cntB_s z0] at ih'
      have q1 := hla z z0 (by omega)
      have q2 := hla k k0 k1
      refine vc_walk hX ck_X0_orderNow [(21, [0, 1, 3, 4, 5])] 60 hd ?_
      refine ⟨hC.1, ?_⟩
      refine vc_kv h2.1 (cm_size (d := d) h2.1) ⟨Nat.le_refl _, Nat.le_refl _⟩ ?_
      refine ⟨by omega, fun c => absurd c (by omega), fun _ => ?_⟩
      refine ⟨hC.1, ⟨l1, by omega, by omega, by omega⟩, hC.1, ⟨l1, by omega, by omega, by omega⟩, by omega, fun c => ?_, fun c => ?_⟩
      · rw [if_neg (by rw [decide_eq_true_eq]; omega)] at ih'
        exact ih'
      · rw [if_pos (by rw [decide_eq_true_eq]; omega)] at ih'
        exact ih'
  have loop : ∀ (m : Nat) (k : Nat), (k : Int) + m = f 0 → vc_J 57 (vc_eq (some (ll (ordC (f 0) la))) Lw S B) X 4 [(0, .inr (.inr o)), (1, .inr (.inl (Int64.ofInt (dgI (rkC la (f 0)) k)))), (3, ii (k : Int))] [] Lw S B 0 0 := by
    intro m
    induction m with
    | zero =>
      intro k km
      refine vc_walk hX ck_X0_orderNow [] 60 hd ?_
      refine ⟨hC.1, ?_⟩
      refine vc_kv h2.1 (cm_size (d := d) h2.1) ⟨Nat.le_refl _, Nat.le_refl _⟩ ?_
      refine ⟨by omega, fun _ => ?_, fun c => absurd c (by omega)⟩
      refine ⟨⟨Nat.le_refl _, Nat.le_refl _⟩, ?_, rfl, rfl, rfl⟩
      unfold ordC
      rw [show (f 0).toNat = k by omega]
    | succ m ih =>
      intro k km
      refine vc_walk hX ck_X0_orderNow [(21, [0, 1, 3, 4, 5])] 60 hd ?_
      refine ⟨hC.1, ?_⟩
      refine vc_kv h2.1 (cm_size (d := d) h2.1) ⟨Nat.le_refl _, Nat.le_refl _⟩ ?_
      refine ⟨by omega, fun c => absurd c (by omega), fun _ => ?_⟩
      refine inner (k : Int) _ (by omega) (by omega) ?_ (f 0).toNat 0 (by decide) (by omega)
      have hr := rkC_rg (la := la) (w := (k : Int)) n0.1 n0.2
      have hg := dgI_rg (r := rkC la (f 0)) k (fun i _ _ => rkC_rg n0.1 n0.2)
      have hp := p16_14 (n := k) (by omega)
      refine vc_walk hX ck_X0_orderNow [(4, [0, 1, 3])] 60 hd ?_
      refine ⟨by omega, ?_⟩
      show vc_J _ _ _ _ _ _ _ _ _ _ _
      rw [lg_sh4 (by omega) hr]
      exact ih (k + 1) (by omega)
  refine vc_walk hX ck_X0_orderNow [(4, [0, 1, 3])] 60 hd ?_
  exact loop (f 0).toNat 0 (by omega)
theorem cm_settles {g k : Int} (hg : -2147483648 ≤ g ∧ g ≤ 2147483647) (hk : -2147483648 ≤ k ∧ k ≤ 2147483647) (hsh : CSh Lw S o τ) (hC : CLd Lw S o f wr gr lt) (hl : LI K f) : vc_M (d + 5) 0 0 56 [.inr (.inr o), ii g, ii k] Lw S B (vc_up (fun v Lw' S' B' => v = some (ii (sp_set f g k)) ∧ Lw = Lw' ∧ Ag (scW S o τ) S S')) := by
  refine vc_start rfl rfl (Nat.le_of_ble_eq_true rfl) (fun X hX hd => ?_)
  have n0 := hl.nW
  have h14 := pow14 n0.2
  have h3 := hl.goings
  have h4 := hl.clock
  have hb := bI_rg (sCanT f g)
  have hb2 := bI_rg (sIn k 0 1)
  refine vc_walk hX ck_X0_settles [(27, [0, 2, 3])] 60 hd ?_
  refine vc_kv hC.1 (cm_mayWander (d := d) hg hC hl) ⟨Nat.le_refl _, Nat.le_refl _⟩ ?_
  unfold sp_set
  refine ⟨by omega, fun c => ?_, fun c => ?_⟩
  · rw [if_neg (by rw [bI_0.mp c]; simp)]
    exact ⟨⟨Nat.le_refl _, Nat.le_refl _⟩, rfl, rfl, Ag.rf⟩
  refine ⟨by omega, vc_k (cm_in (d := d + 4) (by omega) (by omega) (by omega)) ⟨Nat.le_refl _, Nat.le_refl _⟩ ?_⟩
  refine ⟨by omega, fun c2 => ?_, fun c2 => ?_⟩
  rotate_left
  · rw [if_neg (by rw [(bI_0 (b := sIn k 0 1)).mp (by omega)]; simp)]
    exact ⟨⟨Nat.le_refl _, Nat.le_refl _⟩, rfl, rfl, Ag.rf⟩
  have cc : sCanT f g = true ∧ sIn k 0 1 = true := ⟨bI_n0.mp c, bI_n0.mp c2⟩
  have cg := sCanT_g cc.1
  have ck : 0 ≤ k ∧ k ≤ 1 := of_decide_eq_true cc.2
  rw [if_pos cc]
  generalize hR : sp_sv (stl f 2001 0 (fun _ => (0, 0, 0, fun _ => 0)) (ws0 f g)) k = R
  refine vc_kp hC.1 (cm_setsOut (d := d) cc.1 hsh hC hl Ag.rf) ⟨Nat.le_refl _, Nat.le_refl _⟩ ?_
  rintro _ _ S1 _ ⟨rfl, rfl, rfl, A1, W1⟩
  have hstd : sG f g 3 = -1 := by
    have := cc.1
    unfold sCanT sStd at this
    simp only [Bool.and_eq_true] at this
    simpa using this.1.2
  have hp7 : sG f g 0 ≤ 7 := by
    obtain ⟨-, -, -, q | q⟩ := hl.g cg.1 cg.2 <;> omega
  have loop : ∀ (m : Nat) (t M : Int) (a : WS) (hs : Int → WS) (S1 : SS) (B1 : SB), 0 ≤ t → t + m = 2001 → M ≤ 1000000000 + t → Ag (scW S o τ) S S1 → CWs S1 o f a → wsVd f M a → a.1 ≤ 7 → (∀ i, 0 ≤ i → i < t → (0 ≤ (hs i).1 ∧ (hs i).1 ≤ 7) ∧ (0 ≤ (hs i).2.1 ∧ (hs i).2.1 < 16384) ∧ S1 (S1 o 24).toNat i = 8 * (hs i).2.1 + (hs i).1 ∧ B1 (S o 23).toNat i = ordC (f 0) (hs i).2.2.2) →
      sp_sv (stl f m t hs a) k = R → vc_J 56 (vc_up (fun v Lw' S' B' => v = some (ii R) ∧ Lw = Lw' ∧ Ag (scW S o τ) S S')) X 27 [(0, .inr (.inr o)), (2, ii k), (3, ii t)] [] Lw S1 B1 0 0 := by
    intro m
    induction m with
    | zero =>
      intro t M a hs S1 B1 t0 tm hM A1 W1 hV ha hH he
      refine vc_walk hX ck_X0_settles [(27, [0, 2, 3])] 60 hd ?_
      refine ⟨by omega, fun _ => ?_, fun z => absurd z (by omega)⟩
      rw [← he]
      exact ⟨⟨Nat.le_refl _, Nat.le_refl _⟩, rfl, rfl, A1⟩
    | succ m ih =>
      intro t M a hs S1 B1 t0 tm hM A1 W1 hV ha hH he
      have hd' := hV.2.1
      have hp := hV.1
      have hC1 := hC.ag A1
      have hS1 := hsh.ag A1.q
      have e23 : S1 o 23 = S o 23 := A1 o 23 (scW.ob0 hsh.1.2 rfl)
      have e24 : S1 o 24 = S o 24 := A1 o 24 (scW.ob0 hsh.1.2 rfl)
      have e18 : S1 o 18 = S o 18 := A1 o 18 (scW.ob0 hsh.1.2 rfl)
      have a23 := hS1.2.1.2.2.2.2.2.2.2.2.2.2.1
      have a24 := hS1.2.1.2.2.2.2.1
      have a18 := hS1.2.1.2.2.2.1
      have l23 : S1 (S1 o 23).toNat (-1) = 2001 := a23.2.1
      have l24 : S1 (S1 o 24).toNat (-1) = 2001 := a24.2.1
      have n24 : (S1 o 24).toNat ≠ o := a24.ne0 hC1.1 (by decide)
      have n2418 : (S1 o 24).toNat ≠ (S1 o 18).toNat := a24.ne a18 (by decide)
      refine vc_walk hX ck_X0_settles [(27, [0, 2, 3]), (61, [0, 2, 3])] 60 hd ?_
      refine ⟨by omega, fun z => absurd z (by omega), fun _ => ?_⟩
      refine ⟨hC1.1, ?_⟩
      refine vc_kv hC1.1 (cm_orderNow (d := d + 3) (la := a.2.2.2) hS1 hC1 hl (fun w w0 w1 => ⟨W1.2.2.2.1 w w0 w1, (hV.2.2.2 w w0 w1).1, by have := (hV.2.2.2 w w0 w1).2; have := hV.2.2.1; omega⟩)) ⟨Nat.le_refl _, Nat.le_refl _⟩ ?_
      refine ⟨⟨a23.1, by omega, by omega, by omega⟩, ?_⟩
      refine ⟨hC1.1, hC1.1, by omega, hC1.1, ⟨a24.1, by omega, by omega, by omega⟩, ?_⟩
      show vc_J _ _ _ _ _ _ _ _ _ _ _
      rw [W1.2.1, W1.1, or8 (by omega) (by omega)]
      have A2 : Ag (scW S o τ) S (vt_up S1 (S1 o 24).toNat t (8 * a.2.1 + a.1)) := A1.up (by
        rw [e24]
        exact scW.a hsh.2.1.2.2.2.2.1 rfl t0)
      have ro : ∀ i, vt_up S1 (S1 o 24).toNat t (8 * a.2.1 + a.1) o i = S1 o i := fun i => up_ne (Or.inl (fun z => n24 z.symm))
      have W2 : CWs (vt_up S1 (S1 o 24).toNat t (8 * a.2.1 + a.1)) o f a := by
        obtain ⟨w1, w2, w3, w4, w5, w6⟩ := W1
        refine ⟨by rw [ro]; exact w1, by rw [ro]; exact w2, by rw [ro]; exact w3, fun w w0 w1 => ?_, by rw [ro]; exact w5, w6⟩
        rw [ro, up_ne (Or.inl (fun z => n2418 z.symm))]
        exact w4 w w0 w1
      have H2 : ∀ i, 0 ≤ i → i < t → (0 ≤ (hs i).1 ∧ (hs i).1 ≤ 7) ∧ (0 ≤ (hs i).2.1 ∧ (hs i).2.1 < 16384) ∧ (vt_up S1 (S1 o 24).toNat t (8 * a.2.1 + a.1)) ((vt_up S1 (S1 o 24).toNat t (8 * a.2.1 + a.1)) o 24).toNat i = 8 * (hs i).2.1 + (hs i).1 ∧ (vt_ub B1 (S1 o 23).toNat t (ordC (f 0) a.2.2.2)) (S o 23).toNat i = ordC (f 0) (hs i).2.2.2 := by
        intro i i0 i1
        obtain ⟨q1, q2, q3, q4⟩ := hH i i0 i1
        refine ⟨q1, q2, ?_, ?_⟩
        · rw [ro, up_ne (Or.inr (by omega))]; exact q3
        · rw [e23, vt_ub_at]
          simp only [show i ≠ t by omega, if_false]
          exact q4
      have H3 : (vt_up S1 (S1 o 24).toNat t (8 * a.2.1 + a.1)) ((vt_up S1 (S1 o 24).toNat t (8 * a.2.1 + a.1)) o 24).toNat t = 8 * a.2.1 + a.1 := by rw [ro, vt_up_self]
      have H4 : (vt_ub B1 (S1 o 23).toNat t (ordC (f 0) a.2.2.2)) (S o 23).toNat t = ordC (f 0) a.2.2.2 := by rw [e23, vt_ub_at]; exact if_pos rfl
      generalize vt_up S1 (S1 o 24).toNat t (8 * a.2.1 + a.1) = S2 at *
      generalize vt_ub B1 (S1 o 23).toNat t (ordC (f 0) a.2.2.2) = B2 at *
      have hC2 := hC.ag A2
      have hS2 := hsh.ag A2.q
      have e23' : S2 o 23 = S o 23 := A2 o 23 (scW.ob0 hsh.1.2 rfl)
      have b23 := hS2.2.1.2.2.2.2.2.2.2.2.2.2.1
      have b24 := hS2.2.1.2.2.2.2.1
      have m23 : S2 (S2 o 23).toNat (-1) = 2001 := b23.2.1
      have m24 : S2 (S2 o 24).toNat (-1) = 2001 := b24.2.1
      have inner : ∀ (q : Nat) (e : Int), 0 ≤ e → e + q = t → (∀ i, 0 ≤ i → i < e → sitB (f 0) (hs i) a = false) → vc_J 56 (vc_up (fun v Lw' S' B' => v = some (ii R) ∧ Lw = Lw' ∧ Ag (scW S o τ) S S')) X 64 [(0, .inr (.inr o)), (2, ii k), (3, ii t), (4, ii e)] [] Lw S2 B2 0 0 := by
        intro q
        induction q with
        | zero =>
          intro e e0 eq hno
          have hls : lst (fun i => sitB (f 0) (hs i) a) t.toNat = -1 := by
            rcases lst_spec (fun i => sitB (f 0) (hs i) a) t.toNat with ⟨h1, h2⟩ | ⟨h1, h2, h3, h4⟩
            · exact h1
            · have := hno _ h1 (by omega)
              rw [h3] at this; cases this
          have hbs := bI_rg (wst f a).isSome
          refine vc_walk hX ck_X0_settles [(27, [0, 2, 3])] 60 hd ?_
          refine ⟨by omega, fun _ => ?_, fun z => absurd z (by omega)⟩
          have hst : stl f (m + 1) t hs a = match wst f a with
              | some b => stl f m (t + 1) (fun i => if i = t then a else hs i) b
              | none => none := by
            show (if 0 ≤ lst (fun i => sitB (f 0) (hs i) a) t.toNat then _ else _) = _
            rw [hls, if_neg (by decide)]
            rfl
          rw [hst] at he
          refine vc_kp hC2.1 (cm_wandersX (d := d) (M := M) (by omega) hV hsh hC hl A2 W2) ⟨Nat.le_refl _, Nat.le_refl _⟩ ?_
          rintro _ _ S3 _ ⟨rfl, rfl, rfl, A3, W3, E3⟩
          refine ⟨by omega, fun d => ?_, fun d => ?_⟩
          · obtain ⟨b, hb⟩ := Option.isSome_iff_exists.mp (bI_n0.mp d)
            rw [hb] at he W3
            have hVb := wst_V hl hV hb
            refine ih (t + 1) (M + 1) b (fun i => if i = t then a else hs i) _ _ (by omega) (by omega) (by omega) A3 W3 hVb.1 hVb.2 (fun i i0 i1 => ?_) he
            by_cases ei : i = t
            · subst ei
              simp only [if_true]
              exact ⟨⟨hp.1, ha⟩, by omega, by rw [E3]; exact H3, H4⟩
            · simp only [ei, if_false]
              have := H2 i i0 (by omega)
              exact ⟨this.1, this.2.1, by rw [E3]; exact this.2.2.1, this.2.2.2⟩
          · have hb : wst f a = none := Option.isNone_iff_eq_none.mp (Option.isSome_eq_false_iff.mp ((bI_0 (b := (wst f a).isSome)).mp (by omega)))
            rw [hb] at he
            rw [← he]
            exact ⟨⟨Nat.le_refl _, Nat.le_refl _⟩, rfl, rfl, A3⟩
        | succ q ihq =>
          intro e e0 eq hno
          have hh := H2 e e0 (by omega)
          have cont : sitB (f 0) (hs e) a = false → vc_J 56 (vc_up (fun v Lw' S' B' => v = some (ii R) ∧ Lw = Lw' ∧ Ag (scW S o τ) S S')) X 64 [(0, .inr (.inr o)), (2, ii k), (3, ii t), (4, ii (e + 1))] [] Lw S2 B2 0 0 := by
            intro hc
            refine ihq (e + 1) (by omega) (by omega) (fun i i0 i1 => ?_)
            by_cases ei : i = e
            · subst ei; exact hc
            · exact hno i i0 (by omega)
          refine vc_walk hX ck_X0_settles [(64, [0, 2, 3, 4])] 60 hd ?_
          refine ⟨by omega, fun z => absurd z (by omega), fun _ => ?_⟩
          refine ⟨hC2.1, ⟨b23.1, by omega, by omega, by omega⟩, hC2.1, ⟨b23.1, by omega, by omega, by omega⟩, ?_⟩
          rw [e23', hh.2.2.2, H4]
          have hcr := cmp_rg (ordC (f 0) (hs e).2.2.2) (ordC (f 0) a.2.2.2)
          refine ⟨by omega, fun d3 => ?_, fun d3 => ?_⟩
          · refine cont ?_
            unfold sitB
            cases hq : ordB (f 0) (hs e).2.2.2 a.2.2.2
            · rw [Bool.and_false]
            · exact absurd (cmp_eq0.mpr ((ordC_iff n0.1 n0.2).mpr hq)) d3
          · have hq := (ordC_iff n0.1 n0.2).mp (cmp_eq0.mp d3)
            refine ⟨hC2.1, ⟨b24.1, by omega, by omega, by omega⟩, hC2.1, ⟨b24.1, by omega, by omega, by omega⟩, by rw [hh.2.2.1, H3]; omega, fun d => ?_, fun d => ?_⟩ <;> rw [hh.2.2.1, H3] at d
            · refine cont ?_
              unfold sitB
              cases hq2 : ((hs e).1 == a.1) && ((hs e).2.1 == a.2.1)
              · rfl
              · simp only [Bool.and_eq_true, beq_iff_eq] at hq2
                exact absurd (by omega) d
            · have d1 : (hs e).1 = a.1 := by omega
              have d2 : (hs e).2.1 = a.2.1 := by omega
              have eo : sitB (f 0) (hs e) a = true := by
                unfold sitB
                rw [d1, d2, hq]; simp
              have hls : lst (fun i => sitB (f 0) (hs i) a) t.toNat = e := by
                rcases lst_spec (fun i => sitB (f 0) (hs i) a) t.toNat with ⟨h1, h2⟩ | ⟨h1, h2, h3, h4⟩
                · have := h2 e e0 (by omega)
                  rw [eo] at this; cases this
                · rcases Int.lt_trichotomy (lst (fun i => sitB (f 0) (hs i) a) t.toNat) e with x | x | x
                  · have := hno _ h1 x
                    rw [h3] at this; cases this
                  · exact x
                  · have := h4 e e0 x
                    rw [eo] at this; cases this
              have hst : stl f (m + 1) t hs a = some (e, t) := by
                show (if 0 ≤ lst (fun i => sitB (f 0) (hs i) a) t.toNat then some (lst (fun i => sitB (f 0) (hs i) a) t.toNat, t) else _) = _
                rw [hls, if_pos e0]
              rw [hst] at he
              refine ⟨by omega, fun d4 => ?_, fun d4 => ?_⟩
              · rw [← he]
                unfold sp_sv
                simp only [d4, if_false]
                exact ⟨⟨Nat.le_refl _, Nat.le_refl _⟩, rfl, rfl, A2⟩
              · rw [← he]
                unfold sp_sv
                simp only [d4, if_true]
                exact ⟨⟨Nat.le_refl _, Nat.le_refl _⟩, rfl, rfl, A2⟩
      refine vc_walk hX ck_X0_settles [(64, [0, 2, 3, 4])] 60 hd ?_
      exact inner t.toNat 0 (by omega) (by omega) (fun i i0 i1 => by omega)
  exact loop 2001 0 (f 3) (ws0 f g) (fun _ => (0, 0, 0, fun _ => 0)) S1 B (by omega) (by omega) (by omega) A1 W1 (ws0_V hl cg.1 cg.2) hp7 (fun i i0 i1 => by omega) hR
end CMI
