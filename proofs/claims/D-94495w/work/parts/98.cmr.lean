/-! THE COMPONENT's methods: fewest, step, comes -/
set_option maxRecDepth 100000
theorem andHi {x : Int} {n : Nat} (hx : 0 ≤ x ∧ x ≤ 2147483647) (hn : n ≤ 14) : vt_and x (-1 * 2 ^ n) = ((x.toNat ^^^ (x.toNat % 2 ^ n) : Nat) : Int) := by
  have h1 : ∀ n : Nat, n ≤ 14 → vt_xor ((2 ^ n - 1 : Nat) : Int) (-1) = -1 * 2 ^ n := by decide +kernel
  have hp : 2 ^ n ≤ 2 ^ 14 := Nat.pow_le_pow_right (by decide) hn
  rw [← h1 n hn, bt_andn hx ⟨Int.natCast_nonneg _, by omega⟩, Int.toNat_natCast, Nat.and_two_pow_sub_one_eq_mod]
section CMR
variable {Lw : List Nat} {S S0 : SS} {B : SB} {d o : Nat} {τ : Nat → Nat} {f : Int → Int} {wr gr : Int → Nat} {lt : Int → Int} {K c : Int} {mv : Int → Int}
theorem Ext.pre {S1 S' : SS} {Lw' : List Nat} {τ' : Nat → Nat} (hA : Ag (scW S o τ) S S1) (h0 : vc_ob Lw S o 0) (hE : Ext (bW S1 o τ) Lw S1 τ Lw' S' τ') : Ext (bW S o τ) Lw S τ Lw' S' τ' := by
  refine (hA.mono (fun _ _ z => Or.inl z) : Ag (bW S o τ) S S1).ext.tr hE (fun r i hr z => ?_)
  rcases z with z | z
  · exact scW.up (Lw := Lw) (Lw' := Lw) (τ' := τ) (hA.mono (fun _ _ z => Or.inl z) : Ag (bW S o τ) S S1).ext h0 hr z
  · exact Or.inr z
/-- how far the aims are -/
theorem aims_end {q : CQ} {k : Int} (hl : LI K f) (hS : CSc S o f c mv) (hI : CBI (nSt f c) c (f 0) (scc f) (fun s => (0 ≤ s ∧ s < nSt f c) ∧ hmA f c mv s = true) k 0 0 q) (hk : q.1 ≤ k) {t : Int} (t0 : 0 ≤ t) (t1 : t < nSt f c) : (q.2.2 t = -1 ∧ ∀ l, ¬ hpt c (f 0) (scc f) (hmA f c mv) l t) ∨ ∃ l : Nat, q.2.2 t = l ∧ isD c (f 0) (scc f) (hmA f c mv) t l := by
  have hsc : ∀ s m w, (0 ≤ s ∧ s < nSt f c) → (0 ≤ m ∧ m < c) → (0 ≤ w ∧ w < f 0) → scc f s m w = -1 ∨ (0 ≤ scc f s m w ∧ scc f s m w < nSt f c) := scc_rg hl hS.2.2.1
  have hrv := fpt_rev (N := nSt f c) (P := c) (n := f 0) (sc := scc f) (hm := hmA f c mv) (src := fun s => (0 ≤ s ∧ s < nSt f c) ∧ hmA f c mv s = true) hsc (fun s m w hs hm hw h => scc_rev hl hs.1 hm.1 hw h) (fun s => Iff.rfl)
  rcases hI.end hk hsc t0 t1 with ⟨a, b⟩ | ⟨l, a, b, e⟩
  · exact Or.inl ⟨a, fun l hl => b l ((hrv l t ⟨t0, t1⟩).mpr hl)⟩
  · exact Or.inr ⟨l, a, (hrv l t ⟨t0, t1⟩).mp b, fun l' h1 h2 => e l' h1 ((hrv l' t ⟨t0, t1⟩).mpr h2)⟩
/-- what is come to from now -/
theorem now_iff {q : CQ} {k : Int} (hl : LI K f) (hS : CSc S o f c mv) (hI : CBI (nSt f c) c (f 0) (scc f) (fun s => s = sst f c mv) k 0 0 q) (hk : q.1 ≤ k) {t : Int} (t0 : 0 ≤ t) (t1 : t < nSt f c) : q.2.2 t ≠ -1 ↔ ∃ l, hpt c (f 0) (scc f) (fun x => x == t) l (sst f c mv) := by
  have hsc : ∀ s m w, (0 ≤ s ∧ s < nSt f c) → (0 ≤ m ∧ m < c) → (0 ≤ w ∧ w < f 0) → scc f s m w = -1 ∨ (0 ≤ scc f s m w ∧ scc f s m w < nSt f c) := scc_rg hl hS.2.2.1
  constructor
  · intro h
    rcases hI.end hk hsc t0 t1 with ⟨a, b⟩ | ⟨l, a, b, e⟩
    · exact absurd a h
    · exact ⟨l, (fpt_app l).mpr ⟨t, beq_self_eq_true t, b⟩⟩
  · rintro ⟨l, h⟩ hn
    obtain ⟨t', a, b⟩ := (fpt_app l).mp h
    have e : t' = t := eq_of_beq a
    subst e
    have := (hI.fin hk hsc l t' b).2.1
    omega
theorem CAr.nz {Lw : List Nat} {S : SS} {o : Nat} {τ : Nat → Nat} {k : Nat} {c len : Int} (h : CAr Lw S o τ k c len) : S o (k : Int) ≠ 0 := by
  obtain ⟨⟨⟨a, ha, -⟩, -⟩, -⟩ := h
  intro z
  rw [z] at ha
  cases ha
/-- al: it makes the search's arrays -/
def FwP (Lw : List Nat) (S : SS) (o : Nat) (τ : Nat → Nat) (al : Prop) (P : Int → Prop) (v : Option AV) (Lw' : List Nat) (S' : SS) : Prop := (∃ z, v = some (ii z) ∧ P z) ∧ (al → S' o 10 ≠ 0) ∧ ∃ τ', Ext (bW S o τ) Lw S τ Lw' S' τ' ∧ CSh Lw' S' o τ'
theorem cm_fewest {s : Int} {mc ms : Nat} (hmc : sAre f s = true → bgc S o ≤ mc ∧ bgs S o ≤ ms) (hs : -2147483648 ≤ s ∧ s ≤ 2147483647) (hsh : CSh Lw S o τ) (hC : CLd Lw S o f wr gr lt) (hl : LI K f) : vc_M (d + 6) mc ms 29 [.inr (.inr o), ii s] Lw S B (vc_up (fun v Lw' S' _ => FwP Lw S o τ (sAre f s = true) (sp_few f s) v Lw' S')) := by
  refine vc_start rfl rfl (Nat.le_of_ble_eq_true rfl) (fun X hX hd => ?_)
  have hb := bI_rg (sAre f s)
  refine vc_walk hX ck_X0_fewest [] 60 hd ?_
  refine vc_kp hC.1 (cm_chooses (d := d + 2) hs hsh hC hl Ag.rf) ⟨by omega, by omega⟩ ?_
  rintro _ _ S1 _ ⟨rfl, rfl, rfl, A1, h10, hSc⟩
  unfold FwP sp_few
  refine ⟨by omega, fun c1 => ?_, fun c1 => ?_⟩
  rotate_left
  · have hn : sAre f s = false := (bI_0 (b := sAre f s)).mp (by omega)
    rw [hn]
    refine ⟨⟨by omega, by omega⟩, ⟨-1, rfl, ?_⟩, (fun z => by cases z), τ, (A1.mono (fun _ _ z => Or.inl z) : Ag (bW S o τ) S S1).ext, hsh.ag A1.q⟩
    rw [if_neg (by decide)]
  have hy := bI_n0.mp c1
  have hmc := hmc hy
  have C1 := hSc hy
  rw [hy]
  have hbc : bgc S1 o = bgc S o := by unfold bgc; rw [h10]
  have hbs : bgs S1 o = bgs S o := by unfold bgs; rw [h10]
  refine vc_kp (hC.ag A1).1 (cm_spreadsFromAims (d := d) (hsh.ag A1.q) (hC.ag A1) hl C1) ⟨by omega, by omega⟩ ?_
  rintro _ Lw2 S2 B2 ⟨rfl, τ2, E2, R2, q, k, B2q, I2, hk⟩
  have C2 := R2.2.2.2.2.1
  have hst := sst_lt hl C2
  have hN := nSt_le C2.2.2.1
  refine ⟨R2.1.1, ?_⟩
  refine vc_kv R2.1.1 (cm_stateNow (d := d + 1) R2.2.1 R2.1 hl C2) ⟨by omega, by omega⟩ ?_
  have a10 := R2.2.2.1
  have l10 : S2 (S2 o 10).toNat (-1) = 1048576 := a10.2.1
  have x := B2q.2.2 _ hst.1 hst.2
  have hr := I2.rg hst.1 hst.2
  refine ⟨⟨a10.1, by omega, by omega, by omega⟩, ?_⟩
  rw [x]
  have EE := Ext.pre A1 hC.1 E2
  rcases aims_end hl C2 I2 hk hst.1 hst.2 with ⟨a, b⟩ | ⟨l, a, b⟩
  · rw [a]
    refine ⟨by decide, fun z => absurd rfl z, fun _ => ?_⟩
    refine ⟨⟨by omega, by omega⟩, ⟨-2, rfl, ?_⟩, (fun _ => R2.2.2.1.nz), τ2, EE, R2.1⟩
    rw [if_pos rfl]
    exact Or.inl ⟨rfl, b⟩
  · refine ⟨by omega, fun _ => ?_, fun z => absurd z (by omega)⟩
    refine ⟨⟨by omega, by omega⟩, ⟨_, rfl, ?_⟩, (fun _ => R2.2.2.1.nz), τ2, EE, R2.1⟩
    rw [if_pos rfl]
    exact Or.inr ⟨l, a, b⟩
theorem isD_step {P n : Int} {sc : Int → Int → Int → Int} {hm : Int → Bool} {s m w : Int} {l : Nat} (h : isD P n sc hm s (l + 1)) (h2 : lm P n sc hm l s m w) : isD P n sc hm (sc s m w) l := by
  refine ⟨h2.2.2.2.1, fun l' h3 h4 => h.2 (l' + 1) (by omega) ⟨m, w, h2.1, h2.2.1, h2.2.2.1, h4⟩⟩
theorem cm_first {s : Int} {L : Nat} {st : Int → Int} (hs : 0 ≤ s ∧ s < nSt f c) (hR : CRd Lw S o τ f wr gr lt c mv) (hl : LI K f) (hst : ∀ t, 0 ≤ t → t < nSt f c → S (S o 10).toNat t = st t) (hD : ∀ t, 0 ≤ t → t < nSt f c → (st t = -1 ∧ ∀ l, ¬ hpt c (f 0) (scc f) (hmA f c mv) l t) ∨ ∃ l : Nat, st t = l ∧ isD c (f 0) (scc f) (hmA f c mv) t l) (hr : ∀ t, 0 ≤ t → t < nSt f c → st t < 1048576) (hL : isD c (f 0) (scc f) (hmA f c mv) s (L + 1)) : vc_M (d + 4) 0 0 39 [.inr (.inr o), ii s] Lw S B (vc_up (fun v Lw' S' B' => ∃ m w, v = some (ii (16 * m + w)) ∧ lm c (f 0) (scc f) (hmA f c mv) L s m w ∧ Lw = Lw' ∧ S = S' ∧ B = B')) := by
  refine vc_start rfl rfl (Nat.le_of_ble_eq_true rfl) (fun X hX hd => ?_)
  have n0 := hl.nW
  obtain ⟨H1, C1, a10, a11, C2, h14⟩ := id hR
  have x13 := C2.1
  have hc := C2.2.1
  have h20 := C2.2.2.1
  have hN := nSt_le h20
  have l10 : S (S o 10).toNat (-1) = 1048576 := a10.2.1
  have u1 := C1.2.1
  have u2 := u1.2.1
  have hsc : ∀ s m w, (0 ≤ s ∧ s < nSt f c) → (0 ≤ m ∧ m < c) → (0 ≤ w ∧ w < f 0) → scc f s m w = -1 ∨ (0 ≤ scc f s m w ∧ scc f s m w < nSt f c) := scc_rg hl h20
  have hs1 : st s = (L : Int) + 1 := by
    rcases hD s hs.1 hs.2 with ⟨a, b⟩ | ⟨l, a, b⟩
    · exact absurd hL.1 (b _)
    · have := isD_uniq b hL
      omega
  have hs2 := hr s hs.1 hs.2
  have hiff : ∀ m w, (0 ≤ m ∧ m < c) → (0 ≤ w ∧ w < f 0) → scc f s m w ≠ -1 → (st (scc f s m w) = L ↔ hpt c (f 0) (scc f) (hmA f c mv) L (scc f s m w)) := by
    intro m w hm hw hn
    have ht : 0 ≤ scc f s m w ∧ scc f s m w < nSt f c := by rcases hsc s m w hs hm hw with z | z; exact absurd z hn; exact z
    constructor
    · intro h
      rcases hD _ ht.1 ht.2 with ⟨a, b⟩ | ⟨l, a, b⟩
      · omega
      · rw [show L = l by omega]; exact b.1
    · intro h
      rcases hD _ ht.1 ht.2 with ⟨a, b⟩ | ⟨l, a, b⟩
      · exact absurd h (b _)
      · have h1 : l ≤ L := by
          by_cases z : l ≤ L
          · exact z
          · exact absurd h (b.2 L (by omega))
        have h2 : L ≤ l := by
          by_cases z : L ≤ l
          · exact z
          · exact absurd ⟨m, w, hm, hw, hn, b.1⟩ (hL.2 (l + 1) (by omega))
        omega
  have l2 : ∀ (n2 : Nat) (m w : Int), 0 ≤ m → m < c → 0 ≤ w → w + n2 = f 0 → (∀ m' w', (0 ≤ m' ∧ m' < c) → (0 ≤ w' ∧ w' < f 0) → (m' < m ∨ (m' = m ∧ w' < w)) → scc f s m' w' = -1 ∨ ¬ hpt c (f 0) (scc f) (hmA f c mv) L (scc f s m' w')) → ((∀ m' w', (0 ≤ m' ∧ m' < c) → (0 ≤ w' ∧ w' < f 0) → (m' < m + 1) → scc f s m' w' = -1 ∨ ¬ hpt c (f 0) (scc f) (hmA f c mv) L (scc f s m' w')) → vc_J 39 (vc_up (fun v Lw' S' B' => ∃ m w, v = some (ii (16 * m + w)) ∧ lm c (f 0) (scc f) (hmA f c mv) L s m w ∧ Lw = Lw' ∧ S = S' ∧ B = B')) X 69 [(0, .inr (.inr o)), (1, ii s), (2, ii m)] [] Lw S B 0 0) → vc_J 39 (vc_up (fun v Lw' S' B' => ∃ m w, v = some (ii (16 * m + w)) ∧ lm c (f 0) (scc f) (hmA f c mv) L s m w ∧ Lw = Lw' ∧ S = S' ∧ B = B')) X 12 [(0, .inr (.inr o)), (1, ii s), (2, ii m), (3, ii w)] [] Lw S B 0 0 := by
    intro n2
    induction n2 with
    | zero =>
      intro m w m0 m1 w0 wn hno go
      refine vc_walk hX ck_X0_first [(69, [0, 1, 2])] 60 hd ?_
      refine ⟨C1.1, ?_⟩
      refine vc_kv u1.1 (cm_size (d := d + 3) u1.1) ⟨Nat.le_refl _, Nat.le_refl _⟩ ?_
      refine ⟨by omega, fun _ => ?_, fun z => absurd z (by omega)⟩
      exact go (fun m' w' a b e => hno m' w' a b (by omega))
    | succ n2 ih =>
      intro m w m0 m1 w0 wn hno go
      have hrg := hsc s m w hs ⟨m0, m1⟩ ⟨w0, by omega⟩
      have next : (scc f s m w = -1 ∨ ¬ hpt c (f 0) (scc f) (hmA f c mv) L (scc f s m w)) → vc_J 39 (vc_up (fun v Lw' S' B' => ∃ m w, v = some (ii (16 * m + w)) ∧ lm c (f 0) (scc f) (hmA f c mv) L s m w ∧ Lw = Lw' ∧ S = S' ∧ B = B')) X 12 [(0, .inr (.inr o)), (1, ii s), (2, ii m), (3, ii (w + 1))] [] Lw S B 0 0 := by
        intro hw
        refine ih m (w + 1) m0 m1 (by omega) (by omega) (fun m' w' a b e => ?_) go
        by_cases z : m' = m ∧ w' = w
        · obtain ⟨rfl, rfl⟩ := z; exact hw
        · exact hno m' w' a b (by omega)
      refine vc_walk hX ck_X0_first [(12, [0, 1, 2, 3])] 60 hd ?_
      refine ⟨C1.1, ?_⟩
      refine vc_kv u1.1 (cm_size (d := d + 3) u1.1) ⟨Nat.le_refl _, Nat.le_refl _⟩ ?_
      refine ⟨by omega, fun z => absurd z (by omega), fun _ => ?_⟩
      refine vc_kv C1.1 (cm_goes (d := d) (by omega) (by omega) (by omega) ⟨w0, by omega⟩ C1 hl h14) ⟨Nat.le_refl _, Nat.le_refl _⟩ ?_
      refine ⟨by omega, fun c1 => next (Or.inl c1), fun c1 => ?_⟩
      have ht : 0 ≤ scc f s m w ∧ scc f s m w < nSt f c := by omega
      have y1 := hst _ ht.1 ht.2
      have y2 := hst s hs.1 hs.2
      have y3 := hr _ ht.1 ht.2
      have y4 : -1 ≤ st (scc f s m w) := by rcases hD _ ht.1 ht.2 with ⟨a, -⟩ | ⟨l, a, -⟩ <;> omega
      refine ⟨C1.1, ⟨a10.1, by omega, by omega, by omega⟩, C1.1, ⟨a10.1, by omega, by omega, by omega⟩, by omega, fun c2 => ?_, fun c2 => ?_⟩
      · exact next (Or.inr (fun z => c2 (by rw [y1, y2, (hiff m w ⟨m0, m1⟩ ⟨w0, by omega⟩ c1).mpr z]; omega)))
      · refine ⟨⟨Nat.le_refl _, Nat.le_refl _⟩, m, w, rfl, ⟨⟨m0, m1⟩, ⟨w0, by omega⟩, c1, (hiff m w ⟨m0, m1⟩ ⟨w0, by omega⟩ c1).mp (by omega), hno⟩, rfl, rfl, rfl⟩
  have l1 : ∀ (n1 : Nat) (m : Int), 0 ≤ m → m + n1 = c → (∀ m' w', (0 ≤ m' ∧ m' < c) → (0 ≤ w' ∧ w' < f 0) → m' < m → scc f s m' w' = -1 ∨ ¬ hpt c (f 0) (scc f) (hmA f c mv) L (scc f s m' w')) → vc_J 39 (vc_up (fun v Lw' S' B' => ∃ m w, v = some (ii (16 * m + w)) ∧ lm c (f 0) (scc f) (hmA f c mv) L s m w ∧ Lw = Lw' ∧ S = S' ∧ B = B')) X 2 [(0, .inr (.inr o)), (1, ii s), (2, ii m)] [] Lw S B 0 0 := by
    intro n1
    induction n1 with
    | zero =>
      intro m m0 mn hno
      obtain ⟨⟨m', w', a1, a2, a3, a4⟩, -⟩ := hL
      rcases hno m' w' a1 a2 (by omega) with z | z
      · exact absurd z a3
      · exact absurd a4 z
    | succ n1 ih =>
      intro m m0 mn hno
      refine vc_walk hX ck_X0_first [(12, [0, 1, 2, 3])] 60 hd ?_
      refine ⟨C1.1, by omega, fun z => absurd z (by omega), fun _ => ?_⟩
      refine l2 (f 0).toNat m 0 m0 (by omega) (by decide) (by omega) (fun m' w' a b e => hno m' w' a b (by omega)) (fun hno2 => ?_)
      refine vc_walk hX ck_X0_first [(2, [0, 1, 2])] 60 hd ?_
      exact ih (m + 1) (by omega) (by omega) hno2
  refine vc_walk hX ck_X0_first [(2, [0, 1, 2])] 60 hd ?_
  exact l1 c.toNat 0 (by decide) (by omega) (fun m' w' a b e => by omega)
theorem cm_step {s k : Int} {mc ms : Nat} (hmc : sAre f s = true ∧ sIn k 0 999 = true → bgc S o ≤ mc ∧ bgs S o ≤ ms) (hs : -2147483648 ≤ s ∧ s ≤ 2147483647) (hk : -2147483648 ≤ k ∧ k ≤ 2147483647) (hsh : CSh Lw S o τ) (hC : CLd Lw S o f wr gr lt) (hl : LI K f) : vc_M (d + 6) mc ms 38 [.inr (.inr o), ii s, ii k] Lw S B (vc_up (fun v Lw' S' _ => FwP Lw S o τ (sAre f s = true ∧ sIn k 0 999 = true) (sp_step f s k) v Lw' S')) := by
  refine vc_start rfl rfl (Nat.le_of_ble_eq_true rfl) (fun X hX hd => ?_)
  have n0 := hl.nW
  have n1 := hl.nG
  have hb := bI_rg (sAre f s)
  have hb2 := bI_rg (sIn k 0 999)
  refine vc_walk hX ck_X0_step [(38, [0, 2, 3, 4, 5])] 60 hd ?_
  refine vc_kp hC.1 (cm_chooses (d := d + 2) hs hsh hC hl Ag.rf) ⟨by omega, by omega⟩ ?_
  rintro _ _ S1 _ ⟨rfl, rfl, rfl, A1, h10, hSc⟩
  have noA : ¬ (sAre f s = true ∧ sIn k 0 999 = true) → FwP Lw S o τ (sAre f s = true ∧ sIn k 0 999 = true) (sp_step f s k) (some (ii (-1))) Lw S1 := by
    intro hn
    refine ⟨⟨-1, rfl, ?_⟩, (fun z => absurd z hn), τ, (A1.mono (fun _ _ z => Or.inl z) : Ag (bW S o τ) S S1).ext, hsh.ag A1.q⟩
    unfold sp_step
    rw [if_neg hn]
  refine ⟨by omega, fun c1 => ⟨⟨by omega, by omega⟩, noA (by rw [bI_0.mp c1]; simp)⟩, fun c1 => ?_⟩
  have hy := bI_n0.mp c1
  refine ⟨by omega, vc_k (cm_in (d := d + 5) (by omega) (by decide) (by decide)) ⟨by omega, by omega⟩ ?_⟩
  refine ⟨by omega, fun c2 => ?_, fun c2 => ⟨⟨by omega, by omega⟩, noA (by rw [(bI_0 (b := sIn k 0 999)).mp (by omega)]; simp)⟩⟩
  have hy2 := bI_n0.mp c2
  have hk2 : 0 ≤ k ∧ k ≤ 999 := of_decide_eq_true hy2
  have hmc := hmc ⟨hy, hy2⟩
  have C1 := hSc hy
  have hbc : bgc S1 o = bgc S o := by unfold bgc; rw [h10]
  have hbs : bgs S1 o = bgs S o := by unfold bgs; rw [h10]
  refine vc_kp (hC.ag A1).1 (cm_spreadsFromAims (d := d) (hsh.ag A1.q) (hC.ag A1) hl C1) ⟨by omega, by omega⟩ ?_
  rintro _ Lw2 S2 B2 ⟨rfl, τ2, E2, R2, q, k', B2q, I2, hk'⟩
  have EE := Ext.pre A1 hC.1 E2
  have C2 := R2.2.2.2.2.1
  have hst := sst_lt hl C2
  have hN := nSt_le C2.2.2.1
  have hD := fun t t0 t1 => aims_end (t := t) hl C2 I2 hk' t0 t1
  have hrg := fun t t0 t1 => I2.rg (t := t) t0 t1
  have hqs := B2q.2.2
  have a10 := R2.2.2.1
  have l10 : S2 (S2 o 10).toNat (-1) = 1048576 := a10.2.1
  have a12 := R2.1.2.1.1
  have l12 : S2 (S2 o 12).toNat (-1) = 6 := a12.2.1
  have hsc : ∀ t m w, (0 ≤ t ∧ t < nSt f (mvC f s)) → (0 ≤ m ∧ m < mvC f s) → (0 ≤ w ∧ w < f 0) → scc f t m w = -1 ∨ (0 ≤ scc f t m w ∧ scc f t m w < nSt f (mvC f s)) := scc_rg hl C2.2.2.1
  refine vc_kv R2.1.1 (cm_stateNow (d := d + 1) R2.2.1 R2.1 hl C2) ⟨by omega, by omega⟩ ?_
  have fin2 : (∀ l, ¬ hpt (mvC f s) (f 0) (scc f) (hmA f (mvC f s) (mvG f s)) l (sst f (mvC f s) (mvG f s))) ∨ (∃ L : Nat, isD (mvC f s) (f 0) (scc f) (hmA f (mvC f s) (mvG f s)) (sst f (mvC f s) (mvG f s)) L ∧ (L : Int) ≤ k) → FwP Lw S o τ (sAre f s = true ∧ sIn k 0 999 = true) (sp_step f s k) (some (ii (-2))) Lw2 S2 := by
    intro h
    refine ⟨⟨-2, rfl, ?_⟩, (fun _ => R2.2.2.1.nz), τ2, EE, R2.1⟩
    unfold sp_step
    rw [if_pos ⟨hy, hy2⟩]
    exact Or.inl ⟨rfl, h⟩
  -- the goings, one by one
  have loop : ∀ (L : Nat), isD (mvC f s) (f 0) (scc f) (hmA f (mvC f s) (mvG f s)) (sst f (mvC f s) (mvG f s)) L → ∀ (m : Nat) (at_ : Nat) (t going : Int), (at_ : Int) + m = k + 1 → at_ ≤ L → (0 ≤ t ∧ t < nSt f (mvC f s)) → grp (mvC f s) (f 0) (scc f) (hmA f (mvC f s) (mvG f s)) (sst f (mvC f s) (mvG f s)) L at_ t → isD (mvC f s) (f 0) (scc f) (hmA f (mvC f s) (mvG f s)) t (L - at_) → (at_ = 0 ∨ ∃ m' w', going = 16 * m' + w' ∧ (0 ≤ m' ∧ m' < mvC f s) ∧ (0 ≤ w' ∧ w' < f 0) ∧ sp_mv (mvC f s) (f 0) (scc f) (hmA f (mvC f s) (mvG f s)) (sst f (mvC f s) (mvG f s)) L (at_ - 1) m' w') →
      vc_J 38 (vc_up (fun v Lw' S' _ => FwP Lw S o τ (sAre f s = true ∧ sIn k 0 999 = true) (sp_step f s k) v Lw' S')) X 38 [(0, .inr (.inr o)), (2, ii k), (3, ii t), (4, ii going), (5, ii (at_ : Int))] [] Lw2 S2 B2 (0 + 0 + 0 + bgc S1 o + 0) (0 + 0 + 0 + bgs S1 o + 0) := by
    intro L hL m
    induction m with
    | zero =>
      intro at_ t going hat hle ht hg hd2 hgo
      obtain ⟨m', w', e1, e2, e3, e4⟩ : ∃ m' w', going = 16 * m' + w' ∧ (0 ≤ m' ∧ m' < mvC f s) ∧ (0 ≤ w' ∧ w' < f 0) ∧ sp_mv (mvC f s) (f 0) (scc f) (hmA f (mvC f s) (mvG f s)) (sst f (mvC f s) (mvG f s)) L (at_ - 1) m' w' := by
        rcases hgo with z | z
        · omega
        · exact z
      have hc6 := C2.2.1
      have q1 : going.tdiv 16 = m' := by rw [Int.tdiv_eq_ediv_of_nonneg (by omega)]; omega
      have q2 : going.tmod 16 = w' := by rw [Int.tmod_eq_emod_of_nonneg (by omega)]; omega
      have hmvx := C2.2.2.2 m' e2.1 e2.2
      refine vc_walk hX ck_X0_step [] 60 hd ?_
      refine ⟨by omega, fun _ => ?_, fun z => absurd z (by omega)⟩
      refine ⟨R2.1.1, by omega, ?_⟩
      rw [q1]
      refine ⟨⟨a12.1, by omega, by omega, by omega⟩, ?_⟩
      rw [hmvx.1]
      refine ⟨by omega, ?_⟩
      rw [q2]
      refine ⟨⟨by omega, by omega⟩, ⟨_, rfl, ?_⟩, (fun _ => R2.2.2.1.nz), τ2, EE, R2.1⟩
      unfold sp_step
      rw [if_pos ⟨hy, hy2⟩]
      refine Or.inr ⟨L, m', w', hL, by omega, ?_, rfl⟩
      rw [show k.toNat = at_ - 1 by omega]
      exact e4
    | succ m ih =>
      intro at_ t going hat hle ht hg hd2 hgo
      have y1 := hqs t ht.1 ht.2
      have y2 := hrg t ht.1 ht.2
      have y3 : q.2.2 t = ((L - at_ : Nat) : Int) := by
        rcases hD t ht.1 ht.2 with ⟨a, b⟩ | ⟨l, a, b⟩
        · exact absurd hd2.1 (b _)
        · rw [a, isD_uniq b hd2]
      have hc6 := C2.2.1
      refine vc_walk hX ck_X0_step [(38, [0, 2, 3, 4, 5])] 60 hd ?_
      refine ⟨by omega, fun z => absurd z (by omega), fun _ => ?_⟩
      refine ⟨R2.1.1, ⟨a10.1, by omega, by omega, by omega⟩, by omega, fun c3 => ?_, fun c3 => ?_⟩
      · have hlt : at_ < L := by omega
        have hd3 := hd2
        rw [show L - at_ = (L - at_ - 1) + 1 by omega] at hd3
        refine vc_kp R2.1.1 (cm_first (d := d + 1) ht R2 hl hqs hD (fun t a b => by have := (hrg t a b).2; omega) hd3) ⟨by omega, by omega⟩ ?_
        rintro _ _ _ _ ⟨m', w', rfl, hlm, rfl, rfl, rfl⟩
        obtain ⟨g1, g2, g3, g4, g5⟩ := id hlm
        have h20 := C2.2.2.1
        have q1 : (16 * m' + w').tdiv 16 = m' := by rw [Int.tdiv_eq_ediv_of_nonneg (by omega)]; omega
        have q2 : (16 * m' + w').tmod 16 = w' := by rw [Int.tmod_eq_emod_of_nonneg (by omega)]; omega
        refine ⟨by omega, fun _ => ?_, fun z => absurd z (by omega)⟩
        refine ⟨by omega, by omega, ?_⟩
        rw [q1, q2]
        refine vc_kv R2.1.1 (cm_goes (d := d + 2) (by omega) (by omega) (by omega) g2 R2.2.1 hl R2.2.2.2.2.2) ⟨by omega, by omega⟩ ?_
        have ht2 : 0 ≤ scc f t m' w' ∧ scc f t m' w' < nSt f (mvC f s) := by
          rcases hsc t m' w' ht g1 g2 with z | z
          · exact absurd z g3
          · exact z
        have nx := ih (at_ + 1) (scc f t m' w') (16 * m' + w') (by omega) (by omega) ht2 ⟨t, m', w', hg, by rw [show L - at_ - 1 = L - at_ - 1 from rfl]; exact hlm, rfl⟩ (by
          rw [show L - (at_ + 1) = L - at_ - 1 by omega]
          exact isD_step hd3 hlm) (Or.inr ⟨m', w', rfl, g1, g2, t, by rw [show at_ + 1 - 1 = at_ by omega]; exact hg, by rw [show at_ + 1 - 1 = at_ by omega]; exact hlm⟩)
        exact nx
      · refine ⟨by decide, fun z => absurd rfl z, fun _ => ?_⟩
        exact ⟨⟨by omega, by omega⟩, fin2 (Or.inr ⟨L, hL, by omega⟩)⟩
  rcases hD _ hst.1 hst.2 with ⟨a, b⟩ | ⟨L, a, b⟩
  · have y1 := hqs _ hst.1 hst.2
    show vc_J _ _ _ _ _ _ _ _ _ _ _
    refine vc_walk hX ck_X0_step [] 60 hd ?_
    refine ⟨by omega, fun z => absurd z (by omega), fun _ => ?_⟩
    refine ⟨R2.1.1, ⟨a10.1, by omega, by omega, by omega⟩, by omega, fun z => absurd z (by omega), fun _ => ?_⟩
    refine ⟨by decide, fun z => absurd rfl z, fun _ => ?_⟩
    exact ⟨⟨by omega, by omega⟩, fin2 (Or.inl b)⟩
  · exact loop L b (k + 1).toNat 0 _ (-2) (by omega) (Nat.zero_le _) hst rfl b (Or.inl rfl)
end CMR
