/-! THE COMPONENT's methods: one who takes what was not taken for longest -/
set_option maxRecDepth 100000
/-- a plain call of a method that throws nothing -/
theorem vc_kp {Lw : List Nat} {S : SS} {B : SB} {mt e r : Nat} {as : List AV} {P : Option AV → List Nat → SS → SB → Prop} {mc' ms' cc sl mc ms : Nat} {Q : Option AV → List Nat → SS → SB → Nat → Nat → Prop} {T : Nat → List Nat → SS → SB → Nat → Nat → Prop} (ho : vc_ob Lw S r (vc_rc mt)) (h : vc_M e mc' ms' mt (.inr (.inr r) :: as) Lw S B (vc_up P)) (hb : cc + mc' ≤ mc ∧ sl + ms' ≤ ms) (k : ∀ v Lw' S' B', P v Lw' S' B' → Q v Lw' S' B' (cc + mc') (sl + ms')) : vc_ob Lw S r (vc_rc mt) ∧ ∃ mc' ms' P', vc_M e mc' ms' mt (.inr (.inr r) :: as) Lw S B P' ∧ (cc + mc' ≤ mc ∧ sl + ms' ≤ ms) ∧ ∀ o Lw' S' B', P' o Lw' S' B' → match o with
    | .inl v => Q v Lw' S' B' (cc + mc') (sl + ms')
    | .inr x => T x Lw' S' B' (cc + mc') (sl + ms') :=
  ⟨ho, mc', ms', _, h, hb, fun o Lw' S' B' hp => by
    cases o with
    | inl v => exact k v Lw' S' B' hp
    | inr x => exact hp.elim⟩
theorem bt_01 {x w : Int} (hx : 0 ≤ x ∧ x ≤ 2147483647) : vt_and (x / 2 ^ w.toNat) 1 = 0 ∨ vt_and (x / 2 ^ w.toNat) 1 = 1 := by
  rw [bt_bit hx]
  split
  · exact Or.inr rfl
  · exact Or.inl rfl
section CMH
variable {Lw : List Nat} {S0 S : SS} {B : SB} {d o : Nat} {τ : Nat → Nat} {f : Int → Int} {wr gr : Int → Nat} {lt : Int → Int} {K : Int}
theorem CW.fromB {r : Nat} {w x : Int} (h : CW Lw S r f w) (hx : 0 ≤ x ∧ x ≤ 2147483647) : (if vt_and (x / 2 ^ w.toNat) 1 = 1 then S r 1 else S r 0) = sE f x w 0 := by
  rw [bt_bit hx]
  unfold sE
  cases x.toNat.testBit w.toNat
  · rw [if_neg (by decide), if_neg (by decide), h.2.1]
  · rw [if_pos rfl, if_pos rfl, if_pos rfl, h.2.2.1]; rfl
theorem CW.toB {r : Nat} {w x : Int} (h : CW Lw S r f w) (hx : 0 ≤ x ∧ x ≤ 2147483647) : (if vt_and (x / 2 ^ w.toNat) 1 = 1 then S r 0 else S r 1) = sE f x w 1 := by
  rw [bt_bit hx]
  unfold sE
  cases x.toNat.testBit w.toNat
  · rw [if_neg (by decide), if_neg (by decide), h.2.2.1]
  · rw [if_pos rfl, if_pos rfl, if_pos rfl, h.2.1]; rfl
theorem bset_up {p p' : Int → Bool} {b : Int} {n : Nat} (hb : 0 ≤ b ∧ b < n) (h1 : p' b = true) (h2 : ∀ i, i ≠ b → p' i = p i) : bset p' n = bset p n ||| 2 ^ b.toNat := by
  apply Nat.eq_of_testBit_eq
  intro i
  rw [Nat.testBit_or, bset_bit, bset_bit, Nat.testBit_two_pow]
  by_cases c : b.toNat = i
  · rw [decide_eq_true c, Bool.or_true, decide_eq_true (by omega), show ((i : Nat) : Int) = b by omega, h1]; rfl
  · rw [decide_eq_false c, Bool.or_false, h2 _ (by omega)]
theorem bset_all {p : Int → Bool} {n : Nat} : bset p n = 2 ^ n - 1 ↔ ∀ i : Int, 0 ≤ i → i < n → p i = true := by
  constructor
  · intro h i i0 i1
    have := congrArg (fun x => x.testBit i.toNat) h
    simp only [bset_bit, Nat.testBit_two_pow_sub_one] at this
    rw [decide_eq_true (by omega), show ((i.toNat : Nat) : Int) = i by omega] at this
    simpa using this
  · intro h
    apply Nat.eq_of_testBit_eq
    intro i
    rw [bset_bit, Nat.testBit_two_pow_sub_one]
    by_cases c : i < n
    · rw [h i (by omega) (by omega), Bool.and_true]
    · rw [decide_eq_false c]; rfl
def CWs (S : SS) (o : Nat) (f : Int → Int) (a : WS) : Prop := S o 19 = a.1 ∧ S o 20 = a.2.1 ∧ S o 21 = a.2.2.1 ∧ (∀ w, 0 ≤ w → w < f 0 → S (S o 18).toNat w = a.2.2.2 w) ∧ S o 22 = ((bset (fun w => decide (f 3 < a.2.2.2 w)) (f 0).toNat : Nat) : Int) ∧ f 3 ≤ a.2.2.1
theorem cm_mayWander {g : Int} (hg : -2147483648 ≤ g ∧ g ≤ 2147483647) (h : CLd Lw S o f wr gr lt) (hl : LI K f) : vc_M (d + 4) 0 0 52 [.inr (.inr o), ii g] Lw S B (vc_eq (some (ii (bI (sCanT f g)))) Lw S B) := by
  refine vc_start rfl rfl (Nat.le_of_ble_eq_true rfl) (fun X hX hd => ?_)
  refine vc_walk hX ck_X0_mayWander [] 60 hd ?_
  refine vc_kv h.1 (cm_isGoer (d := d + 2) hg h hl) ⟨Nat.le_refl _, Nat.le_refl _⟩ ?_
  have hb := bI_rg (sIsG f g)
  have hb2 := bI_rg (!sAny f)
  unfold sCanT sStd
  refine ⟨by omega, fun c => ?_, fun c => ?_⟩
  · rw [bI_0.mp c]
    exact ⟨⟨Or.inl rfl, Nat.le_refl _, Nat.le_refl _⟩, rfl, rfl, rfl, rfl⟩
  have c1 := bI_n0.mp c
  have cg := of_decide_eq_true c1
  refine vc_kv h.1 (cm_isQuiet (d := d) h hl) ⟨Nat.le_refl _, Nat.le_refl _⟩ ?_
  refine ⟨by omega, fun c => ?_, fun c => ?_⟩
  · rw [bI_0.mp c, Bool.and_false]
    exact ⟨⟨Or.inl rfl, Nat.le_refl _, Nat.le_refl _⟩, rfl, rfl, rfl, rfl⟩
  · have c2 := bI_n0.mp c
    have hs : sG f g 3 = -1 := by
      apply Classical.byContradiction
      intro z
      have : sAny f = true := anyB_iff.mpr ⟨g, cg.1, by omega, bne_iff_ne.mpr z⟩
      rw [this] at c2
      cases c2
    rw [c1, c2, show (sG f g 3 == -1) = true from beq_iff_eq.mpr hs]
    exact ⟨⟨Or.inr rfl, Nat.le_refl _, Nat.le_refl _⟩, rfl, rfl, rfl, rfl⟩
theorem cm_setsOut {g : Int} (hg : sCanT f g = true) (hsh : CSh Lw S0 o τ) (hC : CLd Lw S0 o f wr gr lt) (hl : LI K f) (hA : Ag (scW S0 o τ) S0 S) : vc_M (d + 4) 0 0 53 [.inr (.inr o), ii g] Lw S B (vc_up (fun v Lw' S' B' => v = none ∧ Lw = Lw' ∧ B = B' ∧ Ag (scW S0 o τ) S0 S' ∧ CWs S' o f (ws0 f g))) := by
  refine vc_start rfl rfl (Nat.le_of_ble_eq_true rfl) (fun X hX hd => ?_)
  have cg := sCanT_g hg
  have hs : sG f g 3 = -1 := by
    unfold sCanT sStd at hg
    simp only [Bool.and_eq_true, beq_iff_eq] at hg
    exact hg.1.2
  have n0 := hl.nW
  have loop : ∀ (m : Nat) (k : Int) (S : SS), 0 ≤ k → k + m = f 0 → Ag (scW S0 o τ) S0 S → S o 19 = sG f g 0 → S o 20 = f 2 → S o 21 = f 3 → S o 22 = 0 → (∀ w, 0 ≤ w → w < k → S (S o 18).toNat w = sW f w 4) → vc_J 53 (vc_up (fun v Lw' S' B' => v = none ∧ Lw = Lw' ∧ B = B' ∧ Ag (scW S0 o τ) S0 S' ∧ CWs S' o f (ws0 f g))) X 41 [(0, .inr (.inr o)), (2, ii k)] [] Lw S B 0 0 := by
    intro m
    induction m with
    | zero =>
      intro k S k0 km hA e1 e2 e3 e4 e5
      have hC' := hC.ag hA
      have h2 := hC'.2.1
      have e6 := h2.2.1
      refine vc_walk hX ck_X0_setsOut [] 60 hd ?_
      refine ⟨hC'.1, ?_⟩
      refine vc_kv h2.1 (cm_size (d := d + 3) h2.1) ⟨Nat.le_refl _, Nat.le_refl _⟩ ?_
      refine ⟨by omega, fun _ => ?_, fun c => absurd c (by omega)⟩
      refine ⟨⟨Nat.le_refl _, Nat.le_refl _⟩, rfl, rfl, rfl, hA, e1, e2, e3, fun w w0 w1 => e5 w w0 (by omega), ?_, Int.le_refl _⟩
      rw [e4]
      have : bset (fun w => decide (f 3 < (ws0 f g).2.2.2 w)) (f 0).toNat = 0 := by
        apply Nat.eq_of_testBit_eq
        intro i
        rw [bset_bit, Nat.zero_testBit]
        by_cases c : i < (f 0).toNat
        · have := (hl.w (w := (i : Int)) (by omega) (by omega)).2.2.2.2.2.2
          rw [decide_eq_false (show ¬ f 3 < (ws0 f g).2.2.2 (i : Int) by show ¬ f 3 < sW f i 4; omega), Bool.and_false]
        · rw [decide_eq_false c]; rfl
      rw [this]
      rfl
    | succ m ih =>
      intro k S k0 km hA e1 e2 e3 e4 e5
      have hC' := hC.ag hA
      have hS' := hsh.ag hA.q
      have h2 := hC'.2.1
      have e6 := h2.2.1
      have hW := hC'.2.2.2.1 k k0 (by omega)
      obtain ⟨l1, l2, l3⟩ := hS'.2.1.2.2.2.1
      have hn0 : (S o 18).toNat ≠ o := hS'.2.1.2.2.2.1.ne0 hC'.1 (by decide)
      refine vc_walk hX ck_X0_setsOut [(41, [0, 2])] 60 hd ?_
      refine ⟨hC'.1, ?_⟩
      refine vc_kv h2.1 (cm_size (d := d + 3) h2.1) ⟨Nat.le_refl _, Nat.le_refl _⟩ ?_
      refine ⟨by omega, fun c => absurd c (by omega), fun _ => ?_⟩
      refine ⟨hC'.1, hC'.1, ?_⟩
      refine vc_kv h2.1 (cm_get (d := d + 1) h2 (i := k) ⟨k0, by omega⟩) ⟨Nat.le_refl _, Nat.le_refl _⟩ ?_
      refine ⟨Or.inr hW.1, hW.1, ⟨l1, k0, by show k < S (S o ((18 : Nat) : Int)).toNat (-1); omega, by show S (S o ((18 : Nat) : Int)).toNat (-1) ≤ _; omega⟩, ?_⟩
      have hn := fun i => up_ne (S := S) (r := (S o 18).toNat) (i := k) (v := S (wr k) 4) (r' := o) (i' := i) (Or.inl (fun z => hn0 z.symm))
      refine ih (k + 1) _ (by omega) (by omega) (hA.up ?_) (by rw [hn]; exact e1) (by rw [hn]; exact e2) (by rw [hn]; exact e3) (by rw [hn]; exact e4) (fun w w0 w1 => ?_)
      · rw [hA o 18 (scW.ob0 hsh.1.2 rfl)]
        exact scW.a hsh.2.1.2.2.2.1 rfl k0
      · rw [hn, up_rd]
        by_cases c : w = k
        · rw [if_pos ⟨rfl, c⟩, c, hW.2.2.2.2.2.1]
        · rw [if_neg (fun z => c z.2)]
          exact e5 w w0 (by omega)
  have hC0 := hC.ag hA
  have hG := hC0.2.2.2.2.1 g cg.1 cg.2
  refine vc_walk hX ck_X0_setsOut [(41, [0, 2])] 60 hd ?_
  refine ⟨hC0.1, ?_⟩
  refine vc_kv hC0.2.2.1.1 (cm_get (d := d + 1) hC0.2.2.1 (i := g) cg) ⟨Nat.le_refl _, Nat.le_refl _⟩ ?_
  have A1 : Ag (scW S0 o τ) S0 (vt_up S o 19 (S (gr g) 2)) := hA.up (scW.fl rfl)
  have C1 := hC.ag A1
  refine ⟨Or.inr hG.1, hG.1, hC0.1, ?_⟩
  refine vc_kv C1.1 (cm_directions (d := d) C1 hl) ⟨Nat.le_refl _, Nat.le_refl _⟩ ?_
  have A2 : Ag (scW S0 o τ) S0 (vt_up (vt_up S o 19 (S (gr g) 2)) o 20 (f 2)) := A1.up (scW.fl rfl)
  have C2 := hC.ag A2
  refine ⟨C1.1, C2.1, C2.1, ?_⟩
  have A3 : Ag (scW S0 o τ) S0 (vt_up (vt_up (vt_up S o 19 (S (gr g) 2)) o 20 (f 2)) o 21 (vt_up (vt_up S o 19 (S (gr g) 2)) o 20 (f 2) o 2)) := A2.up (scW.fl rfl)
  refine ⟨(hC.ag A3).1, ?_⟩
  refine loop (f 0).toNat 0 _ (by decide) (by omega) (A3.up (scW.fl rfl)) ?_ ?_ ?_ ?_ (fun w w0 w1 => absurd w1 (by omega))
  · rw [up_ne (Or.inr (by decide)), up_ne (Or.inr (by decide)), up_ne (Or.inr (by decide)), vt_up_self]
    exact hG.2.2.2.1.2 hs
  · rw [up_ne (Or.inr (by decide)), up_ne (Or.inr (by decide)), vt_up_self]
  · rw [up_ne (Or.inr (by decide)), vt_up_self]
    exact C2.2.2.2.2.2.1
  · rw [vt_up_self]
theorem cm_wandersX {a : WS} {M : Int} (hM : M ≤ 2000000000) (hV : wsVd f M a) (hsh : CSh Lw S0 o τ) (hC : CLd Lw S0 o f wr gr lt) (hl : LI K f) (hA : Ag (scW S0 o τ) S0 S) (hw : CWs S o f a) : vc_M (d + 4) 0 0 54 [.inr (.inr o)] Lw S B (vc_up (fun v Lw' S' B' => v = some (ii (bI (wst f a).isSome)) ∧ Lw = Lw' ∧ B = B' ∧ Ag (scW S0 o τ) S0 S' ∧ CWs S' o f ((wst f a).getD a) ∧ S' (S' o 24).toNat = S (S o 24).toNat)) := by
  refine vc_start rfl rfl (Nat.le_of_ble_eq_true rfl) (fun X hX hd => ?_)
  have n0 := hl.nW
  have h14 := pow14 n0.2
  have hC' := hC.ag hA
  have hS' := hsh.ag hA.q
  have h2 := hC'.2.1
  have e6 := h2.2.1
  obtain ⟨w1, w2, w3, w4, w5, w6⟩ := hw
  obtain ⟨v1, v2, v3, v4⟩ := hV
  obtain ⟨l1, l2, l3⟩ := hS'.2.1.2.2.2.1
  have l2 : S (S o 18).toNat (-1) = 14 := l2
  have hn0 : (S o 18).toNat ≠ o := hS'.2.1.2.2.2.1.ne0 hC'.1 (by decide)
  have hbr := bst_rg f a (f 0).toNat
  have loop : ∀ (m : Nat) (k : Int), 0 ≤ k → k + m = f 0 → vc_J 54 (vc_up (fun v Lw' S' B' => v = some (ii (bI (wst f a).isSome)) ∧ Lw = Lw' ∧ B = B' ∧ Ag (scW S0 o τ) S0 S' ∧ CWs S' o f ((wst f a).getD a) ∧ S' (S' o 24).toNat = S (S o 24).toNat)) X 4 [(0, .inr (.inr o)), (1, ii (bst f a k.toNat)), (2, ii k)] [] Lw S B 0 0 := by
    intro m
    induction m with
    | zero =>
      intro k k0 km
      refine vc_walk hX ck_X0_wanders [] 90 hd ?_
      refine ⟨hC'.1, ?_⟩
      refine vc_kv h2.1 (cm_size (d := d + 3) h2.1) ⟨Nat.le_refl _, Nat.le_refl _⟩ ?_
      refine ⟨by omega, fun _ => ?_, fun c => absurd c (by omega)⟩
      rw [show k = f 0 by omega]
      refine ⟨by omega, fun c => ?_, fun c => ?_⟩
      · have hW := hC'.2.2.2.1 (bst f a (f 0).toNat) (by omega) (by omega)
        have hwe : wst f a = some (sE f a.2.1 (bst f a (f 0).toNat) 1, xr a.2.1 (bst f a (f 0).toNat), a.2.2.1 + 1, upF a.2.2.2 (bst f a (f 0).toNat) (a.2.2.1 + 1)) := if_neg (by omega)
        rw [hwe]
        generalize bst f a (f 0).toNat = b at *
        have b0 : 0 ≤ b := by omega
        refine ⟨hC'.1, ?_⟩
        refine vc_kv h2.1 (cm_get (d := d + 1) h2 (i := b) ⟨b0, by omega⟩) ⟨Nat.le_refl _, Nat.le_refl _⟩ ?_
        refine ⟨Or.inr hW.1, hC'.1, by omega, ?_⟩
        refine vc_kv hW.1 (cm_toB (d := d + 3) hW.1 (bt_01 (by omega))) ⟨Nat.le_refl _, Nat.le_refl _⟩ ?_
        rw [hW.toB (by omega), w2]
        have A1 : Ag (scW S0 o τ) S0 (vt_up S o 19 (sE f a.2.1 b 1)) := hA.up (scW.fl rfl)
        have C1 := (hC.ag A1).1
        refine ⟨hC'.1, C1, by omega, C1, ?_⟩
        have hp : (2 : Nat) ^ b.toNat ≤ 2 ^ 13 := Nat.pow_le_pow_right (by decide) (by omega)
        have ep : (1 : Int) * 2 ^ b.toNat = ((2 ^ b.toNat : Nat) : Int) := by simp
        have r1 : vt_up S o 19 (sE f a.2.1 b 1) o 20 = a.2.1 := by rw [up_ne (Or.inr (by decide))]; exact w2
        rw [r1, ep, bt_xor (by omega) ⟨Int.natCast_nonneg _, by omega⟩, Int.toNat_natCast]
        have A2 : Ag (scW S0 o τ) S0 (vt_up (vt_up S o 19 (sE f a.2.1 b 1)) o 20 ((a.2.1.toNat ^^^ 2 ^ b.toNat : Nat) : Int)) := A1.up (scW.fl rfl)
        have C2 := (hC.ag A2).1
        have r2 : (vt_up (vt_up S o 19 (sE f a.2.1 b 1)) o 20 ((a.2.1.toNat ^^^ 2 ^ b.toNat : Nat) : Int)) o 21 = a.2.2.1 := by rw [up_ne (Or.inr (by decide)), up_ne (Or.inr (by decide))]; exact w3
        refine ⟨C2, C2, ?_⟩
        rw [r2]
        have A3 : Ag (scW S0 o τ) S0 (vt_up (vt_up (vt_up S o 19 (sE f a.2.1 b 1)) o 20 ((a.2.1.toNat ^^^ 2 ^ b.toNat : Nat) : Int)) o 21 (a.2.2.1 + 1)) := A2.up (scW.fl rfl)
        have C3 := (hC.ag A3).1
        have S3 := hsh.ag A3.q
        have r3 : (vt_up (vt_up (vt_up S o 19 (sE f a.2.1 b 1)) o 20 ((a.2.1.toNat ^^^ 2 ^ b.toNat : Nat) : Int)) o 21 (a.2.2.1 + 1)) o 18 = S o 18 := by rw [up_ne (Or.inr (by decide)), up_ne (Or.inr (by decide)), up_ne (Or.inr (by decide))]
        have r3b : (vt_up (vt_up (vt_up S o 19 (sE f a.2.1 b 1)) o 20 ((a.2.1.toNat ^^^ 2 ^ b.toNat : Nat) : Int)) o 21 (a.2.2.1 + 1)) o 21 = a.2.2.1 + 1 := vt_up_self
        have s3 : vc_ob Lw (vt_up (vt_up (vt_up S o 19 (sE f a.2.1 b 1)) o 20 ((a.2.1.toNat ^^^ 2 ^ b.toNat : Nat) : Int)) o 21 (a.2.2.1 + 1)) (S o 18).toNat 100 := by
          have := S3.2.1.2.2.2.1.1
          rw [show (vt_up (vt_up (vt_up S o 19 (sE f a.2.1 b 1)) o 20 ((a.2.1.toNat ^^^ 2 ^ b.toNat : Nat) : Int)) o 21 (a.2.2.1 + 1)) o ((18 : Nat) : Int) = S o 18 from r3] at this
          exact this
        have s4 : (vt_up (vt_up (vt_up S o 19 (sE f a.2.1 b 1)) o 20 ((a.2.1.toNat ^^^ 2 ^ b.toNat : Nat) : Int)) o 21 (a.2.2.1 + 1)) (S o 18).toNat (-1) = 14 := by
          rw [up_ne (Or.inl hn0), up_ne (Or.inl hn0), up_ne (Or.inl hn0)]; exact l2
        refine ⟨C3, C3, ?_⟩
        rw [r3, r3b]
        refine ⟨⟨s3, by omega, by omega, by omega⟩, ?_⟩
        have A4 : Ag (scW S0 o τ) S0 (vt_up (vt_up (vt_up (vt_up S o 19 (sE f a.2.1 b 1)) o 20 ((a.2.1.toNat ^^^ 2 ^ b.toNat : Nat) : Int)) o 21 (a.2.2.1 + 1)) (S o 18).toNat b (a.2.2.1 + 1)) := A3.up (by
          rw [hA o 18 (scW.ob0 hsh.1.2 rfl)]
          exact scW.a hsh.2.1.2.2.2.1 rfl (by omega))
        have C4 := (hC.ag A4).1
        have r4 : (vt_up (vt_up (vt_up (vt_up S o 19 (sE f a.2.1 b 1)) o 20 ((a.2.1.toNat ^^^ 2 ^ b.toNat : Nat) : Int)) o 21 (a.2.2.1 + 1)) (S o 18).toNat b (a.2.2.1 + 1)) o 22 = ((bset (fun w => decide (f 3 < a.2.2.2 w)) (f 0).toNat : Nat) : Int) := by
          rw [up_ne (Or.inl (fun z => hn0 z.symm)), up_ne (Or.inr (by decide)), up_ne (Or.inr (by decide)), up_ne (Or.inr (by decide))]; exact w5
        refine ⟨C4, by omega, C4, ?_⟩
        have hbl := bset_lt (fun w => decide (f 3 < a.2.2.2 w)) (f 0).toNat
        have hp2 : (2 : Nat) ^ (f 0).toNat ≤ 2 ^ 14 := Nat.pow_le_pow_right (by decide) (by omega)
        rw [r4, ep, bt_or ⟨Int.natCast_nonneg _, by omega⟩ ⟨Int.natCast_nonneg _, by omega⟩, Int.toNat_natCast, Int.toNat_natCast]
        refine ⟨⟨Or.inr rfl, Nat.le_refl _, Nat.le_refl _⟩, rfl, rfl, rfl, A4.up (scW.fl rfl), ⟨?_, ?_, ?_, fun w w0 w1 => ?_, ?_, ?_⟩, ?_⟩
        · rw [up_ne (Or.inr (by decide)), up_ne (Or.inl (fun z => hn0 z.symm)), up_ne (Or.inr (by decide)), up_ne (Or.inr (by decide)), vt_up_self]; rfl
        · rw [up_ne (Or.inr (by decide)), up_ne (Or.inl (fun z => hn0 z.symm)), up_ne (Or.inr (by decide)), vt_up_self]; rfl
        · rw [up_ne (Or.inr (by decide)), up_ne (Or.inl (fun z => hn0 z.symm)), vt_up_self]; rfl
        · rw [up_ne (r' := o) (i' := 18) (Or.inr (by decide)), up_ne (r' := o) (i' := 18) (Or.inl (fun z => hn0 z.symm)), r3, up_ne (Or.inl hn0), up_rd]
          show _ = upF a.2.2.2 b (a.2.2.1 + 1) w
          by_cases e : w = b
          · rw [if_pos ⟨rfl, e⟩, e, upF_self]
          · rw [if_neg (fun z => e z.2), upF_ne e, up_ne (Or.inl hn0), up_ne (Or.inl hn0), up_ne (Or.inl hn0)]
            exact w4 w w0 w1
        · rw [vt_up_self]
          congr 1
          refine (bset_up (b := b) ⟨b0, by omega⟩ ?_ (fun i hi => ?_)).symm
          · show decide (f 3 < upF a.2.2.2 b (a.2.2.1 + 1) b) = true
            rw [upF_self]
            exact decide_eq_true (by omega)
          · show decide (f 3 < upF a.2.2.2 b (a.2.2.1 + 1) i) = _
            rw [upF_ne hi]
        · show f 3 ≤ a.2.2.1 + 1
          omega
        · rw [up_ne (r' := o) (i' := 24) (Or.inr (by decide)), up_ne (r' := o) (i' := 24) (Or.inl (fun z => hn0 z.symm)), up_ne (r' := o) (i' := 24) (Or.inr (by decide)), up_ne (r' := o) (i' := 24) (Or.inr (by decide)), up_ne (r' := o) (i' := 24) (Or.inr (by decide))]
          have n24 : (S o 24).toNat ≠ o := hS'.2.1.2.2.2.2.1.ne0 hC'.1 (by decide)
          have n248 : (S o 24).toNat ≠ (S o 18).toNat := hS'.2.1.2.2.2.2.1.ne hS'.2.1.2.2.2.1 (by decide)
          rw [vt_up_ne n24, vt_up_ne n248, vt_up_ne n24, vt_up_ne n24, vt_up_ne n24]
      · have hwe : wst f a = none := if_pos (by omega)
        rw [hwe]
        exact ⟨⟨Or.inl rfl, Nat.le_refl _, Nat.le_refl _⟩, rfl, rfl, rfl, hA, ⟨w1, w2, w3, w4, w5, w6⟩, rfl⟩
    | succ m ih =>
      intro k k0 km
      have hW := hC'.2.2.2.1 k k0 (by omega)
      have hbk := bst_rg f a k.toNat
      have ih' := ih (k + 1) (by omega) (by omega)
      rw [bst_s k0] at ih'
      have he := (hl.w k0 (by omega)).end (d := a.2.1) (Or.inl rfl)
      have vk := v4 k k0 (by omega)
      refine vc_walk hX ck_X0_wanders [(4, [0, 1, 2])] 90 hd ?_
      refine ⟨hC'.1, ?_⟩
      refine vc_kv h2.1 (cm_size (d := d + 3) h2.1) ⟨Nat.le_refl _, Nat.le_refl _⟩ ?_
      refine ⟨by omega, fun c => absurd c (by omega), fun _ => ?_⟩
      refine ⟨hC'.1, ?_⟩
      refine vc_kv h2.1 (cm_get (d := d + 1) h2 (i := k) ⟨k0, by omega⟩) ⟨Nat.le_refl _, Nat.le_refl _⟩ ?_
      refine ⟨Or.inr hW.1, hC'.1, by omega, ?_⟩
      refine vc_kv hW.1 (cm_fromB (d := d + 3) hW.1 (bt_01 (by omega))) ⟨Nat.le_refl _, Nat.le_refl _⟩ ?_
      rw [hW.fromB (by omega), w2]
      refine ⟨hC'.1, by omega, fun c => ?_, fun c => ?_⟩
      · rw [if_neg (fun z => c (by rw [w1]; exact z.1))] at ih'
        exact ih'
      · refine ⟨by omega, fun c2 => ?_, fun c2 => ?_⟩
        · rw [if_pos ⟨by rw [← w1]; exact c, Or.inl (by omega)⟩] at ih'
          exact ih'
        · have vb := v4 (bst f a k.toNat) (by omega) (by omega)
          have q1 := w4 k k0 (by omega)
          have q2 := w4 (bst f a k.toNat) (by omega) (by omega)
          refine ⟨hC'.1, ⟨l1, by omega, by omega, by omega⟩, hC'.1, ⟨l1, by omega, by omega, by omega⟩, by omega, fun c3 => ?_, fun c3 => ?_⟩
          · rw [if_neg (fun z => by omega)] at ih'
            exact ih'
          · rw [if_pos ⟨by rw [← w1]; exact c, Or.inr (by omega)⟩] at ih'
            exact ih'
  refine vc_walk hX ck_X0_wanders [(4, [0, 1, 2])] 90 hd ?_
  exact loop (f 0).toNat 0 (by decide) (by omega)
theorem cm_wanders {a : WS} {M : Int} (hM : M ≤ 2000000000) (hV : wsVd f M a) (hsh : CSh Lw S0 o τ) (hC : CLd Lw S0 o f wr gr lt) (hl : LI K f) (hA : Ag (scW S0 o τ) S0 S) (hw : CWs S o f a) : vc_M (d + 4) 0 0 54 [.inr (.inr o)] Lw S B (vc_up (fun v Lw' S' B' => v = some (ii (bI (wst f a).isSome)) ∧ Lw = Lw' ∧ B = B' ∧ Ag (scW S0 o τ) S0 S' ∧ CWs S' o f ((wst f a).getD a))) := by
  refine (cm_wandersX hM hV hsh hC hl hA hw).mono ?_
  rintro r Lw' S' B' h
  cases r with
  | inl v => exact ⟨h.1, h.2.1, h.2.2.1, h.2.2.2.1, h.2.2.2.2.1⟩
  | inr x => exact h
end CMH
