/-! THE COMPONENT's methods: what is there -/
set_option maxRecDepth 100000
theorem dir_s {x k : Int} (hx : 0 ≤ x ∧ x < 16384) (hk : 0 ≤ k ∧ k ≤ 13) : vt_or (x % 2 ^ k.toNat) (if x.toNat.testBit k.toNat = true then 2 ^ k.toNat else 0) = x % 2 ^ (k + 1).toNat := by
  obtain ⟨n, rfl⟩ := Int.eq_ofNat_of_zero_le hx.1
  obtain ⟨j, rfl⟩ := Int.eq_ofNat_of_zero_le hk.1
  rw [Int.toNat_natCast, Int.toNat_natCast, show ((j : Int) + 1).toNat = j + 1 by omega]
  have hp : 2 ^ j ≤ 2 ^ 13 := Nat.pow_le_pow_right (by decide) (by omega)
  have hl : n % 2 ^ j < 2 ^ j := Nat.mod_lt _ (Nat.two_pow_pos j)
  have e1 : (n : Int) % 2 ^ j = ((n % 2 ^ j : Nat) : Int) := by simp
  have e2 : (n : Int) % 2 ^ (j + 1) = ((n % 2 ^ (j + 1) : Nat) : Int) := by simp
  have e3 : (if n.testBit j = true then (2 : Int) ^ j else 0) = ((if n.testBit j = true then 2 ^ j else 0 : Nat) : Int) := by
    cases n.testBit j <;> simp
  have e4 : (if n.testBit j = true then 2 ^ j else 0 : Nat) ≤ 2 ^ j := by cases n.testBit j <;> simp
  rw [e1, e2, e3, bt_or ⟨Int.natCast_nonneg _, by omega⟩ ⟨Int.natCast_nonneg _, by omega⟩, Int.toNat_natCast, Int.toNat_natCast]
  congr 1
  apply Nat.eq_of_testBit_eq
  intro i
  rw [Nat.testBit_or, Nat.testBit_mod_two_pow, Nat.testBit_mod_two_pow]
  by_cases e : i = j
  · subst e
    rw [decide_eq_false (Nat.lt_irrefl i), decide_eq_true (Nat.lt_succ_self i)]
    cases h : n.testBit i
    · simp
    · rw [if_pos rfl, Nat.testBit_two_pow_self]; rfl
  · have : (if n.testBit j = true then 2 ^ j else 0 : Nat).testBit i = false := by
      cases n.testBit j
      · simp
      · rw [if_pos rfl, Nat.testBit_two_pow_of_ne (fun z => e z.symm)]
    rw [this, Bool.or_false, decide_eq_decide.mpr (show i < j ↔ i < j + 1 by omega)]
section CME
variable {Lw : List Nat} {S : SS} {B : SB} {d o : Nat} {f : Int → Int} {wr gr : Int → Nat} {lt : Int → Int} {K : Int}
theorem cm_isQuiet (h : CLd Lw S o f wr gr lt) (hl : LI K f) : vc_M (d + 3) 0 0 26 [.inr (.inr o)] Lw S B (vc_eq (some (ii (bI (!sAny f)))) Lw S B) := by
  refine vc_start rfl rfl (Nat.le_of_ble_eq_true rfl) (fun X hX hd => ?_)
  obtain ⟨h1, -, h2, -, h3, -⟩ := h
  have hn := hl.nG
  have e2 := h2.2.1
  have loop : ∀ (m : Nat) (k : Int), 0 ≤ k → k + m = f 1 → vc_J 26 (vc_eq (some (ii (bI (!sAny f)))) Lw S B) X 4 [(0, .inr (.inr o)), (1, ii (bI (!anyB (fun g => sG f g 3 != -1) k.toNat))), (2, ii k)] [] Lw S B 0 0 := by
    intro m
    induction m with
    | zero =>
      intro k k0 km
      refine vc_walk hX ck_X0_isQuiet [] 60 hd ?_
      refine ⟨h1, ?_⟩
      refine vc_kv h2.1 (cm_size (d := d + 2) h2.1) ⟨Nat.le_refl _, Nat.le_refl _⟩ ?_
      refine ⟨by omega, fun _ => ?_, fun c => absurd c (by omega)⟩
      refine ⟨⟨bI_01 _, Nat.le_refl _, Nat.le_refl _⟩, ?_, rfl, rfl, rfl⟩
      unfold sAny
      rw [show k = f 1 by omega]
    | succ m ih =>
      intro k k0 km
      have hG := h3 k k0 (by omega)
      have hr := (hl.g k0 (by omega)).way hl.nW.2
      have ih' := ih (k + 1) (by omega) (by omega)
      rw [anyB_s k0] at ih'
      refine vc_walk hX ck_X0_isQuiet [(4, [0, 1, 2])] 60 hd ?_
      refine ⟨h1, ?_⟩
      refine vc_kv h2.1 (cm_size (d := d + 2) h2.1) ⟨Nat.le_refl _, Nat.le_refl _⟩ ?_
      have hb := bI_rg (!anyB (fun g => sG f g 3 != -1) k.toNat)
      refine ⟨by omega, fun c => absurd c (by omega), fun _ => ?_⟩
      refine ⟨by omega, fun c => ?_, fun c => ?_⟩
      · rw [show anyB (fun g => sG f g 3 != -1) k.toNat = true by
          have := bI_0.mp c
          simpa using this, Bool.true_or] at ih'
        exact ih'
      have ca : anyB (fun g => sG f g 3 != -1) k.toNat = false := by
        have := bI_n0.mp c
        simpa using this
      rw [ca, Bool.false_or] at ih'
      refine ⟨h1, ?_⟩
      refine vc_kv h2.1 (cm_get (d := d) h2 (i := k) ⟨k0, by omega⟩) ⟨Nat.le_refl _, Nat.le_refl _⟩ ?_
      refine ⟨Or.inr hG.1, ?_⟩
      have h5 := hG.2.2.2.2.1
      refine vc_kv hG.1 (cm_stands (d := d + 2) hG.1 (by omega)) ⟨Nat.le_refl _, Nat.le_refl _⟩ ?_
      have hb2 := bI_rg (S (gr k) 3 == -1)
      refine ⟨by omega, fun c => ?_, fun c => ?_⟩
      · have := ne_of_beq_false (bI_0.mp c)
        rw [show (sG f k 3 != -1) = true from bne_iff_ne.mpr (by omega)] at ih'
        exact ih'
      · have := eq_of_beq (bI_n0.mp c)
        rw [show (sG f k 3 != -1) = false by
          rw [show sG f k 3 = -1 by omega]; rfl] at ih'
        exact ih'
  refine vc_walk hX ck_X0_isQuiet [(4, [0, 1, 2])] 60 hd ?_
  exact loop (f 1).toNat 0 (by decide) (by omega)
theorem cm_directions (h : CLd Lw S o f wr gr lt) (hl : LI K f) : vc_M (d + 3) 0 0 27 [.inr (.inr o)] Lw S B (vc_eq (some (ii (f 2))) Lw S B) := by
  refine vc_start rfl rfl (Nat.le_of_ble_eq_true rfl) (fun X hX hd => ?_)
  obtain ⟨h1, h2, -, h3, -⟩ := h
  have hn := hl.nW
  have hdr := hl.dir
  have e2 := h2.2.1
  have loop : ∀ (m : Nat) (k : Int), 0 ≤ k → k + m = f 0 → vc_J 27 (vc_eq (some (ii (f 2))) Lw S B) X 4 [(0, .inr (.inr o)), (1, ii (f 2 % 2 ^ k.toNat)), (2, ii k)] [] Lw S B 0 0 := by
    intro m
    induction m with
    | zero =>
      intro k k0 km
      refine vc_walk hX ck_X0_directions [] 60 hd ?_
      refine ⟨h1, ?_⟩
      refine vc_kv h2.1 (cm_size (d := d + 2) h2.1) ⟨Nat.le_refl _, Nat.le_refl _⟩ ?_
      refine ⟨by omega, fun _ => ?_, fun c => absurd c (by omega)⟩
      refine ⟨⟨Nat.le_refl _, Nat.le_refl _⟩, ?_, rfl, rfl, rfl⟩
      rw [show k = f 0 by omega, Int.emod_eq_of_lt hl.dirs.1 hl.dirs.2]
    | succ m ih =>
      intro k k0 km
      have hW := h3 k k0 (by omega)
      have ih' := ih (k + 1) (by omega) (by omega)
      rw [← dir_s hdr ⟨k0, by omega⟩] at ih'
      refine vc_walk hX ck_X0_directions [(4, [0, 1, 2])] 60 hd ?_
      refine ⟨h1, ?_⟩
      refine vc_kv h2.1 (cm_size (d := d + 2) h2.1) ⟨Nat.le_refl _, Nat.le_refl _⟩ ?_
      refine ⟨by omega, fun c => absurd c (by omega), fun _ => ?_⟩
      refine ⟨h1, ?_⟩
      refine vc_kv h2.1 (cm_get (d := d) h2 (i := k) ⟨k0, by omega⟩) ⟨Nat.le_refl _, Nat.le_refl _⟩ ?_
      have hb := hW.b
      have h5 := hW.2.2.2.2.2.2
      refine ⟨Or.inr hW.1, hW.1, by omega, fun c => ?_, fun c => ?_⟩
      · rw [if_neg (by rw [bI_0.mp (h5.symm.trans c)]; decide)] at ih'
        exact ih'
      · refine ⟨by omega, ?_⟩
        rw [if_pos (bI_n0.mp (by rw [← h5]; exact c))] at ih'
        show vc_J _ _ _ _ _ _ _ _ _ _ _
        rw [Int.one_mul]
        exact ih'
  refine vc_walk hX ck_X0_directions [(4, [0, 1, 2])] 60 hd ?_
  have := loop (f 0).toNat 0 (by decide) (by omega)
  rw [show f 2 % 2 ^ (0 : Int).toNat = 0 by show f 2 % 1 = 0; exact Int.emod_one _] at this
  exact this
theorem cm_way {w k : Int} (hw : -2147483648 ≤ w ∧ w ≤ 2147483647) (hk : -2147483648 ≤ k ∧ k ≤ 2147483647) (h : CLd Lw S o f wr gr lt) (hl : LI K f) : vc_M (d + 4) 0 0 8 [.inr (.inr o), ii w, ii k] Lw S B (vc_eq (some (ii (sp_way f w k))) Lw S B) := by
  refine vc_start rfl rfl (Nat.le_of_ble_eq_true rfl) (fun X hX hd => ?_)
  have hC := h
  obtain ⟨h1, h2, -, h3, -⟩ := h
  refine vc_walk hX ck_X0_way [] 60 hd ?_
  refine vc_kv h1 (cm_isWay (d := d + 2) hw hC hl) ⟨Nat.le_refl _, Nat.le_refl _⟩ ?_
  have hb := bI_rg (sIsW f w)
  refine ⟨by omega, fun c => ?_, fun c => ?_⟩
  · have c1 := bI_n0.mp c
    have c2 := of_decide_eq_true c1
    have hW := h3 w c2.1 c2.2
    refine ⟨h1, ?_⟩
    refine vc_kv h2.1 (cm_get (d := d + 1) h2 (i := w) c2) ⟨Nat.le_refl _, Nat.le_refl _⟩ ?_
    refine ⟨Or.inr hW.1, hk, fun z => ?_, fun z => ?_, fun z => ?_, fun z => ?_, fun z => ?_, fun z => ?_, fun z => ?_, trivial⟩
    · refine ⟨⟨Nat.le_refl _, Nat.le_refl _⟩, ?_, rfl, rfl, rfl⟩
      unfold sp_way
      rw [if_neg (fun q => by have := of_decide_eq_true q.2; omega)]
    · subst z
      refine vc_kv hW.1 (cm_from (d := d + 3) hW.1 hW.b) ⟨Nat.le_refl _, Nat.le_refl _⟩ ?_
      refine ⟨⟨Nat.le_refl _, Nat.le_refl _⟩, ?_, rfl, rfl, rfl⟩
      unfold sp_way
      rw [hW.from, if_pos ⟨c1, rfl⟩, if_pos (by decide)]
    · subst z
      refine vc_kv hW.1 (cm_to (d := d + 3) hW.1 hW.b) ⟨Nat.le_refl _, Nat.le_refl _⟩ ?_
      refine ⟨⟨Nat.le_refl _, Nat.le_refl _⟩, ?_, rfl, rfl, rfl⟩
      unfold sp_way
      rw [hW.to, if_pos ⟨c1, rfl⟩, if_pos (by decide)]
      rfl
    · subst z
      refine ⟨hW.1, ⟨Nat.le_refl _, Nat.le_refl _⟩, ?_, rfl, rfl, rfl⟩
      unfold sp_way
      rw [hW.2.2.2.1, if_pos ⟨c1, rfl⟩, if_neg (by decide), if_pos (by decide)]
      rfl
    · subst z
      refine ⟨hW.1, ⟨Nat.le_refl _, Nat.le_refl _⟩, ?_, rfl, rfl, rfl⟩
      unfold sp_way
      rw [hW.2.2.2.2.1, if_pos ⟨c1, rfl⟩, if_neg (by decide), if_pos (by decide)]
      rfl
    · subst z
      refine ⟨hW.1, ⟨Nat.le_refl _, Nat.le_refl _⟩, ?_, rfl, rfl, rfl⟩
      unfold sp_way
      rw [hW.2.2.2.2.2.1, if_pos ⟨c1, rfl⟩, if_neg (by decide), if_pos (by decide)]
      rfl
    · subst z
      refine vc_kv h1 (cm_on (d := d) hw hC hl) ⟨Nat.le_refl _, Nat.le_refl _⟩ ?_
      refine ⟨⟨Nat.le_refl _, Nat.le_refl _⟩, ?_, rfl, rfl, rfl⟩
      unfold sp_way
      rw [if_pos ⟨c1, rfl⟩, if_neg (by decide), if_neg (by decide)]
  · refine ⟨⟨Nat.le_refl _, Nat.le_refl _⟩, ?_, rfl, rfl, rfl⟩
    unfold sp_way
    rw [(bI_0 (b := sIsW f w)).mp (by omega), if_neg (by simp)]
theorem cm_goer {g k : Int} (hlt : ∀ g, lt g = 0) (hg : -2147483648 ≤ g ∧ g ≤ 2147483647) (hk : -2147483648 ≤ k ∧ k ≤ 2147483647) (h : CLd Lw S o f wr gr lt) (hl : LI K f) : vc_M (d + 3) 0 0 11 [.inr (.inr o), ii g, ii k] Lw S B (vc_eq (some (ii (sp_goer f g k))) Lw S B) := by
  refine vc_start rfl rfl (Nat.le_of_ble_eq_true rfl) (fun X hX hd => ?_)
  have hC := h
  obtain ⟨h1, -, h2, -, h3, -⟩ := h
  refine vc_walk hX ck_X0_goer [] 60 hd ?_
  refine vc_kv h1 (cm_isGoer (d := d + 1) hg hC hl) ⟨Nat.le_refl _, Nat.le_refl _⟩ ?_
  have hb := bI_rg (sIsG f g)
  refine ⟨by omega, fun c => ?_, fun c => ?_⟩
  · have c1 := bI_n0.mp c
    have c2 := of_decide_eq_true c1
    obtain ⟨g1, g2, g3, ⟨g4, g4b⟩, g5, g6, g7, g8, g9⟩ := h3 g c2.1 c2.2
    have hGI := hl.g c2.1 c2.2
    have hr := hGI.way hl.nW.2
    refine ⟨h1, ?_⟩
    refine vc_kv h2.1 (cm_get (d := d) h2 (i := g) c2) ⟨Nat.le_refl _, Nat.le_refl _⟩ ?_
    have fin : ∀ (j : Int), 0 ≤ j → j ≤ 6 → sp_goer f g j = sG f g j := by
      intro j j0 j6
      unfold sp_goer
      rw [if_pos ⟨c1, decide_eq_true ⟨j0, j6⟩⟩]
    refine ⟨Or.inr g1, hk, fun z => ?_, fun z => ?_, fun z => ?_, fun z => ?_, fun z => ?_, fun z => ?_, fun z => ?_, fun z => ?_, trivial⟩
    · refine ⟨⟨Nat.le_refl _, Nat.le_refl _⟩, ?_, rfl, rfl, rfl⟩
      unfold sp_goer
      rw [if_neg (fun q => by have := of_decide_eq_true q.2; omega)]
    · subst z
      refine vc_kv g1 (cm_stands (d := d + 2) g1 (by omega)) ⟨Nat.le_refl _, Nat.le_refl _⟩ ?_
      rw [fin _ (by decide) (by decide)]
      have hb2 := bI_rg (S (gr g) 3 == -1)
      refine ⟨by omega, fun c => ?_, fun c => ?_⟩
      · have := ne_of_beq_false (bI_0.mp c)
        refine ⟨⟨Nat.le_refl _, Nat.le_refl _⟩, ?_, rfl, rfl, rfl⟩
        have h8 : sG f g 0 = 8 := by
          obtain ⟨-, -, -, hh | hh⟩ := hGI
          · omega
          · exact hh.2.2.2.2.2.2
        rw [h8]
      · have := eq_of_beq (bI_n0.mp c)
        refine ⟨g1, ⟨Nat.le_refl _, Nat.le_refl _⟩, ?_, rfl, rfl, rfl⟩
        rw [g4b (by omega)]
    · subst z
      refine ⟨g1, ⟨Nat.le_refl _, Nat.le_refl _⟩, ?_, rfl, rfl, rfl⟩
      rw [fin _ (by decide) (by decide), g2]
      rfl
    · subst z
      refine ⟨g1, ⟨Nat.le_refl _, Nat.le_refl _⟩, ?_, rfl, rfl, rfl⟩
      rw [fin _ (by decide) (by decide), g3, hlt, Int.sub_zero]
      rfl
    · subst z
      refine ⟨g1, ⟨Nat.le_refl _, Nat.le_refl _⟩, ?_, rfl, rfl, rfl⟩
      rw [fin _ (by decide) (by decide), g5]
      rfl
    · subst z
      refine ⟨g1, ⟨Nat.le_refl _, Nat.le_refl _⟩, ?_, rfl, rfl, rfl⟩
      rw [fin _ (by decide) (by decide), g6]
      rfl
    · subst z
      refine ⟨g1, ⟨Nat.le_refl _, Nat.le_refl _⟩, ?_, rfl, rfl, rfl⟩
      rw [fin _ (by decide) (by decide), g8]
      rfl
    · subst z
      refine ⟨g1, ⟨Nat.le_refl _, Nat.le_refl _⟩, ?_, rfl, rfl, rfl⟩
      rw [fin _ (by decide) (by decide), g7]
      rfl
  · refine ⟨⟨Nat.le_refl _, Nat.le_refl _⟩, ?_, rfl, rfl, rfl⟩
    unfold sp_goer
    rw [(bI_0 (b := sIsG f g)).mp (by omega), if_neg (by simp)]
theorem cm_isRule {k nr : Int} {rr : Int → Nat} (hk : -2147483648 ≤ k ∧ k ≤ 2147483647) (h0 : vc_ob Lw S o 0) (hR : vc_li Lw S (S o 6).toNat nr rr) : vc_M (d + 1) 0 0 65 [.inr (.inr o), ii k] Lw S B (vc_eq (some (ii (bI (decide (0 ≤ k ∧ k < nr))))) Lw S B) := by
  refine vc_start rfl rfl (Nat.le_of_ble_eq_true rfl) (fun X hX hd => ?_)
  have e2 := hR.2.1
  have e3 := hR.2.2.2.1
  refine vc_walk hX ck_X0_isRule [] 60 hd ?_
  refine ⟨hk, h0, ?_⟩
  refine vc_kv hR.1 (cm_size (d := d) hR.1) ⟨Nat.le_refl _, Nat.le_refl _⟩ ?_
  refine ⟨by omega, ?_⟩
  rw [e2]
  refine vc_k (cm_in (d := d) (by omega) (by decide) (by omega)) ⟨Nat.le_refl _, Nat.le_refl _⟩ ?_
  refine ⟨⟨?_, Nat.le_refl _, Nat.le_refl _⟩, ?_, rfl, rfl, rfl⟩
  · exact bI_01 _
  · rw [show sIn k 0 (nr - 1) = decide (0 ≤ k ∧ k < nr) from decide_eq_decide.mpr ⟨fun z => by omega, fun z => by omega⟩]
theorem cm_count {k nr tp : Int} {rr : Int → Nat} (hlt : lt (-1) = 0) (hk : -2147483648 ≤ k ∧ k ≤ 2147483647) (h : CLd Lw S o f wr gr lt) (hl : LI K f) (hR : vc_li Lw S (S o 6).toNat nr rr) (hT : S o 9 = tp) : vc_M (d + 4) 0 0 79 [.inr (.inr o), ii k] Lw S B (vc_eq (some (ii (sp_count f nr tp k))) Lw S B) := by
  refine vc_start rfl rfl (Nat.le_of_ble_eq_true rfl) (fun X hX hd => ?_)
  have hC := h
  obtain ⟨h1, h2, h3, -, -, h4, h5, h6, h7, h8⟩ := h
  rw [hlt, Int.add_zero] at h7
  refine vc_walk hX ck_X0_count [] 60 hd ?_
  refine ⟨hk, fun z => ?_, fun z => ?_, fun z => ?_, fun z => ?_, fun z => ?_, fun z => ?_, fun z => ?_, fun z => ?_, fun z => ?_, fun z => ?_, fun z => ?_, trivial⟩
  · refine ⟨⟨Nat.le_refl _, Nat.le_refl _⟩, ?_, rfl, rfl, rfl⟩
    unfold sp_count
    rw [if_neg (by omega), if_neg (by omega), if_neg (by omega), if_neg (by omega)]
  · subst z
    refine ⟨h1, ?_⟩
    refine vc_kv h2.1 (cm_size (d := d + 3) h2.1) ⟨Nat.le_refl _, Nat.le_refl _⟩ ?_
    refine ⟨⟨Nat.le_refl _, Nat.le_refl _⟩, ?_, rfl, rfl, rfl⟩
    rw [h2.2.1]
    rfl
  · subst z
    refine ⟨h1, ?_⟩
    refine vc_kv h3.1 (cm_size (d := d + 3) h3.1) ⟨Nat.le_refl _, Nat.le_refl _⟩ ?_
    refine ⟨⟨Nat.le_refl _, Nat.le_refl _⟩, ?_, rfl, rfl, rfl⟩
    rw [h3.2.1]
    rfl
  · subst z
    refine ⟨h1, ?_⟩
    refine vc_kv hR.1 (cm_size (d := d + 3) hR.1) ⟨Nat.le_refl _, Nat.le_refl _⟩ ?_
    refine ⟨⟨Nat.le_refl _, Nat.le_refl _⟩, ?_, rfl, rfl, rfl⟩
    rw [hR.2.1]
    rfl
  · subst z
    refine vc_kv h1 (cm_directions (d := d) hC hl) ⟨Nat.le_refl _, Nat.le_refl _⟩ ?_
    exact ⟨⟨Nat.le_refl _, Nat.le_refl _⟩, rfl, rfl, rfl, rfl⟩
  · subst z
    refine ⟨h1, ⟨Nat.le_refl _, Nat.le_refl _⟩, ?_, rfl, rfl, rfl⟩
    rw [h4]
    rfl
  · subst z
    refine ⟨h1, ⟨Nat.le_refl _, Nat.le_refl _⟩, ?_, rfl, rfl, rfl⟩
    rw [h5]
    rfl
  · subst z
    refine ⟨h1, ⟨Nat.le_refl _, Nat.le_refl _⟩, ?_, rfl, rfl, rfl⟩
    rw [h6]
    rfl
  · subst z
    refine ⟨h1, ⟨Nat.le_refl _, Nat.le_refl _⟩, ?_, rfl, rfl, rfl⟩
    rw [h8]
    rfl
  · subst z
    refine ⟨h1, ⟨Nat.le_refl _, Nat.le_refl _⟩, ?_, rfl, rfl, rfl⟩
    rw [h7]
    rfl
  · subst z
    refine ⟨h1, ⟨Nat.le_refl _, Nat.le_refl _⟩, ?_, rfl, rfl, rfl⟩
    rw [hT]
    rfl
end CME
