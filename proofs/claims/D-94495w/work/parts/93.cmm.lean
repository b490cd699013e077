/-! THE COMPONENT's methods: states of directions and places -/
set_option maxRecDepth 100000
/-- who move -/
def CSc (S : SS) (o : Nat) (f : Int → Int) (c : Int) (mv : Int → Int) : Prop := S o 13 = c ∧ (0 ≤ c ∧ c ≤ 6) ∧ f 0 + 3 * c ≤ 20 ∧ ∀ i, 0 ≤ i → i < c → S (S o 12).toNat i = mv i ∧ (0 ≤ mv i ∧ mv i < f 1) ∧ sG f (mv i) 3 = -1
/-- what is shut -/
def shB (f : Int → Int) : Nat := bset (fun w => decide (0 < sOn f w)) (f 0).toNat
section CMM
variable {Lw : List Nat} {S0 S : SS} {B : SB} {d o : Nat} {τ : Nat → Nat} {f : Int → Int} {wr gr : Int → Nat} {lt : Int → Int} {K : Int}
theorem pc6_mvC (hl : LI K f) {s : Int} (h0 : 0 ≤ s) (h1 : s < 2 ^ (f 1).toNat) : mvC f s = pc6 s := by
  have n1 := hl.nG
  unfold mvC pc6
  rw [mvF_cnt]
  have key : ∀ (b : Nat), (f 1).toNat ≤ b → cntB (fun i => sBit s i) b = cntB (fun i => sBit s i) (f 1).toNat := by
    intro b hb
    induction b with
    | zero => rw [show (f 1).toNat = 0 by omega]
    | succ b ih =>
      by_cases e : (f 1).toNat = b + 1
      · rw [e]
      · show cntB _ b + _ = _
        rw [ih (by omega), if_neg, Int.add_zero]
        have : s.toNat < 2 ^ b := by
          have e1 : ((2 ^ (f 1).toNat : Nat) : Int) = (2 : Int) ^ (f 1).toNat := by simp
          have e2 : 2 ^ (f 1).toNat ≤ 2 ^ b := Nat.pow_le_pow_right (by decide) (by omega)
          omega
        show ¬ s.toNat.testBit ((b : Int)).toNat = true
        rw [Int.toNat_natCast, Nat.testBit_lt_two_pow this]
        decide
  exact (key 6 (by omega)).symm
theorem cm_chooses {s : Int} (hs : -2147483648 ≤ s ∧ s ≤ 2147483647) (hsh : CSh Lw S0 o τ) (hC : CLd Lw S0 o f wr gr lt) (hl : LI K f) (hA : Ag (scW S0 o τ) S0 S) : vc_M (d + 3) 0 0 30 [.inr (.inr o), ii s] Lw S B (vc_up (fun v Lw' S' B' => v = some (ii (bI (sAre f s))) ∧ Lw = Lw' ∧ B = B' ∧ Ag (scW S0 o τ) S0 S' ∧ S' o 10 = S0 o 10 ∧ (sAre f s = true → CSc S' o f (mvC f s) (mvG f s)))) := by
  refine vc_start rfl rfl (Nat.le_of_ble_eq_true rfl) (fun X hX hd => ?_)
  have n0 := hl.nW
  have n1 := hl.nG
  have hp6 := pow6 n1.2
  have hp1 : (0 : Int) < 2 ^ (f 1).toNat := Int.pow_pos (by decide)
  have a12 := hsh.2.1.1
  have n12 : (S0 o 12).toNat ≠ o := a12.ne0 hsh.1 (by decide)
  have e10 : ∀ S', Ag (scW S0 o τ) S0 S' → S' o 10 = S0 o 10 := fun S' A => A o 10 (scW.ob0 hsh.1.2 rfl)
  have fin0 : sAre f s = false → ∀ (b k : Int) (S1 : SS), b = 0 → Ag (scW S0 o τ) S0 S1 → vc_J 30 (vc_up (fun v Lw' S' B' => v = some (ii (bI (sAre f s))) ∧ Lw = Lw' ∧ B = B' ∧ Ag (scW S0 o τ) S0 S' ∧ S' o 10 = S0 o 10 ∧ (sAre f s = true → CSc S' o f (mvC f s) (mvG f s)))) X 93 [(0, .inr (.inr o)), (1, ii s), (2, ii b), (3, ii k)] [] Lw S1 B 0 0 := by
    intro hn b k S1 hb A1
    subst hb
    rw [hn]
    refine vc_walk hX ck_X0_chooses [] 60 hd ?_
    refine ⟨by decide, fun _ => ?_, fun z => absurd rfl z⟩
    exact ⟨⟨Or.inl rfl, Nat.le_refl _, Nat.le_refl _⟩, rfl, rfl, rfl, A1, e10 _ A1, fun z => by cases z⟩
  have loop : (1 ≤ s ∧ s < 2 ^ (f 1).toNat) → ∀ (m : Nat) (k : Int) (S1 : SS), 0 ≤ k → k + m = f 1 → Ag (scW S0 o τ) S0 S1 → S1 o 13 = (mvF s k.toNat).1 → (∀ i, 0 ≤ i → i < (mvF s k.toNat).1 → S1 (S0 o 12).toNat i = (mvF s k.toNat).2 i) → (∀ g, 0 ≤ g → g < k → sBit s g = true → sStd f g = true) → vc_J 30 (vc_up (fun v Lw' S' B' => v = some (ii (bI (sAre f s))) ∧ Lw = Lw' ∧ B = B' ∧ Ag (scW S0 o τ) S0 S' ∧ S' o 10 = S0 o 10 ∧ (sAre f s = true → CSc S' o f (mvC f s) (mvG f s)))) X 26 [(0, .inr (.inr o)), (1, ii s), (2, ii 1), (3, ii k)] [] Lw S1 B 0 0 := by
    intro hr m
    induction m with
    | zero =>
      intro k S1 k0 km A1 E1 P1 D1
      have hk : k = f 1 := by omega
      subst hk
      have C1 := hC.ag A1
      have l1 := C1.2.2.1
      have l2 := l1.2.1
      have w1 := C1.2.1
      have w2 := w1.2.1
      have hm := pc6_mvC hl (s := s) (by omega) hr.2
      have hpr := pc6_rg s
      have E1 : S1 o 13 = mvC f s := E1
      have hall : allB (fun g => !sBit s g || sStd f g) (f 1).toNat = true := allB_iff.mpr (fun g g0 g1 => by
        cases hb : sBit s g with
        | false => rfl
        | true => rw [D1 g g0 (by omega) hb]; rfl)
      have hsa : sAre f s = decide (f 0 + 3 * pc6 s ≤ 20) := by
        unfold sAre
        rw [hall, decide_eq_true hr, Bool.and_true, Bool.true_and]
      have e12 : S1 o 12 = S0 o 12 := A1 o 12 (scW.ob0 hsh.1.2 rfl)
      refine vc_walk hX ck_X0_chooses [] 60 hd ?_
      refine ⟨C1.1, ?_⟩
      refine vc_kv l1.1 (cm_size (d := d + 2) l1.1) ⟨Nat.le_refl _, Nat.le_refl _⟩ ?_
      refine ⟨by omega, fun _ => ?_, fun c => absurd c (by omega)⟩
      refine ⟨by decide, fun z => absurd z (by decide), fun _ => ?_⟩
      refine ⟨C1.1, ?_⟩
      refine vc_kv w1.1 (cm_size (d := d + 2) w1.1) ⟨Nat.le_refl _, Nat.le_refl _⟩ ?_
      refine ⟨C1.1, by omega, fun c => ?_, fun c => ?_⟩
      · rw [show sAre f s = false by rw [hsa]; exact decide_eq_false (by omega)]
        exact ⟨⟨Or.inl rfl, Nat.le_refl _, Nat.le_refl _⟩, rfl, rfl, rfl, A1, e10 _ A1, fun z => by cases z⟩
      · have hs1 : sAre f s = true := by rw [hsa]; exact decide_eq_true (by omega)
        have sp := sAre_spec hl hs1
        rw [hs1]
        refine ⟨⟨Or.inr rfl, Nat.le_refl _, Nat.le_refl _⟩, rfl, rfl, rfl, A1, e10 _ A1, fun _ => ⟨E1, sp.2.1, sp.2.2.1, fun i i0 i1 => ⟨?_, sp.2.2.2 i i0 i1⟩⟩⟩
        rw [e12]
        exact P1 i i0 i1
    | succ m ih =>
      intro k S1 k0 km A1 E1 P1 D1
      have C1 := hC.ag A1
      have H1 := hsh.ag A1.q
      have l1 := C1.2.2.1
      have l2 := l1.2.1
      have hG := C1.2.2.2.2.1 k k0 (by omega)
      have hgi := hl.g k0 (show k < f 1 by omega)
      have hrg := hgi.way hl.nW.2
      have g4 := hG.2.2.2.2.1
      have hmr := mvF_rg s k.toNat
      have e12 : S1 o 12 = S0 o 12 := A1 o 12 (scW.ob0 hsh.1.2 rfl)
      have b12 := H1.2.1.1
      have m12 : S1 (S1 o 12).toNat (-1) = 6 := b12.2.1
      have hbb := bI_rg (s.toNat.testBit k.toNat)
      have hbs := bI_rg (S1 (gr k) 3 == -1)
      refine vc_walk hX ck_X0_chooses [(26, [0, 1, 2, 3]), (93, [0, 1, 2, 3])] 60 hd ?_
      refine ⟨C1.1, ?_⟩
      refine vc_kv l1.1 (cm_size (d := d + 2) l1.1) ⟨Nat.le_refl _, Nat.le_refl _⟩ ?_
      refine ⟨by omega, fun c => absurd c (by omega), fun _ => ?_⟩
      refine ⟨by decide, fun z => absurd z (by decide), fun _ => ?_⟩
      refine vc_k (cm_has (d := d + 2) (by omega) ⟨k0, by omega⟩) ⟨Nat.le_refl _, Nat.le_refl _⟩ ?_
      refine ⟨by omega, fun c => ?_, fun c => ?_⟩
      · have cb : sBit s k = true := bI_n0.mp c
        have hs2 := mvF_s (s := s) k0
        rw [if_pos cb] at hs2
        refine ⟨C1.1, ?_⟩
        refine vc_kv l1.1 (cm_get (d := d) l1 (i := k) ⟨k0, by omega⟩) ⟨Nat.le_refl _, Nat.le_refl _⟩ ?_
        refine ⟨Or.inr hG.1, ?_⟩
        refine vc_kv hG.1 (cm_stands (d := d + 2) hG.1 (by omega)) ⟨Nat.le_refl _, Nat.le_refl _⟩ ?_
        refine ⟨C1.1, C1.1, ⟨b12.1, by omega, by omega, by omega⟩, ?_⟩
        rw [e12]
        have A2 : Ag (scW S0 o τ) S0 (vt_up S1 (S0 o 12).toNat (S1 o 13) k) := A1.up (scW.a a12 rfl (by omega))
        have ro : ∀ i, vt_up S1 (S0 o 12).toNat (S1 o 13) k o i = S1 o i := fun i => up_ne (Or.inl (fun z => n12 z.symm))
        refine ⟨(hC.ag A2).1, (hC.ag A2).1, ?_⟩
        rw [ro]
        have A3 : Ag (scW S0 o τ) S0 (vt_up (vt_up S1 (S0 o 12).toNat (S1 o 13) k) o 13 (S1 o 13 + 1)) := A2.up (scW.fl rfl)
        show vc_J _ _ _ _ _ _ _ _ _ _ _
        by_cases cs : S1 (gr k) 3 = -1
        · rw [show (S1 (gr k) 3 == -1) = true from beq_iff_eq.mpr cs]
          refine ih (k + 1) _ (by omega) (by omega) A3 ?_ (fun i i0 i1 => ?_) (fun g g0 g1 hb => ?_)
          · rw [vt_up_self, hs2, E1]
          · rw [hs2] at i1 ⊢
            have i1 : i < (mvF s k.toNat).1 + 1 := i1
            show _ = upF (mvF s k.toNat).2 (mvF s k.toNat).1 k i
            rw [up_ne (Or.inl n12), up_rd, E1]
            by_cases ei : i = (mvF s k.toNat).1
            · rw [if_pos ⟨rfl, ei⟩, ei, upF_self]
            · rw [if_neg (fun z => ei z.2), upF_ne ei]
              exact P1 i i0 (by omega)
          · by_cases eg : g = k
            · subst eg
              unfold sStd
              rw [show sIsG f g = true from decide_eq_true ⟨k0, by omega⟩, show (sG f g 3 == -1) = true from beq_iff_eq.mpr (by omega)]
              rfl
            · exact D1 g g0 (by omega) hb
        · rw [show (S1 (gr k) 3 == -1) = false from beq_false_of_ne cs]
          have hn : sAre f s = false := by
            cases h : sAre f s with
            | false => rfl
            | true =>
              unfold sAre at h
              simp only [Bool.and_eq_true] at h
              have := allB_iff.mp h.2 k k0 (by omega)
              rw [cb] at this
              unfold sStd at this
              simp only [Bool.not_true, Bool.false_or, Bool.and_eq_true, beq_iff_eq] at this
              omega
          refine vc_walk hX ck_X0_chooses [(93, [0, 1, 2, 3])] 60 hd ?_
          have C3 := hC.ag A3
          have k1 := C3.2.2.1
          have k2 := k1.2.1
          refine ⟨C3.1, ?_⟩
          refine vc_kv k1.1 (cm_size (d := d + 2) k1.1) ⟨Nat.le_refl _, Nat.le_refl _⟩ ?_
          refine ⟨by omega, fun _ => fin0 hn 0 (k + 1) _ rfl A3, fun _ => ?_⟩
          exact ⟨by decide, fun _ => fin0 hn 0 (k + 1) _ rfl A3, fun z => absurd rfl z⟩
      · have cb : sBit s k = false := (bI_0 (b := s.toNat.testBit k.toNat)).mp (by omega)
        have hs2 := mvF_s (s := s) k0
        rw [if_neg (by rw [cb]; decide)] at hs2
        refine ih (k + 1) S1 (by omega) (by omega) A1 (by rw [hs2]; exact E1) (fun i i0 i1 => ?_) (fun g g0 g1 hb => ?_)
        · rw [hs2] at i1 ⊢
          exact P1 i i0 i1
        · by_cases eg : g = k
          · subst eg; rw [cb] at hb; cases hb
          · exact D1 g g0 (by omega) hb
  have C0 := hC.ag hA
  have A1 : Ag (scW S0 o τ) S0 (vt_up S o 13 0) := hA.up (scW.fl rfl)
  have C1 := hC.ag A1
  have l1 := C1.2.2.1
  have l2 := l1.2.1
  have hb := bI_rg (sIn s 1 (1 * 2 ^ (f 1).toNat - 1))
  refine vc_walk hX ck_X0_chooses [(26, [0, 1, 2, 3]), (93, [0, 1, 2, 3])] 60 hd ?_
  refine ⟨C0.1, hs, C1.1, ?_⟩
  refine vc_kv l1.1 (cm_size (d := d + 2) l1.1) ⟨Nat.le_refl _, Nat.le_refl _⟩ ?_
  rw [l2]
  refine ⟨by omega, by omega, ?_⟩
  refine vc_k (cm_in (d := d + 2) (by omega) (by decide) (by omega)) ⟨Nat.le_refl _, Nat.le_refl _⟩ ?_
  show vc_J _ _ _ _ _ _ _ _ _ _ _
  by_cases hr : 1 ≤ s ∧ s < 2 ^ (f 1).toNat
  · rw [show sIn s 1 (1 * 2 ^ (f 1).toNat - 1) = true from decide_eq_true (by omega)]
    exact loop hr (f 1).toNat 0 _ (by decide) (by omega) A1 vt_up_self (fun i i0 i1 => by have i1 : i < 0 := i1; omega) (fun g g0 g1 => by omega)
  · rw [show sIn s 1 (1 * 2 ^ (f 1).toNat - 1) = false from decide_eq_false (by omega)]
    have hn : sAre f s = false := by
      unfold sAre
      rw [decide_eq_false hr]
      rfl
    refine vc_walk hX ck_X0_chooses [(93, [0, 1, 2, 3])] 60 hd ?_
    refine ⟨C1.1, ?_⟩
    refine vc_kv l1.1 (cm_size (d := d + 2) l1.1) ⟨Nat.le_refl _, Nat.le_refl _⟩ ?_
    refine ⟨by omega, fun _ => fin0 hn 0 0 _ rfl A1, fun _ => ?_⟩
    exact ⟨by decide, fun _ => fin0 hn 0 0 _ rfl A1, fun z => absurd rfl z⟩
theorem cm_placeIn {s k : Int} (hs : 0 ≤ s ∧ s ≤ 2147483647) (hk : 0 ≤ k ∧ k ≤ 5) (h : CLd Lw S o f wr gr lt) (hl : LI K f) : vc_M (d + 1) 0 0 36 [.inr (.inr o), ii s, ii k] Lw S B (vc_eq (some (ii (plc (f 0) s k))) Lw S B) := by
  refine vc_start rfl rfl (Nat.le_of_ble_eq_true rfl) (fun X hX hd => ?_)
  have n0 := hl.nW
  have l1 := h.2.1
  have l2 := l1.2.1
  refine vc_walk hX ck_X0_placeIn [] 60 hd ?_
  refine ⟨h.1, ?_⟩
  refine vc_kv l1.1 (cm_size (d := d) l1.1) ⟨Nat.le_refl _, Nat.le_refl _⟩ ?_
  rw [l2]
  refine ⟨by omega, ⟨Nat.le_refl _, Nat.le_refl _⟩, ?_, rfl, rfl, rfl⟩
  rw [and7 hs]
  rfl
theorem cm_stateNow {c : Int} {mv : Int → Int} (h : CLd Lw S o f wr gr lt) (hsh : CSh Lw S o τ) (hl : LI K f) (hS : CSc S o f c mv) : vc_M (d + 4) 0 0 37 [.inr (.inr o)] Lw S B (vc_eq (some (ii (sst f c mv))) Lw S B) := by
  refine vc_start rfl rfl (Nat.le_of_ble_eq_true rfl) (fun X hX hd => ?_)
  have n0 := hl.nW
  have n1 := hl.nG
  have hdr := hl.dir
  have hdd := hl.dirs
  have a12 := hsh.2.1.1
  have l12 : S (S o 12).toNat (-1) = 6 := a12.2.1
  have w1 := h.2.1
  have w2 := w1.2.1
  have g1 := h.2.2.1
  obtain ⟨e13, hc, h20, hmv⟩ := hS
  have hpl : ∀ i : Int, 0 ≤ i → i < c → 0 ≤ sG f (mv i) 0 ∧ sG f (mv i) 0 ≤ 7 := by
    intro i i0 i1
    obtain ⟨-, a2, a3⟩ := hmv i i0 i1
    obtain ⟨-, -, -, q | q⟩ := hl.g a2.1 a2.2 <;> omega
  have hd2 : (f 2).toNat < 2 ^ (f 0).toNat := by
    have e : ((2 ^ (f 0).toNat : Nat) : Int) = (2 : Int) ^ (f 0).toNat := by simp
    rw [← e] at hdd
    omega
  have loop : ∀ (m : Nat) (k : Int), 0 ≤ k → k + m = c → vc_J 37 (vc_eq (some (ii (sst f c mv))) Lw S B) X 7 [(0, .inr (.inr o)), (1, ii ((bgS (f 0).toNat (f 2).toNat (fun k => sG f (mv k) 0) k.toNat : Nat) : Int)), (2, ii k)] [] Lw S B 0 0 := by
    intro m
    induction m with
    | zero =>
      intro k k0 km
      refine vc_walk hX ck_X0_stateNow [] 60 hd ?_
      refine ⟨h.1, by rw [e13]; omega, fun _ => ?_, fun z => absurd z (by rw [e13]; omega)⟩
      rw [show k = c by omega]
      exact ⟨⟨Nat.le_refl _, Nat.le_refl _⟩, rfl, rfl, rfl, rfl⟩
    | succ m ih =>
      intro k k0 km
      obtain ⟨a1, a2, a3⟩ := hmv k k0 (by omega)
      have hp := hpl k k0 (by omega)
      have hi := ih (k + 1) (by omega) (by omega)
      rw [show (k + 1).toNat = k.toNat + 1 by omega] at hi
      have hlt := bgS_lt hd2 k.toNat (pl := fun k => sG f (mv k) 0) (fun i i0 i1 => hpl i i0 (by omega))
      have e20' : 2 ^ ((f 0).toNat + 3 * k.toNat) ≤ 2 ^ 20 := Nat.pow_le_pow_right (by decide) (by omega)
      have ek : (f 0 + 3 * k).toNat = (f 0).toNat + 3 * k.toNat := by omega
      have em : sG f (mv k) 0 * 2 ^ (f 0 + 3 * k).toNat = (((sG f (mv k) 0).toNat * 2 ^ ((f 0).toNat + 3 * k.toNat) : Nat) : Int) := by
        rw [ek]
        have : ((sG f (mv k) 0).toNat : Int) = sG f (mv k) 0 := by omega
        simp [this]
      have hml : (sG f (mv k) 0).toNat * 2 ^ ((f 0).toNat + 3 * k.toNat) ≤ 7 * 2 ^ 20 := Nat.mul_le_mul (by omega) e20'
      rw [show bgS (f 0).toNat (f 2).toNat (fun k => sG f (mv k) 0) (k.toNat + 1) = (bgS (f 0).toNat (f 2).toNat (fun k => sG f (mv k) 0) k.toNat ||| (sG f (mv ((k.toNat : Nat) : Int)) 0).toNat * 2 ^ ((f 0).toNat + 3 * k.toNat)) from rfl, show ((k.toNat : Nat) : Int) = k by omega] at hi
      have hG := h.2.2.2.2.1 (mv k) a2.1 a2.2
      have hgp := hG.2.2.2.1.2 a3
      refine vc_walk hX ck_X0_stateNow [(7, [0, 1, 2])] 60 hd ?_
      refine ⟨h.1, by rw [e13]; omega, fun z => absurd z (by rw [e13]; omega), fun _ => ?_⟩
      refine ⟨h.1, h.1, ⟨a12.1, by omega, by omega, by omega⟩, ?_⟩
      rw [a1]
      refine vc_kv g1.1 (cm_get (d := d + 1) g1 (i := mv k) a2) ⟨Nat.le_refl _, Nat.le_refl _⟩ ?_
      refine ⟨Or.inr hG.1, hG.1, h.1, ?_⟩
      refine vc_kv w1.1 (cm_size (d := d + 3) w1.1) ⟨Nat.le_refl _, Nat.le_refl _⟩ ?_
      rw [w2, hgp]
      refine ⟨by omega, ?_⟩
      show vc_J _ _ _ _ _ _ _ _ _ _ _
      rw [em, bt_or ⟨Int.natCast_nonneg _, by omega⟩ ⟨Int.natCast_nonneg _, by omega⟩, Int.toNat_natCast, Int.toNat_natCast]
      exact hi
  refine vc_walk hX ck_X0_stateNow [(7, [0, 1, 2])] 60 hd ?_
  refine vc_kv h.1 (cm_directions (d := d) h hl) ⟨Nat.le_refl _, Nat.le_refl _⟩ ?_
  have h1 := loop c.toNat 0 (by omega) (by omega)
  rw [show ((bgS (f 0).toNat (f 2).toNat (fun k => sG f (mv k) 0) (0 : Int).toNat : Nat) : Int) = f 2 by show (((f 2).toNat : Nat) : Int) = f 2; omega] at h1
  exact h1
theorem cm_goes {s m w : Int} (hs : 0 ≤ s ∧ s < 1048576) (hm : 0 ≤ m ∧ m ≤ 5) (h20 : f 0 + 3 * m + 3 ≤ 20) (hw : 0 ≤ w ∧ w < f 0) (h : CLd Lw S o f wr gr lt) (hl : LI K f) (h14 : S o 14 = (shB f : Int)) : vc_M (d + 3) 0 0 35 [.inr (.inr o), ii s, ii m, ii w] Lw S B (vc_eq (some (ii (scc f s m w))) Lw S B) := by
  refine vc_start rfl rfl (Nat.le_of_ble_eq_true rfl) (fun X hX hd => ?_)
  have n0 := hl.nW
  have w1 := h.2.1
  have w2 := w1.2.1
  have hW := h.2.2.2.1 w hw.1 hw.2
  have hsb := bset_lt (fun w => decide (0 < sOn f w)) (f 0).toNat
  have hp2 : (2 : Nat) ^ (f 0).toNat ≤ 2 ^ 14 := Nat.pow_le_pow_right (by decide) (by omega)
  have hbit : (((shB f : Nat) : Int).toNat).testBit w.toNat = decide (0 < sOn f w) := by
    rw [Int.toNat_natCast]
    unfold shB
    rw [bset_bit, decide_eq_true (show w.toNat < (f 0).toNat by omega), Bool.true_and, show ((w.toNat : Nat) : Int) = w by omega]
  have ho := sOn_rg hl w
  have hpl := plc_rg (f 0) s m
  have he := sE_rg (x := s) (e := 0) (hl.w hw.1 hw.2) (.inl rfl)
  have he1 := sE_rg (x := s) (e := 1) (hl.w hw.1 hw.2) (.inr rfl)
  have no : ¬ (sOn f w = 0 ∧ sE f s w 0 = plc (f 0) s m) → vc_J 35 (vc_eq (some (ii (scc f s m w))) Lw S B) X 47 [(0, .inr (.inr o))] [] Lw S B 0 0 := by
    intro hn
    have e : scc f s m w = -1 := if_neg hn
    rw [e]
    refine vc_walk hX ck_X0_goes [] 60 hd ?_
    exact ⟨⟨Nat.le_refl _, Nat.le_refl _⟩, rfl, rfl, rfl, rfl⟩
  refine vc_walk hX ck_X0_goes [(47, [0])] 60 hd ?_
  refine ⟨by omega, h.1, ?_⟩
  refine vc_kv w1.1 (cm_get (d := d) w1 (i := w) hw) ⟨Nat.le_refl _, Nat.le_refl _⟩ ?_
  refine ⟨Or.inr hW.1, h.1, ?_⟩
  rw [h14]
  refine vc_k (cm_has (d := d + 2) (by unfold shB; omega) (by omega)) ⟨Nat.le_refl _, Nat.le_refl _⟩ ?_
  rw [hbit]
  have hbb := bI_rg (decide (0 < sOn f w))
  refine ⟨by omega, fun c => no (by have := of_decide_eq_true (bI_n0.mp c); omega), fun c => ?_⟩
  have c0 : sOn f w = 0 := by
    have := of_decide_eq_false ((bI_0 (b := decide (0 < sOn f w))).mp (by omega))
    omega
  refine vc_kv hW.1 (cm_fromB (d := d + 2) hW.1 (bt_01 (by omega))) ⟨Nat.le_refl _, Nat.le_refl _⟩ ?_
  rw [hW.fromB (by omega)]
  refine vc_kv h.1 (cm_placeIn (d := d + 1) (by omega) hm h hl) ⟨Nat.le_refl _, Nat.le_refl _⟩ ?_
  refine ⟨by omega, fun c2 => ?_, fun c2 => no (by omega)⟩
  have e : scc f s m w = nxt f s m w := if_pos ⟨c0, c2⟩
  rw [e]
  refine ⟨h.1, ?_⟩
  refine vc_kv w1.1 (cm_size (d := d + 2) w1.1) ⟨Nat.le_refl _, Nat.le_refl _⟩ ?_
  rw [w2]
  refine ⟨by omega, by omega, ?_⟩
  refine vc_kv hW.1 (cm_toB (d := d + 2) hW.1 (bt_01 (by omega))) ⟨Nat.le_refl _, Nat.le_refl _⟩ ?_
  rw [hW.toB (by omega)]
  refine ⟨by omega, ⟨Nat.le_refl _, Nat.le_refl _⟩, ?_, rfl, rfl, rfl⟩
  rw [nxt_eq hs (by omega) (by omega) he1 rfl]
end CMM
