/-! THE COMPONENT's post: its states against the twin's -/
set_option maxRecDepth 100000
/-- a state behind a going: directions and place below, above them where he was -/
def csc (f : Int → Int) (pl : Int) (u _m w : Int) : Int := if scc f ((u.toNat % 2 ^ (f 0 + 3).toNat : Nat) : Int) 0 w = -1 then -1 else (((scc f ((u.toNat % 2 ^ (f 0 + 3).toNat : Nat) : Int) 0 w).toNat ||| ((u.toNat / 2 ^ (f 0 + 3).toNat) ||| (2 ^ (plc (f 0) (scc f ((u.toNat % 2 ^ (f 0 + 3).toNat : Nat) : Int) 0 w) 0).toNat &&& pl.toNat)) * 2 ^ (f 0 + 3).toNat : Nat) : Int)
def cst (f : Int → Int) (g pl : Int) : Int := (((sst f 1 (fun _ => g)).toNat ||| (2 ^ (sG f g 0).toNat &&& pl.toNat) * 2 ^ (f 0 + 3).toNat : Nat) : Int)
def chm (f : Int → Int) (pl bk home u : Int) : Bool := (((u.toNat / 2 ^ (f 0 + 3).toNat : Nat) : Int) == pl) && (bk == 0 || plc (f 0) ((u.toNat % 2 ^ (f 0 + 3).toNat : Nat) : Int) 0 == home)
/-- of one land: a state of the component's, one of the twin's -/
def Rps (f : Int → Int) (pl u s : Int) : Prop := (∀ w : Int, 0 ≤ w → w < f 0 → (u.toNat % 2 ^ (f 0 + 3).toNat).testBit w.toNat = s.toNat.testBit w.toNat) ∧ plc (f 0) ((u.toNat % 2 ^ (f 0 + 3).toNat : Nat) : Int) 0 = plc 9 s 0 ∧ u.toNat / 2 ^ (f 0 + 3).toNat = s.toNat / 2 ^ 12 &&& pl.toNat ∧ (0 ≤ s ∧ s < 1048576) ∧ (0 ≤ u ∧ u < ((2 ^ (f 0 + 11).toNat : Nat) : Int))
theorem cj_mod {t m a : Nat} (ht : t < 2 ^ a) : (t ||| m * 2 ^ a) % 2 ^ a = t := by
  apply Nat.eq_of_testBit_eq
  intro i
  rw [Nat.testBit_mod_two_pow, Nat.testBit_or, Nat.testBit_mul_two_pow]
  by_cases c : i < a
  · rw [decide_eq_true c, decide_eq_false (by omega), Bool.false_and, Bool.or_false, Bool.true_and]
  · rw [decide_eq_false c, Bool.false_and]
    exact (bit_hi ht (by omega)).symm
theorem cj_div {t m a : Nat} (ht : t < 2 ^ a) : (t ||| m * 2 ^ a) / 2 ^ a = m := by
  apply Nat.eq_of_testBit_eq
  intro i
  rw [Nat.testBit_div_two_pow, Nat.testBit_or, Nat.testBit_mul_two_pow, bit_hi ht (by omega), Bool.false_or, decide_eq_true (by omega), Bool.true_and]
  congr 1
  omega
theorem cj_lt {t m a b : Nat} (ht : t < 2 ^ a) (hm : m < 2 ^ b) : t ||| m * 2 ^ a < 2 ^ (a + b) := by
  apply Nat.or_lt_two_pow
  · exact Nat.lt_of_lt_of_le ht (Nat.pow_le_pow_right (by decide) (by omega))
  · rw [Nat.pow_add, Nat.mul_comm]
    exact Nat.mul_lt_mul_of_pos_left hm (Nat.two_pow_pos _)
theorem xor0 {a b : Nat} (h : a ^^^ b = 0) : a = b := by
  apply Nat.eq_of_testBit_eq
  intro i
  have := congrArg (fun x => x.testBit i) h
  simp only [Nat.testBit_xor, Nat.zero_testBit] at this
  revert this
  cases a.testBit i <;> cases b.testBit i <;> simp
section PST
variable {K : Int} {f : Int → Int} {pl bk home : Int}
theorem pnx_bit (hl : LI K f) {s w : Int} (hs : 0 ≤ s ∧ s < 1048576) (hw : 0 ≤ w ∧ w < f 0) (h9 : f 0 ≤ 9) (i : Nat) : (pnx f s w).toNat.testBit i = if i < 9 then (s.toNat.testBit i ^^ decide (w.toNat = i)) else if i < 12 then (sE f s w 1).toNat.testBit (i - 9) else (s.toNat.testBit i || decide (i = 12 + (sE f s w 1).toNat)) := by
  have he := (hl.w hw.1 hw.2).end (d := s) (Or.inr rfl)
  obtain ⟨p1, p2⟩ := p_small he
  have hx : s.toNat ^^^ 2 ^ w.toNat < 2 ^ 20 := xor_lt (by omega) (by omega)
  have ep : (1 : Int) * 2 ^ w.toNat = ((2 ^ w.toNat : Nat) : Int) := by simp
  have hpw : (2 : Nat) ^ w.toNat ≤ 2 ^ 9 := Nat.pow_le_pow_right (by decide) (by omega)
  have hxx : (s.toNat ^^^ 2 ^ w.toNat) ^^^ ((s.toNat ^^^ 2 ^ w.toNat) &&& 3584) < 2 ^ 20 := Nat.xor_lt_two_pow hx (Nat.lt_of_le_of_lt Nat.and_le_left hx)
  have e1 : vt_and (vt_xor s (1 * 2 ^ w.toNat)) (-3585) = (((s.toNat ^^^ 2 ^ w.toNat) ^^^ ((s.toNat ^^^ 2 ^ w.toNat) &&& 3584) : Nat) : Int) := by
    rw [ep, bt_xor (by omega) ⟨Int.natCast_nonneg _, by omega⟩, Int.toNat_natCast, e3585, bt_andn ⟨Int.natCast_nonneg _, by omega⟩ (by decide), Int.toNat_natCast]
    rfl
  have e2 : sE f s w 1 * 2 ^ (9 : Int).toNat = (((sE f s w 1).toNat * 2 ^ 9 : Nat) : Int) := by
    show sE f s w 1 * 512 = _
    omega
  have e3 : (1 : Int) * 2 ^ (12 + sE f s w 1).toNat = ((2 ^ (12 + (sE f s w 1).toNat) : Nat) : Int) := by
    rw [show (12 + sE f s w 1).toNat = 12 + (sE f s w 1).toNat by omega]; simp
  have hp19 : (2 : Nat) ^ (12 + (sE f s w 1).toNat) ≤ 2 ^ 19 := Nat.pow_le_pow_right (by decide) (by omega)
  have hor : ((s.toNat ^^^ 2 ^ w.toNat) ^^^ ((s.toNat ^^^ 2 ^ w.toNat) &&& 3584)) ||| (sE f s w 1).toNat * 2 ^ 9 < 2 ^ 20 := Nat.or_lt_two_pow hxx (by omega)
  unfold pnx
  rw [e1, e2, e3, bt_or (x := (((s.toNat ^^^ 2 ^ w.toNat) ^^^ ((s.toNat ^^^ 2 ^ w.toNat) &&& 3584) : Nat) : Int)) (y := (((sE f s w 1).toNat * 2 ^ 9 : Nat) : Int)) ⟨Int.natCast_nonneg _, by omega⟩ ⟨Int.natCast_nonneg _, by omega⟩, Int.toNat_natCast, Int.toNat_natCast, bt_or ⟨Int.natCast_nonneg _, by omega⟩ ⟨Int.natCast_nonneg _, by omega⟩, Int.toNat_natCast, Int.toNat_natCast, Int.toNat_natCast]
  rw [Nat.testBit_or, Nat.testBit_or, Nat.testBit_xor, Nat.testBit_and, Nat.testBit_xor, Nat.testBit_two_pow, Nat.testBit_two_pow, Nat.testBit_mul_two_pow]
  have e7 : (3584 : Nat).testBit i = decide (9 ≤ i ∧ i < 12) := by
    rw [show (3584 : Nat) = 7 * 2 ^ 9 from rfl, Nat.testBit_mul_two_pow]
    have e8 : ∀ j : Nat, (7 : Nat).testBit j = decide (j < 3) := fun j => Nat.testBit_two_pow_sub_one (n := 3) (i := j)
    rw [e8]
    by_cases c : 9 ≤ i
    · rw [decide_eq_true c, Bool.true_and]
      exact decide_eq_decide.mpr (by omega)
    · rw [decide_eq_false c, Bool.false_and]; exact (decide_eq_false (by omega)).symm
  rw [e7]
  by_cases c : i < 9
  · rw [if_pos c, decide_eq_false (show ¬ (9 ≤ i ∧ i < 12) by omega), decide_eq_false (show ¬ 9 ≤ i by omega), decide_eq_false (show ¬ 12 + (sE f s w 1).toNat = i by omega)]
    simp
  · rw [if_neg c]
    by_cases c2 : i < 12
    · rw [if_pos c2, decide_eq_true (show 9 ≤ i ∧ i < 12 by omega), decide_eq_true (show 9 ≤ i by omega), decide_eq_false (show ¬ 12 + (sE f s w 1).toNat = i by omega), decide_eq_false (show ¬ w.toNat = i by omega)]
      cases s.toNat.testBit i <;> simp
    · rw [if_neg c2, decide_eq_false (show ¬ (9 ≤ i ∧ i < 12) by omega), decide_eq_true (show 9 ≤ i by omega), decide_eq_false (show ¬ w.toNat = i by omega), bit_hi (n := 3) (d := (sE f s w 1).toNat) (by omega) (show 3 ≤ i - 9 by omega), show decide (12 + (sE f s w 1).toNat = i) = decide (i = 12 + (sE f s w 1).toNat) from decide_eq_decide.mpr (by omega)]
      cases s.toNat.testBit i <;> simp
theorem Rps.e {u s : Int} (h : Rps f pl u s) {w e : Int} (hw : 0 ≤ w ∧ w < f 0) : sE f ((u.toNat % 2 ^ (f 0 + 3).toNat : Nat) : Int) w e = sE f s w e := by
  unfold sE
  rw [Int.toNat_natCast, h.1 w hw.1 hw.2]
/-- both go alike -/
theorem Rps.step (hl : LI K f) (h9 : f 0 ≤ 9) (hpl : 0 ≤ pl ∧ pl ≤ 255) {u s m w : Int} (h : Rps f pl u s) (hm : 0 ≤ m ∧ m < 1) (hw : 0 ≤ w ∧ w < f 0) : (csc f pl u m w = -1 ∧ psc f s m w = -1) ∨ (csc f pl u m w ≠ -1 ∧ psc f s m w ≠ -1 ∧ Rps f pl (csc f pl u m w) (psc f s m w)) := by
  have n0 := hl.nW
  obtain ⟨r1, r2, r3, r4, r5⟩ := id h
  have hsE := fun e => h.e (e := e) hw
  have hst0 : 0 ≤ ((u.toNat % 2 ^ (f 0 + 3).toNat : Nat) : Int) := Int.natCast_nonneg _
  have hlt : u.toNat % 2 ^ (f 0 + 3).toNat < 2 ^ (f 0 + 3).toNat := Nat.mod_lt _ (Nat.two_pow_pos _)
  by_cases c : sOn f w = 0 ∧ sE f s w 0 = plc 9 s 0
  · have e1 : scc f ((u.toNat % 2 ^ (f 0 + 3).toNat : Nat) : Int) 0 w = nxt f ((u.toNat % 2 ^ (f 0 + 3).toNat : Nat) : Int) 0 w := if_pos ⟨c.1, by rw [hsE, r2]; exact c.2⟩
    have e2 : psc f s m w = pnx f s w := if_pos c
    have he := (hl.w hw.1 hw.2).end (d := s) (Or.inr rfl)
    have hn := nxt_rg (s := ((u.toNat % 2 ^ (f 0 + 3).toNat : Nat) : Int)) (m := 0) (w := w) (c := 1) hl (by omega) ⟨hst0, by rw [show f 0 + 3 * 1 = f 0 + 3 by omega]; exact Int.ofNat_lt.mpr hlt⟩ ⟨by decide, by decide⟩ hw
    rw [show f 0 + 3 * 1 = f 0 + 3 by omega] at hn
    have hpc : plc (f 0) (nxt f ((u.toNat % 2 ^ (f 0 + 3).toNat : Nat) : Int) 0 w) 0 = sE f s w 1 := by rw [nxt_plc hl (by decide) hw, hsE]
    have hnd : ∀ v : Int, 0 ≤ v → v < f 0 → (nxt f ((u.toNat % 2 ^ (f 0 + 3).toNat : Nat) : Int) 0 w).toNat.testBit v.toNat = (s.toNat.testBit v.toNat ^^ decide (w = v)) := fun v v0 v1 => by
      rw [nxt_dir hl (by decide) hw ⟨v0, v1⟩, Int.toNat_natCast, r1 v v0 v1]
    have hprg := pnx_rg hl r4 hw
    have hpb := pnx_bit hl r4 hw h9
    generalize hT : nxt f ((u.toNat % 2 ^ (f 0 + 3).toNat : Nat) : Int) 0 w = T at *
    have hTn : T ≠ -1 := by omega
    have hTl : T.toNat < 2 ^ (f 0 + 3).toNat := by omega
    have hm8 : s.toNat / 2 ^ 12 &&& pl.toNat < 2 ^ 8 := Nat.lt_of_le_of_lt Nat.and_le_right (by omega)
    have hm8b : 2 ^ (sE f s w 1).toNat &&& pl.toNat < 2 ^ 8 := Nat.lt_of_le_of_lt Nat.and_le_right (by omega)
    have hmm : (u.toNat / 2 ^ (f 0 + 3).toNat ||| (2 ^ (sE f s w 1).toNat &&& pl.toNat)) < 2 ^ 8 := by rw [r3]; exact Nat.or_lt_two_pow hm8 hm8b
    have hcs : csc f pl u m w = ((T.toNat ||| (u.toNat / 2 ^ (f 0 + 3).toNat ||| (2 ^ (sE f s w 1).toNat &&& pl.toNat)) * 2 ^ (f 0 + 3).toNat : Nat) : Int) := by
      unfold csc
      rw [e1, if_neg hTn, hpc]
    right
    rw [hcs, e2]
    refine ⟨by omega, by omega, ?_, ?_, ?_, hprg, Int.natCast_nonneg _, ?_⟩
    · intro v v0 v1
      rw [Int.toNat_natCast, cj_mod hTl, hnd v v0 v1, hpb, if_pos (by omega)]
      congr 1
      exact decide_eq_decide.mpr (by omega)
    · rw [Int.toNat_natCast, cj_mod hTl, show ((T.toNat : Nat) : Int) = T by omega, hpc]
      have h1 := plc_rg 9 (pnx f s w) 0
      have : (sE f s w 1).toNat = (plc 9 (pnx f s w) 0).toNat := by
        apply Nat.eq_of_testBit_eq
        intro j
        rw [plc_bit, hpb]
        by_cases cj : j < 3
        · rw [decide_eq_true cj, Bool.true_and, if_neg (by omega), if_pos (by omega)]
          congr 1
          omega
        · rw [decide_eq_false cj, Bool.false_and]
          exact bit_hi (n := 3) (by omega) (by omega)
      omega
    · rw [Int.toNat_natCast, cj_div hTl, r3]
      apply Nat.eq_of_testBit_eq
      intro j
      rw [Nat.testBit_or, Nat.testBit_and, Nat.testBit_and, Nat.testBit_and, Nat.testBit_div_two_pow, Nat.testBit_div_two_pow, hpb, if_neg (by omega), if_neg (by omega), Nat.testBit_two_pow, show decide (j + 12 = 12 + (sE f s w 1).toNat) = decide ((sE f s w 1).toNat = j) from decide_eq_decide.mpr (by omega)]
      cases s.toNat.testBit (j + 12) <;> cases decide ((sE f s w 1).toNat = j) <;> cases pl.toNat.testBit j <;> rfl
    · rw [show (f 0 + 11).toNat = (f 0 + 3).toNat + 8 by omega]
      exact Int.ofNat_lt.mpr (cj_lt hTl hmm)
  · left
    have e1 : scc f ((u.toNat % 2 ^ (f 0 + 3).toNat : Nat) : Int) 0 w = -1 := if_neg (by rw [hsE, r2]; exact c)
    refine ⟨?_, if_neg c⟩
    unfold csc
    rw [if_pos e1]
theorem Rps.hm (hpl : 0 ≤ pl ∧ pl ≤ 255) {u s : Int} (h : Rps f pl u s) : chm f pl bk home u = phm pl bk home s := by
  obtain ⟨r1, r2, r3, r4, r5⟩ := h
  unfold chm phm
  rw [r2, r3]
  congr 1
  have e0 : s / 2 ^ (12 : Int).toNat = ((s.toNat / 2 ^ 12 : Nat) : Int) := by
    show s / 4096 = _
    omega
  have hle : s.toNat / 2 ^ 12 ≤ s.toNat := Nat.div_le_self _ _
  rw [e0, bt_andn (by omega) ⟨Int.natCast_nonneg _, by omega⟩, Int.toNat_natCast]
  rw [Bool.eq_iff_iff, beq_iff_eq, beq_iff_eq]
  constructor
  · intro z
    have z1 : s.toNat / 2 ^ 12 &&& pl.toNat = pl.toNat := by omega
    rw [Nat.and_comm] at z1
    rw [z1, Nat.xor_self]
    rfl
  · intro z
    have z1 : pl.toNat ^^^ (pl.toNat &&& s.toNat / 2 ^ 12) = 0 := by omega
    have z2 := xor0 z1
    rw [Nat.and_comm] at z2
    rw [← z2]
    omega
theorem Rps.hpt (hl : LI K f) (h9 : f 0 ≤ 9) (hpl : 0 ≤ pl ∧ pl ≤ 255) : ∀ (l : Nat) (u s : Int), Rps f pl u s → (hpt 1 (f 0) (csc f pl) (chm f pl bk home) l u ↔ hpt 1 (f 0) (psc f) (phm pl bk home) l s)
  | 0, u, s, h => by
    show chm f pl bk home u = true ↔ phm pl bk home s = true
    rw [h.hm hpl]
  | l + 1, u, s, h => by
    constructor
    · rintro ⟨m, w, a, b, c, e⟩
      rcases h.step hl h9 hpl a b with ⟨x, -⟩ | ⟨-, x2, x3⟩
      · exact absurd x c
      · exact ⟨m, w, a, b, x2, (Rps.hpt hl h9 hpl l _ _ x3).mp e⟩
    · rintro ⟨m, w, a, b, c, e⟩
      rcases h.step hl h9 hpl a b with ⟨-, x⟩ | ⟨x1, -, x3⟩
      · exact absurd x c
      · exact ⟨m, w, a, b, x1, (Rps.hpt hl h9 hpl l _ _ x3).mpr e⟩
theorem Rps.start (hl : LI K f) (h9 : f 0 ≤ 9) (hpl : 0 ≤ pl ∧ pl ≤ 255) {g : Int} (hg : 0 ≤ g ∧ g < f 1) (hs : sG f g 3 = -1) : Rps f pl (cst f g pl) (pst f g) := by
  have n0 := hl.nW
  have hdd := hl.dirs
  have ep0 : ((2 ^ (f 0).toNat : Nat) : Int) = (2 : Int) ^ (f 0).toNat := by simp
  have hd2 : (f 2).toNat < 2 ^ (f 0).toNat := by omega
  have hp9 : (2 : Nat) ^ (f 0).toNat ≤ 2 ^ 9 := Nat.pow_le_pow_right (by decide) (by omega)
  have hp : 0 ≤ sG f g 0 ∧ sG f g 0 ≤ 7 := by obtain ⟨-, -, -, q | q⟩ := hl.g hg.1 hg.2 <;> omega
  have hpl1 : ∀ j : Int, 0 ≤ j → j < ((1 : Nat) : Int) → 0 ≤ (fun _ : Int => sG f g 0) j ∧ (fun _ : Int => sG f g 0) j ≤ 7 := fun _ _ _ => hp
  have hstl : bgS (f 0).toNat (f 2).toNat (fun _ => sG f g 0) 1 < 2 ^ ((f 0).toNat + 3 * 1) := bgS_lt hd2 1 hpl1
  have hst : (sst f 1 (fun _ => g)).toNat = bgS (f 0).toNat (f 2).toNat (fun _ => sG f g 0) 1 := rfl
  have ea : (f 0 + 3).toNat = (f 0).toNat + 3 * 1 := by omega
  have hstl2 : (sst f 1 (fun _ => g)).toNat < 2 ^ (f 0 + 3).toNat := by rw [ea]; exact hstl
  have hm8b : 2 ^ (sG f g 0).toNat &&& pl.toNat < 2 ^ 8 := Nat.lt_of_le_of_lt Nat.and_le_right (by omega)
  obtain ⟨p1, p2⟩ := p_small hp
  have e2 : sG f g 0 * 2 ^ (9 : Int).toNat = (((sG f g 0).toNat * 2 ^ 9 : Nat) : Int) := by
    show sG f g 0 * 512 = _
    omega
  have e3 : (1 : Int) * 2 ^ (12 + sG f g 0).toNat = ((2 ^ (12 + (sG f g 0).toNat) : Nat) : Int) := by
    rw [show (12 + sG f g 0).toNat = 12 + (sG f g 0).toNat by omega]; simp
  have hp19 : (2 : Nat) ^ (12 + (sG f g 0).toNat) ≤ 2 ^ 19 := Nat.pow_le_pow_right (by decide) (by omega)
  have hor : (f 2).toNat ||| (sG f g 0).toNat * 2 ^ 9 < 2 ^ 20 := Nat.or_lt_two_pow (by omega) (by omega)
  have hpe : pst f g = (((f 2).toNat ||| (sG f g 0).toNat * 2 ^ 9 ||| 2 ^ (12 + (sG f g 0).toNat) : Nat) : Int) := by
    unfold pst
    rw [e2, e3, bt_or (x := f 2) (y := (((sG f g 0).toNat * 2 ^ 9 : Nat) : Int)) (by omega) ⟨Int.natCast_nonneg _, by omega⟩, Int.toNat_natCast, bt_or ⟨Int.natCast_nonneg _, by omega⟩ ⟨Int.natCast_nonneg _, by omega⟩, Int.toNat_natCast, Int.toNat_natCast]
  have hpb : ∀ i, (pst f g).toNat.testBit i = if i < 9 then (f 2).toNat.testBit i else if i < 12 then (sG f g 0).toNat.testBit (i - 9) else decide (i = 12 + (sG f g 0).toNat) := by
    intro i
    rw [hpe, Int.toNat_natCast, Nat.testBit_or, Nat.testBit_or, Nat.testBit_mul_two_pow, Nat.testBit_two_pow]
    by_cases c : i < 9
    · rw [if_pos c, decide_eq_false (show ¬ 9 ≤ i by omega), decide_eq_false (show ¬ 12 + (sG f g 0).toNat = i by omega)]
      simp
    · rw [if_neg c, bit_hi (n := 9) (d := (f 2).toNat) (by omega) (by omega), decide_eq_true (show 9 ≤ i by omega)]
      by_cases c2 : i < 12
      · rw [if_pos c2, decide_eq_false (show ¬ 12 + (sG f g 0).toNat = i by omega)]
        simp
      · rw [if_neg c2, bit_hi (n := 3) (d := (sG f g 0).toNat) (by omega) (show 3 ≤ i - 9 by omega), show decide (12 + (sG f g 0).toNat = i) = decide (i = 12 + (sG f g 0).toNat) from decide_eq_decide.mpr (by omega)]
        simp
  have hprg : 0 ≤ pst f g ∧ pst f g < 1048576 := by
    rw [hpe]
    have : (f 2).toNat ||| (sG f g 0).toNat * 2 ^ 9 ||| 2 ^ (12 + (sG f g 0).toNat) < 2 ^ 20 := Nat.or_lt_two_pow hor (by omega)
    exact ⟨Int.natCast_nonneg _, Int.ofNat_lt.mpr this⟩
  have hce : (cst f g pl).toNat = (sst f 1 (fun _ => g)).toNat ||| (2 ^ (sG f g 0).toNat &&& pl.toNat) * 2 ^ (f 0 + 3).toNat := rfl
  refine ⟨fun w w0 w1 => ?_, ?_, ?_, hprg, Int.natCast_nonneg _, ?_⟩
  · rw [hce, cj_mod hstl2, hst, bgS_b hd2 _ 1 hpl1, if_pos (by omega), hpb, if_pos (by omega)]
  · rw [hce, cj_mod hstl2, hst]
    have h1 := plc_bgS (n := f 0) (c := 1) (pl := fun _ => sG f g 0) (k := 0) n0.1 hd2 (fun _ _ _ => hp) (by decide) (by decide)
    have h1 : plc (f 0) ((bgS (f 0).toNat (f 2).toNat (fun _ => sG f g 0) 1 : Nat) : Int) 0 = sG f g 0 := h1
    rw [h1]
    have h2 := plc_rg 9 (pst f g) 0
    have : (sG f g 0).toNat = (plc 9 (pst f g) 0).toNat := by
      apply Nat.eq_of_testBit_eq
      intro j
      rw [plc_bit, hpb]
      by_cases cj : j < 3
      · rw [decide_eq_true cj, Bool.true_and, if_neg (by omega), if_pos (by omega)]
        congr 1
        omega
      · rw [decide_eq_false cj, Bool.false_and]
        exact bit_hi (n := 3) (by omega) (by omega)
    omega
  · rw [hce, cj_div hstl2]
    apply Nat.eq_of_testBit_eq
    intro j
    rw [Nat.testBit_and, Nat.testBit_and, Nat.testBit_div_two_pow, hpb, if_neg (by omega), if_neg (by omega), Nat.testBit_two_pow, show decide (j + 12 = 12 + (sG f g 0).toNat) = decide ((sG f g 0).toNat = j) from decide_eq_decide.mpr (by omega)]
  · rw [show (f 0 + 11).toNat = (f 0 + 3).toNat + 8 by omega]
    exact Int.ofNat_lt.mpr (cj_lt hstl2 hm8b)
end PST
