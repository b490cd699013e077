/-! SPEC: numbers and bits; the land's state is a row f of whole numbers, as the twin's 'said' has it -/
set_option maxRecDepth 100000
/-- how many below n -/
def cntB (p : Int → Bool) : Nat → Int
  | 0 => 0
  | n + 1 => cntB p n + (if p (n : Int) = true then 1 else 0)
theorem cntB_s {p : Int → Bool} {g : Int} (h : 0 ≤ g) : cntB p (g + 1).toNat = cntB p g.toNat + (if p g = true then 1 else 0) := by
  obtain ⟨n, rfl⟩ := Int.eq_ofNat_of_zero_le h
  rw [show ((n : Int) + 1).toNat = n + 1 by omega, Int.toNat_natCast]
  rfl
theorem cntB_b (p : Int → Bool) : ∀ n : Nat, 0 ≤ cntB p n ∧ cntB p n ≤ n
  | 0 => by constructor <;> exact Int.le_refl 0
  | n + 1 => by
    have := cntB_b p n
    show 0 ≤ cntB p n + _ ∧ cntB p n + _ ≤ _
    split <;> omega
theorem cntB_le (p : Int → Bool) {g : Int} (h : 0 ≤ g) : 0 ≤ cntB p g.toNat ∧ cntB p g.toNat ≤ g := by
  have := cntB_b p g.toNat
  omega
theorem cntB_congr {p q : Int → Bool} : ∀ (n : Nat), (∀ i : Int, 0 ≤ i → i < n → p i = q i) → cntB p n = cntB q n
  | 0, _ => rfl
  | n + 1, h => by
    show cntB p n + _ = cntB q n + _
    rw [cntB_congr n (fun i h1 h2 => h i h1 (by omega)), h n (by omega) (by omega)]
-- ===== bits =====
theorem bt_nat {x : Int} (h : 0 ≤ x ∧ x ≤ 2147483647) : (Int32.ofInt x).toBitVec = BitVec.ofNat 32 x.toNat := by
  obtain ⟨n, rfl⟩ := Int.eq_ofNat_of_zero_le h.1
  rw [Int32.ofInt_eq_ofNat]
  rfl
theorem bt_toI {v : BitVec 32} (h : v.toNat < 2147483648) : (Int32.ofBitVec v).toInt = (v.toNat : Int) := by
  show v.toInt = _
  rw [BitVec.toInt_eq_toNat_of_lt (by omega)]
theorem bt_and {x y : Int} (hx : 0 ≤ x ∧ x ≤ 2147483647) (hy : 0 ≤ y ∧ y ≤ 2147483647) : vt_and x y = ((x.toNat &&& y.toNat : Nat) : Int) := by
  have hb : (BitVec.ofNat 32 x.toNat &&& BitVec.ofNat 32 y.toNat).toNat = x.toNat &&& y.toNat := by
    rw [BitVec.toNat_and, BitVec.toNat_ofNat, BitVec.toNat_ofNat, Nat.mod_eq_of_lt (by omega), Nat.mod_eq_of_lt (by omega)]
  have hl : x.toNat &&& y.toNat ≤ x.toNat := Nat.and_le_left
  show (Int32.ofBitVec ((Int32.ofInt x).toBitVec &&& (Int32.ofInt y).toBitVec)).toInt = _
  rw [bt_nat hx, bt_nat hy, bt_toI (by rw [hb]; omega), hb]
theorem bt_or {x y : Int} (hx : 0 ≤ x ∧ x ≤ 2147483647) (hy : 0 ≤ y ∧ y ≤ 2147483647) : vt_or x y = ((x.toNat ||| y.toNat : Nat) : Int) := by
  have hb : (BitVec.ofNat 32 x.toNat ||| BitVec.ofNat 32 y.toNat).toNat = x.toNat ||| y.toNat := by
    rw [BitVec.toNat_or, BitVec.toNat_ofNat, BitVec.toNat_ofNat, Nat.mod_eq_of_lt (by omega), Nat.mod_eq_of_lt (by omega)]
  have hl : x.toNat ||| y.toNat < 2 ^ 31 := Nat.or_lt_two_pow (by omega) (by omega)
  show (Int32.ofBitVec ((Int32.ofInt x).toBitVec ||| (Int32.ofInt y).toBitVec)).toInt = _
  rw [bt_nat hx, bt_nat hy, bt_toI (by rw [hb]; omega), hb]
theorem bt_xor {x y : Int} (hx : 0 ≤ x ∧ x ≤ 2147483647) (hy : 0 ≤ y ∧ y ≤ 2147483647) : vt_xor x y = ((x.toNat ^^^ y.toNat : Nat) : Int) := by
  have hb : (BitVec.ofNat 32 x.toNat ^^^ BitVec.ofNat 32 y.toNat).toNat = x.toNat ^^^ y.toNat := by
    rw [BitVec.toNat_xor, BitVec.toNat_ofNat, BitVec.toNat_ofNat, Nat.mod_eq_of_lt (by omega), Nat.mod_eq_of_lt (by omega)]
  have hl : x.toNat ^^^ y.toNat < 2 ^ 31 := Nat.xor_lt_two_pow (by omega) (by omega)
  show (Int32.ofBitVec ((Int32.ofInt x).toBitVec ^^^ (Int32.ofInt y).toBitVec)).toInt = _
  rw [bt_nat hx, bt_nat hy, bt_toI (by rw [hb]; omega), hb]
/-- x & ~y -/
theorem bt_andn {x y : Int} (hx : 0 ≤ x ∧ x ≤ 2147483647) (hy : 0 ≤ y ∧ y ≤ 2147483647) : vt_and x (vt_xor y (-1)) = ((x.toNat ^^^ (x.toNat &&& y.toNat) : Nat) : Int) := by
  have hb : (BitVec.ofNat 32 x.toNat &&& (BitVec.ofNat 32 y.toNat ^^^ BitVec.allOnes 32)) = BitVec.ofNat 32 (x.toNat ^^^ (x.toNat &&& y.toNat)) := by
    apply BitVec.eq_of_getLsbD_eq
    intro i hi
    simp only [BitVec.getLsbD_and, BitVec.getLsbD_xor, BitVec.getLsbD_ofNat, BitVec.getLsbD_allOnes, Nat.testBit_xor, Nat.testBit_and, hi, decide_true, Bool.true_and]
    cases x.toNat.testBit i <;> cases y.toNat.testBit i <;> rfl
  have hl : x.toNat &&& y.toNat ≤ x.toNat := Nat.and_le_left
  have hl2 : x.toNat ^^^ (x.toNat &&& y.toNat) < 2 ^ 31 := Nat.xor_lt_two_pow (by omega) (by omega)
  have h1 : Int32.ofInt (vt_xor y (-1)) = Int32.ofBitVec (BitVec.ofNat 32 y.toNat ^^^ BitVec.allOnes 32) := by
    unfold vt_xor
    rw [Int32.ofInt_toInt]
    show Int32.ofBitVec ((Int32.ofInt y).toBitVec ^^^ (Int32.ofInt (-1)).toBitVec) = _
    rw [bt_nat hy]
    rfl
  show (Int32.ofBitVec ((Int32.ofInt x).toBitVec &&& (Int32.ofInt (vt_xor y (-1))).toBitVec)).toInt = _
  rw [h1, bt_nat hx]
  show (Int32.ofBitVec (BitVec.ofNat 32 x.toNat &&& (BitVec.ofNat 32 y.toNat ^^^ BitVec.allOnes 32))).toInt = _
  rw [hb, bt_toI (by rw [BitVec.toNat_ofNat, Nat.mod_eq_of_lt (by omega)]; omega), BitVec.toNat_ofNat, Nat.mod_eq_of_lt (by omega)]
/-- a bit, as it is read: d >> w & 1 -/
theorem bt_bit {d w : Int} (hd : 0 ≤ d ∧ d ≤ 2147483647) : vt_and (d / 2 ^ w.toNat) 1 = if d.toNat.testBit w.toNat = true then 1 else 0 := by
  obtain ⟨n, rfl⟩ := Int.eq_ofNat_of_zero_le hd.1
  have e : (n : Int) / 2 ^ w.toNat = ((n / 2 ^ w.toNat : Nat) : Int) := by simp
  have hle : n / 2 ^ w.toNat ≤ n := Nat.div_le_self _ _
  rw [e, bt_and ⟨Int.natCast_nonneg _, Int.le_trans (Int.ofNat_le.mpr hle) hd.2⟩ (by decide), Int.toNat_natCast, Int.toNat_natCast]
  show ((n / 2 ^ w.toNat &&& 1 : Nat) : Int) = _
  rw [Nat.and_one_is_mod, Nat.testBit_eq_decide_div_mod_eq]
  have := Nat.mod_lt (n / 2 ^ w.toNat) (show 0 < 2 by decide)
  split
  · rename_i h; rw [decide_eq_true_eq] at h; omega
  · rename_i h; rw [decide_eq_true_eq] at h; omega
-- ===== longs =====
theorem lg_le {x y : Int} (hx : -9223372036854775808 ≤ x ∧ x ≤ 9223372036854775807) (hy : -9223372036854775808 ≤ y ∧ y ≤ 9223372036854775807) : Int64.ofInt x ≤ Int64.ofInt y ↔ x ≤ y := by
  rw [Int64.le_iff_toInt_le, Int64.toInt_ofInt_of_le (by omega) (by omega), Int64.toInt_ofInt_of_le (by omega) (by omega)]
theorem cmp_rg (x y : Int64) : -1 ≤ vt_cmp x y ∧ vt_cmp x y ≤ 1 := by
  unfold vt_cmp
  split
  · decide
  · split <;> decide
theorem cmp_lt0 {x y : Int64} : vt_cmp x y < 0 ↔ x < y := by
  unfold vt_cmp
  split
  · rename_i h
    constructor
    · intro z; omega
    · intro z; exact absurd h (Int64.lt_asymm z)
  · rename_i h
    split
    · rename_i h2
      subst h2
      constructor
      · intro z; omega
      · intro z; exact absurd z h
    · rename_i h2
      constructor
      · intro _
        rcases Int64.lt_or_lt_of_ne h2 with q | q
        · exact q
        · exact absurd q h
      · intro _; decide
theorem cmp_gt0 {x y : Int64} : 0 < vt_cmp x y ↔ y < x := by
  unfold vt_cmp
  split
  · rename_i h
    exact ⟨fun _ => h, fun _ => by decide⟩
  · rename_i h
    split
    · exact ⟨fun z => absurd z (by decide), fun z => absurd z h⟩
    · exact ⟨fun z => absurd z (by decide), fun z => absurd z h⟩
theorem cmp_eq0 {x y : Int64} : vt_cmp x y = 0 ↔ x = y := by
  unfold vt_cmp
  split
  · rename_i h
    exact ⟨fun z => absurd z (by decide), fun z => by subst z; exact absurd h (Int64.lt_irrefl)⟩
  · split
    · rename_i h; exact ⟨fun _ => h, fun _ => rfl⟩
    · rename_i h; exact ⟨fun z => absurd z (by decide), fun z => absurd z h⟩
