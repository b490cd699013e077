/-! SPEC: the land's state f, what is read of it -/
set_option maxRecDepth 100000
def sW (f : Int → Int) (w k : Int) : Int := f (10 + 5 * w + k)
def sG (f : Int → Int) (g k : Int) : Int := f (80 + 7 * g + k)
/-- where a way leads from (0) or to (1) by directions d -/
def sE (f : Int → Int) (d w e : Int) : Int := sW f w (if d.toNat.testBit w.toNat = true then 1 - e else e)
def sOn (f : Int → Int) (w : Int) : Int := cntB (fun g => sG f g 3 == w) (f 1).toNat
def sSt (f : Int → Int) (p : Int) : Int := cntB (fun g => sG f g 0 == p) (f 1).toNat
def sLd (f : Int → Int) (d p e : Int) : Int := cntB (fun w => sE f d w e == p) (f 0).toNat
def anyB (p : Int → Bool) : Nat → Bool
  | 0 => false
  | n + 1 => anyB p n || p (n : Int)
theorem anyB_s {p : Int → Bool} {g : Int} (h : 0 ≤ g) : anyB p (g + 1).toNat = (anyB p g.toNat || p g) := by
  obtain ⟨n, rfl⟩ := Int.eq_ofNat_of_zero_le h
  rw [show ((n : Int) + 1).toNat = n + 1 by omega, Int.toNat_natCast]
  rfl
theorem anyB_iff {p : Int → Bool} : ∀ {n : Nat}, anyB p n = true ↔ ∃ i : Int, 0 ≤ i ∧ i < n ∧ p i = true
  | 0 => ⟨fun h => (by cases h), fun ⟨i, h1, h2, _⟩ => by omega⟩
  | n + 1 => by
    show (anyB p n || p n) = true ↔ _
    rw [Bool.or_eq_true, anyB_iff]
    constructor
    · rintro (⟨i, h1, h2, h3⟩ | h)
      · exact ⟨i, h1, by omega, h3⟩
      · exact ⟨n, by omega, by omega, h⟩
    · rintro ⟨i, h1, h2, h3⟩
      by_cases e : i = n
      · subst e; exact Or.inr h3
      · exact Or.inl ⟨i, h1, by omega, h3⟩
def sAny (f : Int → Int) : Bool := anyB (fun g => sG f g 3 != -1) (f 1).toNat
def bI (b : Bool) : Int := if b = true then 1 else 0
theorem bI_t : bI true = 1 := rfl
theorem bI_f : bI false = 0 := rfl
theorem bI_rg (b : Bool) : 0 ≤ bI b ∧ bI b ≤ 1 := by cases b <;> decide
theorem bI_01 (b : Bool) : bI b = 0 ∨ bI b = 1 := by cases b <;> decide
theorem bI_0 {b : Bool} : bI b = 0 ↔ b = false := by cases b <;> decide
theorem bI_n0 {b : Bool} : bI b ≠ 0 ↔ b = true := by cases b <;> decide
theorem bI_1 {b : Bool} : bI b = 1 ↔ b = true := by cases b <;> decide
def sIsW (f : Int → Int) (w : Int) : Bool := decide (0 ≤ w ∧ w < f 0)
def sIsG (f : Int → Int) (g : Int) : Bool := decide (0 ≤ g ∧ g < f 1)
def sIsP (p : Int) : Bool := decide (0 ≤ p ∧ p < 8)
def sIn (x lo hi : Int) : Bool := decide (lo ≤ x ∧ x ≤ hi)
def sStd (f : Int → Int) (g : Int) : Bool := sIsG f g && sG f g 3 == -1
-- ===== what holds of a land's state =====
def WI (f : Int → Int) (w : Int) : Prop := (0 ≤ sW f w 0 ∧ sW f w 0 ≤ 7) ∧ (0 ≤ sW f w 1 ∧ sW f w 1 ≤ 7) ∧ sW f w 0 ≠ sW f w 1 ∧ (1 ≤ sW f w 2 ∧ sW f w 2 ≤ 60) ∧ (0 ≤ sW f w 3 ∧ sW f w 3 ≤ f 3) ∧ (0 ≤ sW f w 4 ∧ sW f w 4 ≤ f 3)
def GI (f : Int → Int) (g : Int) : Prop := (0 ≤ sG f g 1 ∧ sG f g 1 ≤ 7) ∧ (0 ≤ sG f g 2 ∧ sG f g 2 ≤ 2000) ∧ (-1 ≤ sG f g 5 ∧ sG f g 5 ≤ 101000) ∧
  ((sG f g 3 = -1 ∧ sG f g 4 = 0 ∧ sG f g 6 = -1 ∧ 0 ≤ sG f g 0 ∧ sG f g 0 ≤ 7) ∨ (0 ≤ sG f g 3 ∧ sG f g 3 < f 0 ∧ 0 ≤ sG f g 4 ∧ sG f g 4 < sW f (sG f g 3) 2 ∧ 0 ≤ sG f g 6 ∧ sG f g 6 ≤ 7 ∧ sG f g 0 = 8))
def RI (f : Int → Int) (k : Int) : Prop := (0 ≤ f (122 + 2 * k) ∧ f (122 + 2 * k) < f 1) ∧ (0 ≤ f (122 + 2 * k + 1) ∧ f (122 + 2 * k + 1) < f 0)
/-- K: how many goings there may be beside those of minutes -/
def LI (K : Int) (f : Int → Int) : Prop := (0 ≤ f 0 ∧ f 0 ≤ 14) ∧ (0 ≤ f 1 ∧ f 1 ≤ 6) ∧ (0 ≤ f 2 ∧ f 2 < 2 ^ (f 0).toNat) ∧ (0 ≤ f 3 ∧ f 3 ≤ 6 * f 4 + K ∧ K ≤ 100000) ∧ (0 ≤ f 4 ∧ f 4 ≤ 100700) ∧ (0 ≤ f 5 ∧ f 5 ≤ 15 * f 4) ∧ (0 ≤ f 6 ∧ f 6 ≤ 40) ∧ (0 ≤ f 7 ∧ f 7 ≤ 2147483647) ∧
  (∀ w, 0 ≤ w → w < f 0 → WI f w) ∧ (∀ g, 0 ≤ g → g < f 1 → GI f g) ∧ (∀ k, 0 ≤ k → k < f 6 → RI f k)
section LIS
variable {K : Int} {f : Int → Int}
theorem LI.nW (h : LI K f) : 0 ≤ f 0 ∧ f 0 ≤ 14 := h.1
theorem LI.nG (h : LI K f) : 0 ≤ f 1 ∧ f 1 ≤ 6 := h.2.1
theorem LI.dirs (h : LI K f) : 0 ≤ f 2 ∧ f 2 < 2 ^ (f 0).toNat := h.2.2.1
theorem pow14 {n : Int} (h : n ≤ 14) : (2 : Int) ^ n.toNat ≤ 16384 := by
  have : (2 : Nat) ^ n.toNat ≤ 2 ^ 14 := Nat.pow_le_pow_right (by decide) (by omega)
  have e : ((2 ^ n.toNat : Nat) : Int) = (2 : Int) ^ n.toNat := by simp
  rw [← e]
  omega
theorem LI.dir (h : LI K f) : 0 ≤ f 2 ∧ f 2 < 16384 := by
  have h1 := h.dirs
  have h2 := pow14 h.nW.2
  omega
theorem LI.goings (h : LI K f) : 0 ≤ f 3 ∧ f 3 ≤ 6 * f 4 + K ∧ K ≤ 100000 := h.2.2.2.1
theorem LI.clock (h : LI K f) : 0 ≤ f 4 ∧ f 4 ≤ 100700 := h.2.2.2.2.1
theorem LI.met (h : LI K f) : 0 ≤ f 5 ∧ f 5 ≤ 15 * f 4 := h.2.2.2.2.2.1
theorem LI.rows (h : LI K f) : 0 ≤ f 6 ∧ f 6 ≤ 40 := h.2.2.2.2.2.2.1
theorem LI.draw (h : LI K f) : 0 ≤ f 7 ∧ f 7 ≤ 2147483647 := h.2.2.2.2.2.2.2.1
theorem LI.w (h : LI K f) {w : Int} (h1 : 0 ≤ w) (h2 : w < f 0) : WI f w := h.2.2.2.2.2.2.2.2.1 w h1 h2
theorem LI.g (h : LI K f) {g : Int} (h1 : 0 ≤ g) (h2 : g < f 1) : GI f g := h.2.2.2.2.2.2.2.2.2.1 g h1 h2
theorem LI.r (h : LI K f) {k : Int} (h1 : 0 ≤ k) (h2 : k < f 6) : RI f k := h.2.2.2.2.2.2.2.2.2.2 k h1 h2
theorem GI.way {g : Int} (h : GI f g) (hw : f 0 ≤ 14) : -1 ≤ sG f g 3 ∧ sG f g 3 ≤ 13 := by
  obtain ⟨-, -, -, h | h⟩ := h <;> omega
theorem GI.place {g : Int} (h : GI f g) : 0 ≤ sG f g 0 ∧ sG f g 0 ≤ 8 := by
  obtain ⟨-, -, -, h | h⟩ := h <;> omega
theorem WI.end {w : Int} (h : WI f w) {d e : Int} (he : e = 0 ∨ e = 1) : 0 ≤ sE f d w e ∧ sE f d w e ≤ 7 := by
  unfold sE
  obtain ⟨h0, h1, -⟩ := h
  rcases he with rfl | rfl <;> split <;> assumption
theorem WI.ne {w : Int} (h : WI f w) {d : Int} : sE f d w 0 ≠ sE f d w 1 := by
  unfold sE
  obtain ⟨-, -, h, -⟩ := h
  split
  · exact fun e => h e.symm
  · exact h
end LIS
