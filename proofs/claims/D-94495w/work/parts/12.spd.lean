/-! SPEC: changes of the state -/
set_option maxRecDepth 100000
def upF (f : Int → Int) (i v : Int) : Int → Int := fun j => if j = i then v else f j
theorem upF_ne {f : Int → Int} {i j v : Int} (h : j ≠ i) : upF f i v j = f j := if_neg h
theorem upF_self {f : Int → Int} {i v : Int} : upF f i v i = v := if_pos rfl
/-- a whole array laid anew -/
def vt_st (S : SS) (k : Nat) (f : Int → Int) : SS := fun j => if j = k then f else S j
theorem vt_st_at {S : SS} {k : Nat} {f : Int → Int} : vt_st S k f k = f := if_pos rfl
theorem vt_st_ne {S : SS} {k j : Nat} {f : Int → Int} (h : j ≠ k) : vt_st S k f j = S j := if_neg h
theorem vt_up_0 {S : SS} {k : Nat} {i v : Int} : vt_up S k i v = vt_st S k (upF (S k) i v) := rfl
theorem vt_st_st {S : SS} {k : Nat} {f g : Int → Int} : vt_st (vt_st S k f) k g = vt_st S k g := by
  funext j
  by_cases h : j = k
  · subst h; rw [vt_st_at, vt_st_at]
  · rw [vt_st_ne h, vt_st_ne h, vt_st_ne h]
theorem vt_st_self {S : SS} {k : Nat} : vt_st S k (S k) = S := by
  funext j
  by_cases h : j = k
  · subst h; rw [vt_st_at]
  · rw [vt_st_ne h]
theorem vt_up_st {S : SS} {k : Nat} {f : Int → Int} {i v : Int} : vt_up (vt_st S k f) k i v = vt_st S k (upF f i v) := by
  rw [vt_up_0, vt_st_st, vt_st_at]
theorem upF_comm {f : Int → Int} {i j u v : Int} (h : i ≠ j) : upF (upF f i u) j v = upF (upF f j v) i u := by
  funext k
  unfold upF
  by_cases h1 : k = j
  · rw [if_pos h1, if_neg (by omega), if_pos h1]
  · rw [if_neg h1]
    by_cases h2 : k = i
    · rw [if_pos h2, if_pos h2]
    · rw [if_neg h2, if_neg h2, if_neg h1]
/-- a goer g comes to the end of way w, which turns -/
def sp_arr (f : Int → Int) (g w to ck : Int) : Int → Int :=
  upF (upF (upF (upF (upF (upF (upF (upF (upF f 2 (((f 2).toNat ^^^ 2 ^ w.toNat : Nat) : Int)) 3 (f 3 + 1)) (10 + 5 * w + 3) (sW f w 3 + 1)) (10 + 5 * w + 4) (f 3 + 1)) (80 + 7 * g) to) (80 + 7 * g + 3) (-1)) (80 + 7 * g + 4) 0) (80 + 7 * g + 6) (-1)) (80 + 7 * g + 5) (if to = sG f g 1 ∧ sG f g 5 = -1 then ck else sG f g 5)
section ARR
variable {f : Int → Int} {g w to ck : Int}
theorem arr_W (hg : 0 ≤ g ∧ g ≤ 5) (hw : 0 ≤ w ∧ w ≤ 13) {v k : Int} (hv : 0 ≤ v ∧ v ≤ 13) (hk : 0 ≤ k ∧ k ≤ 4) : sW (sp_arr f g w to ck) v k = if v = w ∧ k = 3 then sW f w 3 + 1 else if v = w ∧ k = 4 then f 3 + 1 else sW f v k := by
  unfold sp_arr
  rw [sW]
  rw [upF_ne (by omega), upF_ne (by omega), upF_ne (by omega), upF_ne (by omega), upF_ne (by omega)]
  by_cases c : v = w ∧ k = 4
  · obtain ⟨rfl, rfl⟩ := c
    rw [upF_self, if_neg (by omega), if_pos ⟨rfl, rfl⟩]
  · rw [upF_ne (by omega), if_neg c]
    by_cases c3 : v = w ∧ k = 3
    · obtain ⟨rfl, rfl⟩ := c3
      rw [upF_self, if_pos ⟨rfl, rfl⟩]
    · rw [upF_ne (by omega), if_neg c3, upF_ne (by omega), upF_ne (by omega)]
      rfl
theorem arr_G (hg : 0 ≤ g ∧ g ≤ 5) (hw : 0 ≤ w ∧ w ≤ 13) {v k : Int} (hv : 0 ≤ v ∧ v ≤ 5) (hk : 0 ≤ k ∧ k ≤ 6) : sG (sp_arr f g w to ck) v k = if v = g then (if k = 0 then to else if k = 3 then -1 else if k = 4 then 0 else if k = 6 then -1 else if k = 5 then (if to = sG f g 1 ∧ sG f g 5 = -1 then ck else sG f g 5) else sG f g k) else sG f v k := by
  unfold sp_arr
  rw [sG]
  by_cases c : v = g
  · subst c
    rw [if_pos rfl]
    by_cases k0 : k = 0
    · subst k0
      rw [if_pos rfl, upF_ne (by omega), upF_ne (by omega), upF_ne (by omega), upF_ne (by omega), Int.add_zero, upF_self]
    rw [if_neg k0]
    by_cases k3 : k = 3
    · subst k3
      rw [if_pos rfl, upF_ne (by omega), upF_ne (by omega), upF_ne (by omega), upF_self]
    rw [if_neg k3]
    by_cases k4 : k = 4
    · subst k4
      rw [if_pos rfl, upF_ne (by omega), upF_ne (by omega), upF_self]
    rw [if_neg k4]
    by_cases k6 : k = 6
    · subst k6
      rw [if_pos rfl, upF_ne (by omega), upF_self]
    rw [if_neg k6]
    by_cases k5 : k = 5
    · subst k5
      rw [if_pos rfl, upF_self]
    rw [if_neg k5, upF_ne (by omega), upF_ne (by omega), upF_ne (by omega), upF_ne (by omega), upF_ne (by omega), upF_ne (by omega), upF_ne (by omega), upF_ne (by omega), upF_ne (by omega)]
    rfl
  · rw [if_neg c, upF_ne (by omega), upF_ne (by omega), upF_ne (by omega), upF_ne (by omega), upF_ne (by omega), upF_ne (by omega), upF_ne (by omega), upF_ne (by omega), upF_ne (by omega)]
    rfl
theorem arr_2 (hg : 0 ≤ g ∧ g ≤ 5) (hw : 0 ≤ w ∧ w ≤ 13) : sp_arr f g w to ck 2 = (((f 2).toNat ^^^ 2 ^ w.toNat : Nat) : Int) := by
  unfold sp_arr
  rw [upF_ne (by omega), upF_ne (by omega), upF_ne (by omega), upF_ne (by omega), upF_ne (by omega), upF_ne (by omega), upF_ne (by omega), upF_ne (by omega), upF_self]
theorem arr_3 (hg : 0 ≤ g ∧ g ≤ 5) (hw : 0 ≤ w ∧ w ≤ 13) : sp_arr f g w to ck 3 = f 3 + 1 := by
  unfold sp_arr
  rw [upF_ne (by omega), upF_ne (by omega), upF_ne (by omega), upF_ne (by omega), upF_ne (by omega), upF_ne (by omega), upF_ne (by omega), upF_self]
theorem arr_x (hg : 0 ≤ g ∧ g ≤ 5) (hw : 0 ≤ w ∧ w ≤ 13) {i : Int} (hi : (0 ≤ i ∧ i ≤ 9 ∧ i ≠ 2 ∧ i ≠ 3) ∨ 122 ≤ i) : sp_arr f g w to ck i = f i := by
  unfold sp_arr
  rw [upF_ne (by omega), upF_ne (by omega), upF_ne (by omega), upF_ne (by omega), upF_ne (by omega), upF_ne (by omega), upF_ne (by omega), upF_ne (by omega), upF_ne (by omega)]
theorem xor_lt {d n : Nat} {w : Nat} (hd : d < 2 ^ n) (hw : w < n) : d ^^^ 2 ^ w < 2 ^ n := Nat.xor_lt_two_pow hd (Nat.pow_lt_pow_right (by decide) hw)
theorem LI.arr {K : Int} (h : LI K f) (hK : K < 100000) (hg : 0 ≤ g ∧ g < f 1) (hw : 0 ≤ w ∧ w < f 0) (ht : 0 ≤ to ∧ to ≤ 7) (hc : -1 ≤ ck ∧ ck ≤ 101000) : LI (K + 1) (sp_arr f g w to ck) := by
  have n0 := h.nW
  have n1 := h.nG
  have hg5 : 0 ≤ g ∧ g ≤ 5 := by omega
  have hw13 : 0 ≤ w ∧ w ≤ 13 := by omega
  have e0 : sp_arr f g w to ck 0 = f 0 := arr_x hg5 hw13 (by omega)
  have e1 : sp_arr f g w to ck 1 = f 1 := arr_x hg5 hw13 (by omega)
  have e3 : sp_arr f g w to ck 3 = f 3 + 1 := arr_3 hg5 hw13
  have e4 : sp_arr f g w to ck 4 = f 4 := arr_x hg5 hw13 (by omega)
  have e5 : sp_arr f g w to ck 5 = f 5 := arr_x hg5 hw13 (by omega)
  have e6 : sp_arr f g w to ck 6 = f 6 := arr_x hg5 hw13 (by omega)
  have e7 : sp_arr f g w to ck 7 = f 7 := arr_x hg5 hw13 (by omega)
  have hd := h.dirs
  have h3 := h.goings
  refine ⟨by rw [e0]; exact n0, by rw [e1]; exact n1, ?_, by rw [e3, e4]; omega, by rw [e4]; exact h.clock, by rw [e5, e4]; exact h.met, by rw [e6]; exact h.rows, by rw [e7]; exact h.draw, ?_, ?_, ?_⟩
  · rw [arr_2 hg5 hw13, e0]
    refine ⟨Int.natCast_nonneg _, ?_⟩
    have hx : (f 2).toNat ^^^ 2 ^ w.toNat < 2 ^ (f 0).toNat := xor_lt (by
      have e : ((2 ^ (f 0).toNat : Nat) : Int) = (2 : Int) ^ (f 0).toNat := by simp
      rw [← e] at hd
      omega) (by omega)
    have e : ((2 ^ (f 0).toNat : Nat) : Int) = (2 : Int) ^ (f 0).toNat := by simp
    rw [← e]
    exact Int.ofNat_lt.mpr hx
  · intro v v0 v1
    rw [e0] at v1
    have hv : 0 ≤ v ∧ v ≤ 13 := by omega
    obtain ⟨a0, a1, a2, a3, a4, a5⟩ := h.w v0 v1
    have ww := (h.w hw.1 hw.2).2.2.2.2
    unfold WI
    rw [arr_W hg5 hw13 hv (by decide), arr_W hg5 hw13 hv (by decide), arr_W hg5 hw13 hv (by decide), arr_W hg5 hw13 hv (by decide), arr_W hg5 hw13 hv (by decide), e3]
    simp only [show ((0 : Int) = 3) = False by decide, show ((0 : Int) = 4) = False by decide, show ((1 : Int) = 3) = False by decide, show ((1 : Int) = 4) = False by decide, show ((2 : Int) = 3) = False by decide, show ((2 : Int) = 4) = False by decide, show ((4 : Int) = 3) = False by decide, show ((3 : Int) = 4) = False by decide, and_false, if_false, and_true]
    refine ⟨a0, a1, a2, a3, ?_, ?_⟩ <;> split <;> omega
  · intro v v0 v1
    rw [e1] at v1
    have hv : 0 ≤ v ∧ v ≤ 5 := by omega
    obtain ⟨a1, a2, a3, a4⟩ := h.g v0 v1
    have ww := (h.w hw.1 hw.2).2.2.2.1
    unfold GI
    rw [e0]
    rw [arr_G hg5 hw13 hv (by decide), arr_G hg5 hw13 hv (by decide), arr_G hg5 hw13 hv (by decide), arr_G hg5 hw13 hv (by decide), arr_G hg5 hw13 hv (by decide), arr_G hg5 hw13 hv (by decide), arr_G hg5 hw13 hv (by decide)]
    by_cases c : v = g
    · simp only [c, if_true, show ((1 : Int) = 0) = False by decide, show ((1 : Int) = 3) = False by decide, show ((1 : Int) = 4) = False by decide, show ((1 : Int) = 5) = False by decide, show ((1 : Int) = 6) = False by decide, show ((2 : Int) = 0) = False by decide, show ((2 : Int) = 3) = False by decide, show ((2 : Int) = 4) = False by decide, show ((2 : Int) = 5) = False by decide, show ((2 : Int) = 6) = False by decide, show ((5 : Int) = 0) = False by decide, show ((5 : Int) = 3) = False by decide, show ((5 : Int) = 4) = False by decide, show ((5 : Int) = 6) = False by decide, show ((3 : Int) = 0) = False by decide, show ((4 : Int) = 0) = False by decide, show ((4 : Int) = 3) = False by decide, show ((6 : Int) = 0) = False by decide, show ((6 : Int) = 3) = False by decide, show ((6 : Int) = 4) = False by decide, if_false]
      subst c
      refine ⟨a1, a2, ?_, Or.inl ⟨trivial, trivial, trivial, ht⟩⟩
      split <;> omega
    · simp only [c, if_false]
      refine ⟨a1, a2, a3, ?_⟩
      rcases a4 with a4 | a4
      · exact Or.inl a4
      · right
        rw [arr_W hg5 hw13 (by omega) (by decide)]
        simp only [show ((2 : Int) = 3) = False by decide, show ((2 : Int) = 4) = False by decide, and_false, if_false]
        exact a4
  · intro k k0 k1
    rw [e6] at k1
    unfold RI
    rw [e0, e1, arr_x hg5 hw13 (by omega), arr_x hg5 hw13 (by omega)]
    exact h.r k0 k1
end ARR
/-- of a state only the places ahead of 202 count -/
def fEq (f f' : Int → Int) : Prop := ∀ i, 0 ≤ i → i < 202 → f' i = f i
theorem LI.of_eq {K : Int} {f f' : Int → Int} (h : LI K f) (e : fEq f f') : LI K f' := by
  have n0 := h.nW
  have n1 := h.nG
  have n6 := h.rows
  have eW : ∀ w k, 0 ≤ w → w ≤ 13 → 0 ≤ k → k ≤ 4 → sW f' w k = sW f w k := fun w k a b c d => e _ (by omega) (by omega)
  have eG : ∀ g k, 0 ≤ g → g ≤ 5 → 0 ≤ k → k ≤ 6 → sG f' g k = sG f g k := fun g k a b c d => e _ (by omega) (by omega)
  have e0 : f' 0 = f 0 := e 0 (by decide) (by decide)
  have e1 : f' 1 = f 1 := e 1 (by decide) (by decide)
  have e2 : f' 2 = f 2 := e 2 (by decide) (by decide)
  have e3 : f' 3 = f 3 := e 3 (by decide) (by decide)
  have e4 : f' 4 = f 4 := e 4 (by decide) (by decide)
  have e5 : f' 5 = f 5 := e 5 (by decide) (by decide)
  have e6 : f' 6 = f 6 := e 6 (by decide) (by decide)
  have e7 : f' 7 = f 7 := e 7 (by decide) (by decide)
  refine ⟨by rw [e0]; exact n0, by rw [e1]; exact n1, by rw [e2, e0]; exact h.dirs, by rw [e3, e4]; exact h.goings, by rw [e4]; exact h.clock, by rw [e5, e4]; exact h.met, by rw [e6]; exact h.rows, by rw [e7]; exact h.draw, ?_, ?_, ?_⟩
  · intro w w0 w1
    rw [e0] at w1
    unfold WI
    rw [eW w 0 w0 (by omega) (by decide) (by decide), eW w 1 w0 (by omega) (by decide) (by decide), eW w 2 w0 (by omega) (by decide) (by decide), eW w 3 w0 (by omega) (by decide) (by decide), eW w 4 w0 (by omega) (by decide) (by decide), e3]
    exact h.w w0 w1
  · intro g g0 g1
    rw [e1] at g1
    have hg := h.g g0 g1
    unfold GI
    rw [eG g 0 g0 (by omega) (by decide) (by decide), eG g 1 g0 (by omega) (by decide) (by decide), eG g 2 g0 (by omega) (by decide) (by decide), eG g 3 g0 (by omega) (by decide) (by decide), eG g 4 g0 (by omega) (by decide) (by decide), eG g 5 g0 (by omega) (by decide) (by decide), eG g 6 g0 (by omega) (by decide) (by decide), e0]
    obtain ⟨a1, a2, a3, a4⟩ := hg
    refine ⟨a1, a2, a3, ?_⟩
    rcases a4 with a4 | a4
    · exact Or.inl a4
    · right
      rw [eW _ 2 (by omega) (by omega) (by decide) (by decide)]
      exact a4
  · intro k k0 k1
    rw [e6] at k1
    unfold RI
    rw [e0, e1, e _ (by omega) (by omega), e _ (by omega) (by omega)]
    exact h.r k0 k1
