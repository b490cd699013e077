/-! THE TWIN's methods: goings, turns, images, rows, the tape -/
set_option maxRecDepth 100000
section TMC
variable {S : SS} {B : SB} {K : Int}
theorem sG0 (f : Int → Int) (g : Int) : f (80 + 7 * g) = sG f g 0 := by unfold sG; rw [Int.add_zero]
theorem pw_rg {w : Int} (hw : 0 ≤ w ∧ w ≤ 30) : 0 ≤ ((2 ^ w.toNat : Nat) : Int) ∧ ((2 ^ w.toNat : Nat) : Int) ≤ 1073741824 := by
  have hl2 : (2 : Nat) ^ w.toNat ≤ 2 ^ 30 := Nat.pow_le_pow_right (by decide) (by omega)
  exact ⟨Int.natCast_nonneg _, Int.le_trans (Int.ofNat_le.mpr hl2) (by decide)⟩
theorem pw_1 {w : Int} : (1 : Int) * 2 ^ w.toNat = ((2 ^ w.toNat : Nat) : Int) := by simp
theorem xorp {d w : Int} (hd : 0 ≤ d ∧ d ≤ 2147483647) (hw : 0 ≤ w ∧ w ≤ 30) : vt_xor d (1 * 2 ^ w.toNat) = ((d.toNat ^^^ 2 ^ w.toNat : Nat) : Int) := by
  have hl := pw_rg hw
  rw [pw_1, bt_xor hd ⟨hl.1, Int.le_trans hl.2 (by decide)⟩]
  rfl
theorem tm_arr0 {g w to ck : Int} (hg : 0 ≤ g ∧ g < S 23 1) (hw : 0 ≤ w ∧ w < S 23 0) (ht : 0 ≤ to ∧ to ≤ 7) (n0 : 0 ≤ S 23 0 ∧ S 23 0 ≤ 14) (n1 : 0 ≤ S 23 1 ∧ S 23 1 ≤ 6) (hd : 0 ≤ S 23 2 ∧ S 23 2 < 16384) (g1 : 0 ≤ sG (S 23) g 1 ∧ sG (S 23) g 1 ≤ 7) (g5 : -1 ≤ sG (S 23) g 5 ∧ sG (S 23) g 5 ≤ 101000) : vt_M 51 [me, ii g, ii w, ii to, ii ck] S B (vt_eq none (vt_st S 23 (sp_arr (S 23) g w to ck)) B) := by
  refine vt_start rfl rfl (Nat.le_of_ble_eq_true rfl) (fun X hX => ?_)
  unfold sG at g1 g5
  refine vt_walk hX tk_arrives [(39, [0, 1, 2, 3, 4]), (67, [0, 1, 2, 3, 4, 5]), (106, [0, 1, 2, 3, 4, 5])] 80 ?_
  refine ⟨by omega, by omega, by omega, by omega, by omega, by omega, by omega, ?_⟩
  simp (disch := omega) only [vt_up_0, vt_st_st, vt_st_at, upF_ne, upF_self]
  refine vt_walk hX tk_arrives [(67, [0, 1, 2, 3, 4, 5]), (106, [0, 1, 2, 3, 4, 5])] 80 ?_
  refine ⟨by omega, by omega, ?_⟩
  simp (disch := omega) only [vt_up_0, vt_st_st, vt_st_at, upF_ne, upF_self]
  refine vt_walk hX tk_arrives [(106, [0, 1, 2, 3, 4, 5])] 80 ?_
  refine ⟨by omega, by omega, by omega, by omega, ?_⟩
  simp (disch := omega) only [vt_up_0, vt_st_st, vt_st_at, upF_ne, upF_self]
  refine vt_walk hX tk_arrives [(119, [0, 1, 2, 3, 4, 5]), (132, [0, 1, 2, 3, 4, 5]), (143, [])] 80 ?_
  refine ⟨by omega, ?_⟩
  simp (disch := omega) only [vt_st_at, upF_ne, upF_self]
  have e : ∀ v, v = (if to = sG (S 23) g 1 ∧ sG (S 23) g 5 = -1 then ck else sG (S 23) g 5) → sp_arr (S 23) g w to ck = upF (upF (upF (upF (upF (upF (upF (upF (upF (S 23) 2 (vt_xor (S 23 2) (1 * 2 ^ w.toNat))) 3 (S 23 3 + 1)) (10 + 5 * w + 3) (S 23 (10 + 5 * w + 3) + 1)) (10 + 5 * w + 4) (S 23 3 + 1)) (80 + 7 * g) to) (80 + 7 * g + 3) (-1)) (80 + 7 * g + 4) 0) (80 + 7 * g + 6) (-1)) (80 + 7 * g + 5) v := by
    intro v hv
    rw [hv, xorp (by omega) (by omega)]
    rfl
  have same : ¬ (to = sG (S 23) g 1 ∧ sG (S 23) g 5 = -1) → sp_arr (S 23) g w to ck = upF (upF (upF (upF (upF (upF (upF (upF (S 23) 2 (vt_xor (S 23 2) (1 * 2 ^ w.toNat))) 3 (S 23 3 + 1)) (10 + 5 * w + 3) (S 23 (10 + 5 * w + 3) + 1)) (10 + 5 * w + 4) (S 23 3 + 1)) (80 + 7 * g) to) (80 + 7 * g + 3) (-1)) (80 + 7 * g + 4) 0) (80 + 7 * g + 6) (-1) := by
    intro hn
    rw [e _ rfl, if_neg hn]
    funext i
    by_cases c : i = 80 + 7 * g + 5
    · subst c
      simp (disch := omega) only [upF_ne, upF_self]
      rfl
    · rw [upF_ne c]
  refine ⟨by omega, fun c => ?_, fun c => ?_⟩
  · refine vt_walk hX tk_arrives [] 80 ?_
    rw [same (fun z => c z.1)]
    exact ⟨rfl, rfl, rfl⟩
  · refine vt_walk hX tk_arrives [(132, [0, 1, 2, 3, 4, 5]), (143, [])] 80 ?_
    refine ⟨by omega, ?_⟩
    simp (disch := omega) only [vt_st_at, upF_ne, upF_self]
    refine ⟨by omega, fun c2 => ?_, fun c2 => ?_⟩
    · refine vt_walk hX tk_arrives [] 80 ?_
      rw [same (fun z => c2 z.2)]
      exact ⟨rfl, rfl, rfl⟩
    · refine vt_walk hX tk_arrives [(143, [])] 80 ?_
      refine ⟨by omega, ?_⟩
      simp only [vt_up_0, vt_st_st, vt_st_at]
      refine vt_walk hX tk_arrives [] 80 ?_
      rw [e ck (if_pos ⟨c, c2⟩).symm]
      exact ⟨rfl, rfl, rfl⟩
theorem tm_arrives {g w to ck : Int} (hg : 0 ≤ g ∧ g < S 23 1) (hw : 0 ≤ w ∧ w < S 23 0) (ht : 0 ≤ to ∧ to ≤ 7) (h : LI K (S 23)) : vt_M 51 [me, ii g, ii w, ii to, ii ck] S B (vt_eq none (vt_st S 23 (sp_arr (S 23) g w to ck)) B) := tm_arr0 hg hw ht h.nW h.nG h.dir (h.g hg.1 hg.2).1 (h.g hg.1 hg.2).2.2.1
end TMC
