/-! VC: single steps beside the walk: the class of an array, arraycopy -/
set_option maxRecDepth 100000
/-- the first n places of r2 are laid into r1 -/
def cpS (S : SS) (r1 r2 : Nat) (n : Int) : SS := fun r i => if r = r1 ∧ 0 ≤ i ∧ i < n then S r2 i else S r i
section CXB
variable {mt : Nat} {Post : vc_Po} {X : vc_X} {pc d mc ms : Nat} {L : vt_L} {st : List AV} {Lw : List Nat} {S : SS} {B : SB} {cc sl : Nat}
theorem vc_x_ldcM (hF : vc_F mt X) {idx : Nat} (hq : Cond.classLink (vc_o mt) idx "[Ljava/lang/Object;" ∈ lw_all) (hg : decode (vc_c mt) pc = .ok (.ldc idx, 2)) (K : vc_J mt Post X (pc + 2) L (.inr (.inr (S 0 31).toNat) :: st) Lw S B cc sl) : vc_J mt Post X pc L st Lw S B cc sl := by
  obtain ⟨p, l, e, s, m, args, below, meth, c, D, cA, Lw0, sz, z0, d0, mc0, ms0⟩ := X
  obtain ⟨hex, hb, hr, hml, hown, hts, hlocks, hK, hsf, hsz, hcn, hxt, hnm⟩ := id hF
  intro H locs ls hw hl
  have hz0 : S 0 = z0 := hw.2.2.2.2
  have hp := hcn.2.2.2.2.2.2.1
  have hM := hcn.2.2.2.2.2.2.2.1
  have K := K H locs ls hw hl
  obtain ⟨j, hj⟩ : ∃ j, (S 0 31).toNat = j + 1 := ⟨(S 0 31).toNat - 1, by rw [hz0]; omega⟩
  rw [← hz0, show (S 0 31).toNat - 1 = j by omega] at hM
  refine va_ldcM hex hb hown (hts _ hq) hM hg ?_
  rw [hj] at K
  exact K
theorem vc_x_getC (hF : vc_F mt X) (hd : X.2.2.2.2.2.2.2.2.2.2.2.2.2.2 = (d, mc, ms)) (hd1 : 0 < d) (hct : vt_cat st ≤ 8) {idx : Nat} (hq : Cond.methodLink (vc_o mt) idx ⟨"java/lang/Object", "getClass", "()Ljava/lang/Class;"⟩ ∈ lw_all) (hg : decode (vc_c mt) pc = .ok (.invokevirtual idx, 3)) {r : Nat} (hr : vc_ob Lw S r 103) (K : vc_J mt Post X (pc + 3) L (.inr (.inr (S 0 31).toNat) :: st) Lw S B cc sl) : vc_J mt Post X pc L (.inr (.inr r) :: st) Lw S B cc sl := by
  obtain ⟨p, l, e, s, m, args, below, meth, c, D, cA, Lw0, sz, z0, d0, mc0, ms0⟩ := X
  obtain ⟨hex, hb, hrt, hml, hown, hts, hlocks, hK, hsf, hsz, hcn, hxt, hnm⟩ := id hF
  cases hd
  intro H locs ls hw hl
  have hz0 : S 0 = z0 := hw.2.2.2.2
  have hp := hcn.2.2.2.2.2.2.1
  have hM := hcn.2.2.2.2.2.2.2.1
  have K := K H locs ls hw hl
  obtain ⟨j, hj⟩ : ∃ j, (S 0 31).toNat = j + 1 := ⟨(S 0 31).toNat - 1, by rw [hz0]; omega⟩
  rw [← hz0, show (S 0 31).toNat - 1 = j by omega] at hM
  obtain ⟨⟨a, ea, ha⟩, hkd⟩ := hr
  subst ea
  obtain ⟨k0, hkk⟩ := vc_plg (f := vc_e cA S B) ha
  rw [vc_e_q (c := 103) hkd (by decide)] at hkk
  obtain ⟨kA, comp, g1, g2, g3, g4⟩ := (hK.2 3 (cA 3, .object "java/lang/Object") rfl).2
  refine va_getC (C := "[Ljava/lang/Object;") hex hb (hml.trans hl.1.symm) hown (hts _ hq) (va_Nw.use rfl (hsf.1 _ q2002 rfl)) (hts _ q2001) (hts _ q646) (hts _ q665) hM ⟨_, hw.1 k0 _ hkk, rfl, g4⟩ (show 1 ≤ d by omega) (by
    have h8 : ((st.map cw).map fun v => v.category).sum ≤ 8 := by rw [vc_cat_sum]; exact hct
    show ((st.map cw).map fun v => v.category).sum + 14 ≤ 41 * d
    omega) hg ?_
  rw [hj] at K
  exact K
/-- two references alike -/
theorem vc_x_acmpN (hF : vc_F mt X) {off : Int} (hg : decode (vc_c mt) pc = .ok (.if_acmp .ne off, 3)) {tgt : Nat} (ht : (pc : Int) + off = (tgt : Int)) {x : Nat} (K : vc_J mt Post X (pc + 3) L st Lw S B cc sl) : vc_J mt Post X pc L (.inr (.inr x) :: .inr (.inr x) :: st) Lw S B cc sl := by
  obtain ⟨p, l, e, s, m, args, below, meth, c, D, cA, Lw0, sz, z0, d0, mc0, ms0⟩ := X
  obtain ⟨hex, hb, hr, hml, hown, hts, hlocks, hK, hsf, hsz, hcn, hxt, hnm⟩ := id hF
  intro H locs ls hw hl
  have := lv_acmp_ne (rx := vc_r x) (ry := vc_r x) (rest := st.map cw) hex hb hg ht (fun z => absurd rfl z) (fun _ => K H locs ls hw hl)
  cases x <;> exact this
theorem vc_x_copy (hF : vc_F mt X) (hd : X.2.2.2.2.2.2.2.2.2.2.2.2.2.2 = (d, mc, ms)) (hd1 : 0 < d) (hct : vt_cat st ≤ 8) {idx : Nat} (hq : Cond.methodLink (vc_o mt) idx arraycopyName ∈ lw_all) (hg : decode (vc_c mt) pc = .ok (.invokestatic idx, 3)) {n : Int} {r1 r2 : Nat} (h1 : vc_ob Lw S r1 103) (h2 : vc_ob Lw S r2 103) (hne : r1 ≠ r2) (hn : 0 ≤ n ∧ n ≤ S r1 (-1) ∧ n ≤ S r2 (-1) ∧ S r1 (-1) ≤ 1048576 ∧ S r2 (-1) ≤ 1048576) (hel : ∀ i, 0 ≤ i → i < n → (S r2 i).toNat = 0 ∨ ∃ c' : Nat, c' < 16 ∧ vc_ob Lw S (S r2 i).toNat (c' : Int)) (K : vc_J mt Post X (pc + 3) L st Lw (cpS S r1 r2 n) B cc sl) : vc_J mt Post X pc L (.inl n :: .inl 0 :: .inr (.inr r1) :: .inl 0 :: .inr (.inr r2) :: st) Lw S B cc sl := by
  obtain ⟨p, l, e, s, m, args, below, meth, c, D, cA, Lw0, sz, z0, d0, mc0, ms0⟩ := X
  obtain ⟨hex, hb, hrt, hml, hown, hts, hlocks, hK, hsf, hsz, hcn, hxt, hnm⟩ := id hF
  cases hd
  intro H locs ls hw hl
  obtain ⟨⟨a, ea, ha⟩, hkd⟩ := h1
  obtain ⟨⟨b, eb, hbm⟩, hkb⟩ := h2
  subst ea
  subst eb
  obtain ⟨k0, hkk⟩ := vc_plg (f := vc_e cA S B) ha
  have hk1 := hkk
  rw [vc_e_q (c := 103) hkd (by decide)] at hk1
  obtain ⟨k2, hkk2⟩ := vc_plg (f := vc_e cA S B) hbm
  rw [vc_e_q (c := 103) hkb (by decide)] at hkk2
  have hnt : (Int32.ofInt n).toInt = n := vt_toI (by omega)
  have hneg : ¬ Int32.ofInt n < 0 := by
    rw [vt_zero, vt_ltI (by omega) (by decide)]
    omega
  have hN : (Int32.ofInt n).toNatClampNeg = n.toNat := by
    show (Int32.ofInt n).toInt.toNat = n.toNat
    rw [hnt]
  have z0' : (Int32.ofInt 0).toNatClampNeg = 0 := by decide
  refine va_copyM (E0 := "java/lang/Object") (E1 := "java/lang/Object") hex hb (hml.trans hl.1.symm) hown (hts _ hq) (hts _ q676) (hts _ q675) (hts _ q161) hK hw.1 hw.2.1 hw.2.2.1 k2 k0 3 3 hkk2 hk1 rfl rfl (by decide) (by decide) hneg (by rw [hN, z0']; omega) (by rw [hN, z0']; omega) (fun i hi y hy => ?_) (show 1 ≤ d by omega) (by
    have h8 : ((st.map cw).map fun v => v.category).sum ≤ 8 := by rw [vc_cat_sum]; exact hct
    show ((st.map cw).map fun v => v.category).sum + (nativeFrameWords "java/lang/System" "arraycopy" 5 + 11) ≤ 41 * d
    have : nativeFrameWords "java/lang/System" "arraycopy" 5 ≤ 20 := by decide
    omega) hg (fun H1 locs1 hP1 hD1 hS1 => ?_)
  · have hy : vc_r (S (b + 1) ((i : Nat) : Int)).toNat = some y := by
      have := hy
      rw [z0', Nat.zero_add] at this
      exact this
    rw [hN] at hi
    rcases hel i (by omega) (by omega) with hz | ⟨c', hc', ⟨⟨x, ex, hxm⟩, hkx⟩⟩
    · rw [hz] at hy; cases hy
    · rw [ex] at hy
      obtain rfl : x = y := Option.some.inj hy
      obtain ⟨k3, hkk3⟩ := vc_plg (f := vc_e cA S B) hxm
      rw [ex] at hkx
      rw [vc_e_obj (c := c') hkx (by omega)] at hkk3
      refine va_rAny hK hw.1 hkk3 (vc_cl_at c' hc') (fun comp c0 hcomp hc0 => ?_)
      obtain ⟨c1, t1, f1, f2, f3⟩ := Cond.castable_spec (va_Nw.use (A := args) rfl (hsf.1 _ (vc_cst c' hc') rfl))
      cases hc0.symm.trans f1
      cases hcomp.symm.trans f2
      exact f3
  · refine K H1 locs1 ls (hw.put hP1 hD1 hS1 (vc_set hw.2.1 ha hkk ?_ (fun q hq => ?_)) ?_) hl
    · have e1 : ∀ i, i < 0 → cpS S (a + 1) (b + 1) n (a + 1) i = S (a + 1) i := fun i hi => if_neg (by omega)
      rw [vc_e_q (c := 103) (by rw [e1 _ (by decide)]; exact hkd) (by decide), e1 _ (by decide), z0', hN]
      congr 7
      funext j
      unfold va_cpy
      show _ = vc_r (if a + 1 = a + 1 ∧ 0 ≤ (j : Int) ∧ (j : Int) < n then S (b + 1) (j : Int) else S (a + 1) (j : Int)).toNat
      by_cases cj : j < n.toNat
      · rw [if_pos (by omega), if_pos (by omega), Nat.zero_add, Nat.sub_zero]
      · rw [if_neg (by omega), if_neg (by omega)]
    · have e : cpS S (a + 1) (b + 1) n (q + 1) = S (q + 1) := by
        funext i
        exact if_neg (fun z => hq (by omega))
      unfold vc_e vc_ac
      rw [e]
    · funext i
      exact if_neg (fun z => by omega)
end CXB
