/-! VC: single steps beside the walk (instructions that the walk has as 99) -/
set_option maxRecDepth 100000
theorem ushr_c : ∀ x : Fin 64, ∀ y : Fin 17, ((Int32.ofInt (x.val : Int)).toUInt32 >>> ((Int32.ofInt (y.val : Int)).toUInt32 &&& Int32.toUInt32 31)).toInt32 = Int32.ofInt ((x.val : Int) / 2 ^ y.val) := by decide +kernel
theorem vc_cst : ∀ c, c < 16 → Cond.castable (vc_R c) "java/lang/Object" ∈ lw_tbl
  | 0, _ => q1983
  | 1, _ => q1985
  | 2, _ => q1986
  | 3, _ => q1988
  | 4, _ => q1989
  | 5, _ => q1990
  | 6, _ => q1991
  | 7, _ => q1992
  | 8, _ => q1993
  | 9, _ => q1994
  | 10, _ => q1995
  | 11, _ => q1996
  | 12, _ => q1997
  | 13, _ => q1998
  | 14, _ => q1981
  | 15, _ => q1984
  | n + 16, h => absurd h (by omega)
section CXA
variable {mt : Nat} {Post : vc_Po} {X : vc_X} {pc d mc ms : Nat} {L : vt_L} {st : List AV} {Lw : List Nat} {S : SS} {B : SB} {cc sl : Nat}
theorem vc_x_iushr (hF : vc_F mt X) (hg : decode (vc_c mt) pc = .ok (.iushr, 1)) {x y : Int} (hx : 0 ≤ x ∧ x < 64) (hy : 0 ≤ y ∧ y ≤ 16) (K : vc_J mt Post X (pc + 1) L (.inl (x / 2 ^ y.toNat) :: st) Lw S B cc sl) : vc_J mt Post X pc L (.inl y :: .inl x :: st) Lw S B cc sl := by
  obtain ⟨p, l, e, s, m, args, below, meth, c, D, cA, Lw0, sz, z0, d0, mc0, ms0⟩ := X
  obtain ⟨hex, hb, hr, hml, hown, hts, hlocks, hK, hsf, hsz, hcn, hxt, hnm⟩ := id hF
  intro H locs ls hw hl
  refine lv_iushr hex hb hg ?_ (K H locs ls hw hl)
  have := ushr_c ⟨x.toNat, by omega⟩ ⟨y.toNat, by omega⟩
  rw [show (((⟨x.toNat, by omega⟩ : Fin 64).val : Nat) : Int) = x by show ((x.toNat : Nat) : Int) = x; omega, show (((⟨y.toNat, by omega⟩ : Fin 17).val : Nat) : Int) = y by show ((y.toNat : Nat) : Int) = y; omega] at this
  exact this
theorem vc_x_dupx1 (hF : vc_F mt X) (hg : decode (vc_c mt) pc = .ok (.dup_x1, 1)) {u v : Nat} (K : vc_J mt Post X (pc + 1) L (.inr (.inr v) :: .inr (.inr u) :: .inr (.inr v) :: st) Lw S B cc sl) : vc_J mt Post X pc L (.inr (.inr v) :: .inr (.inr u) :: st) Lw S B cc sl := by
  obtain ⟨p, l, e, s, m, args, below, meth, c, D, cA, Lw0, sz, z0, d0, mc0, ms0⟩ := X
  obtain ⟨hex, hb, hr, hml, hown, hts, hlocks, hK, hsf, hsz, hcn, hxt, hnm⟩ := id hF
  intro H locs ls hw hl
  exact lv_dup_x1 hex hb hg (by cases v <;> rfl) (by cases u <;> rfl) (K H locs ls hw hl)
theorem vc_x_anew (hF : vc_F mt X) (hd : X.2.2.2.2.2.2.2.2.2.2.2.2.2.2 = (d, mc, ms)) {idx k : Nat} (hk : (k = 103 ∧ Cond.classLink (vc_o mt) idx "java/lang/Object" ∈ lw_all) ∨ (k = 104 ∧ Cond.classLink (vc_o mt) idx "TurningRoads$Image" ∈ lw_all)) (hg : decode (vc_c mt) pc = .ok (.anewarray idx, 3)) {n : Int} (hn : 0 ≤ n ∧ n ≤ 1048576) (hbd : cc + 1 ≤ mc ∧ sl + n.toNat ≤ ms) (K : ∀ a, a ∉ Lw → vc_J mt Post X (pc + 3) L (.inr (.inr (a + 1)) :: st) (Lw ++ [a]) (vc_nw S (a + 1) (k : Int) n) B (cc + 1) (sl + n.toNat)) : vc_J mt Post X pc L (.inl n :: st) Lw S B cc sl := by
  obtain ⟨p, l, e, s, m, args, below, meth, c, D, cA, Lw0, sz, z0, d0, mc0, ms0⟩ := X
  obtain ⟨hex, hb, hr, hml, hown, hts, hlocks, hK, hsf, hsz, hcn, hxt, hnm⟩ := id hF
  cases hd
  intro H locs ls hw hl
  have hnt : (Int32.ofInt n).toInt = n := vt_toI (by omega)
  have hneg : ¬ Int32.ofInt n < 0 := by
    rw [vt_zero, vt_ltI (by omega) (by decide)]
    omega
  have hN : (Int32.ofInt n).toNatClampNeg = n.toNat := by
    show (Int32.ofInt n).toInt.toNat = n.toNat
    rw [hnt]
  have key : ∀ (t0 : Nat) (C : String), k = 100 + t0 → 103 ≤ k → Cond.classLink (vc_o mt) idx C ∈ lw_all → va_AO C s → (vc_ty cA)[t0]? = some (cA t0, .object C) → W p l e (vc_rm d mc ms) s m args below meth c H locs cc sl (vx_Q below (vc_Q D cA Lw0 sz z0 Post) args s mc ms (vc_A Lw0 sz)) (F0 m pc ls (.int (Int32.ofInt n) :: st.map cw)) := by
    intro t0 C hk0 hk3 hcl hao hat
    refine va_newq hex hb hown (hts _ hcl) hao hK hw.1 hw.2.1 hw.2.2.1 (fun q hq => .inr (by omega)) hneg hN (by omega) hbd.1 hbd.2 hg (fun q x H1 hK1 hP1 hD1 hS1 => ?_)
    have hxx : x = cA t0 := by
      have a := (hK1.2 (vc_ty cA).length (x, .object C) (by rw [List.getElem?_append_right (Nat.le_refl _), Nat.sub_self]; rfl)).2
      have b := (hK.2 t0 _ hat).2
      obtain ⟨-, -, -, -, -, a⟩ := a
      obtain ⟨-, -, -, -, -, b⟩ := b
      exact Option.some.inj (a.symm.trans b)
    subst hxx
    have he : (.inl (cA t0, n.toNat, .inr (.inr (.inr (.inr (fun _ => none))))) : va_E) = vc_e cA (vc_nw S (q + 1) (k : Int) n) B q := by
      rw [vc_e_q (c := k) (by rw [vc_nw_at]; rfl) hk3, vc_nw_at, hk0, show 100 + t0 - 100 = t0 by omega]
      show _ = Sum.inl (cA t0, (if (-1 : Int) = -2 then _ else if (-1 : Int) = -1 then n else 0).toNat, _)
      rw [if_neg (by decide), if_pos rfl]
      congr 7
    obtain ⟨hnin, hw1⟩ := hw.new hP1 hD1 hS1 he (fun b hb => vc_e_nw hb) (vc_nw_ne (by omega))
    exact K q hnin H1 locs ls hw1 hl
  rcases hk with ⟨hk, hq⟩ | ⟨hk, hq⟩
  · exact key 3 _ hk (by omega) hq hsf.2.1 rfl
  · exact key 4 _ hk (by omega) hq hsf.2.2 rfl
theorem vc_x_aastO (hF : vc_F mt X) (hg : decode (vc_c mt) pc = .ok (.aastore, 1)) {i : Int} {r v c' : Nat} (hr : vc_ob Lw S r 103) (hv : vc_ob Lw S v (c' : Int)) (hc : c' < 16) (hi : 0 ≤ i ∧ i < S r (-1) ∧ S r (-1) ≤ 1048576) (K : vc_J mt Post X (pc + 1) L st Lw (vt_up S r i (v : Int)) B cc sl) : vc_J mt Post X pc L (.inr (.inr v) :: .inl i :: .inr (.inr r) :: st) Lw S B cc sl := by
  obtain ⟨p, l, e, s, m, args, below, meth, c, D, cA, Lw0, sz, z0, d0, mc0, ms0⟩ := X
  obtain ⟨hex, hb, hrt, hml, hown, hts, hlocks, hK, hsf, hsz, hcn, hxt, hnm⟩ := id hF
  intro H locs ls hw hl
  obtain ⟨⟨a, ea, ha⟩, hkd⟩ := hr
  obtain ⟨⟨b, eb, hbm⟩, hkb⟩ := hv
  obtain ⟨h0, h1, hn2⟩ := hi
  subst ea
  subst eb
  obtain ⟨k0, hkk⟩ := vc_plg (f := vc_e cA S B) ha
  have hk2 := hkk
  rw [vc_e_q (c := 103) hkd (by decide)] at hk2
  obtain ⟨k1, hkk1⟩ := vc_plg (f := vc_e cA S B) hbm
  rw [vc_e_obj (c := c') hkb (by omega)] at hkk1
  obtain ⟨q1, q2⟩ := vt_ix (n := (S (a + 1) (-1)).toNat) h0 (by omega) (by omega)
  refine va_astqO (E := "java/lang/Object") hex hb hK hw.1 hw.2.1 hw.2.2.1 k0 3 k1 c' hk2 (r := (vc_R c', vc_T c', vc_N c')) rfl (hsf.1 _ (vc_cst c' hc) rfl) hkk1 (vc_cl_at c' hc) q1 hg (fun H1 locs1 hP1 hD1 hS1 => ?_)
  exact K H1 locs1 ls (hw.put hP1 hD1 hS1 (vc_set hw.2.1 ha hkk (by
    rw [vc_e_q (c := 103) (by rw [vt_up_off (by omega)]; exact hkd) (by decide), vt_up_off (show (-1 : Int) ≠ i by omega)]
    congr 7
    funext j
    by_cases hj : j = (Int32.ofInt i).toNatClampNeg
    · subst hj; rw [va_up_self, q2, vt_up_self, Int.toNat_natCast]; rfl
    · rw [va_up_ne _ _ hj, vt_up_off (by omega)]) (fun b hb => vc_e_up hb)) (vt_up_ne (by omega))) hl
/-- the greater of two -/
theorem vc_x_max (hF : vc_F mt X) (hd : X.2.2.2.2.2.2.2.2.2.2.2.2.2.2 = (d, mc, ms)) (hd1 : 0 < d) (hct : vt_cat st ≤ 8) {idx : Nat} (hq : Cond.methodLink (vc_o mt) idx Lib.Math.max.name ∈ lw_all) (hq2 : Cond.static Lib.Math.max.name ∈ lw_all) (hq3 : Cond.initialized "java/lang/Math" ∈ lw_all) (hq4 : Cond.code Lib.Math.max.name Lib.Math.max.code 2 (some .int) ∈ lw_all) (hg : decode (vc_c mt) pc = .ok (.invokestatic idx, 3)) (hbd : cc ≤ mc ∧ sl ≤ ms) {x y : Int} (hx : -2147483648 ≤ x ∧ x ≤ 2147483647) (hy : -2147483648 ≤ y ∧ y ≤ 2147483647) (K : vc_J mt Post X (pc + 3) L (.inl (if x < y then y else x) :: st) Lw S B cc sl) : vc_J mt Post X pc L (.inl y :: .inl x :: st) Lw S B cc sl := by
  obtain ⟨p, l, e, s, m, args, below, meth, c, D, cA, Lw0, sz, z0, d0, mc0, ms0⟩ := X
  obtain ⟨hex, hb, hr, hml, hown, hts, hlocks, hK, hsf, hsz, hcn, hxt, hnm⟩ := id hF
  cases hd
  intro H locs ls hw hl
  refine va_mmax hex hb (hml.trans hl.1.symm) hown (hts _ hq) (hts _ hq2) (hts _ hq3) (hts _ hq4) (show 1 ≤ d by omega) (by
    have h8 : ((st.map cw).map fun v => v.category).sum ≤ 8 := by rw [vc_cat_sum]; exact hct
    show ((st.map cw).map fun v => v.category).sum + 13 ≤ 41 * d
    omega) hbd.1 hbd.2 hg ?_
  have e : (if Int32.ofInt x < Int32.ofInt y then Int32.ofInt y else Int32.ofInt x) = Int32.ofInt (if x < y then y else x) := by
    by_cases c : x < y
    · rw [if_pos c, if_pos ((vt_ltI hx hy).mpr c)]
    · rw [if_neg c, if_neg (fun z => c ((vt_ltI hx hy).mp z))]
  rw [e]
  exact K H locs ls hw hl
/-- the smaller of two -/
theorem vc_x_min (hF : vc_F mt X) (hd : X.2.2.2.2.2.2.2.2.2.2.2.2.2.2 = (d, mc, ms)) (hd1 : 0 < d) (hct : vt_cat st ≤ 8) {idx : Nat} (hq : Cond.methodLink (vc_o mt) idx Lib.Math.min.name ∈ lw_all) (hq2 : Cond.static Lib.Math.min.name ∈ lw_all) (hq3 : Cond.initialized "java/lang/Math" ∈ lw_all) (hq4 : Cond.code Lib.Math.min.name Lib.Math.min.code 2 (some .int) ∈ lw_all) (hg : decode (vc_c mt) pc = .ok (.invokestatic idx, 3)) (hbd : cc ≤ mc ∧ sl ≤ ms) {x y : Int} (hx : -2147483648 ≤ x ∧ x ≤ 2147483647) (hy : -2147483648 ≤ y ∧ y ≤ 2147483647) (K : vc_J mt Post X (pc + 3) L (.inl (if y < x then y else x) :: st) Lw S B cc sl) : vc_J mt Post X pc L (.inl y :: .inl x :: st) Lw S B cc sl := by
  obtain ⟨p, l, e, s, m, args, below, meth, c, D, cA, Lw0, sz, z0, d0, mc0, ms0⟩ := X
  obtain ⟨hex, hb, hr, hml, hown, hts, hlocks, hK, hsf, hsz, hcn, hxt, hnm⟩ := id hF
  cases hd
  intro H locs ls hw hl
  refine va_mmin hex hb (hml.trans hl.1.symm) hown (hts _ hq) (hts _ hq2) (hts _ hq3) (hts _ hq4) (show 1 ≤ d by omega) (by
    have h8 : ((st.map cw).map fun v => v.category).sum ≤ 8 := by rw [vc_cat_sum]; exact hct
    show ((st.map cw).map fun v => v.category).sum + 13 ≤ 41 * d
    omega) hbd.1 hbd.2 hg ?_
  have e : (if Int32.ofInt y < Int32.ofInt x then Int32.ofInt y else Int32.ofInt x) = Int32.ofInt (if y < x then y else x) := by
    by_cases c : y < x
    · rw [if_pos c, if_pos ((vt_ltI hy hx).mpr c)]
    · rw [if_neg c, if_neg (fun z => c ((vt_ltI hy hx).mp z))]
  rw [e]
  exact K H locs ls hw hl
/-- an inherited field is read -/
theorem vc_x_getI (hF : vc_F mt X) {ci f idx : Nat} {ref : String} (hci : ci < 16) (hf : f < vc_N ci) (hl1 : Cond.fieldLink (vc_o mt) idx ref (vc_T ci f).2.1 (vc_T ci f).2.2.1 ∈ lw_all) (hs1 : Cond.sameField ref (vc_T ci f).1 (vc_T ci f).2.1 (vc_T ci f).2.2.1 ∈ lw_all) (hft : vc_ft ci f ≠ 1) (hg : decode (vc_c mt) pc = .ok (.getfield idx, 3)) {r : Nat} (hr : vc_ob Lw S r (ci : Int)) (K : vc_J mt Post X (pc + 3) L (.inl (S r (f : Int)) :: st) Lw S B cc sl) : vc_J mt Post X pc L (.inr (.inr r) :: st) Lw S B cc sl := by
  obtain ⟨p, l, e, s, m, args, below, meth, c, D, cA, Lw0, sz, z0, d0, mc0, ms0⟩ := X
  obtain ⟨hex, hb, hrt, hml, hown, hts, hlocks, hK, hsf, hsz, hcn, hxt, hnm⟩ := id hF
  intro H locs ls hw hl
  obtain ⟨⟨a, ea, ha⟩, hk⟩ := hr
  subst ea
  obtain ⟨k0, hkk⟩ := vc_plg (f := vc_e cA S B) ha
  rw [vc_e_obj hk (by omega)] at hkk
  refine va_get (C := vc_R ci) (T := vc_T ci) (N := vc_N ci) (ref := ref) hex hb hts (vc_in ci hci) hown hK hw.1 k0 hkk (vc_cl_at ci hci) f hf (hts _ hl1) (fun x h => u_same (hts _ hs1) x h) (vc_fs_at hf) hg ?_
  rw [vc_fv_i hft]
  exact K H locs ls hw hl
/-- an inherited field is written -/
theorem vc_x_putI (hF : vc_F mt X) {ci f idx : Nat} {ref : String} (hci : ci < 16) (hf : f < vc_N ci) (hl1 : Cond.fieldLink (vc_o mt) idx ref (vc_T ci f).2.1 (vc_T ci f).2.2.1 ∈ lw_all) (hs1 : (vc_T ci f).1 = ref ∨ Cond.sameField ref (vc_T ci f).1 (vc_T ci f).2.1 (vc_T ci f).2.2.1 ∈ lw_all) (hfin : (vc_T ci f).2.2.2 = false) (hty : vc_tf ci f = .int) (hg : decode (vc_c mt) pc = .ok (.putfield idx, 3)) {r : Nat} {v : Int} (hr : vc_ob Lw S r (ci : Int)) (K : vc_J mt Post X (pc + 3) L st Lw (vt_up S r (f : Int) v) B cc sl) : vc_J mt Post X pc L (.inl v :: .inr (.inr r) :: st) Lw S B cc sl := by
  obtain ⟨p, l, e, s, m, args, below, meth, c, D, cA, Lw0, sz, z0, d0, mc0, ms0⟩ := X
  obtain ⟨hex, hb, hrt, hml, hown, hts, hlocks, hK, hsf, hsz, hcn, hxt, hnm⟩ := id hF
  intro H locs ls hw hl
  obtain ⟨⟨a, ea, ha⟩, hk⟩ := hr
  subst ea
  obtain ⟨k0, hkk⟩ := vc_plg (f := vc_e cA S B) ha
  have hk2 := hkk
  rw [vc_e_obj hk (by omega)] at hk2
  have hset : (vc_w cA Lw S B).set k0 (a, .inr (ci, (vc_fs ci (S (a + 1))).set f (.int (Int32.ofInt v)))) = vc_w cA Lw (vt_up S (a + 1) (f : Int) v) B := by
    refine vc_set hw.2.1 ha hkk ?_ (fun b hb => vc_e_up hb)
    rw [vc_e_obj (c := ci) (by rw [vt_up_off (by omega)]; exact hk) (by omega), vc_fs_set hf (by rw [vc_fv_i (vc_ft_i hty), vt_up_self]) (fun i hi => vt_up_off hi)]
  exact va_put (C := vc_R ci) (T := vc_T ci) (N := vc_N ci) (ref := ref) (ty := vc_tf ci f) hex hb hts (vc_in ci hci) (vc_tf ci) (vc_tfo ci hci) (vc_nm ci hci) hown hK hw.1 hw.2.1 hw.2.2.1 k0 hk2 (vc_cl_at ci hci) f hf (hts _ hl1) (fun x h => by
    rcases hs1 with h1 | h1
    · rw [← h1]; exact h
    · exact u_same (hts _ h1) x h) hfin (vc_tfo ci hci f hf) (by rw [hty]; rfl) (by rw [hty]; rfl) (by rw [vc_fs_len]; exact hf) hg (fun H1 locs1 h1 h2 h3 => K H1 locs1 ls (hw.put h1 h2 h3 hset (vt_up_ne (by omega))) hl)
/-- an array is returned -/
theorem vc_x_aret (hF : vc_F mt X) (hd : X.2.2.2.2.2.2.2.2.2.2.2.2.2.2 = (d, mc, ms)) {T : FieldType} (hrt : vc_rt mt = some (.array T)) (hg : decode (vc_c mt) pc = .ok (.areturn, 1)) (hbd : cc ≤ mc ∧ sl ≤ ms) {r : Nat} (hp : Post (.inl (some (.inr (.inr r)))) Lw S B) : vc_J mt Post X pc L [.inr (.inr r)] Lw S B cc sl := by
  obtain ⟨p, l, e, s, m, args, below, meth, c, D, cA, Lw0, sz, z0, d0, mc0, ms0⟩ := X
  obtain ⟨hex, hb, hr, hml, hown, hts, hlocks, hK, hsf, hsz, hcn, hxt, hnm⟩ := id hF
  cases hd
  intro H locs ls hw hl
  exact W.widen hbd.1 hbd.2 (vx_MQ (W.aret hex hb (hr.trans hrt) (.inr ⟨_, rfl⟩) (by cases r with
    | zero => exact .inl rfl
    | succ r => exact .inr ⟨r, rfl⟩) (fun t ht hW => ⟨⟨.inl (some (.inr (.inr r))), Lw, S, B, rfl, fun k hk => (by cases hk), hp, vc_end hF hw ht hW, hw.2.2.2.1, hw.2.2.2.2⟩, hw.2.2.1.F ht⟩) hw.2.2.1.2.2 hg hlocks))
end CXA
