/-! VC: single steps on the texts -/
set_option maxRecDepth 100000
section CPE
variable {mt : Nat} {Post : vc_Po} {X : vc_X} {pc d mc ms : Nat} {L : vt_L} {st : List AV} {Lw : List Nat} {S : SS} {B : SB} {cc sl : Nat}
theorem vc_x_compact (hF : vc_F mt X) {idx : Nat} (hq : Cond.fieldLink (vc_o mt) idx "java/lang/String" "COMPACT_STRINGS" "Z" ∈ lw_all) (hg : decode (vc_c mt) pc = .ok (.getstatic idx, 3)) (K : vc_J mt Post X (pc + 3) L (.inl 1 :: st) Lw S B cc sl) : vc_J mt Post X pc L st Lw S B cc sl := by
  obtain ⟨p, l, e, s, m, args, below, meth, c, D, cA, Lw0, sz, z0, d0, mc0, ms0⟩ := X
  obtain ⟨hex, hb, hr, hml, hown, hts, hlocks, hK, hsf, hsz, hcn, hxt, hnm⟩ := id hF
  intro H locs ls hw hl
  exact va_gets (A := vc_A Lw0 sz) hex hb hcn.2.2.2.2.2.2.2.2.1 hw.2.2.1 hown (hts _ hq) (fun x h => h) hg (K H locs ls hw hl)
theorem vc_x_coder (hF : vc_F mt X) {idx i : Nat} (hi : i < 18) (hq : Cond.fieldLink (vc_o mt) idx "java/lang/String" "coder" "B" ∈ lw_all) (hg : decode (vc_c mt) pc = .ok (.getfield idx, 3)) (K : vc_J mt Post X (pc + 3) L (.inl 0 :: st) Lw S B cc sl) : vc_J mt Post X pc L (.inr (.inr (S 0 (i : Int)).toNat) :: st) Lw S B cc sl := by
  obtain ⟨p, l, e, s, m, args, below, meth, c, D, cA, Lw0, sz, z0, d0, mc0, ms0⟩ := X
  obtain ⟨hex, hb, hr, hml, hown, hts, hlocks, hK, hsf, hsz, hcn, hxt, hnm⟩ := id hF
  intro H locs ls hw hl
  have hz0 : S 0 = z0 := hw.2.2.2.2
  have hp := hcn.1 i hi
  obtain ⟨adV, hv, hE⟩ := hcn.2.1
  obtain ⟨a, ha⟩ : ∃ a, (S 0 (i : Int)).toNat = a + 1 := ⟨(S 0 (i : Int)).toNat - 1, by rw [hz0]; omega⟩
  have h1 := (hE.1 i hi).2.1
  dsimp only at h1
  rw [show (z0 (i : Int)).toNat - 1 = a by rw [← hz0]; omega] at h1
  rw [ha]
  exact vk_getf (A := vc_A Lw0 sz) hex hb h1 hw.2.2.1 hown (hts _ hq) (fun x h => h) hg (K H locs ls hw hl)
theorem vc_x_value (hF : vc_F mt X) {idx i : Nat} (hi : i < 18) (hq : Cond.fieldLink (vc_o mt) idx "java/lang/String" "value" "[B" ∈ lw_all) (hg : decode (vc_c mt) pc = .ok (.getfield idx, 3)) (K : vc_J mt Post X (pc + 3) L (.inr (.inr (S 0 (40 + (i : Int))).toNat) :: st) Lw S B cc sl) : vc_J mt Post X pc L (.inr (.inr (S 0 (i : Int)).toNat) :: st) Lw S B cc sl := by
  obtain ⟨p, l, e, s, m, args, below, meth, c, D, cA, Lw0, sz, z0, d0, mc0, ms0⟩ := X
  obtain ⟨hex, hb, hr, hml, hown, hts, hlocks, hK, hsf, hsz, hcn, hxt, hnm⟩ := id hF
  intro H locs ls hw hl
  have hz0 : S 0 = z0 := hw.2.2.2.2
  have hp := hcn.1 i hi
  obtain ⟨adV, hv, hE⟩ := hcn.2.1
  obtain ⟨a, ha⟩ : ∃ a, (S 0 (i : Int)).toNat = a + 1 := ⟨(S 0 (i : Int)).toNat - 1, by rw [hz0]; omega⟩
  have h1 := (hE.1 i hi).2.2.1
  dsimp only at h1
  rw [show (z0 (i : Int)).toNat - 1 = a by rw [← hz0]; omega] at h1
  have K := K H locs ls hw hl
  rw [hz0, hv i hi, Int.toNat_natCast] at K
  rw [ha]
  exact vk_getf (A := vc_A Lw0 sz) hex hb h1 hw.2.2.1 hown (hts _ hq) (fun x h => h) hg K
theorem vc_x_tlen (hF : vc_F mt X) {i : Nat} (hi : i < 18) (hg : decode (vc_c mt) pc = .ok (.arraylength, 1)) (K : vc_J mt Post X (pc + 1) L (.inl (((vc_tl.map List.length).getD i 0 : Nat) : Int) :: st) Lw S B cc sl) : vc_J mt Post X pc L (.inr (.inr (S 0 (40 + (i : Int))).toNat) :: st) Lw S B cc sl := by
  obtain ⟨p, l, e, s, m, args, below, meth, c, D, cA, Lw0, sz, z0, d0, mc0, ms0⟩ := X
  obtain ⟨hex, hb, hr, hml, hown, hts, hlocks, hK, hsf, hsz, hcn, hxt, hnm⟩ := id hF
  intro H locs ls hw hl
  have hz0 : S 0 = z0 := hw.2.2.2.2
  obtain ⟨adV, hv, hE⟩ := hcn.2.1
  have h1 := (hE.1 i hi).2.2.2
  rw [hz0, hv i hi, Int.toNat_natCast]
  exact va_tlen (A := vc_A Lw0 sz) hex hb h1 hw.2.2.1 (Int32.ofInt_eq_ofNat).symm hg (K H locs ls hw hl)
/-- the length of NAMES -/
theorem vc_x_nlen (hF : vc_F mt X) {r : Nat} (hr : r = (S 0 30).toNat) (hg : decode (vc_c mt) pc = .ok (.arraylength, 1)) (K : vc_J mt Post X (pc + 1) L (.inl 12 :: st) Lw S B cc sl) : vc_J mt Post X pc L (.inr (.inr r) :: st) Lw S B cc sl := by
  obtain ⟨p, l, e, s, m, args, below, meth, c, D, cA, Lw0, sz, z0, d0, mc0, ms0⟩ := X
  obtain ⟨hex, hb, hrt, hml, hown, hts, hlocks, hK, hsf, hsz, hcn, hxt, hnm⟩ := id hF
  intro H locs ls hw hl
  have hz0 : S 0 = z0 := hw.2.2.2.2
  have hp := hcn.2.2.2.1
  have hT := hcn.2.2.2.2.2.1
  rw [← hz0] at hp hT
  obtain ⟨a, ha⟩ : ∃ a, r = a + 1 := ⟨r - 1, by omega⟩
  rw [show (S 0 30).toNat - 1 = a by omega] at hT
  subst ha
  exact va_tlen (A := vc_A Lw0 sz) hex hb hT hw.2.2.1 rfl hg (K H locs ls hw hl)
/-- NAMES is there -/
theorem vc_x_pos (hF : vc_F mt X) (K : 0 < S 0 30 → vc_J mt Post X pc L st Lw S B cc sl) : vc_J mt Post X pc L st Lw S B cc sl := by
  obtain ⟨p, l, e, s, m, args, below, meth, c, D, cA, Lw0, sz, z0, d0, mc0, ms0⟩ := X
  obtain ⟨hex, hb, hr, hml, hown, hts, hlocks, hK, hsf, hsz, hcn, hxt, hnm⟩ := id hF
  intro H locs ls hw hl
  have hz0 : S 0 = z0 := hw.2.2.2.2
  exact K (by rw [hz0]; exact hcn.2.2.2.1) H locs ls hw hl
def tcI (i j : Nat) : Int := ((vc_tl.getD i []).getD j 0).toInt
def tlN (i : Nat) : Nat := (vc_tl.map List.length).getD i 0
theorem tl_rg : ∀ i : Nat, i < 18 → tlN i ≤ 7 ∧ 2 ≤ tlN i := by decide
theorem tc_rg : ∀ i : Nat, i < 18 → ∀ j : Nat, j < 7 → j < tlN i → 97 ≤ tcI i j ∧ tcI i j ≤ 122 := by decide
theorem tc_of : ∀ i : Nat, i < 18 → ∀ j : Nat, j < 7 → Int32.ofInt (tcI i j) = (vc_tl.getD i []).getD j 0 := by decide +kernel
/-- a byte of a text -/
theorem vc_x_tget (hF : vc_F mt X) {i j : Nat} (hi : i < 18) (hj : j < tlN i) {r : Nat} (hr : r = (S 0 (40 + (i : Int))).toNat) (hg : decode (vc_c mt) pc = .ok (.baload, 1)) (K : vc_J mt Post X (pc + 1) L (.inl (tcI i j) :: st) Lw S B cc sl) : vc_J mt Post X pc L (.inl (j : Int) :: .inr (.inr r) :: st) Lw S B cc sl := by
  obtain ⟨p, l, e, s, m, args, below, meth, c, D, cA, Lw0, sz, z0, d0, mc0, ms0⟩ := X
  obtain ⟨hex, hb, hrt, hml, hown, hts, hlocks, hK, hsf, hsz, hcn, hxt, hnm⟩ := id hF
  intro H locs ls hw hl
  have hz0 : S 0 = z0 := hw.2.2.2.2
  obtain ⟨adV, hv, hE⟩ := hcn.2.1
  have h1 := (hE.1 i hi).2.2.2
  have h7 := tl_rg i hi
  rw [hr, hz0, hv i hi, Int.toNat_natCast]
  have hnt : (Int32.ofInt (j : Int)).toInt = (j : Int) := vt_toI (by omega)
  have hN : (Int32.ofInt (j : Int)).toNatClampNeg = j := by
    show (Int32.ofInt (j : Int)).toInt.toNat = j
    rw [hnt]
    exact Int.toNat_natCast j
  have K := K H locs ls hw hl
  refine va_tb (A := vc_A Lw0 sz) hex hb h1 hw.2.2.1 (i := Int32.ofInt (j : Int)) ?_ (v := .int (Int32.ofInt (tcI i j))) ?_ hg K
  · rintro (z | z)
    · rw [vt_zero, vt_ltI (by omega) (by decide)] at z
      omega
    · rw [hN] at z
      exact absurd hj (Nat.not_lt.mpr z)
  · show Value.int ((vc_tl.getD i []).getD (Int32.ofInt (j : Int)).toNatClampNeg 0) = _
    rw [hN, tc_of i hi j (by omega)]
/-- what makes the message: it isn't asked -/
theorem vc_x_sio (hF : vc_F mt X) {idx : Nat} (hq : Cond.fieldLink (vc_o mt) idx "jdk/internal/util/Preconditions" "SIOOBE_FORMATTER" "Ljava/util/function/BiFunction;" ∈ lw_all) (hg : decode (vc_c mt) pc = .ok (.getstatic idx, 3)) (K : ∀ r, vc_J mt Post X (pc + 3) L (.inr (.inr r) :: st) Lw S B cc sl) : vc_J mt Post X pc L st Lw S B cc sl := by
  obtain ⟨p, l, e, s, m, args, below, meth, c, D, cA, Lw0, sz, z0, d0, mc0, ms0⟩ := X
  obtain ⟨hex, hb, hr, hml, hown, hts, hlocks, hK, hsf, hsz, hcn, hxt, hnm⟩ := id hF
  intro H locs ls hw hl
  rcases hcn.2.2.2.2.2.2.2.2.2 with h | ⟨t, h⟩
  · exact va_gets (A := vc_A Lw0 sz) hex hb h hw.2.2.1 hown (hts _ hq) (fun x h => h) hg (K 0 H locs ls hw hl)
  · exact va_gets (A := vc_A Lw0 sz) hex hb h hw.2.2.1 hown (hts _ hq) (fun x h => h) hg (K (t + 1) H locs ls hw hl)
theorem i2c_c : ∀ x : Fin 128, ((Int32.ofInt (x.val : Int)).toUInt32 % 65536).toInt32 = Int32.ofInt (x.val : Int) := by decide +kernel
theorem vc_x_i2c (hF : vc_F mt X) (hg : decode (vc_c mt) pc = .ok (.i2c, 1)) {z : Int} (hz : 0 ≤ z ∧ z < 128) (K : vc_J mt Post X (pc + 1) L (.inl z :: st) Lw S B cc sl) : vc_J mt Post X pc L (.inl z :: st) Lw S B cc sl := by
  obtain ⟨p, l, e, s, m, args, below, meth, c, D, cA, Lw0, sz, z0, d0, mc0, ms0⟩ := X
  obtain ⟨hex, hb, hr, hml, hown, hts, hlocks, hK, hsf, hsz, hcn, hxt, hnm⟩ := id hF
  intro H locs ls hw hl
  refine lv_i2c hex hb hg ?_ (K H locs ls hw hl)
  have := i2c_c ⟨z.toNat, by omega⟩
  rw [show (((⟨z.toNat, by omega⟩ : Fin 128).val : Nat) : Int) = z by show ((z.toNat : Nat) : Int) = z; omega] at this
  exact this
theorem nar_c : ∀ x : Fin 128, narrow .char (.int (Int32.ofInt (x.val : Int))) = .int (Int32.ofInt (x.val : Int)) ∧ narrow .byte (.int (Int32.ofInt (x.val : Int))) = .int (Int32.ofInt (x.val : Int)) := by decide +kernel
/-- a small int is returned, as a byte or a char -/
theorem vc_x_ret (hF : vc_F mt X) (hd : X.2.2.2.2.2.2.2.2.2.2.2.2.2.2 = (d, mc, ms)) (hrt : vc_rt mt = some .char ∨ vc_rt mt = some .byte) (hg : decode (vc_c mt) pc = .ok (.ireturn, 1)) (hbd : cc ≤ mc ∧ sl ≤ ms) {z : Int} (hz : 0 ≤ z ∧ z < 128) (hp : Post (.inl (some (.inl z))) Lw S B) : vc_J mt Post X pc L [.inl z] Lw S B cc sl := by
  obtain ⟨p, l, e, s, m, args, below, meth, c, D, cA, Lw0, sz, z0, d0, mc0, ms0⟩ := X
  obtain ⟨hex, hb, hr, hml, hown, hts, hlocks, hK, hsf, hsz, hcn, hxt, hnm⟩ := id hF
  cases hd
  intro H locs ls hw hl
  have hn := nar_c ⟨z.toNat, by omega⟩
  rw [show (((⟨z.toNat, by omega⟩ : Fin 128).val : Nat) : Int) = z by show ((z.toNat : Nat) : Int) = z; omega] at hn
  rcases hrt with hrt | hrt
  · exact W.widen hbd.1 hbd.2 (vx_MQ (W.zret hex hb (hr.trans hrt) hn.1 (fun t ht hW => ⟨⟨.inl (some (.inl z)), Lw, S, B, rfl, fun k hk => (by cases hk), hp, vc_end hF hw ht hW, hw.2.2.2.1, hw.2.2.2.2⟩, hw.2.2.1.F ht⟩) hw.2.2.1.2.2 hg hlocks))
  · exact W.widen hbd.1 hbd.2 (vx_MQ (W.zret hex hb (hr.trans hrt) hn.2 (fun t ht hW => ⟨⟨.inl (some (.inl z)), Lw, S, B, rfl, fun k hk => (by cases hk), hp, vc_end hF hw ht hW, hw.2.2.2.1, hw.2.2.2.2⟩, hw.2.2.1.F ht⟩) hw.2.2.1.2.2 hg hlocks))
theorem vc_x_callT (hF : vc_F mt X) (hd : X.2.2.2.2.2.2.2.2.2.2.2.2.2.2 = (d, mc, ms)) (hd1 : 0 < d) (hct : vt_cat st ≤ 8) {idx k i r : Nat} (as' : List AV) (hi : i < 18) (hr : r = (S 0 (i : Int)).toNat) (hg : decode (vc_c mt) pc = .ok (.invokevirtual idx, 3)) (hq1 : Cond.methodLink (vc_o mt) idx (vc_y k) ∈ lw_all) (hq2 : Cond.instanceMethod (vc_y k) ∈ lw_all) (hq3 : Cond.selects "java/lang/String" (vc_y k) (vc_y k) ∈ lw_all) (hq4 : Cond.code (vc_y k) (vc_c k) (vc_n k) (vc_rt k) ∈ lw_all) (hq5 : (vc_y k).cls = "java/lang/String" ∧ (vc_y k).cls ≠ "java/lang/invoke/MethodHandle" ∧ (vc_y k).cls ≠ "java/lang/invoke/VarHandle" ∧ (parseMethodDescriptor (vc_y k).desc).map (fun d => d.parameters.length) = some as'.length) (hq6 : vc_n k ≤ 22)
    {v : Option AV} (hM : vc_M (d - 1) 0 0 k (.inr (.inr r) :: as') Lw S B (vc_eq v Lw S B)) (hbud : cc ≤ mc ∧ sl ≤ ms) (K : vc_J mt Post X (pc + 3) L (vt_rs v st) Lw S B cc sl) :
    vc_J mt Post X pc L ((.inr (.inr r) :: as').reverse ++ st) Lw S B cc sl := by
  subst hr
  refine vc_x_callS hF hd hd1 hct hi hg hq1 hq2 hq3 q153 hq4 hq5 hq6 (vc_eq_up hM) hbud ?_
  rintro _ _ _ _ ⟨rfl, rfl, rfl, rfl⟩
  exact K
end CPE
section CPF
variable {Lw Lw' : List Nat} {S0 S : SS} {B : SB} {d i j r : Nat}
theorem cm_coder (hi : i < 18) (hr : r = (S 0 (i : Int)).toNat) : vc_M d 0 0 151 [.inr (.inr r)] Lw S B (vc_eq (some (ii 0)) Lw S B) := by
  refine vc_start rfl rfl (Nat.le_of_ble_eq_true rfl) (fun X hX hd => ?_)
  refine vc_x_compact hX q527 dJ5_coder_0 ?_
  refine vc_walk hX ck_J5_coder [(7, [])] 40 hd ?_
  refine ⟨by decide, fun z => absurd z (by decide), fun _ => ?_⟩
  rw [hr]
  refine vc_x_coder hX hi q2011 dJ5_coder_7 ?_
  refine vc_walk hX ck_J5_coder [(14, [])] 40 hd ?_
  exact vc_x_ret hX hd (Or.inr rfl) dJ5_coder_14 ⟨Nat.le_refl _, Nat.le_refl _⟩ (by decide) ⟨rfl, rfl, rfl, rfl⟩
theorem cm_isLatin (hi : i < 18) (hr : r = (S 0 (i : Int)).toNat) : vc_M d 0 0 153 [.inr (.inr r)] Lw S B (vc_eq (some (ii 1)) Lw S B) := by
  refine vc_start rfl rfl (Nat.le_of_ble_eq_true rfl) (fun X hX hd => ?_)
  refine vc_x_compact hX q527 dJ5_isLatin1_0 ?_
  refine vc_walk hX ck_J5_isLatin1 [(7, [])] 40 hd ?_
  refine ⟨by decide, fun z => absurd z (by decide), fun _ => ?_⟩
  rw [hr]
  refine vc_x_coder hX hi q2011 dJ5_isLatin1_7 ?_
  refine vc_walk hX ck_J5_isLatin1 [] 40 hd ?_
  refine ⟨by decide, fun z => absurd rfl z, fun _ => ?_⟩
  exact ⟨⟨Or.inr rfl, Nat.le_refl _, Nat.le_refl _⟩, rfl, rfl, rfl, rfl⟩
theorem cm_len (hi : i < 18) (hr : r = (S 0 (i : Int)).toNat) : vc_M (d + 1) 0 0 150 [.inr (.inr r)] Lw S B (vc_eq (some (ii (tlN i : Int))) Lw S B) := by
  refine vc_start rfl rfl (Nat.le_of_ble_eq_true rfl) (fun X hX hd => ?_)
  have h7 := tl_rg i hi
  have hM := cm_coder (Lw := Lw) (B := B) (d := d) hi hr
  refine vc_walk hX ck_J5_length [(1, [0])] 40 hd ?_
  show vc_J _ _ _ _ _ [.inr (.inr r)] _ _ _ _ _
  conv => arg 6; rw [hr]
  refine vc_x_value hX hi q2010 dJ5_length_1 ?_
  refine vc_x_tlen hX hi dJ5_length_4 ?_
  refine vc_walk hX ck_J5_length [(6, [])] 40 hd ?_
  refine vc_x_callT (st := [ii (tlN i : Int)]) (k := 151) hX hd (Nat.succ_pos _) (Nat.le_of_ble_eq_true rfl) [] hi hr dJ5_length_6 q523 q524 q525 q526 ⟨rfl, by decide, by decide, rfl⟩ (by decide) hM ⟨Nat.le_refl _, Nat.le_refl _⟩ ?_
  refine vc_walk hX ck_J5_length [] 40 hd ?_
  refine ⟨by omega, ⟨Nat.le_refl _, Nat.le_refl _⟩, ?_, rfl, rfl, rfl⟩
  show Sum.inl (some (ii ((tlN i : Int) / 2 ^ 0))) = _
  rw [Int.pow_zero, Int.ediv_one]
theorem cm_checkIx {x n : Int} (hx : 0 ≤ x ∧ x < n) (hn : n ≤ 2147483647) : vc_M (d + 1) 0 0 154 [ii x, ii n] Lw S B (vc_eq none Lw S B) := by
  refine vc_start rfl rfl (Nat.le_of_ble_eq_true rfl) (fun X hX hd => ?_)
  refine vc_walk hX ck_J5_checkIndex [(2, [0, 1])] 40 hd ?_
  refine vc_x_sio hX q543 dJ5_checkIndex_2 (fun q => ?_)
  refine vc_walk hX ck_J5_checkIndex [] 40 hd ?_
  refine vc_k (cm_pre hx hn) ⟨Nat.le_refl _, Nat.le_refl _⟩ ?_
  exact ⟨⟨Nat.le_refl _, Nat.le_refl _⟩, rfl, rfl, rfl, rfl⟩
theorem cm_latAt (hi : i < 18) (hj : j < tlN i) (hr : r = (S 0 (40 + (i : Int))).toNat) : vc_M (d + 2) 0 0 155 [.inr (.inr r), ii (j : Int)] Lw S B (vc_eq (some (ii (tcI i j))) Lw S B) := by
  refine vc_start rfl rfl (Nat.le_of_ble_eq_true rfl) (fun X hX hd => ?_)
  have h7 := tl_rg i hi
  have ht := tc_rg i hi j (by omega) hj
  refine vc_walk hX ck_J6_charAt [(2, [0, 1])] 40 hd ?_
  have hc := cm_checkIx (d := d) (Lw := Lw) (S := S) (B := B) (x := (j : Int)) (n := (tlN i : Int)) (by omega) (by omega)
  have P : vc_J 155 (vc_eq (some (ii (tcI i j))) Lw S B) X 3 [(0, .inr (.inr r)), (1, ii (j : Int))] [ii (tlN i : Int), ii (j : Int)] Lw S B 0 0 := by
    refine vc_walk hX ck_J6_charAt [(8, [])] 40 hd ?_
    refine vc_k hc ⟨Nat.le_refl _, Nat.le_refl _⟩ ?_
    refine vc_x_tget hX hi hj hr dJ6_charAt_8 ?_
    refine vc_walk hX ck_J6_charAt [(13, [])] 40 hd ?_
    show vc_J _ _ _ _ _ [.inl (vt_and (tcI i j) 255)] _ _ _ _ _
    rw [and255 (by omega), show tcI i j % 256 = tcI i j by omega]
    refine vc_x_i2c hX dJ6_charAt_13 (by omega) ?_
    exact vc_x_ret hX hd (Or.inl rfl) dJ6_charAt_14 ⟨Nat.le_refl _, Nat.le_refl _⟩ (by omega) ⟨rfl, rfl, rfl, rfl⟩
  show vc_J _ _ _ _ _ [.inr (.inr r), ii (j : Int)] _ _ _ _ _
  conv => arg 6; rw [hr]
  exact vc_x_tlen hX hi dJ6_charAt_2 P
theorem cm_charAt (hi : i < 18) (hj : j < tlN i) (hr : r = (S 0 (i : Int)).toNat) : vc_M (d + 3) 0 0 152 [.inr (.inr r), ii (j : Int)] Lw S B (vc_eq (some (ii (tcI i j))) Lw S B) := by
  refine vc_start rfl rfl (Nat.le_of_ble_eq_true rfl) (fun X hX hd => ?_)
  have h7 := tl_rg i hi
  have ht := tc_rg i hi j (by omega) hj
  refine vc_walk hX ck_J5_charAt [(1, [0, 1])] 40 hd ?_
  refine vc_x_callT (st := []) (k := 153) hX hd (Nat.succ_pos _) (Nat.le_of_ble_eq_true rfl) [] hi hr dJ5_charAt_1 q533 q534 q535 q536 ⟨rfl, by decide, by decide, rfl⟩ (by decide) (cm_isLatin (d := d + 2) hi hr) ⟨Nat.le_refl _, Nat.le_refl _⟩ ?_
  refine vc_walk hX ck_J5_charAt [(8, [1])] 40 hd ?_
  refine ⟨by decide, fun z => absurd z (by decide), fun _ => ?_⟩
  show vc_J _ _ _ _ _ [.inr (.inr r)] _ _ _ _ _
  conv => arg 6; rw [hr]
  refine vc_x_value hX hi q2010 dJ5_charAt_8 ?_
  refine vc_walk hX ck_J5_charAt [(15, [])] 40 hd ?_
  refine vc_k (cm_latAt (d := d) hi hj rfl) ⟨Nat.le_refl _, Nat.le_refl _⟩ ?_
  exact vc_x_ret hX hd (Or.inl rfl) dJ5_charAt_15 ⟨Nat.le_refl _, Nat.le_refl _⟩ (by omega) ⟨rfl, rfl, rfl, rfl⟩
end CPF
