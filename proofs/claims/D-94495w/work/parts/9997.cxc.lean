/-! THE COMPONENT's lists: what the JDK's own methods do -/
set_option maxRecDepth 100000
def b1 (s : Int) : Int := s - vt_and (s / 2 ^ 1) 1431655765
def b2 (s : Int) : Int := vt_and s 858993459 + vt_and (s / 2 ^ 2) 858993459
def b3 (s : Int) : Int := vt_and (s + s / 2 ^ 4) 252645135
def b4 (s : Int) : Int := s + s / 2 ^ 8
def b5 (s : Int) : Int := s + s / 2 ^ 16
theorem bit_c : ∀ s : Fin 64, (0 ≤ b1 (s.val : Int) ∧ b1 (s.val : Int) < 64) ∧ (0 ≤ b2 (b1 (s.val : Int)) ∧ b2 (b1 (s.val : Int)) < 64) ∧ (0 ≤ b3 (b2 (b1 (s.val : Int))) ∧ b3 (b2 (b1 (s.val : Int))) < 64) ∧ (0 ≤ b4 (b3 (b2 (b1 (s.val : Int)))) ∧ b4 (b3 (b2 (b1 (s.val : Int)))) < 64) ∧ vt_and (b5 (b4 (b3 (b2 (b1 (s.val : Int)))))) 63 = pc6 (s.val : Int) := by decide +kernel
section CXC
variable {Lw Lw' : List Nat} {S0 S : SS} {B : SB} {d o D : Nat} {τ τ' : Nat → Nat}
theorem cm_bitCount {s : Int} (s0 : 0 ≤ s) (s1 : s < 64) : vc_M d 0 0 159 [ii s] Lw S B (vc_eq (some (ii (pc6 s))) Lw S B) := by
  refine vc_start rfl rfl (Nat.le_of_ble_eq_true rfl) (fun X hX hd => ?_)
  have hc := bit_c ⟨s.toNat, by omega⟩
  rw [show (((⟨s.toNat, by omega⟩ : Fin 64).val : Nat) : Int) = s by show ((s.toNat : Nat) : Int) = s; omega] at hc
  obtain ⟨r1, r2, r3, r4, r5⟩ := hc
  refine vc_walk hX ck_J14_bitCount [(3, [0])] 60 hd ?_
  refine vc_x_iushr hX dJ14_bitCount_3 ⟨s0, s1⟩ (by decide) ?_
  refine vc_walk hX ck_J14_bitCount [(17, [0])] 60 hd ?_
  show vc_J _ _ _ 17 [(0, .inl (b1 s))] [.inl 2, .inl (b1 s), .inl (vt_and (b1 s) 858993459)] _ _ _ _ _
  refine vc_x_iushr hX dJ14_bitCount_17 r1 (by decide) ?_
  refine vc_walk hX ck_J14_bitCount [(27, [0])] 60 hd ?_
  show vc_J _ _ _ 27 [(0, .inl (b2 (b1 s)))] [.inl 4, .inl (b2 (b1 s)), .inl (b2 (b1 s))] _ _ _ _ _
  refine vc_x_iushr hX dJ14_bitCount_27 r2 (by decide) ?_
  refine vc_walk hX ck_J14_bitCount [(38, [0])] 60 hd ?_
  show vc_J _ _ _ 38 [(0, .inl (b3 (b2 (b1 s))))] [.inl 8, .inl (b3 (b2 (b1 s))), .inl (b3 (b2 (b1 s)))] _ _ _ _ _
  refine vc_x_iushr hX dJ14_bitCount_38 r3 (by decide) ?_
  refine vc_walk hX ck_J14_bitCount [(45, [0])] 60 hd ?_
  show vc_J _ _ _ 45 [(0, .inl (b4 (b3 (b2 (b1 s)))))] [.inl 16, .inl (b4 (b3 (b2 (b1 s)))), .inl (b4 (b3 (b2 (b1 s))))] _ _ _ _ _
  refine vc_x_iushr hX dJ14_bitCount_45 r4 (by decide) ?_
  refine vc_walk hX ck_J14_bitCount [] 60 hd ?_
  refine ⟨⟨Nat.le_refl _, Nat.le_refl _⟩, ?_, rfl, rfl, rfl⟩
  show Sum.inl (some (ii (vt_and (b5 (b4 (b3 (b2 (b1 s))))) 63))) = _
  rw [r5]
theorem cm_newLength {x y z : Int} (hx : 0 < x ∧ x ≤ 1000) (hy : 0 ≤ y ∧ y ≤ 1000) (hz : 0 ≤ z ∧ z ≤ 1000) : vc_M (d + 1) 0 0 161 [ii x, ii y, ii z] Lw S B (vc_eq (some (ii (x + if y < z then z else y))) Lw S B) := by
  refine vc_start rfl rfl (Nat.le_of_ble_eq_true rfl) (fun X hX hd => ?_)
  refine vc_walk hX ck_J9_newLength [(3, [0, 1, 2])] 60 hd ?_
  refine vc_x_max hX hd (Nat.succ_pos _) (Nat.le_of_ble_eq_true rfl) q635 q636 q159 q637 dJ9_newLength_3 ⟨Nat.le_refl _, Nat.le_refl _⟩ (by omega) (by omega) ?_
  have hr : 0 ≤ (if y < z then z else y) ∧ (if y < z then z else y) ≤ 1000 := by split <;> omega
  generalize (if y < z then z else y) = w at *
  refine vc_walk hX ck_J9_newLength [] 60 hd ?_
  refine ⟨by omega, fun h => absurd h (by omega), fun _ => ?_⟩
  refine ⟨by omega, fun h => absurd h (by omega), fun _ => ?_⟩
  exact ⟨⟨Nat.le_refl _, Nat.le_refl _⟩, rfl, rfl, rfl, rfl⟩
/-- a longer copy of an array of references -/
def CpP (Lw : List Nat) (S : SS) (B : SB) (r : Nat) (n : Int) (v : Option AV) (Lw' : List Nat) (S' : SS) (B' : SB) : Prop := ∃ a, a ∉ Lw ∧ v = some (.inr (.inr (a + 1))) ∧ Lw' = Lw ++ [a] ∧ S' = cpS (vc_nw S (a + 1) 103 n) (a + 1) r (S r (-1)) ∧ B' = B
theorem cm_copyOf2 {r : Nat} {n : Int} (hr : vc_ob Lw S r 103) (hn : 0 ≤ S r (-1) ∧ S r (-1) ≤ n ∧ n ≤ 1000) (hel : ∀ i, 0 ≤ i → i < S r (-1) → (S r i).toNat = 0 ∨ ∃ c' : Nat, c' < 16 ∧ vc_ob Lw S (S r i).toNat (c' : Int)) : vc_M (d + 1) 1 n.toNat 164 [.inr (.inr r), ii n, .inr (.inr (S 0 31).toNat)] Lw S B (vc_up (CpP Lw S B r n)) := by
  refine vc_start rfl rfl (Nat.le_of_ble_eq_true rfl) (fun X hX hd => ?_)
  refine vc_walk hX ck_J11_copyOf_2 [(1, [0, 1, 2])] 60 hd ?_
  refine vc_x_ldcM hX q669 dJ11_copyOf_2_1 ?_
  refine vc_x_acmpN hX dJ11_copyOf_2_3 (tgt := 13) rfl ?_
  refine vc_walk hX ck_J11_copyOf_2 [(7, [0, 1])] 60 hd ?_
  refine vc_x_anew hX hd (k := 103) (Or.inl ⟨rfl, q670⟩) dJ11_copyOf_2_7 (by omega) ⟨by decide, by omega⟩ (fun a ha => ?_)
  have q1 : vc_ob (Lw ++ [a]) (vc_nw S (a + 1) 103 n) r 103 := nw_ob ha hr
  have q2 : vc_ob (Lw ++ [a]) (vc_nw S (a + 1) 103 n) (a + 1) 103 := nw_new
  have e1 : vc_nw S (a + 1) 103 n r (-1) = S r (-1) := nw_old ha hr.1
  have e2 : vc_nw S (a + 1) 103 n (a + 1) (-1) = n := by rw [vc_nw_at]; rfl
  refine vc_walk hX ck_J11_copyOf_2 [(32, [3])] 60 hd ?_
  refine ⟨⟨⟨103, by decide, by decide, q1⟩, by rw [show vc_nw S (a + 1) ((103 : Nat) : Int) n = vc_nw S (a + 1) 103 n from rfl, e1]; omega⟩, ?_⟩
  show vc_J _ _ _ _ _ _ _ _ _ _ _
  rw [show vc_nw S (a + 1) ((103 : Nat) : Int) n = vc_nw S (a + 1) 103 n from rfl, e1]
  refine vc_x_min hX hd (Nat.succ_pos _) (Nat.le_of_ble_eq_true rfl) q671 q672 q159 q673 dJ11_copyOf_2_32 ⟨by decide, by omega⟩ (by omega) (by omega) ?_
  rw [show (if n < S r (-1) then n else S r (-1)) = S r (-1) from if_neg (by omega)]
  refine vc_x_copy hX hd (Nat.succ_pos _) (Nat.le_of_ble_eq_true rfl) q674 dJ11_copyOf_2_35 q2 q1 (fun z => isO.ne hr.1 ha z.symm) (by rw [e1, e2]; omega) (fun i i0 i1 => ?_) ?_
  · rw [nw_old ha hr.1]
    rcases hel i i0 i1 with h | ⟨c', h1, h2⟩
    · exact Or.inl h
    · exact Or.inr ⟨c', h1, nw_ob ha h2⟩
  refine vc_walk hX ck_J11_copyOf_2 [(39, [3])] 60 hd ?_
  exact vc_x_aret hX hd rfl dJ11_copyOf_2_39 ⟨by decide, by omega⟩ ⟨a, ha, rfl, rfl, rfl, rfl⟩
theorem cm_copyOf {r : Nat} {n : Int} (hr : vc_ob Lw S r 103) (hn : 0 ≤ S r (-1) ∧ S r (-1) ≤ n ∧ n ≤ 1000) (hel : ∀ i, 0 ≤ i → i < S r (-1) → (S r i).toNat = 0 ∨ ∃ c' : Nat, c' < 16 ∧ vc_ob Lw S (S r i).toNat (c' : Int)) : vc_M (d + 2) 1 n.toNat 163 [.inr (.inr r), ii n] Lw S B (vc_up (CpP Lw S B r n)) := by
  refine vc_start rfl rfl (Nat.le_of_ble_eq_true rfl) (fun X hX hd => ?_)
  refine vc_walk hX ck_J11_copyOf [(3, [0])] 60 hd ?_
  refine vc_x_getC hX hd (Nat.succ_pos _) (Nat.le_of_ble_eq_true rfl) q645 dJ11_copyOf_3 hr ?_
  refine vc_walk hX ck_J11_copyOf [(9, [0])] 60 hd ?_
  refine ⟨1, n.toNat, _, cm_copyOf2 (d := d) hr hn hel, ⟨by omega, by omega⟩, ?_⟩
  rintro _ _ _ _ ⟨a, ha, rfl, rfl, rfl, rfl⟩
  exact vc_x_aret hX hd rfl dJ11_copyOf_9 ⟨by omega, by omega⟩ ⟨a, ha, rfl, rfl, rfl, rfl⟩
/-- a list's array is full: a longer one -/
def GrP (Lw : List Nat) (S : SS) (B : SB) (r : Nat) (v : Option AV) (Lw' : List Nat) (S' : SS) (B' : SB) : Prop := ∃ a, a ∉ Lw ∧ v = some (.inr (.inr (a + 1))) ∧ Lw' = Lw ++ [a] ∧ S' = vt_up (cpS (vc_nw S (a + 1) 103 (S (S r 1).toNat (-1) + if 1 < S (S r 1).toNat (-1) / 2 then S (S r 1).toNat (-1) / 2 else 1)) (a + 1) (S r 1).toNat (S (S r 1).toNat (-1))) r 1 ((a + 1 : Nat) : Int) ∧ B' = B
theorem cm_grow2 {r : Nat} (hr : vc_ob Lw S r 15) (h1 : vc_ob Lw S (S r 1).toNat 103) (hn : 0 < S (S r 1).toNat (-1) ∧ S (S r 1).toNat (-1) ≤ 30) (hel : ∀ i, 0 ≤ i → i < S (S r 1).toNat (-1) → (S (S r 1).toNat i).toNat = 0 ∨ ∃ c' : Nat, c' < 16 ∧ vc_ob Lw S (S (S r 1).toNat i).toNat (c' : Int)) : vc_M (d + 3) 1 46 143 [.inr (.inr r), ii (S (S r 1).toNat (-1) + 1)] Lw S B (vc_up (GrP Lw S B r)) := by
  refine vc_start rfl rfl (Nat.le_of_ble_eq_true rfl) (fun X hX hd => ?_)
  refine vc_walk hX ck_J2_grow_2 [(40, [0])] 60 hd ?_
  refine ⟨hr, ⟨⟨103, by decide, by decide, h1⟩, by omega⟩, ?_⟩
  refine ⟨by omega, fun _ => ?_, fun z => absurd z (by omega)⟩
  refine ⟨by omega, ?_⟩
  have e0 : (S (S r 1).toNat (-1) + if S (S r 1).toNat (-1) + 1 - S (S r 1).toNat (-1) < S (S r 1).toNat (-1) / 2 ^ (1 : Int).toNat then S (S r 1).toNat (-1) / 2 ^ (1 : Int).toNat else S (S r 1).toNat (-1) + 1 - S (S r 1).toNat (-1)) = S (S r 1).toNat (-1) + if 1 < S (S r 1).toNat (-1) / 2 then S (S r 1).toNat (-1) / 2 else 1 := by
    rw [show S (S r 1).toNat (-1) + 1 - S (S r 1).toNat (-1) = 1 by omega]
    rfl
  have e2 : S (S r 1).toNat (-1) / 2 ^ (1 : Int).toNat = S (S r 1).toNat (-1) / 2 := rfl
  refine vc_k (cm_newLength (d := d + 1) (by omega) (by omega) (by rw [e2]; omega)) ⟨Nat.zero_le _, Nat.zero_le _⟩ ?_
  rw [e0]
  have hr2 : S (S r 1).toNat (-1) ≤ (S (S r 1).toNat (-1) + if 1 < S (S r 1).toNat (-1) / 2 then S (S r 1).toNat (-1) / 2 else 1) ∧ (S (S r 1).toNat (-1) + if 1 < S (S r 1).toNat (-1) / 2 then S (S r 1).toNat (-1) / 2 else 1) ≤ 46 := by split <;> omega
  refine ⟨hr, ?_⟩
  refine ⟨1, _, _, cm_copyOf (d := d) (n := S (S r 1).toNat (-1) + if 1 < S (S r 1).toNat (-1) / 2 then S (S r 1).toNat (-1) / 2 else 1) h1 (by omega) hel, ⟨by omega, by omega⟩, ?_⟩
  rintro _ _ _ _ ⟨a, ha, rfl, rfl, rfl, rfl⟩
  refine vc_x_dupx1 hX dJ2_grow_2_40 ?_
  refine vc_walk hX ck_J2_grow_2 [(44, [0])] 60 hd ?_
  refine ⟨⟨isO.app hr.1, ?_⟩, ?_⟩
  · show (if r = a + 1 ∧ 0 ≤ (-2 : Int) ∧ (-2 : Int) < _ then _ else vc_nw S (a + 1) 103 _ r (-2)) = 15
    rw [if_neg (by omega), nw_old ha hr.1]
    exact hr.2
  exact vc_x_aret hX hd rfl dJ2_grow_2_44 ⟨by omega, by omega⟩ ⟨a, ha, rfl, rfl, rfl, rfl⟩
theorem cm_grow {r : Nat} (hr : vc_ob Lw S r 15) (h2 : S r 2 = S (S r 1).toNat (-1)) (h1 : vc_ob Lw S (S r 1).toNat 103) (hn : 0 < S (S r 1).toNat (-1) ∧ S (S r 1).toNat (-1) ≤ 30) (hel : ∀ i, 0 ≤ i → i < S (S r 1).toNat (-1) → (S (S r 1).toNat i).toNat = 0 ∨ ∃ c' : Nat, c' < 16 ∧ vc_ob Lw S (S (S r 1).toNat i).toNat (c' : Int)) : vc_M (d + 4) 1 46 142 [.inr (.inr r)] Lw S B (vc_up (GrP Lw S B r)) := by
  refine vc_start rfl rfl (Nat.le_of_ble_eq_true rfl) (fun X hX hd => ?_)
  refine vc_walk hX ck_J2_grow [(10, [0])] 60 hd ?_
  refine ⟨hr, ?_⟩
  rw [h2]
  refine vc_kp hr (cm_grow2 (d := d) hr h1 hn hel) ⟨by omega, by omega⟩ ?_
  rintro _ _ _ _ ⟨a, ha, rfl, rfl, rfl, rfl⟩
  exact vc_x_aret hX hd rfl dJ2_grow_10 ⟨by omega, by omega⟩ ⟨a, ha, rfl, rfl, rfl, rfl⟩
end CXC
