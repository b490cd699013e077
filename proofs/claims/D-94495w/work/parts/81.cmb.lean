/-! THE COMPONENT's methods: ways, goers, lists -/
set_option maxRecDepth 100000
section CMB
variable {Lw : List Nat} {S : SS} {B : SB} {d : Nat}
/-- a plain call of a method that leaves a known state -/
theorem vc_kv {mt e r : Nat} {as : List AV} {v : Option AV} {Lw1 : List Nat} {S1 : SS} {B1 : SB} {mc' ms' cc sl mc ms : Nat} {Q : Option AV → List Nat → SS → SB → Nat → Nat → Prop} {T : Nat → List Nat → SS → SB → Nat → Nat → Prop} (ho : vc_ob Lw S r (vc_rc mt)) (h : vc_M e mc' ms' mt (.inr (.inr r) :: as) Lw S B (vc_eq v Lw1 S1 B1)) (hb : cc + mc' ≤ mc ∧ sl + ms' ≤ ms) (k : Q v Lw1 S1 B1 (cc + mc') (sl + ms')) : vc_ob Lw S r (vc_rc mt) ∧ ∃ mc' ms' P', vc_M e mc' ms' mt (.inr (.inr r) :: as) Lw S B P' ∧ (cc + mc' ≤ mc ∧ sl + ms' ≤ ms) ∧ ∀ o Lw' S' B', P' o Lw' S' B' → match o with
    | .inl v => Q v Lw' S' B' (cc + mc') (sl + ms')
    | .inr x => T x Lw' S' B' (cc + mc') (sl + ms') :=
  ⟨ho, mc', ms', _, h, hb, by rintro _ _ _ _ ⟨rfl, rfl, rfl, rfl⟩; exact k⟩
theorem cm_has {x k : Int} (hx : 0 ≤ x ∧ x ≤ 2147483647) (hk : 0 ≤ k ∧ k < 32) : vc_M d 0 0 20 [ii x, ii k] Lw S B (vc_eq (some (ii (bI (x.toNat.testBit k.toNat)))) Lw S B) := by
  refine vc_start rfl rfl (Nat.le_of_ble_eq_true rfl) (fun X hX hd => ?_)
  refine vc_walk hX ck_X0_has [] 40 hd ?_
  have hb := bt_bit (d := x) (w := k) hx
  have hr : 0 ≤ vt_and (x / 2 ^ k.toNat) 1 ∧ vt_and (x / 2 ^ k.toNat) 1 ≤ 1 := by rw [hb]; split <;> decide
  refine ⟨by omega, by omega, fun c => ?_, fun c => ?_⟩
  · rw [hb] at c
    rw [show x.toNat.testBit k.toNat = false from by
      cases h : x.toNat.testBit k.toNat with
      | false => rfl
      | true => rw [h] at c; exact absurd rfl c]
    exact ⟨⟨Or.inl rfl, Nat.le_refl _, Nat.le_refl _⟩, rfl, rfl, rfl, rfl⟩
  · rw [hb] at c
    rw [show x.toNat.testBit k.toNat = true from by
      cases h : x.toNat.testBit k.toNat with
      | true => rfl
      | false => rw [h] at c; exact absurd c (by decide)]
    exact ⟨⟨Or.inr rfl, Nat.le_refl _, Nat.le_refl _⟩, rfl, rfl, rfl, rfl⟩
theorem cm_fromB {r : Nat} {b : Int} (h : vc_ob Lw S r 4) (hb : b = 0 ∨ b = 1) : vc_M d 0 0 112 [.inr (.inr r), ii b] Lw S B (vc_eq (some (ii (if b = 1 then S r 1 else S r 0))) Lw S B) := by
  refine vc_start rfl rfl (Nat.le_of_ble_eq_true rfl) (fun X hX hd => ?_)
  refine vc_walk hX ck_X5_from_2 [] 40 hd ?_
  refine ⟨by omega, fun c => ?_, fun c => ?_⟩
  · rw [if_neg c]
    exact ⟨h, ⟨Nat.le_refl _, Nat.le_refl _⟩, rfl, rfl, rfl, rfl⟩
  · rw [if_pos c]
    exact ⟨h, ⟨Nat.le_refl _, Nat.le_refl _⟩, rfl, rfl, rfl, rfl⟩
theorem cm_toB {r : Nat} {b : Int} (h : vc_ob Lw S r 4) (hb : b = 0 ∨ b = 1) : vc_M d 0 0 113 [.inr (.inr r), ii b] Lw S B (vc_eq (some (ii (if b = 1 then S r 0 else S r 1))) Lw S B) := by
  refine vc_start rfl rfl (Nat.le_of_ble_eq_true rfl) (fun X hX hd => ?_)
  refine vc_walk hX ck_X5_to_2 [] 40 hd ?_
  refine ⟨by omega, fun c => ?_, fun c => ?_⟩
  · rw [if_neg c]
    exact ⟨h, ⟨Nat.le_refl _, Nat.le_refl _⟩, rfl, rfl, rfl, rfl⟩
  · rw [if_pos c]
    exact ⟨h, ⟨Nat.le_refl _, Nat.le_refl _⟩, rfl, rfl, rfl, rfl⟩
theorem cm_stands {r : Nat} (h : vc_ob Lw S r 5) (h3 : -1 ≤ S r 3 ∧ S r 3 ≤ 13) : vc_M d 0 0 117 [.inr (.inr r)] Lw S B (vc_eq (some (ii (bI (S r 3 == -1)))) Lw S B) := by
  refine vc_start rfl rfl (Nat.le_of_ble_eq_true rfl) (fun X hX hd => ?_)
  refine vc_walk hX ck_X6_stands_2 [] 40 hd ?_
  refine ⟨h, by omega, fun c => ?_, fun c => ?_⟩
  · rw [show (S r 3 == -1) = false from beq_false_of_ne c]
    exact ⟨⟨Or.inl rfl, Nat.le_refl _, Nat.le_refl _⟩, rfl, rfl, rfl, rfl⟩
  · rw [show (S r 3 == -1) = true from beq_iff_eq.mpr c]
    exact ⟨⟨Or.inr rfl, Nat.le_refl _, Nat.le_refl _⟩, rfl, rfl, rfl, rfl⟩
theorem cm_isThere {r : Nat} (h : vc_ob Lw S r 5) (h3 : -1 ≤ S r 3 ∧ S r 3 ≤ 13) (h2 : 0 ≤ S r 2 ∧ S r 2 ≤ 8) (h0 : 0 ≤ S r 0 ∧ S r 0 ≤ 8) : vc_M (d + 1) 0 0 116 [.inr (.inr r)] Lw S B (vc_eq (some (ii (bI (S r 3 == -1 && S r 2 == S r 0)))) Lw S B) := by
  refine vc_start rfl rfl (Nat.le_of_ble_eq_true rfl) (fun X hX hd => ?_)
  refine vc_walk hX ck_X6_isThere [] 40 hd ?_
  refine vc_kv h (cm_stands (d := d) h h3) ⟨Nat.le_refl _, Nat.le_refl _⟩ ?_
  cases hs : (S r 3 == -1) with
  | false =>
    refine ⟨by decide, fun _ => ?_, fun z => absurd rfl z⟩
    exact ⟨⟨Or.inl rfl, Nat.le_refl _, Nat.le_refl _⟩, rfl, rfl, rfl, rfl⟩
  | true =>
    refine ⟨by decide, fun z => absurd z (by decide), fun _ => ?_⟩
    refine ⟨h, h, by omega, fun c => ?_, fun c => ?_⟩
    · rw [show (S r 2 == S r 0) = false from beq_false_of_ne c]
      exact ⟨⟨Or.inl rfl, Nat.le_refl _, Nat.le_refl _⟩, rfl, rfl, rfl, rfl⟩
    · rw [show (S r 2 == S r 0) = true from beq_iff_eq.mpr c]
      exact ⟨⟨Or.inr rfl, Nat.le_refl _, Nat.le_refl _⟩, rfl, rfl, rfl, rfl⟩
theorem cm_standsAt {r : Nat} {t : Int} (h : vc_ob Lw S r 5) (h3 : -1 ≤ S r 3 ∧ S r 3 ≤ 13) (h2 : 0 ≤ S r 2 ∧ S r 2 ≤ 8) (h0 : 0 ≤ S r 0 ∧ S r 0 ≤ 8) (h6 : -1 ≤ S r 6 ∧ S r 6 ≤ 200000) : vc_M (d + 2) 0 0 115 [.inr (.inr r), ii t] Lw S B (vc_eq none Lw (if S r 6 = -1 ∧ S r 3 = -1 ∧ S r 2 = S r 0 then vt_up S r 6 t else S) B) := by
  refine vc_start rfl rfl (Nat.le_of_ble_eq_true rfl) (fun X hX hd => ?_)
  refine vc_walk hX ck_X6_stands [] 40 hd ?_
  refine ⟨h, by omega, fun c => ?_, fun c => ?_⟩
  · rw [if_neg (fun z => c z.1)]
    exact ⟨⟨Nat.le_refl _, Nat.le_refl _⟩, rfl, rfl, rfl, rfl⟩
  · refine vc_kv h (cm_isThere (d := d) h h3 h2 h0) ⟨Nat.le_refl _, Nat.le_refl _⟩ ?_
    by_cases hh : S r 3 = -1 ∧ S r 2 = S r 0
    · rw [if_pos ⟨c, hh.1, hh.2⟩, show (S r 3 == -1 && S r 2 == S r 0) = true by rw [beq_iff_eq.mpr hh.1, beq_iff_eq.mpr hh.2]; rfl]
      refine ⟨by decide, fun z => absurd z (by decide), fun _ => ?_⟩
      exact ⟨h, ⟨Nat.le_refl _, Nat.le_refl _⟩, rfl, rfl, rfl, rfl⟩
    · rw [if_neg (fun z => hh z.2), show (S r 3 == -1 && S r 2 == S r 0) = false from Bool.eq_false_iff.mpr (fun z => hh (by
        have z := (Bool.and_eq_true _ _).mp z
        exact ⟨eq_of_beq z.1, eq_of_beq z.2⟩))]
      refine ⟨by decide, fun _ => ?_, fun z => absurd rfl z⟩
      exact ⟨⟨Nat.le_refl _, Nat.le_refl _⟩, rfl, rfl, rfl, rfl⟩
theorem cm_pre {i n : Int} {x : Nat} (hi : 0 ≤ i ∧ i < n) (hn : n ≤ 2147483647) : vc_M d 0 0 156 [ii i, ii n, .inr (.inr x)] Lw S B (vc_eq (some (ii i)) Lw S B) := by
  refine vc_start rfl rfl (Nat.le_of_ble_eq_true rfl) (fun X hX hd => ?_)
  refine vc_walk hX ck_J7_checkIndex [] 40 hd ?_
  refine ⟨by omega, fun c => absurd c (by omega), fun _ => ?_⟩
  refine ⟨by omega, fun _ => ?_, fun c => absurd c (by omega)⟩
  exact ⟨⟨Nat.le_refl _, Nat.le_refl _⟩, rfl, rfl, rfl, rfl⟩
theorem cm_checkIndex {i n : Int} (hi : 0 ≤ i ∧ i < n) (hn : n ≤ 2147483647) : vc_M (d + 1) 0 0 157 [ii i, ii n] Lw S B (vc_eq (some (ii i)) Lw S B) := by
  refine vc_start rfl rfl (Nat.le_of_ble_eq_true rfl) (fun X hX hd => ?_)
  refine vc_walk hX ck_J12_checkIndex [] 40 hd ?_
  refine vc_k (cm_pre (d := d) hi hn) ⟨Nat.le_refl _, Nat.le_refl _⟩ ?_
  exact ⟨⟨Nat.le_refl _, Nat.le_refl _⟩, rfl, rfl, rfl, rfl⟩
/-- a list: its array holds the cells g 0, g 1 .. -/
def vc_li (Lw : List Nat) (S : SS) (r : Nat) (n : Int) (g : Int → Nat) : Prop := vc_ob Lw S r 15 ∧ S r 2 = n ∧ vc_ob Lw S (S r 1).toNat 103 ∧ (0 ≤ n ∧ n ≤ S (S r 1).toNat (-1) ∧ S (S r 1).toNat (-1) ≤ 1000) ∧ ∀ i, 0 ≤ i → i < n → S (S r 1).toNat i = (g i : Int)
theorem cm_elementData {r : Nat} {n i : Int} {g : Int → Nat} (h : vc_li Lw S r n g) (hi : 0 ≤ i ∧ i < n) : vc_M d 0 0 145 [.inr (.inr r), ii i] Lw S B (vc_eq (some (.inr (.inr (g i)))) Lw S B) := by
  refine vc_start rfl rfl (Nat.le_of_ble_eq_true rfl) (fun X hX hd => ?_)
  obtain ⟨h1, h2, h3, h4, h5⟩ := h
  have e := h5 i hi.1 hi.2
  refine vc_walk hX ck_J2_elementData [] 40 hd ?_
  refine ⟨h1, ⟨h3, by omega, by omega, by omega⟩, ⟨Nat.le_refl _, Nat.le_refl _⟩, ?_, rfl, rfl, rfl⟩
  rw [e, Int.toNat_natCast]
theorem cm_get {r : Nat} {n i : Int} {g : Int → Nat} (h : vc_li Lw S r n g) (hi : 0 ≤ i ∧ i < n) : vc_M (d + 2) 0 0 144 [.inr (.inr r), ii i] Lw S B (vc_eq (some (.inr (.inr (g i)))) Lw S B) := by
  refine vc_start rfl rfl (Nat.le_of_ble_eq_true rfl) (fun X hX hd => ?_)
  have h2 := h.2.1
  have h4 := h.2.2.2.1
  refine vc_walk hX ck_J2_get [] 40 hd ?_
  refine ⟨h.1, ?_⟩
  rw [h2]
  refine vc_k (cm_checkIndex (d := d) hi (by omega)) ⟨Nat.le_refl _, Nat.le_refl _⟩ ?_
  refine vc_kv h.1 (cm_elementData (d := d + 1) h hi) ⟨Nat.le_refl _, Nat.le_refl _⟩ ?_
  exact ⟨⟨Nat.le_refl _, Nat.le_refl _⟩, rfl, rfl, rfl, rfl⟩
end CMB
