/-! THE COMPONENT's parser: signs -/
set_option maxRecDepth 100000
/-- the parser pr of object o; the tape tp, n signs; it stands at i -/
def CPs (Lw : List Nat) (S : SS) (pr o : Nat) (tp : Int → Int) (n i : Int) : Prop := vc_ob Lw S pr 3 ∧ S pr 6 = (o : Int) ∧ S pr 1 = i ∧ vc_ob Lw S o 0 ∧ CTp S o tp n ∧ (vc_ob Lw S (S o 8).toNat 101 ∧ S (S o 8).toNat (-1) = 400) ∧ (0 ≤ n ∧ n ≤ 400) ∧ (0 ≤ i ∧ i ≤ 500) ∧ (∀ j, 0 ≤ j → j < 400 → -128 ≤ tp j ∧ tp j ≤ 127) ∧ vc_ob Lw S (S o 7).toNat 1
theorem vt_up_eq {S : SS} {r : Nat} {i : Int} : vt_up S r i (S r i) = S := by
  funext q j
  by_cases c : q = r ∧ j = i
  · obtain ⟨rfl, rfl⟩ := c; exact vt_up_self
  · rw [up_ne (by by_cases h : q = r
                  · exact Or.inr (fun z => c ⟨h, z⟩)
                  · exact Or.inl h)]
theorem vt_up_up {S : SS} {r : Nat} {i u v : Int} : vt_up (vt_up S r i u) r i v = vt_up S r i v := by
  funext q j
  by_cases c : q = r ∧ j = i
  · obtain ⟨rfl, rfl⟩ := c; rw [vt_up_self, vt_up_self]
  · have h : q ≠ r ∨ j ≠ i := by
      by_cases h : q = r
      · exact Or.inr (fun z => c ⟨h, z⟩)
      · exact Or.inl h
    rw [up_ne h, up_ne h, up_ne h]
section CPA
variable {Lw Lw' : List Nat} {S0 S : SS} {B : SB} {d o pr : Nat} {τ τ' : Nat → Nat} {tp : Int → Int} {n i : Int}
theorem CPs.at_ {j : Int} (h : CPs Lw S pr o tp n i) (hj : 0 ≤ j ∧ j ≤ 500) : CPs Lw (vt_up S pr 1 j) pr o tp n j := by
  obtain ⟨h1, h2, h3, h4, ⟨h5, h6⟩, ⟨h7, h8⟩, h9, h10, h11, h12⟩ := h
  have n1 : o ≠ pr := ob_ne h4 h1 (by decide)
  have n2 : (S o 8).toNat ≠ pr := ob_ne h7 h1 (by decide)
  have eo : ∀ k, vt_up S pr 1 j o k = S o k := fun k => up_ne (Or.inl n1)
  have ea : ∀ k, vt_up S pr 1 j (S o 8).toNat k = S (S o 8).toNat k := fun k => up_ne (Or.inl n2)
  unfold CPs CTp
  rw [eo, eo, eo, ea]
  exact ⟨ob_up h1 (by decide), by rw [up_ne (Or.inr (by decide))]; exact h2, vt_up_self, ob_up h4 (by decide), ⟨h5, fun k k0 k1 => by rw [ea]; exact h6 k k0 k1⟩, ⟨ob_up h7 (by decide), h8⟩, h9, hj, h11, ob_up h12 (by decide)⟩
theorem cm_sign (h : CPs Lw S pr o tp n i) : vc_M d 0 0 92 [.inr (.inr pr)] Lw S B (vc_eq (some (ii (sg tp n i))) Lw S B) := by
  refine vc_start rfl rfl (Nat.le_of_ble_eq_true rfl) (fun X hX hd => ?_)
  obtain ⟨h1, h2, h3, h4, ⟨h5, h6⟩, ⟨h7, h8⟩, h9, h10, h11, h12⟩ := h
  have e6 : (S pr 6).toNat = o := by rw [h2, Int.toNat_natCast]
  refine vc_walk hX ck_X4_sign [] 60 hd ?_
  refine ⟨h1, h1, ?_⟩
  rw [e6]
  refine ⟨h4, ?_⟩
  rw [h3, h5]
  by_cases hi : i < n
  · refine ⟨by omega, fun z => absurd z (by omega), fun _ => ?_⟩
    refine ⟨h1, ?_⟩
    rw [e6]
    refine ⟨h4, h1, ?_⟩
    rw [h3]
    refine ⟨⟨h7, by omega, by omega, by omega⟩, ⟨Nat.le_refl _, Nat.le_refl _⟩, ?_, rfl, rfl, rfl⟩
    rw [h6 i h10.1 (by omega)]
    have hr := h11 i h10.1 (by omega)
    rw [and255 hr]
    unfold sg
    rw [if_pos hi]
  · refine ⟨by omega, fun _ => ?_, fun z => absurd z (by omega)⟩
    refine ⟨⟨Nat.le_refl _, Nat.le_refl _⟩, ?_, rfl, rfl, rfl⟩
    unfold sg
    rw [if_neg hi]
theorem sgc_rg (h : CPs Lw S pr o tp n i) : -1 ≤ sg tp n i ∧ sg tp n i ≤ 255 := by
  unfold sg
  split <;> omega
theorem sg_sp (h : CPs Lw S pr o tp n i) : (sg tp n i = 32) = (isSp tp n i = true) := by
  obtain ⟨-, -, -, -, -, -, h9, h10, h11, -⟩ := h
  unfold sg isSp
  by_cases c : i < n
  · have hr := h11 i h10.1 (by omega)
    rw [if_pos c, decide_eq_true c, Bool.true_and, beq_iff_eq]
    exact propext ⟨fun z => by omega, fun z => by omega⟩
  · rw [if_neg c, decide_eq_false c, Bool.false_and]
    exact propext ⟨fun z => by omega, fun z => by cases z⟩
theorem cm_nextS (h : CPs Lw S pr o tp n i) : vc_M (d + 1) 0 0 91 [.inr (.inr pr)] Lw S B (vc_eq (some (ii (sg tp n (sk tp n i)))) Lw (vt_up S pr 1 (sk tp n i)) B) := by
  refine vc_start rfl rfl (Nat.le_of_ble_eq_true rfl) (fun X hX hd => ?_)
  have hn := h.2.2.2.2.2.2.1
  have loop : ∀ (m : Nat) (j : Int), 0 ≤ j → j ≤ 500 → (n - j).toNat = m → sk tp n j = sk tp n i → vc_J 91 (vc_eq (some (ii (sg tp n (sk tp n i)))) Lw (vt_up S pr 1 (sk tp n i)) B) X 0 [(0, .inr (.inr pr))] [] Lw (vt_up S pr 1 j) B 0 0 := by
    intro m
    induction m with
    | zero =>
      intro j j0 j1 jm hs
      have C := h.at_ ⟨j0, j1⟩
      have hrg := sgc_rg C
      have hno : isSp tp n j = false := by
        unfold isSp
        rw [decide_eq_false (show ¬ j < n by omega), Bool.false_and]
      have hsk : sk tp n i = j := by rw [← hs]; exact rn_f hno
      rw [hsk]
      refine vc_walk hX ck_X4_next [] 60 hd ?_
      refine vc_kv C.1 (cm_sign (d := d) C) ⟨Nat.le_refl _, Nat.le_refl _⟩ ?_
      refine ⟨by omega, fun _ => ?_, fun z => ?_⟩
      · refine vc_kv C.1 (cm_sign (d := d) C) ⟨Nat.le_refl _, Nat.le_refl _⟩ ?_
        exact ⟨⟨Nat.le_refl _, Nat.le_refl _⟩, rfl, rfl, rfl, rfl⟩
      · rw [sg_sp C, hno] at z; cases z
    | succ m ih =>
      intro j j0 j1 jm hs
      have C := h.at_ ⟨j0, j1⟩
      have hrg := sgc_rg C
      cases hsp : isSp tp n j with
      | false =>
        have hsk : sk tp n i = j := by rw [← hs]; exact rn_f hsp
        rw [hsk]
        refine vc_walk hX ck_X4_next [] 60 hd ?_
        refine vc_kv C.1 (cm_sign (d := d) C) ⟨Nat.le_refl _, Nat.le_refl _⟩ ?_
        refine ⟨by omega, fun _ => ?_, fun z => ?_⟩
        · refine vc_kv C.1 (cm_sign (d := d) C) ⟨Nat.le_refl _, Nat.le_refl _⟩ ?_
          exact ⟨⟨Nat.le_refl _, Nat.le_refl _⟩, rfl, rfl, rfl, rfl⟩
        · rw [sg_sp C, hsp] at z; cases z
      | true =>
        have hlt := isSp_lt hsp
        have e : sk tp n j = sk tp n (j + 1) := rn_t hsp hlt
        have K := ih (j + 1) (by omega) (by omega) (by omega) (by rw [← e]; exact hs)
        refine vc_walk hX ck_X4_next [(0, [0])] 60 hd ?_
        refine vc_kv C.1 (cm_sign (d := d) C) ⟨Nat.le_refl _, Nat.le_refl _⟩ ?_
        refine ⟨by omega, fun z => ?_, fun _ => ?_⟩
        · exact absurd (by rw [sg_sp C]; exact hsp) z
        · refine ⟨C.1, C.1, ?_⟩
          rw [C.2.2.1, vt_up_up]
          exact K
  have hi := h.2.2.2.2.2.2.2.1
  have e1 : vt_up S pr 1 i = S := by
    have := h.2.2.1
    rw [← this]
    exact vt_up_eq
  have K := loop _ i hi.1 hi.2 rfl rfl
  rw [e1] at K
  exact K
theorem cm_isDigit (h : CPs Lw S pr o tp n i) : vc_M (d + 1) 0 0 94 [.inr (.inr pr)] Lw S B (vc_eq (some (ii (bI (isDg tp n i)))) Lw S B) := by
  refine vc_start rfl rfl (Nat.le_of_ble_eq_true rfl) (fun X hX hd => ?_)
  have hrg := sgc_rg h
  have e : sIn (sg tp n i) 48 57 = isDg tp n i := by
    obtain ⟨-, -, -, -, -, -, h9, h10, h11, -⟩ := h
    unfold sg isDg
    by_cases c : i < n
    · have hr := h11 i h10.1 (by omega)
      rw [if_pos c, decide_eq_true c, Bool.true_and]
      exact decide_eq_decide.mpr ⟨fun z => by omega, fun z => by omega⟩
    · rw [if_neg c, decide_eq_false c, Bool.false_and]
      rfl
  refine vc_walk hX ck_X4_isDigit [] 60 hd ?_
  refine vc_kv h.1 (cm_sign (d := d) h) ⟨Nat.le_refl _, Nat.le_refl _⟩ ?_
  refine ⟨by omega, ?_⟩
  refine vc_k (cm_in (by omega) (by decide) (by decide)) ⟨Nat.le_refl _, Nat.le_refl _⟩ ?_
  refine ⟨⟨bI_01 _, Nat.le_refl _, Nat.le_refl _⟩, ?_, rfl, rfl, rfl⟩
  rw [e]
end CPA
