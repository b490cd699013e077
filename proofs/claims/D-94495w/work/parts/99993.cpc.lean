/-! THE COMPONENT's parser: whether the text goes on -/
set_option maxRecDepth 100000
def pGo (tp : Int → Int) (n i : Int) : Int ⊕ (Int × Int) := if sg tp n (sk tp n i) = -1 then .inr (sk tp n i, 0) else if sg tp n (sk tp n i) = 59 then .inr (sk tp n i + 1, 1) else .inl (er 0 (sk tp n i))
def pOt (tp : Int → Int) (n i a : Int) : Int ⊕ (Int × Int) := match pNum tp n i 0 7 with
  | .inl e => .inl e
  | .inr q => if q.2 = a then .inl (er 1 (sk tp n i)) else .inr q
section CPC
variable {Lw Lw' : List Nat} {S0 S : SS} {B : SB} {d o pr : Nat} {τ τ' : Nat → Nat} {tp : Int → Int} {n i lo hi a : Int}
theorem cm_goesOnP (h : CPs Lw S pr o tp n i) (hi' : i ≤ n) : vc_M (d + 2) 0 0 96 [.inr (.inr pr)] Lw S B (NuP Lw S B pr o (pGo tp n i)) := by
  refine vc_start rfl rfl (Nat.le_of_ble_eq_true rfl) (fun X hX hd => ?_)
  have hn := h.2.2.2.2.2.2.1
  have hsk := sk_spec (tp := tp) (n := n) i
  have hi0 := h.2.2.2.2.2.2.2.1
  have hskn := hsk.2.1 hi'
  have hq : pGo tp n i = if sg tp n (sk tp n i) = -1 then .inr (sk tp n i, 0) else if sg tp n (sk tp n i) = 59 then .inr (sk tp n i + 1, 1) else .inl (er 0 (sk tp n i)) := rfl
  generalize hb : sk tp n i = b at *
  have Cb : CPs Lw (vt_up S pr 1 b) pr o tp n b := h.at_ (by omega)
  have npo : pr ≠ o := ob_ne h.1 h.2.2.2.1 (by decide)
  have e7 : ∀ j, vt_up S pr 1 j o 7 = S o 7 := fun j => up_ne (Or.inl (fun z => npo z.symm))
  have e6 : ∀ j, (vt_up S pr 1 j pr 6).toNat = o := fun j => by rw [up_ne (Or.inr (by decide)), h.2.1, Int.toNat_natCast]
  have h7 := h.2.2.2.2.2.2.2.2.2
  have x0 : 0 < (S o 7).toNat := by
    obtain ⟨x, hx, -⟩ := h7.1
    omega
  have hrg := sgc_rg Cb
  refine vc_walk hX ck_X4_goesOn [] 60 hd ?_
  refine vc_kv h.1 (cm_nextS (d := d) h) ⟨Nat.le_refl _, Nat.le_refl _⟩ ?_
  rw [hb]
  refine ⟨by omega, fun z => ?_, fun z => ?_⟩
  · rw [if_neg z] at hq
    refine ⟨by omega, fun z2 => ?_, fun z2 => ?_⟩
    · rw [if_pos z2] at hq
      refine ⟨Cb.1, Cb.1, ⟨Or.inr rfl, Nat.le_refl _, Nat.le_refl _⟩, rfl, rfl, Or.inl ⟨_, hq, rfl, ?_⟩⟩
      rw [Cb.2.2.1, vt_up_up]
    · rw [if_neg z2] at hq
      refine ⟨Cb.1, Cb.1, ?_⟩
      rw [e6, Cb.2.2.1]
      refine ⟨Cb.2.2.2.1, vc_k (cm_fails (d := d + 1) Cb.2.2.2.1 Cb.2.2.2.2.2.2.2.2.2) ⟨Nat.le_refl _, Nat.le_refl _⟩ ?_⟩
      rw [e7]
      exact ⟨⟨x0, Nat.le_refl _, Nat.le_refl _⟩, rfl, rfl, Or.inr ⟨_, b, hq, by omega, rfl, rfl⟩⟩
  · rw [if_pos z] at hq
    exact ⟨⟨Or.inl rfl, Nat.le_refl _, Nat.le_refl _⟩, rfl, rfl, Or.inl ⟨_, hq, rfl, rfl⟩⟩
theorem cm_other (ha : 0 ≤ a ∧ a ≤ 7) (h : CPs Lw S pr o tp n i) (hi' : i ≤ n) : vc_M (d + 3) 0 0 95 [.inr (.inr pr), ii a] Lw S B (NuP Lw S B pr o (pOt tp n i a)) := by
  refine vc_start rfl rfl (Nat.le_of_ble_eq_true rfl) (fun X hX hd => ?_)
  have hn := h.2.2.2.2.2.2.1
  have hsk := sk_spec (tp := tp) (n := n) i
  have hss := sk_sk (tp := tp) (n := n) i
  have hi0 := h.2.2.2.2.2.2.2.1
  have hskn := hsk.2.1 hi'
  have hpn : pNum tp n (sk tp n i) 0 7 = pNum tp n i 0 7 := by
    unfold pNum
    rw [hss]
  have hq : pOt tp n i a = match pNum tp n i 0 7 with
    | .inl e => .inl e
    | .inr q => if q.2 = a then .inl (er 1 (sk tp n i)) else .inr q := rfl
  have hpg := fun q => pNum_pg (tp := tp) (n := n) (a := i) (lo := 0) (hi := 7) (q := q)
  generalize hb : sk tp n i = b at *
  have Cb : CPs Lw (vt_up S pr 1 b) pr o tp n b := h.at_ (by omega)
  have npo : pr ≠ o := ob_ne h.1 h.2.2.2.1 (by decide)
  have e7 : ∀ j, vt_up S pr 1 j o 7 = S o 7 := fun j => up_ne (Or.inl (fun z => npo z.symm))
  have e6 : ∀ j, (vt_up S pr 1 j pr 6).toNat = o := fun j => by rw [up_ne (Or.inr (by decide)), h.2.1, Int.toNat_natCast]
  have h7 := h.2.2.2.2.2.2.2.2.2
  have x0 : 0 < (S o 7).toNat := by
    obtain ⟨x, hx, -⟩ := h7.1
    omega
  refine vc_walk hX ck_X4_other [] 60 hd ?_
  refine vc_kv h.1 (cm_nextS (d := d + 1) h) ⟨Nat.le_refl _, Nat.le_refl _⟩ ?_
  rw [hb]
  refine ⟨Cb.1, ?_⟩
  rw [Cb.2.2.1]
  refine ⟨Cb.1, 0, 0, _, cm_number (d := d) (lo := 0) (hi := 7) (by decide) (by decide) Cb (by omega), ⟨Nat.le_refl _, Nat.le_refl _⟩, ?_⟩
  rw [hpn]
  rintro r Lw2 S2 B2 ⟨rfl, rfl, ⟨x, hx, rfl, rfl⟩ | ⟨e, j, he, hj, rfl, rfl⟩⟩
  · obtain ⟨g1, g2, g3, g4, -⟩ := hpg x hx
    rw [hx] at hq
    have hq : pOt tp n i a = if x.2 = a then .inl (er 1 b) else .inr x := hq
    rw [vt_up_up]
    have C2 : CPs Lw (vt_up S pr 1 x.1) pr o tp n x.1 := h.at_ (by omega)
    refine ⟨by omega, fun z => ?_, fun z => ?_⟩
    · rw [if_neg z] at hq
      exact ⟨⟨Nat.le_refl _, Nat.le_refl _⟩, rfl, rfl, Or.inl ⟨_, hq, rfl, rfl⟩⟩
    · rw [if_pos z] at hq
      refine ⟨C2.1, ?_⟩
      rw [e6]
      refine ⟨C2.2.2.2.1, vc_k (cm_fails (d := d + 2) C2.2.2.2.1 C2.2.2.2.2.2.2.2.2.2) ⟨Nat.le_refl _, Nat.le_refl _⟩ ?_⟩
      rw [e7]
      exact ⟨⟨x0, Nat.le_refl _, Nat.le_refl _⟩, rfl, rfl, Or.inr ⟨_, x.1, hq, by omega, rfl, rfl⟩⟩
  · rw [he] at hq
    have hq : pOt tp n i a = .inl e := hq
    rw [e7, vt_up_up]
    exact ⟨⟨x0, Nat.le_refl _, Nat.le_refl _⟩, rfl, rfl, Or.inr ⟨e, j, hq, hj, rfl, rfl⟩⟩
end CPC
