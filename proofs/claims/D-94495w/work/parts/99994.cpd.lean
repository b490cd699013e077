/-! VC: a call on one of the texts -/
set_option maxRecDepth 100000
section CPD
variable {mt : Nat} {Post : vc_Po} {X : vc_X} {pc d mc ms : Nat} {L : vt_L} {st : List AV} {Lw : List Nat} {S : SS} {B : SB} {cc sl : Nat}
theorem vc_x_callS (hF : vc_F mt X) (hd : X.2.2.2.2.2.2.2.2.2.2.2.2.2.2 = (d, mc, ms)) (hd1 : 0 < d) (hct : vt_cat st ≤ 8) {idx k i : Nat} {as' : List AV} (hi : i < 18) (hg : decode (vc_c mt) pc = .ok (.invokevirtual idx, 3)) (hq1 : Cond.methodLink (vc_o mt) idx (vc_y k) ∈ lw_all) (hq2 : Cond.instanceMethod (vc_y k) ∈ lw_all) (hq3 : Cond.selects "java/lang/String" (vc_y k) (vc_y k) ∈ lw_all) (hq3b : Cond.initialized "java/lang/String" ∈ lw_all) (hq4 : Cond.code (vc_y k) (vc_c k) (vc_n k) (vc_rt k) ∈ lw_all) (hq5 : (vc_y k).cls = "java/lang/String" ∧ (vc_y k).cls ≠ "java/lang/invoke/MethodHandle" ∧ (vc_y k).cls ≠ "java/lang/invoke/VarHandle" ∧ (parseMethodDescriptor (vc_y k).desc).map (fun d => d.parameters.length) = some as'.length) (hq6 : vc_n k ≤ 22)
    {P' : Option AV → List Nat → SS → SB → Prop} {mc' ms' : Nat} (hM : vc_M (d - 1) mc' ms' k (.inr (.inr (S 0 (i : Int)).toNat) :: as') Lw S B (vc_up P')) (hbud : cc + mc' ≤ mc ∧ sl + ms' ≤ ms) (K : ∀ v Lw' S' B', P' v Lw' S' B' → vc_J mt Post X (pc + 3) L (vt_rs v st) Lw' S' B' (cc + mc') (sl + ms')) :
    vc_J mt Post X pc L ((.inr (.inr (S 0 (i : Int)).toNat) :: as').reverse ++ st) Lw S B cc sl := by
  obtain ⟨p, l, e, s, m, args, below, meth, c, D, cA, Lw0, sz, z0, d0, mc0, ms0⟩ := X
  obtain ⟨hx, hb, hrt, hml, hown, hts, hlocks, hK, hsf, hsz, hcn, hxt, hnm⟩ := id hF
  cases hd
  intro H locs ls hw hl
  have hz0 : S 0 = z0 := hw.2.2.2.2
  have hp := hcn.1 i hi
  obtain ⟨adV, -, hE⟩ := hcn.2.1
  obtain ⟨a, ha⟩ : ∃ a, (S 0 (i : Int)).toNat = a + 1 := ⟨(S 0 (i : Int)).toNat - 1, by rw [hz0]; omega⟩
  have hrecv := vk_recv (i := i) hE hi hw.2.2.1
  rw [show (z0 (i : Int)).toNat - 1 = a by rw [← hz0]; omega] at hrecv
  rw [ha] at hM ⊢
  refine vc_call hF hw (P' := vc_up P') (mc' := mc') (ms' := ms') (rest := st.map cw) ?_ hbud ?_ ?_
  · intro T hT X
    obtain ⟨o, st₀, t, T', L', g1, g2, g3, g4, g5, g6, g7⟩ := vx_runV (g := F0 m pc ls (((.inr (.inr (a + 1)) :: as').reverse ++ st).map cw)) (As := as'.map cw) (rest := st.map cw) (C := "java/lang/String") ⟨hx, hb, hml, hown, hts⟩ (hM l D cA H.size)
      (cwV as'.length hts (lw_V hq1 hq2 hq3 hq3b hq4) rfl rfl rfl hq5 ⟨by show d - 1 + 1 ≤ d; omega, by show 8 + (vc_n k + 11) + 41 * (d - 1) ≤ 41 * d; omega⟩)
      ⟨vc_blind, hrecv, fun U hU hW => ⟨rfl, by rw [hU], vc_end hF hw hU hW⟩⟩ rfl (by rw [List.length_map]) hl.1 (by show ((((.inr (.inr (a + 1)) : AV) :: as').reverse ++ st).map cw) = _; rw [List.map_append, List.map_reverse, List.map_cons, List.reverse_cons, List.append_assoc]; rfl) (lv_room (by rw [vc_cat_sum]; exact hct)) hg hbud T hT X
    exact ⟨o, st₀, t, T', L', _, g1, g2, g3, g4, g5, g6, g7⟩
  · intro v Lw' S' B' H1 locs1 hp hw1
    have K := K v Lw' S' B' hp H1 locs1 ls hw1 hl
    rw [vc_rs_map] at K
    exact K
  · intro x Lw' S' B' hp
    exact hp.elim
end CPD
