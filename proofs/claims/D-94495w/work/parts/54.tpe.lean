/-! THE TWIN's methods: what is compared -/
set_option maxRecDepth 100000
section TPE
variable {S : SS} {B : SB} {n : Int}
variable {tp : Int → Int} {tx a cn L w b : Int} {vs : List WF}
theorem tm_compare {k : Nat} {q : PRs} (h : PX S tp n tx a cn L w b vs) (hq : pCmp tp n k a cn = some q) : vt_M 28 [me] S B (PPo pkA pkB S B tp n tx L w b vs q) := by
  refine vt_start rfl rfl (Nat.le_of_ble_eq_true rfl) (fun X hX => ?_)
  refine vt_walk hX tk_compare [(44, [0, 1, 2])] 60 ?_
  rcases pb_inv hq with ⟨e, g1, g2⟩ | ⟨a1, c1, F, g1, g2⟩
  · subst g2
    refine ⟨_, tm_sum h g1, ?_⟩
    rintro r S2 B2 ⟨rfl, k2, rfl, k3⟩
    refine ⟨by decide, fun z => absurd rfl z, fun _ => ?_⟩
    exact ⟨by omega, rfl, k2, rfl, k3⟩
  refine ⟨_, tm_sum h g1, ?_⟩
  rintro r S1 B1 ⟨rfl, hk, rfl, L1, hL, p0, hg⟩
  refine ⟨by decide, fun _ => ?_, fun z => absurd z (by decide)⟩
  have p0 : PX0 S1 tp n tx a1 c1 L1 w := p0
  have hg : SegL (fun i => S1 3 (400 * tx + i)) b L1 c1 (F :: vs) := hg
  obtain ⟨h1, h2, h3, h4, h5, h6, h7⟩ := id p0
  have hs := sk_spec (tp := tp) (n := n) a1
  have hsn := hs.2.1 h4.2.2
  have hn : 0 ≤ n ∧ n ≤ 400 := h2.2.1
  have s1 := tm_see (B := B1) h2 h4.1 h4.2
  rw [h1] at s1
  generalize sk tp n a1 = c at *
  have pc : PX0 (nx S1 c) tp n tx c c1 L1 w := p0.nx (by omega) (by omega)
  have e1 : nx S1 c 43 11 = c := nx_11
  have e0 : nx S1 c 0 = tp := pc.1
  have e12 : nx S1 c 43 12 = 0 := pc.2.2.2.2.2.1
  have kc : pk pkA pkB tx L S (nx S1 c) := hk.nx (by decide) (by decide)
  have sgr : -1 ≤ sg tp n c ∧ sg tp n c ≤ 255 := sg_rg
  have go : (sg tp n c = 60 ∨ sg tp n c = 61 ∨ sg tp n c = 62) → vt_J 28 (PPo pkA pkB S B1 tp n tx L w b vs q) X 44 [(0, me), (1, ii (sg tp n c)), (2, ii c)] [] (nx S1 c) B1 := by
    intro z
    rw [if_pos z] at g2
    have hcn := sg_lt (tp := tp) (n := n) (b := c) (by omega)
    -- behind the sign and what may follow it
    have at105 : ∀ (al : Int) (T : SS), al = bI (also tp n c) → (al = 0 ∨ al = 1) → T = nx S1 (c + 1 + al) → c + 1 + al ≤ n → vt_J 28 (PPo pkA pkB S B1 tp n tx L w b vs q) X 105 [(0, me), (1, ii (sg tp n c)), (2, ii c), (3, ii al)] [] T B1 := by
      intro al T hal ha01 hT han
      subst hT
      rw [← hal] at g2
      have pd : PX0 (nx S1 (c + 1 + al)) tp n tx (c + 1 + al) c1 L1 (w + 1) := p0.nx (by omega) (by omega)
      have kd : pk pkA pkB tx L S (nx S1 (c + 1 + al)) := hk.nx (by decide) (by decide)
      have d15 : nx S1 (c + 1 + al) 43 15 = c1 := pd.2.2.2.2.1.1
      have d12 : nx S1 (c + 1 + al) 43 12 = 0 := pd.2.2.2.2.2.1
      by_cases c6 : c1 = 60
      · rw [if_pos c6] at g2
        cases g2
        refine vt_walk hX tk_compare [] 60 ?_
        refine vt_k (tm_makes0 (d15.trans c6) d12) ?_
        refine ⟨by decide, fun z => absurd rfl z, fun _ => ?_⟩
        exact ⟨by omega, rfl, kd.f (by decide) (by decide), rfl, vt_up_self, by unfold er; omega⟩
      · rw [if_neg c6] at g2
        have pe : PX (vt_up (nx S1 (c + 1 + al)) 43 15 (c1 + 1)) tp n tx (c + 1 + al) (c1 + 1) L1 (w + 1) b (F :: vs) := by
          refine ⟨pd.mk (by omega), ?_⟩
          rw [vt_up_ne (by decide), nx_k (by decide)]
          exact hg.mo (by omega)
        have ke : pk pkA pkB tx L S (vt_up (nx S1 (c + 1 + al)) 43 15 (c1 + 1)) := kd.f (by decide) (by decide)
        have last : ∀ s : Int, 6 + s = cmS tp n c → vt_J 28 (PPo pkA pkB S B1 tp n tx L w b vs q) X 154 [(0, me), (4, ii s)] [] (vt_up (nx S1 (c + 1 + al)) 43 15 (c1 + 1)) B1 := by
          intro s hs'
          have hsr : 6 ≤ cmS tp n c ∧ cmS tp n c ≤ 10 := by
            unfold cmS bI
            split
            · split <;> omega
            · split
              · omega
              · split <;> omega
          refine vt_walk hX tk_compare [] 60 ?_
          rcases pb_inv g2 with ⟨e, l1, l2⟩ | ⟨a2, c2, G, l1, l2⟩
          · subst l2
            refine ⟨_, tm_sum pe l1, ?_⟩
            rintro r S2 B2 ⟨rfl, k2, rfl, k3⟩
            refine ⟨by decide, fun z => absurd rfl z, fun _ => ?_⟩
            exact ⟨by omega, rfl, ke.t k2 hL, rfl, k3⟩
          · cases l2
            refine ⟨_, tm_sum pe l1, ?_⟩
            rintro r S2 B2 ⟨rfl, k2, rfl, L2, hL2, p2, hg2⟩
            refine ⟨by decide, fun _ => ?_, fun z => absurd z (by decide)⟩
            have hx := p2.2.2.2.1
            have hy := p2.2.2.2.2.2.2
            have hz := p2.2.2.1
            refine vt_k (tm_puts hz.1 hz.2 hy.1 (by omega)) ?_
            refine ⟨by omega, rfl, (ke.t k2 hL).put (by omega) (by decide) (by decide), rfl, L2 + 1, by omega, p2.put (by omega), ?_⟩
            rw [hs']
            exact SegL.ps hg2 (by omega) (by omega) (by rw [if_neg (by omega)]; exact Int.le_refl _) (fun wd => rst_o (by omega))
        refine vt_walk hX tk_compare [(154, [0, 4])] 60 ?_
        refine vt_k (tm_makes1 d15 (by omega)) ?_
        refine ⟨by decide, fun _ => ?_, fun z => absurd z (by decide)⟩
        have hal2 : (also tp n c = true ↔ al = 1) := by
          rw [hal]
          cases also tp n c <;> decide
        refine ⟨by omega, fun y1 => ?_, fun y1 => ?_⟩
        · refine ⟨by omega, fun y2 => ?_, fun y2 => ?_⟩
          · refine ⟨by omega, fun y3 => ?_, fun y3 => ?_⟩
            · exact last 4 (by unfold cmS; rw [if_neg (by omega), if_neg (by omega), if_neg (by rw [hal2]; omega)])
            · exact last 3 (by unfold cmS; rw [if_neg (by omega), if_neg (by omega), if_pos (by rw [hal2]; omega)])
          · exact last 2 (by unfold cmS; rw [if_neg (by omega), if_pos (by omega)])
        · refine ⟨by omega, fun y3 => ?_, fun y3 => ?_⟩
          · exact last 0 (by unfold cmS; rw [if_pos (by omega), ← hal]; omega)
          · exact last 1 (by unfold cmS; rw [if_pos (by omega), ← hal]; omega)
    have n1 : vt_up (nx S1 c) 43 11 (nx S1 c 43 11 + 1) = nx S1 (c + 1) := by
      rw [e1]
      exact nx_nx
    have f11 : nx S1 (c + 1) 43 11 = c + 1 := nx_11
    have f1 : nx S1 (c + 1) 43 1 = n := (nx_i (by decide)).trans h2.1
    have f0 : nx S1 (c + 1) 0 = tp := (nx_k (by decide)).trans h1
    have no : also tp n c = false → vt_J 28 (PPo pkA pkB S B1 tp n tx L w b vs q) X 90 [(0, me), (1, ii (sg tp n c)), (2, ii c)] [ii 0] (nx S1 (c + 1)) B1 := by
      intro hno
      refine vt_walk hX tk_compare [(105, [0, 1, 2, 3])] 60 ?_
      refine ⟨by decide, fun _ => ?_, fun z => absurd rfl z⟩
      exact at105 0 _ (by rw [hno]; rfl) (.inl rfl) (by rw [show c + 1 + 0 = c + 1 by omega]) (by omega)
    refine vt_walk hX tk_compare [(54, [0, 1, 2])] 60 ?_
    show vt_J _ _ _ _ _ _ _ _
    rw [n1]
    refine vt_walk hX tk_compare [(90, [0, 1, 2]), (105, [0, 1, 2, 3])] 60 ?_
    refine ⟨by omega, fun y1 => ?_, fun y1 => ?_⟩
    · refine no ?_
      unfold also
      rw [y1]; rfl
    · refine ⟨by omega, fun y2 => ?_, fun y2 => ?_⟩
      · refine no ?_
        unfold also
        rw [show sg tp n (c + 1) = -1 from if_neg (by omega)]
        exact Bool.and_false _
      · have hb := h1 ▸ h2.2.2 (c + 1) (by omega) (by omega)
        have hb : -128 ≤ tp (c + 1) ∧ tp (c + 1) ≤ 127 := by rw [← h1]; exact h2.2.2 (c + 1) (by omega) (by omega)
        have hbb : nx S1 (c + 1) 0 (nx S1 (c + 1) 43 11) = tp (c + 1) := by rw [f0, f11]
        have hsg : sg tp n (c + 1) = tp (c + 1) % 256 := if_pos (by omega)
        refine ⟨by omega, by omega, fun y3 => ?_, fun y3 => ?_⟩
        · refine no ?_
          unfold also
          rw [show (sg tp n (c + 1) == 61) = false from beq_false_of_ne (by omega)]
          exact Bool.and_false _
        · have hyes : also tp n c = true := by
            unfold also
            rw [show (sg tp n (c + 1) == 61) = true from beq_iff_eq.mpr (by omega), show (sg tp n c != 61) = true from bne_iff_ne.mpr y1]
            rfl
          show vt_J _ _ _ _ _ _ _ _
          refine vt_walk hX tk_compare [(105, [0, 1, 2, 3])] 60 ?_
          refine ⟨by decide, fun z => absurd z (by decide), fun _ => ?_⟩
          refine at105 1 _ (by rw [hyes]; rfl) (.inr rfl) ?_ (by omega)
          rw [f11]
          exact nx_nx
  refine vt_k s1 ?_
  refine ⟨by omega, fun z => go (.inl z), fun z => ?_⟩
  refine ⟨by omega, fun z2 => go (.inr (.inl z2)), fun z2 => ?_⟩
  refine ⟨by omega, fun z3 => go (.inr (.inr z3)), fun z3 => ?_⟩
  rw [if_neg (by omega)] at g2
  cases g2
  refine vt_k (tm_fails (by omega)) ?_
  rw [if_pos e12]
  refine ⟨by omega, rfl, kc.f (by decide) (by decide), rfl, ?_, by unfold er; omega⟩
  rw [vt_up_self]
  unfold er; omega
end TPE
