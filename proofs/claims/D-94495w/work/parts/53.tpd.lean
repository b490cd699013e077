/-! THE TWIN's methods: terms and sums (written by gen_sum.py) -/
set_option maxRecDepth 100000
section TPD
variable {S : SS} {B : SB} {n : Int}
variable {tp : Int → Int} {tx a cn L w b : Int} {vs : List WF}
theorem sg_rg {c : Int} : -1 ≤ sg tp n c ∧ sg tp n c ≤ 255 := by
  unfold sg
  split <;> omega
theorem sg_tp {c : Int} (h : ∀ i : Int, 0 ≤ i → i < n → -128 ≤ tp i ∧ tp i ≤ 127) (h0 : 0 ≤ c) (hc : c < n) (hs : sg tp n c < 128) : tp c = sg tp n c := by
  have := h c h0 hc
  unfold sg at hs ⊢
  rw [if_pos hc] at hs ⊢
  omega
theorem tm_val {q : PRs} (h : PX S tp n tx a cn L w b vs) (hq : some (pVal tp n a cn) = some q) : vt_M 20 [me] S B (PPo pkA pkB S B tp n tx L w b vs q) := by
  cases hq
  exact tm_value h
theorem tm_term {k : Nat} {q : PRs} (h : PX S tp n tx a cn L w b vs) (hq : pTm tp n k a cn = some q) : vt_M 19 [me] S B (PPo pkA pkB S B tp n tx L w b vs q) := by
  refine vt_start rfl rfl (Nat.le_of_ble_eq_true rfl) (fun X hX => ?_)
  have loop : ∀ (k : Nat) (a cn L1 : Int) (F : WF) (S1 : SS), L ≤ L1 → pk pkA pkB tx L S S1 → PX S1 tp n tx a cn L1 w b (F :: vs) → pTmL tp n k a cn F = some q → vt_J 19 (PPo pkA pkB S B tp n tx L w b vs q) X 9 [(0, me)] [] S1 B := by
    intro k
    induction k with
    | zero => intro a cn L1 F S1 _ _ _ hq; cases hq
    | succ k ih =>
      intro a cn L1 F S1 hL hk hp hq
      obtain ⟨p0, hg⟩ := hp
      obtain ⟨h1, h2, h3, h4, h5, h6, h7⟩ := id p0
      have hs := sk_spec (tp := tp) (n := n) a
      have hsn := hs.2.1 h4.2.2
      have hkk := sk_sk (tp := tp) (n := n) a
      have hn : 0 ≤ n ∧ n ≤ 400 := h2.2.1
      rw [pTmL] at hq
      have s1 := tm_see (B := B) h2 h4.1 h4.2
      rw [h1] at s1
      generalize sk tp n a = c at *
      have pc : PX0 (nx S1 c) tp n tx c cn L1 w := p0.nx (by omega) (by omega)
      have e1 : nx S1 c 43 11 = c := nx_11
      have e0 : nx S1 c 0 = tp := pc.1
      have kc : pk pkA pkB tx L S (nx S1 c) := hk.nx (by decide) (by decide)
      have s2 := tm_see (B := B) pc.2.1 pc.2.2.2.1.1 pc.2.2.2.1.2
      rw [e0, hkk, nx_nx] at s2
      have sgr : -1 ≤ sg tp n c ∧ sg tp n c ≤ 255 := sg_rg
      have stop : ¬ (sg tp n c = 42 ∨ sg tp n c = 47) → PPo pkA pkB S B tp n tx L w b vs q (some (ii 1)) (nx S1 c) B := by
        intro z
        rw [if_neg z] at hq
        cases hq
        refine ⟨rfl, kc, rfl, L1, hL, pc, ?_⟩
        rw [nx_k (by decide)]
        exact hg
      have go : (sg tp n c = 42 ∨ sg tp n c = 47) → vt_J 19 (PPo pkA pkB S B tp n tx L w b vs q) X 27 [(0, me)] [] (nx S1 c) B := by
        intro z
        rw [if_pos z] at hq
        have hcn := sg_lt (tp := tp) (n := n) (b := c) (by omega)
        have htp : tp c = sg tp n c := sg_tp (h1 ▸ h2.2.2) (by omega) hcn (by omega)
        have tpr : -128 ≤ tp c ∧ tp c ≤ 127 := by omega
        have eb : nx S1 c 0 (nx S1 c 43 11) = tp c := by rw [e0, e1]
        have rest : ∀ s : Int, s = (if sg tp n c = 42 then 4 else 5) → vt_J 19 (PPo pkA pkB S B tp n tx L w b vs q) X 57 [(0, me), (1, ii s)] [] (vt_up (nx S1 c) 43 11 (c + 1)) B := by
          intro s hs'
          have hsr : 2 ≤ s ∧ s ≤ 5 := by rw [hs']; split <;> decide
          rw [← hs'] at hq
          have pd : PX (nx (nx S1 c) (c + 1)) tp n tx (c + 1) cn L1 (w + 1) b (F :: vs) := by
            refine ⟨pc.nx (by omega) (by omega), ?_⟩
            rw [nx_k (by decide), nx_k (by decide)]
            exact hg
          have kd : pk pkA pkB tx L S (nx (nx S1 c) (c + 1)) := kc.nx (by decide) (by decide)
          refine vt_walk hX tk_term [(9, [0])] 60 ?_
          rcases pb_inv hq with ⟨e, g1, g2⟩ | ⟨a', c', G, g1, g2⟩
          · subst g2
            refine ⟨_, tm_val pd g1, ?_⟩
            rintro r S2 B2 ⟨rfl, k2, rfl, k3⟩
            refine ⟨by decide, fun z => absurd rfl z, fun _ => ?_⟩
            exact ⟨by omega, rfl, kd.t k2 hL, rfl, k3⟩
          · refine ⟨_, tm_val pd g1, ?_⟩
            rintro r S2 B2 ⟨rfl, k2, rfl, L2, hL2, p2, hg2⟩
            refine ⟨by decide, fun _ => ?_, fun z => absurd z (by decide)⟩
            have hx := p2.2.2.2.1
            have hy := p2.2.2.2.2.2.2
            have hz := p2.2.2.1
            refine vt_k (tm_puts hz.1 hz.2 hy.1 (by omega)) ?_
            show vt_J _ _ _ _ _ _ _ _
            refine ih a' c' (L2 + 1) _ _ (by omega) ((kd.t k2 hL).put (by omega) (by decide) (by decide)) ⟨p2.put (by omega), ?_⟩ g2
            exact SegL.ps hg2 (by omega) (by omega) (by rw [if_neg (by omega)]; exact Int.le_refl _) (fun wd => rst_o (by omega))
        refine vt_walk hX tk_term [(57, [0, 1])] 60 ?_
        refine ⟨by omega, by omega, fun z1 => ?_, fun z1 => ?_⟩
        · have := rest 5 (by rw [if_neg (by omega)])
          show vt_J _ _ _ _ _ _ (vt_up (nx S1 c) 43 11 (nx S1 c 43 11 + 1)) _
          rw [e1]
          exact this
        · have := rest 4 (by rw [if_pos (by omega)])
          show vt_J _ _ _ _ _ _ (vt_up (nx S1 c) 43 11 (nx S1 c 43 11 + 1)) _
          rw [e1]
          exact this
      refine vt_walk hX tk_term [(27, [0])] 60 ?_
      refine vt_k s1 ?_
      refine ⟨by omega, fun z => go (.inl z), fun z => ?_⟩
      refine vt_k s2 ?_
      refine ⟨by omega, fun z2 => ?_, fun z2 => go (.inr z2)⟩
      exact ⟨by omega, stop (by omega)⟩
  refine vt_walk hX tk_term [(9, [0])] 60 ?_
  rcases pb_inv hq with ⟨e, g1, g2⟩ | ⟨a', c', G, g1, g2⟩
  · subst g2
    have pd := h
    refine ⟨_, tm_val pd g1, ?_⟩
    rintro r S2 B2 ⟨rfl, k2, rfl, k3⟩
    refine ⟨by decide, fun z => absurd rfl z, fun _ => ?_⟩
    exact ⟨by omega, rfl, k2, rfl, k3⟩
  · have pd := h
    refine ⟨_, tm_val pd g1, ?_⟩
    rintro r S2 B2 ⟨rfl, k2, rfl, L2, hL2, p2⟩
    refine ⟨by decide, fun _ => ?_, fun z => absurd z (by decide)⟩
    exact loop k a' c' L2 G S2 hL2 k2 p2 g2
theorem tm_sum {k : Nat} {q : PRs} (h : PX S tp n tx a cn L w b vs) (hq : pSm tp n k a cn = some q) : vt_M 18 [me] S B (PPo pkA pkB S B tp n tx L w b vs q) := by
  refine vt_start rfl rfl (Nat.le_of_ble_eq_true rfl) (fun X hX => ?_)
  have loop : ∀ (k : Nat) (a cn L1 : Int) (F : WF) (S1 : SS), L ≤ L1 → pk pkA pkB tx L S S1 → PX S1 tp n tx a cn L1 w b (F :: vs) → pSmL tp n k a cn F = some q → vt_J 18 (PPo pkA pkB S B tp n tx L w b vs q) X 9 [(0, me)] [] S1 B := by
    intro k
    induction k with
    | zero => intro a cn L1 F S1 _ _ _ hq; cases hq
    | succ k ih =>
      intro a cn L1 F S1 hL hk hp hq
      obtain ⟨p0, hg⟩ := hp
      obtain ⟨h1, h2, h3, h4, h5, h6, h7⟩ := id p0
      have hs := sk_spec (tp := tp) (n := n) a
      have hsn := hs.2.1 h4.2.2
      have hkk := sk_sk (tp := tp) (n := n) a
      have hn : 0 ≤ n ∧ n ≤ 400 := h2.2.1
      rw [pSmL] at hq
      have s1 := tm_see (B := B) h2 h4.1 h4.2
      rw [h1] at s1
      generalize sk tp n a = c at *
      have pc : PX0 (nx S1 c) tp n tx c cn L1 w := p0.nx (by omega) (by omega)
      have e1 : nx S1 c 43 11 = c := nx_11
      have e0 : nx S1 c 0 = tp := pc.1
      have kc : pk pkA pkB tx L S (nx S1 c) := hk.nx (by decide) (by decide)
      have s2 := tm_see (B := B) pc.2.1 pc.2.2.2.1.1 pc.2.2.2.1.2
      rw [e0, hkk, nx_nx] at s2
      have sgr : -1 ≤ sg tp n c ∧ sg tp n c ≤ 255 := sg_rg
      have stop : ¬ (sg tp n c = 43 ∨ sg tp n c = 45) → PPo pkA pkB S B tp n tx L w b vs q (some (ii 1)) (nx S1 c) B := by
        intro z
        rw [if_neg z] at hq
        cases hq
        refine ⟨rfl, kc, rfl, L1, hL, pc, ?_⟩
        rw [nx_k (by decide)]
        exact hg
      have go : (sg tp n c = 43 ∨ sg tp n c = 45) → vt_J 18 (PPo pkA pkB S B tp n tx L w b vs q) X 27 [(0, me)] [] (nx S1 c) B := by
        intro z
        rw [if_pos z] at hq
        have hcn := sg_lt (tp := tp) (n := n) (b := c) (by omega)
        have htp : tp c = sg tp n c := sg_tp (h1 ▸ h2.2.2) (by omega) hcn (by omega)
        have tpr : -128 ≤ tp c ∧ tp c ≤ 127 := by omega
        have eb : nx S1 c 0 (nx S1 c 43 11) = tp c := by rw [e0, e1]
        have rest : ∀ s : Int, s = (if sg tp n c = 43 then 2 else 3) → vt_J 18 (PPo pkA pkB S B tp n tx L w b vs q) X 57 [(0, me), (1, ii s)] [] (vt_up (nx S1 c) 43 11 (c + 1)) B := by
          intro s hs'
          have hsr : 2 ≤ s ∧ s ≤ 5 := by rw [hs']; split <;> decide
          rw [← hs'] at hq
          have pd : PX (nx (nx S1 c) (c + 1)) tp n tx (c + 1) cn L1 (w + 1) b (F :: vs) := by
            refine ⟨pc.nx (by omega) (by omega), ?_⟩
            rw [nx_k (by decide), nx_k (by decide)]
            exact hg
          have kd : pk pkA pkB tx L S (nx (nx S1 c) (c + 1)) := kc.nx (by decide) (by decide)
          refine vt_walk hX tk_sum [(9, [0])] 60 ?_
          rcases pb_inv hq with ⟨e, g1, g2⟩ | ⟨a', c', G, g1, g2⟩
          · subst g2
            refine ⟨_, tm_term pd g1, ?_⟩
            rintro r S2 B2 ⟨rfl, k2, rfl, k3⟩
            refine ⟨by decide, fun z => absurd rfl z, fun _ => ?_⟩
            exact ⟨by omega, rfl, kd.t k2 hL, rfl, k3⟩
          · refine ⟨_, tm_term pd g1, ?_⟩
            rintro r S2 B2 ⟨rfl, k2, rfl, L2, hL2, p2, hg2⟩
            refine ⟨by decide, fun _ => ?_, fun z => absurd z (by decide)⟩
            have hx := p2.2.2.2.1
            have hy := p2.2.2.2.2.2.2
            have hz := p2.2.2.1
            refine vt_k (tm_puts hz.1 hz.2 hy.1 (by omega)) ?_
            show vt_J _ _ _ _ _ _ _ _
            refine ih a' c' (L2 + 1) _ _ (by omega) ((kd.t k2 hL).put (by omega) (by decide) (by decide)) ⟨p2.put (by omega), ?_⟩ g2
            exact SegL.ps hg2 (by omega) (by omega) (by rw [if_neg (by omega)]; exact Int.le_refl _) (fun wd => rst_o (by omega))
        refine vt_walk hX tk_sum [(57, [0, 1])] 60 ?_
        refine ⟨by omega, by omega, fun z1 => ?_, fun z1 => ?_⟩
        · have := rest 3 (by rw [if_neg (by omega)])
          show vt_J _ _ _ _ _ _ (vt_up (nx S1 c) 43 11 (nx S1 c 43 11 + 1)) _
          rw [e1]
          exact this
        · have := rest 2 (by rw [if_pos (by omega)])
          show vt_J _ _ _ _ _ _ (vt_up (nx S1 c) 43 11 (nx S1 c 43 11 + 1)) _
          rw [e1]
          exact this
      refine vt_walk hX tk_sum [(27, [0])] 60 ?_
      refine vt_k s1 ?_
      refine ⟨by omega, fun z => go (.inl z), fun z => ?_⟩
      refine vt_k s2 ?_
      refine ⟨by omega, fun z2 => ?_, fun z2 => go (.inr z2)⟩
      exact ⟨by omega, stop (by omega)⟩
  refine vt_walk hX tk_sum [(9, [0])] 60 ?_
  rcases pb_inv hq with ⟨e, g1, g2⟩ | ⟨a', c', G, g1, g2⟩
  · subst g2
    have pd := h
    refine ⟨_, tm_term pd g1, ?_⟩
    rintro r S2 B2 ⟨rfl, k2, rfl, k3⟩
    refine ⟨by decide, fun z => absurd rfl z, fun _ => ?_⟩
    exact ⟨by omega, rfl, k2, rfl, k3⟩
  · have pd := h
    refine ⟨_, tm_term pd g1, ?_⟩
    rintro r S2 B2 ⟨rfl, k2, rfl, L2, hL2, p2⟩
    refine ⟨by decide, fun _ => ?_, fun z => absurd z (by decide)⟩
    exact loop k a' c' L2 G S2 hL2 k2 p2 g2
end TPD
