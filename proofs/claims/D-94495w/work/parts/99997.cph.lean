/-! THE COMPONENT's parser: where a reading ends; what stays beside it -/
set_option maxRecDepth 100000
def EE (n : Int) (q : PRs) : Int := match q with
  | .inl _ => n + 1
  | .inr x => x.1
/-- a reading ends at a or behind it, and has counted up to cn or more -/
def pq (n a cn : Int) (q : PRs) : Prop := a ≤ EE n q ∧ ∀ x, q = .inr x → x.1 ≤ n ∧ cn ≤ x.2.1 ∧ x.2.1 ≤ 60
theorem pq.mono {n a cn a' cn' : Int} {q : PRs} (h : pq n a cn q) (ha : a' ≤ a) (hc : cn' ≤ cn) : pq n a' cn' q := ⟨Int.le_trans ha h.1, fun x hx => ⟨(h.2 x hx).1, Int.le_trans hc (h.2 x hx).2.1, (h.2 x hx).2.2⟩⟩
theorem pq.e {n a cn e : Int} (h : a ≤ n + 1) : pq n a cn (.inl e) := ⟨h, fun x z => by cases z⟩
theorem pq.o {n a cn a' c' : Int} {F : WF} (h : a ≤ a' ∧ a' ≤ n ∧ cn ≤ c' ∧ c' ≤ 60) : pq n a cn (.inr (a', c', F)) := ⟨h.1, fun x z => by cases z; exact ⟨h.2.1, h.2.2⟩⟩
section CPH
variable {tp : Int → Int} {n a cn : Int}
theorem pVal_sk : pVal tp n a cn = pVal tp n (sk tp n a) cn := by
  unfold pVal
  rw [sk_sk]
theorem pq_val (ha : a ≤ n) (hc : cn ≤ 60) : pq n (sk tp n a + 1) (cn + 1) (pVal tp n a cn) := by
  have hs := (sk_spec (tp := tp) (n := n) a).2.1 ha
  cases h : pVal tp n a cn with
  | inl e => exact pq.e (by omega)
  | inr x =>
    rw [pVal_sk] at h
    have := pVal_pg hs h
    obtain ⟨x1, x2, x3⟩ := x
    dsimp only at this
    exact pq.o ⟨by omega, by omega, by omega, by omega⟩
theorem pq_tmL : ∀ (k : Nat) (a cn : Int) (F : WF) (q : PRs), a ≤ n → cn ≤ 60 → pTmL tp n k a cn F = some q → pq n (sk tp n a) cn q
  | 0, _, _, _, _, _, _, h => by cases h
  | k + 1, a, cn, F, q, ha, hc, h => by
    have hs := sk_spec (tp := tp) (n := n) a
    have hsn := hs.2.1 ha
    rw [pTmL] at h
    by_cases c : sg tp n (sk tp n a) = 42 ∨ sg tp n (sk tp n a) = 47
    · rw [if_pos c] at h
      have hlt : sk tp n a < n := sg_lt (tp := tp) (by omega)
      rcases pb_inv h with ⟨e, h1, rfl⟩ | ⟨a1, c1, G, h1, h2⟩
      · exact pq.e (by omega)
      · have p1 := pq_val (tp := tp) (n := n) (a := sk tp n a + 1) (cn := cn) (by omega) hc
        rw [Option.some.inj h1] at p1
        have p2 := p1.2 _ rfl
        have hs1 := sk_spec (tp := tp) (n := n) (sk tp n a + 1)
        have hs2 := sk_spec (tp := tp) (n := n) a1
        have p3 : sk tp n (sk tp n a + 1) + 1 ≤ a1 := p1.1
        dsimp only at p2
        exact (pq_tmL k a1 c1 _ q (by omega) (by omega) h2).mono (by omega) (by omega)
    · rw [if_neg c] at h
      rw [← Option.some.inj h]
      exact pq.o ⟨Int.le_refl _, hsn, Int.le_refl _, hc⟩
theorem pq_tm {k : Nat} {q : PRs} (ha : a ≤ n) (hc : cn ≤ 60) (h : pTm tp n k a cn = some q) : pq n (sk tp n a + 1) (cn + 1) q := by
  have hs := (sk_spec (tp := tp) (n := n) a).2.1 ha
  unfold pTm at h
  rcases pb_inv h with ⟨e, h1, rfl⟩ | ⟨a1, c1, G, h1, h2⟩
  · exact pq.e (by omega)
  · have p1 := pq_val (tp := tp) (n := n) (a := a) (cn := cn) ha hc
    rw [Option.some.inj h1] at p1
    have p2 := p1.2 _ rfl
    have hs2 := sk_spec (tp := tp) (n := n) a1
    have p3 : sk tp n a + 1 ≤ a1 := p1.1
    dsimp only at p2
    exact (pq_tmL k a1 c1 _ q (by omega) (by omega) h2).mono (by omega) (by omega)
theorem pq_smL : ∀ (k : Nat) (a cn : Int) (F : WF) (q : PRs), a ≤ n → cn ≤ 60 → pSmL tp n k a cn F = some q → pq n (sk tp n a) cn q
  | 0, _, _, _, _, _, _, h => by cases h
  | k + 1, a, cn, F, q, ha, hc, h => by
    have hs := sk_spec (tp := tp) (n := n) a
    have hsn := hs.2.1 ha
    rw [pSmL] at h
    by_cases c : sg tp n (sk tp n a) = 43 ∨ sg tp n (sk tp n a) = 45
    · rw [if_pos c] at h
      have hlt : sk tp n a < n := sg_lt (tp := tp) (by omega)
      rcases pb_inv h with ⟨e, h1, rfl⟩ | ⟨a1, c1, G, h1, h2⟩
      · exact pq.e (by omega)
      · have p1 := pq_tm (tp := tp) (n := n) (a := sk tp n a + 1) (cn := cn) (by omega) hc h1
        have p2 := p1.2 _ rfl
        have hs1 := sk_spec (tp := tp) (n := n) (sk tp n a + 1)
        have hs2 := sk_spec (tp := tp) (n := n) a1
        have p3 : sk tp n (sk tp n a + 1) + 1 ≤ a1 := p1.1
        dsimp only at p2
        exact (pq_smL k a1 c1 _ q (by omega) (by omega) h2).mono (by omega) (by omega)
    · rw [if_neg c] at h
      rw [← Option.some.inj h]
      exact pq.o ⟨Int.le_refl _, hsn, Int.le_refl _, hc⟩
theorem pq_sm {k : Nat} {q : PRs} (ha : a ≤ n) (hc : cn ≤ 60) (h : pSm tp n k a cn = some q) : pq n (sk tp n a + 1) (cn + 1) q := by
  have hs := (sk_spec (tp := tp) (n := n) a).2.1 ha
  unfold pSm at h
  rcases pb_inv h with ⟨e, h1, rfl⟩ | ⟨a1, c1, G, h1, h2⟩
  · exact pq.e (by omega)
  · have p1 := pq_tm (tp := tp) (n := n) (a := a) (cn := cn) ha hc h1
    have p2 := p1.2 _ rfl
    have hs2 := sk_spec (tp := tp) (n := n) a1
    have p3 : sk tp n a + 1 ≤ a1 := p1.1
    dsimp only at p2
    exact (pq_smL k a1 c1 _ q (by omega) (by omega) h2).mono (by omega) (by omega)
theorem also_lt {b : Int} (hb : b < n) (h : also tp n b = true) : b + 1 < n := by
  unfold also at h
  have := (Bool.and_eq_true _ _).mp h
  exact sg_lt (tp := tp) (by rw [beq_iff_eq.mp this.2]; decide)
theorem pq_cmp {k : Nat} {q : PRs} (ha : a ≤ n) (hc : cn ≤ 60) (h : pCmp tp n k a cn = some q) : pq n (sk tp n a + 1) (cn + 1) q := by
  have hs := (sk_spec (tp := tp) (n := n) a).2.1 ha
  unfold pCmp at h
  rcases pb_inv h with ⟨e, h1, rfl⟩ | ⟨a1, c1, G, h1, h2⟩
  · exact pq.e (by omega)
  · have p1 := pq_sm (tp := tp) (n := n) (a := a) (cn := cn) ha hc h1
    have p2 := p1.2 _ rfl
    have hs2 := sk_spec (tp := tp) (n := n) a1
    have p3 : sk tp n a + 1 ≤ a1 := p1.1
    dsimp only at p2
    have hs3 := hs2.2.1 p2.1
    split at h2
    · rename_i c
      have hlt : sk tp n a1 < n := sg_lt (tp := tp) (by omega)
      split at h2
      · rw [← Option.some.inj h2]; exact pq.e (by omega)
      · rcases pb_inv h2 with ⟨e, h3, rfl⟩ | ⟨a3, c3, G3, h3, h4⟩
        · exact pq.e (by omega)
        · have hal := bI_rg (also tp n (sk tp n a1))
          have hle : sk tp n a1 + 1 + bI (also tp n (sk tp n a1)) ≤ n := by
            cases hh : also tp n (sk tp n a1) with
            | true => have := also_lt hlt hh; rw [bI_t]; omega
            | false => rw [bI_f]; omega
          have p4 := pq_sm (tp := tp) (n := n) hle (by omega) h3
          have hs4 := sk_spec (tp := tp) (n := n) (sk tp n a1 + 1 + bI (also tp n (sk tp n a1)))
          have p5 := p4.2 _ rfl
          have p6 : sk tp n (sk tp n a1 + 1 + bI (also tp n (sk tp n a1))) + 1 ≤ a3 := p4.1
          dsimp only at p5
          rw [← Option.some.inj h4]
          exact pq.o ⟨by omega, by omega, by omega, by omega⟩
    · rw [← Option.some.inj h2]; exact pq.e (by omega)
theorem pq_rd : ∀ (k m : Nat) (a cn d : Int) (t : WF) (q : PRs), a ≤ n → cn ≤ 60 → rd tp n k m a cn d t = some q → pq n (if m < 3 then sk tp n a + 1 else sk tp n a) (if m < 3 then cn + 1 else cn) q
  | 0, _, _, _, _, _, _, _, _, h => by cases h
  | k + 1, 0, a, cn, d, t, q, ha, hc, h => by
    have hs := sk_spec (tp := tp) (n := n) a
    have hsn := hs.2.1 ha
    rw [if_pos (by decide), if_pos (by decide)]
    rw [rd] at h
    split at h
    · rename_i c
      have h3 : sk tp n a + 3 ≤ n := wl3 hsn c
      split at h
      · rw [← Option.some.inj h]; exact pq.e (by omega)
      · rcases pb_inv h with ⟨e, h1, rfl⟩ | ⟨a1, c1, G, h1, h2⟩
        · exact pq.e (by omega)
        · have p1 := pq_rd k 0 _ _ _ _ _ h3 hc h1
          rw [if_pos (by decide), if_pos (by decide)] at p1
          have hs1 := sk_spec (tp := tp) (n := n) (sk tp n a + 3)
          have p2 := p1.2 _ rfl
          have p3 : sk tp n (sk tp n a + 3) + 1 ≤ a1 := p1.1
          dsimp only at p2
          rw [← Option.some.inj h2]
          exact pq.o ⟨by omega, by omega, by omega, by omega⟩
    · split at h
      · rename_i c
        have hlt : sk tp n a < n := sg_lt (tp := tp) (by omega)
        split at h
        · rw [← Option.some.inj h]; exact pq.e (by omega)
        · rcases pb_inv h with ⟨e, h1, rfl⟩ | ⟨a1, c1, G, h1, h2⟩
          · exact pq.e (by omega)
          · have p1 := pq_rd k 2 _ _ _ _ _ (by omega) hc h1
            rw [if_pos (by decide), if_pos (by decide)] at p1
            have hs1 := sk_spec (tp := tp) (n := n) (sk tp n a + 1)
            have hs2 := sk_spec (tp := tp) (n := n) a1
            have p2 := p1.2 _ rfl
            have p3 : sk tp n (sk tp n a + 1) + 1 ≤ a1 := p1.1
            dsimp only at p2
            have hs3 := hs2.2.1 p2.1
            split at h2
            · rename_i c2
              have hlt2 : sk tp n a1 < n := sg_lt (tp := tp) (by omega)
              rw [← Option.some.inj h2]
              exact pq.o ⟨by omega, by omega, by omega, by omega⟩
            · rw [← Option.some.inj h2]; exact pq.e (by omega)
      · have p1 := pq_cmp hsn hc h
        rw [sk_sk] at p1
        exact p1
  | k + 1, 1, a, cn, d, t, q, ha, hc, h => by
    rw [if_pos (by decide), if_pos (by decide)]
    have hsn := (sk_spec (tp := tp) (n := n) a).2.1 ha
    rw [rd] at h
    rcases pb_inv h with ⟨e, h1, rfl⟩ | ⟨a1, c1, G, h1, h2⟩
    · exact pq.e (by omega)
    · have p1 := pq_rd k 0 _ _ _ _ _ ha hc h1
      rw [if_pos (by decide), if_pos (by decide)] at p1
      have p2 := p1.2 _ rfl
      have p3 : sk tp n a + 1 ≤ a1 := p1.1
      have hs2 := sk_spec (tp := tp) (n := n) a1
      dsimp only at p2
      have p4 := pq_rd k 3 _ _ _ _ _ (by omega) (by omega) h2
      rw [if_neg (by decide), if_neg (by decide)] at p4
      exact p4.mono (by omega) (by omega)
  | k + 1, 2, a, cn, d, t, q, ha, hc, h => by
    rw [if_pos (by decide), if_pos (by decide)]
    have hsn := (sk_spec (tp := tp) (n := n) a).2.1 ha
    rw [rd] at h
    rcases pb_inv h with ⟨e, h1, rfl⟩ | ⟨a1, c1, G, h1, h2⟩
    · exact pq.e (by omega)
    · have p1 := pq_rd k 1 _ _ _ _ _ ha hc h1
      rw [if_pos (by decide), if_pos (by decide)] at p1
      have p2 := p1.2 _ rfl
      have p3 : sk tp n a + 1 ≤ a1 := p1.1
      have hs2 := sk_spec (tp := tp) (n := n) a1
      dsimp only at p2
      have p4 := pq_rd k 4 _ _ _ _ _ (by omega) (by omega) h2
      rw [if_neg (by decide), if_neg (by decide)] at p4
      exact p4.mono (by omega) (by omega)
  | k + 1, 3, a, cn, d, t, q, ha, hc, h => by
    rw [if_neg (by decide), if_neg (by decide)]
    have hs := sk_spec (tp := tp) (n := n) a
    have hsn := hs.2.1 ha
    rw [rd] at h
    split at h
    · rename_i c
      have h3 : sk tp n a + 3 ≤ n := wl3 hsn c
      rcases pb_inv h with ⟨e, h1, rfl⟩ | ⟨a1, c1, G, h1, h2⟩
      · exact pq.e (by omega)
      · have p1 := pq_rd k 0 _ _ _ _ _ h3 hc h1
        rw [if_pos (by decide), if_pos (by decide)] at p1
        have p2 := p1.2 _ rfl
        have p3 : sk tp n (sk tp n a + 3) + 1 ≤ a1 := p1.1
        have hs1 := sk_spec (tp := tp) (n := n) (sk tp n a + 3)
        have hs2 := sk_spec (tp := tp) (n := n) a1
        dsimp only at p2
        have p4 := pq_rd k 3 _ _ _ _ _ (by omega) (by omega) h2
        rw [if_neg (by decide), if_neg (by decide)] at p4
        exact p4.mono (by omega) (by omega)
    · rw [← Option.some.inj h]
      exact pq.o ⟨Int.le_refl _, hsn, Int.le_refl _, hc⟩
  | k + 1, m + 4, a, cn, d, t, q, ha, hc, h => by
    rw [if_neg (by omega), if_neg (by omega)]
    have hs := sk_spec (tp := tp) (n := n) a
    have hsn := hs.2.1 ha
    rw [rd] at h
    split at h
    · rename_i c
      have h3 : sk tp n a + 2 ≤ n := wl3 hsn c
      rcases pb_inv h with ⟨e, h1, rfl⟩ | ⟨a1, c1, G, h1, h2⟩
      · exact pq.e (by omega)
      · have p1 := pq_rd k 1 _ _ _ _ _ h3 hc h1
        rw [if_pos (by decide), if_pos (by decide)] at p1
        have p2 := p1.2 _ rfl
        have p3 : sk tp n (sk tp n a + 2) + 1 ≤ a1 := p1.1
        have hs1 := sk_spec (tp := tp) (n := n) (sk tp n a + 2)
        have hs2 := sk_spec (tp := tp) (n := n) a1
        dsimp only at p2
        have p4 := pq_rd k 4 _ _ _ _ _ (by omega) (by omega) h2
        rw [if_neg (by decide), if_neg (by decide)] at p4
        exact p4.mono (by omega) (by omega)
    · rw [← Option.some.inj h]
      exact pq.o ⟨Int.le_refl _, hsn, Int.le_refl _, hc⟩
end CPH
/-- what a reading writes of what was there: the parser's places, the number of what is wrong -/
def prW (pr w q : Nat) (i : Int) : Prop := (q = pr ∧ 1 ≤ i ∧ i ≤ 4) ∨ (q = w ∧ i = 6)
section CPI
variable {Lw Lw' Lw1 : List Nat} {S0 S S1 S' : SS} {B : SB} {d o pr : Nat} {τ τ' : Nat → Nat} {tp : Int → Int} {n a cn : Int} {W : Nat → Int → Prop}
theorem Ext.upW {r : Nat} {i v : Int} (hE : Ext W Lw S τ Lw' S' τ') (h : isO Lw r → W r i) : Ext W Lw S τ Lw' (vt_up S' r i v) τ' := by
  refine ⟨hE.1, fun q j hq hn => ?_, hE.2.2⟩
  rw [up_ne (by
    by_cases c : q = r ∧ j = i
    · obtain ⟨rfl, rfl⟩ := c; exact absurd (h hq) hn
    · by_cases z : q = r
      · exact Or.inr (fun y => c ⟨z, y⟩)
      · exact Or.inl z)]
  exact hE.2.1 q j hq hn
theorem Ext.nwW {a : Nat} {c l : Int} (hE : Ext W Lw S τ Lw' S' τ') (ha : a ∉ Lw') : Ext W Lw S τ (Lw' ++ [a]) (vc_nw S' (a + 1) c l) τ' := by
  refine ⟨fun x hx => List.mem_append_left _ (hE.1 x hx), fun q j hq hn => ?_, hE.2.2⟩
  rw [nw_old (Lw := Lw') ha (by obtain ⟨x, h1, h2⟩ := hq; exact ⟨x, h1, hE.1 x h2⟩)]
  exact hE.2.1 q j hq hn
theorem Ext.rf : Ext W Lw S τ Lw S τ := ⟨fun _ h => h, fun _ _ _ _ => rfl, fun _ _ => rfl⟩
theorem Ext.anyT (hE : Ext W Lw S τ Lw' S' τ) : Ext W Lw S τ' Lw' S' τ' := ⟨hE.1, hE.2.1, fun _ _ => rfl⟩
theorem nw0 {a : Nat} {c l : Int} : vc_nw S (a + 1) c l 0 = S 0 := if_neg (by omega)
/-- what the parser has read: it stands at a, cn counted, dp deep, cl clauses of mo -/
def PSt (Lw : List Nat) (S : SS) (pr o : Nat) (tp : Int → Int) (n a cn dp cl mo : Int) : Prop := CPs Lw S pr o tp n a ∧ (S pr 3 = cn ∧ 0 ≤ cn ∧ cn ≤ 60) ∧ (S pr 2 = dp ∧ 0 ≤ dp ∧ dp ≤ 10) ∧ (S pr 4 = cl ∧ 0 ≤ cl ∧ cl ≤ 24) ∧ (S pr 5 = mo ∧ 0 ≤ mo ∧ mo ≤ 24) ∧ S pr 0 = ((S 0 30).toNat : Int) ∧ a ≤ n
theorem PSt.ext {dp cl mo a' cn' dp' cl' : Int} (h : PSt Lw S pr o tp n a cn dp cl mo) (hE : Ext (prW pr (S o 7).toNat) Lw S τ Lw' S' τ') (h0 : S' 0 = S 0) (h1 : S' pr 1 = a' ∧ 0 ≤ a' ∧ a' ≤ n) (h3 : S' pr 3 = cn' ∧ 0 ≤ cn' ∧ cn' ≤ 60) (h2 : S' pr 2 = dp' ∧ 0 ≤ dp' ∧ dp' ≤ 10) (h4 : S' pr 4 = cl' ∧ 0 ≤ cl' ∧ cl' ≤ 24) : PSt Lw' S' pr o tp n a' cn' dp' cl' mo ∧ S' o 7 = S o 7 := by
  obtain ⟨⟨g1, g2, g3, g4, ⟨g5, g6⟩, ⟨g7, g8⟩, g9, g10, g11, g12⟩, -, -, -, k5, k0, -⟩ := h
  have n1 : o ≠ pr := ob_ne g4 g1 (by decide)
  have n2 : (S o 8).toNat ≠ pr := ob_ne g7 g1 (by decide)
  have n3 : o ≠ (S o 7).toNat := ob_ne g4 g12 (by decide)
  have n4 : (S o 8).toNat ≠ (S o 7).toNat := ob_ne g7 g12 (by decide)
  have n5 : pr ≠ (S o 7).toNat := ob_ne g1 g12 (by decide)
  have eo : ∀ i, S' o i = S o i := fun i => hE.2.1 o i g4.1 (fun z => by rcases z with ⟨z, -⟩ | ⟨z, -⟩; exact n1 z; exact n3 z)
  have et : ∀ i, S' (S o 8).toNat i = S (S o 8).toNat i := fun i => hE.2.1 _ i g7.1 (fun z => by rcases z with ⟨z, -⟩ | ⟨z, -⟩; exact n2 z; exact n4 z)
  have ep : ∀ i, (i < 1 ∨ 4 < i) → S' pr i = S pr i := fun i hi => hE.2.1 pr i g1.1 (fun z => by rcases z with ⟨-, z⟩ | ⟨z, -⟩; omega; exact n5 z)
  have hob : ∀ {q : Nat} {c : Int}, vc_ob Lw S q c → vc_ob Lw' S' q c := fun hq => hE.ob2 hq (fun z => by rcases z with ⟨-, z⟩ | ⟨-, z⟩ <;> omega)
  refine ⟨⟨⟨hob g1, by rw [ep 6 (by omega)]; exact g2, h1.1, hob g4, ⟨by rw [eo]; exact g5, fun i i0 i1 => by rw [eo, et]; exact g6 i i0 i1⟩, ⟨by rw [eo]; exact hob g7, by rw [eo, et]; exact g8⟩, g9, by omega, g11, by rw [eo]; exact hob g12⟩, h3, h2, h4, by rw [ep 5 (by omega)]; exact k5, by rw [ep 0 (by omega), h0]; exact k0, h1.2.2⟩, eo 7⟩
theorem CVal.nz0 : ∀ {k : Nat} {F : WF}, ¬ CVal Lw S k 0 F
  | 0, _, h => h.elim
  | k + 1, F, h => by
    rcases h with ⟨⟨⟨a, ha, -⟩, -⟩, -⟩ | ⟨⟨⟨a, ha, -⟩, -⟩, -⟩ | ⟨⟨⟨a, ha, -⟩, -⟩, -⟩ <;> omega
/-- a place that no tree has: one that is made and not yet filled -/
def blW (S : SS) (W : Nat → Int → Prop) : Prop := ∀ (q : Nat) (i : Int), 7 ≤ S q (-2) → S q (-2) ≤ 13 → W q i → 9 ≤ S q (-2) ∧ S q 0 = 0
/-- sums and tests stay -/
theorem CVal.keep (hE : Ext W Lw S τ Lw' S' τ') (hW : blW S W) : ∀ {k r : Nat} {F : WF}, CVal Lw S k r F → CVal Lw' S' k r F
  | 0, _, _, h => h.elim
  | k + 1, r, F, h => by
    have e : ∀ c : Int, vc_ob Lw S r c → (7 ≤ c ∧ c ≤ 13) → (9 ≤ c → S r 0 = 0 → False) → vc_ob Lw' S' r c ∧ ∀ i, S' r i = S r i := fun c hc hk hz => by
      have hn : ∀ i, ¬ W r i := fun i z => by
        have := hW r i (by rw [hc.2]; omega) (by rw [hc.2]; omega) z
        rw [hc.2] at this
        exact hz this.1 this.2
      exact ⟨hE.ob2 hc (hn _), fun i => hE.2.1 r i hc.1 (hn i)⟩
    rcases h with ⟨h1, h2, h3⟩ | ⟨h1, h2, h3⟩ | ⟨h1, F1, F2, s, h2, h3, h4, h5⟩
    · obtain ⟨ob, e⟩ := e 7 h1 (by omega) (fun z => absurd z (by decide))
      exact Or.inl ⟨ob, by rw [e]; exact h2, by rw [e]; exact h3⟩
    · obtain ⟨ob, e⟩ := e 8 h1 (by omega) (fun z => absurd z (by decide))
      exact Or.inr (Or.inl ⟨ob, by rw [e]; exact h2, by rw [e]; exact h3⟩)
    · obtain ⟨ob, e⟩ := e 9 h1 (by omega) (fun _ z => by rw [z] at h2; exact CVal.nz0 h2)
      exact Or.inr (Or.inr ⟨ob, F1, F2, s, by rw [e]; exact CVal.keep hE hW h2, by rw [e]; exact CVal.keep hE hW h3, by rw [e]; exact h4, h5⟩)
theorem CCon.keep (hE : Ext W Lw S τ Lw' S' τ') (hW : blW S W) : ∀ {k r : Nat} {F : WF}, CCon Lw S k r F → CCon Lw' S' k r F
  | 0, _, _, h => h.elim
  | k + 1, r, F, h => by
    have e : ∀ c : Int, vc_ob Lw S r c → (7 ≤ c ∧ c ≤ 13) → (9 ≤ c → S r 0 = 0 → False) → vc_ob Lw' S' r c ∧ ∀ i, S' r i = S r i := fun c hc hk hz => by
      have hn : ∀ i, ¬ W r i := fun i z => by
        have := hW r i (by rw [hc.2]; omega) (by rw [hc.2]; omega) z
        rw [hc.2] at this
        exact hz this.1 this.2
      exact ⟨hE.ob2 hc (hn _), fun i => hE.2.1 r i hc.1 (hn i)⟩
    rcases h with ⟨h1, G1, h2, h3⟩ | ⟨h1, F1, F2, s, h2, h3, h4, h5⟩ | ⟨h1, G1, G2, h2, h3, h4⟩
    · obtain ⟨ob, e⟩ := e 11 h1 (by omega) (fun _ z => by rw [z] at h2; exact h2.nz rfl)
      exact Or.inl ⟨ob, G1, by rw [e]; exact CCon.keep hE hW h2, h3⟩
    · obtain ⟨ob, e⟩ := e 12 h1 (by omega) (fun _ z => by rw [z] at h2; exact CVal.nz0 h2)
      exact Or.inr (Or.inl ⟨ob, F1, F2, s, by rw [e]; exact CVal.keep hE hW h2, by rw [e]; exact CVal.keep hE hW h3, by rw [e, e]; exact h4, h5⟩)
    · obtain ⟨ob, e⟩ := e 13 h1 (by omega) (fun _ z => by rw [z] at h2; exact h2.nz rfl)
      exact Or.inr (Or.inr ⟨ob, G1, G2, by rw [e]; exact CCon.keep hE hW h2, by rw [e]; exact CCon.keep hE hW h3, by rw [e]; exact h4⟩)
theorem CVal.up : ∀ {k m r : Nat} {F : WF}, k ≤ m → CVal Lw S k r F → CVal Lw S m r F
  | 0, _, _, _, _, h => h.elim
  | k + 1, 0, _, _, hm, _ => absurd hm (Nat.not_succ_le_zero _)
  | k + 1, m + 1, r, F, hm, h => by
    rcases h with h | h | ⟨h1, F1, F2, s, h2, h3, h4, h5⟩
    · exact Or.inl h
    · exact Or.inr (Or.inl h)
    · exact Or.inr (Or.inr ⟨h1, F1, F2, s, CVal.up (Nat.le_of_succ_le_succ hm) h2, CVal.up (Nat.le_of_succ_le_succ hm) h3, h4, h5⟩)
theorem CCon.up : ∀ {k m r : Nat} {F : WF}, k ≤ m → CCon Lw S k r F → CCon Lw S m r F
  | 0, _, _, _, _, h => h.elim
  | k + 1, 0, _, _, hm, _ => absurd hm (Nat.not_succ_le_zero _)
  | k + 1, m + 1, r, F, hm, h => by
    have hm := Nat.le_of_succ_le_succ hm
    rcases h with ⟨h1, G1, h2, h3⟩ | ⟨h1, F1, F2, s, h2, h3, h4, h5⟩ | ⟨h1, G1, G2, h2, h3, h4⟩
    · exact Or.inl ⟨h1, G1, h2.up hm, h3⟩
    · exact Or.inr (Or.inl ⟨h1, F1, F2, s, h2.up hm, h3.up hm, h4, h5⟩)
    · exact Or.inr (Or.inr ⟨h1, G1, G2, h2.up hm, h3.up hm, h4⟩)
theorem PSt.tW {dp cl mo : Int} (h : PSt Lw S pr o tp n a cn dp cl mo) : blW S (prW pr (S o 7).toNat) := by
  intro q i h1 h2 z
  have g1 := h.1.1.2
  have g2 := h.1.2.2.2.2.2.2.2.2.2.2
  rcases z with ⟨rfl, -⟩ | ⟨rfl, -⟩ <;> omega
/-- a cell beside the parser stays in a reading -/
theorem PSt.cell {dp cl mo : Int} {r : Nat} {c : Int} (h : PSt Lw S pr o tp n a cn dp cl mo) (hE : Ext (prW pr (S o 7).toNat) Lw S τ Lw' S' τ') (hr : vc_ob Lw S r c) (hc : c ≠ 3 ∧ c ≠ 1) : vc_ob Lw' S' r c ∧ ∀ i, S' r i = S r i := by
  have n1 : r ≠ pr := ob_ne hr h.1.1 hc.1
  have n2 : r ≠ (S o 7).toNat := ob_ne hr h.1.2.2.2.2.2.2.2.2.2 hc.2
  have hn : ∀ i, ¬ prW pr (S o 7).toNat r i := fun i z => by
    rcases z with ⟨z, -⟩ | ⟨z, -⟩
    · exact n1 z
    · exact n2 z
  exact ⟨hE.ob2 hr (hn _), fun i => hE.2.1 r i hr.1 (hn i)⟩
end CPI
