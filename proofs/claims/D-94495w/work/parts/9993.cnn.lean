/-! THE COMPONENT's methods: image and back -/
set_option maxRecDepth 100000
/-- what may be written beside an image -/
def ImSf (W : Nat → Int → Prop) (S : SS) (τ : Nat → Nat) (b ir kr : Nat) : Prop := (∀ r i, i < 0 → ¬ W r i) ∧ (∀ i, ¬ W ir i) ∧ (∀ i, ¬ W kr i) ∧ (∀ r i, S r (-2) = 100 → b ≤ τ r → τ r ≤ b + 9 → ¬ W r i) ∧ (∀ r i, S r (-2) = 15 → τ r = 42 → ¬ W r i) ∧ (∀ r i, S r (-2) = 103 → τ r = 43 → ¬ W r i) ∧ (∀ r i, S r (-2) = 4 → i < 3 → ¬ W r i) ∧ ∀ r i, S r (-2) = 5 → i < 2 ∨ i = 7 → ¬ W r i
def CIms (Lw : List Nat) (S : SS) (o : Nat) (τ : Nat → Nat) (fi : Int → Int → Int) (mk : Int → Int) : Prop := vc_ob Lw S (S o 33).toNat 104 ∧ S (S o 33).toNat (-1) = 4 ∧ ∀ k, 0 ≤ k → k ≤ 3 → (mk k = 0 ∧ S (S o 33).toNat k = 0) ∨ (mk k = 1 ∧ ∃ wr gr, ImN Lw S o τ (100 + 20 * k.toNat) (S (S o 33).toNat k).toNat ∧ ImC Lw S τ (S (S o 33).toNat k).toNat (fi k) wr gr ∧ CIj (fi k) wr gr)
section CNN
variable {W : Nat → Int → Prop} {Lw Lw' : List Nat} {S0 S : SS} {B : SB} {d o D kr ir b : Nat} {τ τ' : Nat → Nat} {f F l : Int → Int} {wr gr rr : Int → Nat} {lt : Int → Int} {K c n : Int} {fi : Int → Int → Int} {mk : Int → Int}
theorem Ext.liG {r : Nat} {n : Int} {g : Int → Nat} (hE : Ext W Lw S0 τ Lw' S τ') (h : vc_li Lw S0 r n g) (hn : ∀ q i, i < 0 → ¬ W q i) (h1 : ∀ i, ¬ W r i) (h2 : ∀ i, ¬ W (S0 r 1).toNat i) : vc_li Lw' S r n g := by
  obtain ⟨q1, q2, q3, q4, q5⟩ := h
  have e1 : ∀ i, S r i = S0 r i := fun i => hE.2.1 r i q1.1 (h1 i)
  have e2 : ∀ i, S (S0 r 1).toNat i = S0 (S0 r 1).toNat i := fun i => hE.2.1 _ i q3.1 (h2 i)
  refine ⟨hE.ob2 q1 (hn _ _ (by decide)), by rw [e1]; exact q2, by rw [e1]; exact hE.ob2 q3 (hn _ _ (by decide)), by rw [e1, e2]; exact q4, fun i i0 i1 => ?_⟩
  rw [e1, e2]
  exact q5 i i0 i1
theorem CKp.extG (h : CKp Lw S0 kr o τ b) (hE : Ext W Lw S0 τ Lw' S τ') (hn : ∀ q i, i < 0 → ¬ W q i) (h1 : ∀ i, i ≤ 6 ∨ i = 11 → ¬ W kr i) : CKp Lw' S kr o τ' b := by
  obtain ⟨q1, ⟨a0, a1, a2, a3, a4, a5, a6⟩, h11⟩ := h
  have e : ∀ i, i ≤ 6 ∨ i = 11 → S kr i = S0 kr i := fun i hi => hE.2.1 kr i q1.1 (h1 i hi)
  exact ⟨hE.ob2 q1 (hn _ _ (by decide)), ⟨a0.ext2 hE (e _ (by decide)) (hn _), a1.ext2 hE (e _ (by decide)) (hn _), a2.ext2 hE (e _ (by decide)) (hn _), a3.ext2 hE (e _ (by decide)) (hn _), a4.ext2 hE (e _ (by decide)) (hn _), a5.ext2 hE (e _ (by decide)) (hn _), a6.ext2 hE (e _ (by decide)) (hn _)⟩, by rw [e 11 (by decide)]; exact h11⟩
theorem ImN.ext (h : ImN Lw S0 o τ b ir) (hE : Ext W Lw S0 τ Lw' S τ') (hs : ImSf W S0 τ b ir (S0 ir 0).toNat) : ImN Lw' S o τ' b ir := by
  obtain ⟨h1, h2, h3, h4, h5⟩ := h
  obtain ⟨s1, s2, s3, -⟩ := hs
  have e : ∀ i, S ir i = S0 ir i := fun i => hE.2.1 ir i h1.1 (s2 i)
  refine ⟨hE.ob2 h1 (s2 _), by rw [e]; exact h2, ?_, h4.ext2 hE (e _) (s1 _), h5.ext2 hE (e _) (s1 _)⟩
  rw [e]
  exact h3.extG hE s1 (fun i _ => s3 i)
theorem ImC.ext (h : ImC Lw S0 τ ir f wr gr) (hN : ImN Lw S0 o τ b ir) (hE : Ext W Lw S0 τ Lw' S τ') (hs : ImSf W S0 τ b ir (S0 ir 0).toNat) : ImC Lw' S τ' ir f wr gr := by
  obtain ⟨n1, n2, n3, n4, n5⟩ := hN
  obtain ⟨s1, s2, s3, s4, s5, s6, s7, s8⟩ := hs
  obtain ⟨m1, m2, m3, ⟨⟨m4, m4'⟩, m4b, m4b'⟩, m5, m6, m7, m8, m9⟩ := h
  have e : ∀ i, S ir i = S0 ir i := fun i => hE.2.1 ir i n1.1 (s2 i)
  have n4' : vc_ob Lw S0 (S0 ir 1).toNat 100 := n4.1
  have n5' : vc_ob Lw S0 (S0 ir 2).toNat 100 := n5.1
  have t1 : τ (S0 ir 1).toNat = b + 7 + 1 := n4.2.2
  have t2 : τ (S0 ir 2).toNat = b + 7 + 2 := n5.2.2
  have l3 := m2.1
  have l4 := m3.1
  have e3 : ∀ i, S (S0 ir 3).toNat i = S0 (S0 ir 3).toNat i := fun i => hE.2.1 _ i l3.1 (s5 _ i l3.2 m4)
  have e4 : ∀ i, S (S0 ir 4).toNat i = S0 (S0 ir 4).toNat i := fun i => hE.2.1 _ i l4.1 (s5 _ i l4.2 m4b)
  unfold ImC
  rw [e, e, e, e, e, e, e]
  refine ⟨?_, ?_, ?_, ⟨⟨?_, ?_⟩, ?_, ?_⟩, fun w w0 w1 => ?_, fun g g0 g1 => ?_, m7, m8, fun k k0 k1 => ?_⟩
  · refine m1.cong (fun i => hE.2.1 _ i n3.1.1 (s3 i)) (fun j i hj hi => ?_)
    obtain ⟨x1, x2⟩ := n3.ak hj
    exact hE.2.1 _ i x1.1 (s4 _ i x1.2 (by omega) (by omega))
  · exact hE.liG m2 s1 (fun i => s5 _ i l3.2 m4) (fun i => s6 _ i m2.2.2.1.2 m4')
  · exact hE.liG m3 s1 (fun i => s5 _ i l4.2 m4b) (fun i => s6 _ i m3.2.2.1.2 m4b')
  · rw [hE.2.2 _ l3.1]; exact m4
  · rw [e3, hE.2.2 _ m2.2.2.1.1]; exact m4'
  · rw [hE.2.2 _ l4.1]; exact m4b
  · rw [e4, hE.2.2 _ m3.2.2.1.1]; exact m4b'
  · obtain ⟨q1, q2⟩ := m5 w w0 w1
    have ew : ∀ i, i < 3 → S (wr w) i = S0 (wr w) i := fun i hi => hE.2.1 _ i q1.1 (s7 _ i q1.2 hi)
    rw [ew 0 (by decide), ew 1 (by decide), ew 2 (by decide)]
    exact ⟨hE.ob2 q1 (s1 _ _ (by decide)), q2⟩
  · obtain ⟨q1, q2⟩ := m6 g g0 g1
    have ew : ∀ i, i < 2 ∨ i = 7 → S (gr g) i = S0 (gr g) i := fun i hi => hE.2.1 _ i q1.1 (s8 _ i q1.2 hi)
    rw [ew 0 (by decide), ew 1 (by decide), ew 7 (by decide)]
    exact ⟨hE.ob2 q1 (s1 _ _ (by decide)), q2⟩
  · rw [hE.2.1 _ k n4'.1 (s4 _ k n4'.2 (by omega) (by omega)), hE.2.1 _ k n5'.1 (s4 _ k n5'.2 (by omega) (by omega))]
    exact m9 k k0 k1
/-- all images stay -/
theorem CIms.ext (h : CIms Lw S0 o τ fi mk) (hE : Ext W Lw S0 τ Lw' S τ') (h33 : S o 33 = S0 o 33) (hv : ∀ i, ¬ W (S0 o 33).toNat i) (hs : ∀ k, 0 ≤ k → k ≤ 3 → mk k = 1 → ImN Lw S0 o τ (100 + 20 * k.toNat) (S0 (S0 o 33).toNat k).toNat → ImSf W S0 τ (100 + 20 * k.toNat) (S0 (S0 o 33).toNat k).toNat (S0 (S0 (S0 o 33).toNat k).toNat 0).toNat) : CIms Lw' S o τ' fi mk := by
  obtain ⟨h1, h2, h3⟩ := h
  have e : ∀ i, S (S0 o 33).toNat i = S0 (S0 o 33).toNat i := fun i => hE.2.1 _ i h1.1 (hv i)
  unfold CIms
  rw [h33, e]
  refine ⟨hE.ob2 h1 (hv _), h2, fun k k0 k1 => ?_⟩
  rw [e]
  rcases h3 k k0 k1 with h | ⟨hm, wr, gr, x1, x2, x3⟩
  · exact Or.inl h
  · exact Or.inr ⟨hm, wr, gr, x1.ext hE (hs k k0 k1 hm x1), x2.ext x1 hE (hs k k0 k1 hm x1), x3⟩
end CNN
