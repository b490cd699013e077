/-! THE COMPONENT: worlds that grow -/
set_option maxRecDepth 100000
def isO (Lw : List Nat) (r : Nat) : Prop := ∃ a, r = a + 1 ∧ a ∈ Lw
/-- the world has grown; what was there is as it was but for places W -/
def Ext (W : Nat → Int → Prop) (Lw : List Nat) (S0 : SS) (τ : Nat → Nat) (Lw' : List Nat) (S : SS) (τ' : Nat → Nat) : Prop := (∀ a ∈ Lw, a ∈ Lw') ∧ (∀ r i, isO Lw r → ¬ W r i → S r i = S0 r i) ∧ ∀ r, isO Lw r → τ' r = τ r
theorem Ag.ext {W : Nat → Int → Prop} {Lw : List Nat} {S0 S : SS} {τ : Nat → Nat} (h : Ag W S0 S) : Ext W Lw S0 τ Lw S τ := ⟨fun _ h => h, fun r i _ hn => h r i hn, fun _ _ => rfl⟩
theorem Ext.mono {W W' : Nat → Int → Prop} {Lw Lw' : List Nat} {S0 S : SS} {τ τ' : Nat → Nat} (h : Ext W Lw S0 τ Lw' S τ') (hw : ∀ r i, isO Lw r → W r i → W' r i) : Ext W' Lw S0 τ Lw' S τ' := ⟨h.1, fun r i hr hn => h.2.1 r i hr (fun z => hn (hw r i hr z)), h.2.2⟩
theorem Ext.tr {W W1 : Nat → Int → Prop} {Lw Lw1 Lw2 : List Nat} {S0 S1 S2 : SS} {τ τ1 τ2 : Nat → Nat} (h : Ext W Lw S0 τ Lw1 S1 τ1) (h2 : Ext W1 Lw1 S1 τ1 Lw2 S2 τ2) (hw : ∀ r i, isO Lw r → W1 r i → W r i) : Ext W Lw S0 τ Lw2 S2 τ2 := by
  have up : ∀ r, isO Lw r → isO Lw1 r := fun r ⟨a, ha, hb⟩ => ⟨a, ha, h.1 a hb⟩
  exact ⟨fun a ha => h2.1 a (h.1 a ha), fun r i hr hn => (h2.2.1 r i (up r hr) (fun z => hn (hw r i hr z))).trans (h.2.1 r i hr hn), fun r hr => (h2.2.2 r (up r hr)).trans (h.2.2 r hr)⟩
/-- what an operation may write of what was there -/
def eW (S0 : SS) (o : Nat) (τ : Nat → Nat) (r : Nat) (i : Int) : Prop := pW S0 o τ r i ∨ (r = o ∧ (i = 0 ∨ i = 1 ∨ i = 10 ∨ i = 11))
/-- scratch, and the search's arrays made -/
def bW (S0 : SS) (o : Nat) (τ : Nat → Nat) (r : Nat) (i : Int) : Prop := scW S0 o τ r i ∨ (r = o ∧ (i = 10 ∨ i = 11))
theorem bW.e {S0 : SS} {o : Nat} {τ : Nat → Nat} {r : Nat} {i : Int} (h : bW S0 o τ r i) : eW S0 o τ r i := by
  rcases h with h | ⟨h1, h2⟩
  · exact Or.inl h.q
  · exact Or.inr ⟨h1, by omega⟩
section EXS
variable {Lw Lw' : List Nat} {S0 S : SS} {B : SB} {d o : Nat} {τ τ' : Nat → Nat} {f : Int → Int} {wr gr : Int → Nat} {lt : Int → Int} {K : Int}
theorem Ext.e (h : Ext (bW S0 o τ) Lw S0 τ Lw' S τ') : Ext (eW S0 o τ) Lw S0 τ Lw' S τ' := h.mono (fun _ _ _ z => z.e)
theorem eW.neg {r : Nat} {i : Int} (hi : i < 0) : ¬ eW S0 o τ r i := by
  rintro (z | ⟨-, z⟩)
  · exact pW.neg hi z
  · omega
theorem eW.k {r : Nat} {c : Int} (h0 : S0 o (-2) = 0) (h : S0 r (-2) = c) (hc : c = 1 ∨ c = 3 ∨ (6 ≤ c ∧ c ≤ 99) ∨ 102 ≤ c) {i : Int} : ¬ eW S0 o τ r i := by
  rintro (z | ⟨z, -⟩)
  · exact pW.k h0 h hc z
  · subst z; omega
theorem eW.ob0 (h : S0 o (-2) = 0) {i : Int} (hf : scF i = false) (h2 : 5 < i ∧ i ≠ 9 ∧ i ≠ 29 ∧ i ≠ 10 ∧ i ≠ 11) : ¬ eW S0 o τ o i := by
  rintro (z | ⟨-, z⟩)
  · exact pW.ob0 h hf (by omega) z
  · omega
theorem Ext.ob (h : Ext (eW S0 o τ) Lw S0 τ Lw' S τ') {r : Nat} {c : Int} (hr : vc_ob Lw S0 r c) : vc_ob Lw' S r c := by
  obtain ⟨⟨a, ha, hb⟩, hc⟩ := hr
  exact ⟨⟨a, ha, h.1 a hb⟩, (h.2.1 r (-2) ⟨a, ha, hb⟩ (eW.neg (by decide))).trans hc⟩
theorem Ext.ln (h : Ext (eW S0 o τ) Lw S0 τ Lw' S τ') {r : Nat} (hr : isO Lw r) : S r (-1) = S0 r (-1) := h.2.1 r (-1) hr (eW.neg (by decide))
theorem Ext.li (h : Ext (eW S0 o τ) Lw S0 τ Lw' S τ') (h0 : S0 o (-2) = 0) {r : Nat} {n : Int} {g : Int → Nat} (hr : vc_li Lw S0 r n g) : vc_li Lw' S r n g := by
  obtain ⟨h1, h2, h3, h4, h5⟩ := hr
  have e1 : S r 1 = S0 r 1 := h.2.1 r 1 h1.1 (eW.k h0 h1.2 (by omega))
  have e2 : S r 2 = S0 r 2 := h.2.1 r 2 h1.1 (eW.k h0 h1.2 (by omega))
  refine ⟨h.ob h1, by rw [e2]; exact h2, by rw [e1]; exact h.ob h3, by rw [e1, h.ln h3.1]; exact h4, fun i i0 i1 => ?_⟩
  rw [e1, h.2.1 _ i h3.1 (eW.k h0 h3.2 (by omega))]
  exact h5 i i0 i1
theorem CAr.ext {k : Nat} {c len : Int} (h : CAr Lw S0 o τ k c len) (hE : Ext (eW S0 o τ) Lw S0 τ Lw' S τ') (hk : S o (k : Int) = S0 o (k : Int)) : CAr Lw' S o τ' k c len := by
  unfold CAr
  rw [hk, hE.ln h.1.1, hE.2.2 _ h.1.1]
  exact ⟨hE.ob h.1, h.2⟩
theorem CAk.ext {r k b : Nat} {len : Int} (h : CAk Lw S0 r τ k b len) (hE : Ext (eW S0 o τ) Lw S0 τ Lw' S τ') (hk : S r (k : Int) = S0 r (k : Int)) : CAk Lw' S r τ' k b len := by
  unfold CAk
  rw [hk, hE.ln h.1.1, hE.2.2 _ h.1.1]
  exact ⟨hE.ob h.1, h.2⟩
theorem eW.k2 {r : Nat} (h0 : S0 o (-2) = 0) (hr : S0 r (-2) = 2) {i : Int} (hi : i < 7 ∨ 10 < i) : ¬ eW S0 o τ r i := by
  rintro (((⟨z, -⟩ | ⟨z, -⟩ | ⟨-, z, -⟩) | ⟨z, -⟩ | ⟨z, -⟩ | ⟨z, -⟩ | ⟨z, -⟩ | ⟨z, -⟩) | ⟨z, -⟩)
  · subst z; omega
  · omega
  · omega
  · subst z; omega
  · omega
  · omega
  · omega
  · omega
  · subst z; omega
theorem CKp.ext {r b : Nat} (h0 : S0 o (-2) = 0) (h : CKp Lw S0 r o τ b) (hE : Ext (eW S0 o τ) Lw S0 τ Lw' S τ') : CKp Lw' S r o τ' b := by
  obtain ⟨h1, ⟨a0, a1, a2, a3, a4, a5, a6⟩, h3⟩ := h
  have e : ∀ i : Int, i < 7 ∨ 10 < i → S r i = S0 r i := fun i hi => hE.2.1 r i h1.1 (eW.k2 h0 h1.2 hi)
  exact ⟨hE.ob h1, ⟨a0.ext hE (e _ (by decide)), a1.ext hE (e _ (by decide)), a2.ext hE (e _ (by decide)), a3.ext hE (e _ (by decide)), a4.ext hE (e _ (by decide)), a5.ext hE (e _ (by decide)), a6.ext hE (e _ (by decide))⟩, by rw [e 11 (by decide)]; exact h3⟩
theorem CSh.ext (h : CSh Lw S0 o τ) (hE : Ext (eW S0 o τ) Lw S0 τ Lw' S τ') (hs : (S o 10 = 0 ∧ S o 11 = 0) ∨ (CAr Lw' S o τ' 10 100 1048576 ∧ CAr Lw' S o τ' 11 100 1048576)) : CSh Lw' S o τ' := by
  obtain ⟨h1, ⟨a1, a2, a3, a4, a5, a6, a7, a8, a9, a10, a11, a12⟩, h3, h4⟩ := h
  have k0 := h1.2
  have e : ∀ i : Int, scF i = false → (5 < i ∧ i ≠ 9 ∧ i ≠ 29 ∧ i ≠ 10 ∧ i ≠ 11) → S o i = S0 o i := fun i hf hi => hE.2.1 o i h1.1 (eW.ob0 k0 hf hi)
  refine ⟨hE.ob h1, ⟨a1.ext hE (e _ rfl (by decide)), a2.ext hE (e _ rfl (by decide)), a3.ext hE (e _ rfl (by decide)), a4.ext hE (e _ rfl (by decide)), a5.ext hE (e _ rfl (by decide)), a6.ext hE (e _ rfl (by decide)), a7.ext hE (e _ rfl (by decide)), a8.ext hE (e _ rfl (by decide)), a9.ext hE (e _ rfl (by decide)), a10.ext hE (e _ rfl (by decide)), a11.ext hE (e _ rfl (by decide)), a12.ext hE (e _ rfl (by decide))⟩, ?_, hs⟩
  rw [e 32 rfl (by decide)]
  exact h3.ext k0 hE
theorem CLd.same {S' : SS} (h : CLd Lw S o f wr gr lt) (hL : ∀ a ∈ Lw, a ∈ Lw') (e : ∀ q c, vc_ob Lw S q c → c = 4 ∨ c = 5 ∨ c = 15 ∨ c = 103 → ∀ i, S' q i = S q i) (eo : ∀ i : Int, i = -2 ∨ i = 0 ∨ i = 1 ∨ i = 2 ∨ i = 3 ∨ i = 4 ∨ i = 5 ∨ i = 29 → S' o i = S o i) : CLd Lw' S' o f wr gr lt := by
  obtain ⟨h1, h2, h3, h4, h5, h6, h7, h8, h9, h10⟩ := h
  have up : ∀ q c, vc_ob Lw S q c → c = 4 ∨ c = 5 ∨ c = 15 ∨ c = 103 → vc_ob Lw' S' q c := fun q c ⟨⟨a, ha, hb⟩, hc⟩ hk => ⟨⟨a, ha, hL a hb⟩, by rw [e q c ⟨⟨a, ha, hb⟩, hc⟩ hk]; exact hc⟩
  have li : ∀ r n g, vc_li Lw S r n g → vc_li Lw' S' r n g := by
    rintro r n g ⟨l1, l2, l3, l4, l5⟩
    have e1 := e r 15 l1 (by omega)
    have e2 := e _ 103 l3 (by omega)
    refine ⟨up _ _ l1 (by omega), by rw [e1]; exact l2, by rw [e1]; exact up _ _ l3 (by omega), by rw [e1, e2]; exact l4, fun i i0 i1 => by rw [e1, e2]; exact l5 i i0 i1⟩
  refine ⟨?_, ?_, ?_, fun w w0 w1 => ?_, fun g g0 g1 => ?_, ?_, ?_, ?_, ?_, ?_⟩
  · obtain ⟨⟨a, ha, hb⟩, hc⟩ := h1
    exact ⟨⟨a, ha, hL a hb⟩, by rw [eo _ (by omega)]; exact hc⟩
  · rw [eo 0 (by omega)]; exact li _ _ _ h2
  · rw [eo 1 (by omega)]; exact li _ _ _ h3
  · obtain ⟨a0, a1⟩ := h4 w w0 w1
    have ev := e _ 4 a0 (by omega)
    unfold CW
    rw [ev, ev, ev, ev, ev, ev]
    exact ⟨up _ _ a0 (by omega), a1⟩
  · obtain ⟨a0, a1⟩ := h5 g g0 g1
    have ev := e _ 5 a0 (by omega)
    unfold CG
    rw [ev, ev, ev, ev, ev, ev, ev, ev]
    exact ⟨up _ _ a0 (by omega), a1⟩
  · rw [eo 2 (by omega)]; exact h6
  · rw [eo 3 (by omega)]; exact h7
  · rw [eo 4 (by omega)]; exact h8
  · rw [eo 5 (by omega)]; exact h9
  · rw [eo 29 (by omega)]; exact h10
theorem CLd.ext (h : CLd Lw S0 o f wr gr lt) (hE : Ext (bW S0 o τ) Lw S0 τ Lw' S τ') : CLd Lw' S o f wr gr lt := by
  have k0 := h.1.2
  refine h.same hE.1 (fun q c hq hc i => hE.2.1 q i hq.1 ?_) (fun i hi => hE.2.1 o i h.1.1 ?_)
  · rintro (z | ⟨z, -⟩)
    · exact scW.k k0 hq.2 (by omega) z
    · subst z; have := hq.2; omega
  · rintro (z | ⟨-, z⟩)
    · refine scW.ob0 k0 ?_ z
      rcases hi with rfl | rfl | rfl | rfl | rfl | rfl | rfl | rfl <;> rfl
    · omega
theorem scW.up (hE : Ext (bW S0 o τ) Lw S0 τ Lw' S τ') (h0 : vc_ob Lw S0 o 0) {r : Nat} {i : Int} (hr : isO Lw r) (h : scW S o τ' r i) : bW S0 o τ r i := by
  have e2 : S r (-2) = S0 r (-2) := hE.e.2.1 r (-2) hr (eW.neg (by decide))
  have e32 : S o 32 = S0 o 32 := hE.2.1 o 32 h0.1 (by
    rintro (z | ⟨-, z⟩)
    · exact scW.ob0 h0.2 rfl z
    · omega)
  left
  rcases h with ⟨h1, h2⟩ | ⟨h1, h2, h3⟩ | ⟨h1, h2, h3⟩
  · exact Or.inl ⟨h1, h2⟩
  · exact Or.inr (Or.inl ⟨by omega, by rw [← hE.2.2 r hr]; exact h2, h3⟩)
  · exact Or.inr (Or.inr ⟨by omega, h2, by rw [h3, e32]⟩)
theorem Ext.ag {S2 : SS} (hE : Ext (bW S0 o τ) Lw S0 τ Lw' S τ') (h0 : vc_ob Lw S0 o 0) (hA : Ag (scW S o τ') S S2) : Ext (bW S0 o τ) Lw S0 τ Lw' S2 τ' := hE.tr hA.ext (fun _ _ hr z => scW.up hE h0 hr z)
end EXS
