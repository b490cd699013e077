/-! THE COMPONENT: what an operation may write -/
set_option maxRecDepth 100000
theorem up_rd {S : SS} {r r' : Nat} {i i' v : Int} : vt_up S r i v r' i' = if r' = r ∧ i' = i then v else S r' i' := by
  by_cases c : r' = r
  · subst c
    by_cases c2 : i' = i
    · subst c2; rw [vt_up_self, if_pos ⟨rfl, rfl⟩]
    · rw [vt_up_off c2, if_neg (fun z => c2 z.2)]
  · rw [vt_up_ne c, if_neg (fun z => c z.1)]
theorem up_ne {S : SS} {r r' : Nat} {i i' v : Int} (h : r' ≠ r ∨ i' ≠ i) : vt_up S r i v r' i' = S r' i' := by
  rw [up_rd, if_neg (fun z => h.elim (fun q => q z.1) (fun q => q z.2))]
/-- S is S0 but for places W -/
def Ag (W : Nat → Int → Prop) (S0 S : SS) : Prop := ∀ r i, ¬ W r i → S r i = S0 r i
theorem Ag.rf {W : Nat → Int → Prop} {S : SS} : Ag W S S := fun _ _ _ => rfl
theorem Ag.up {W : Nat → Int → Prop} {S0 S : SS} {r : Nat} {i v : Int} (h : Ag W S0 S) (hw : W r i) : Ag W S0 (vt_up S r i v) := by
  intro r' i' hn
  rw [up_ne, h r' i' hn]
  by_cases c : r' = r
  · subst c
    right
    rintro rfl
    exact hn hw
  · exact Or.inl c
theorem Ag.tr {W : Nat → Int → Prop} {S0 S1 S2 : SS} (h : Ag W S0 S1) (h2 : Ag W S1 S2) : Ag W S0 S2 := fun r i hn => (h2 r i hn).trans (h r i hn)
theorem Ag.mono {W W' : Nat → Int → Prop} {S0 S1 : SS} (h : Ag W S0 S1) (hw : ∀ r i, W r i → W' r i) : Ag W' S0 S1 := fun r i hn => h r i (fun z => hn (hw r i z))
def scF (i : Int) : Bool := [13, 14, 15, 19, 20, 21, 22, 30].contains i
def scL (l : Nat) : Bool := [10, 11, 12, 16, 17, 18, 24, 27, 28, 60, 61, 62, 63, 64, 65, 66].contains l
/-- scratch: what no answer rests on between calls -/
def scW (S0 : SS) (o : Nat) (τ : Nat → Nat) (r : Nat) (i : Int) : Prop := (r = o ∧ scF i = true) ∨ (S0 r (-2) = 100 ∧ scL (τ r) = true ∧ 0 ≤ i) ∨ (S0 r (-2) = 2 ∧ (7 ≤ i ∧ i ≤ 10) ∧ r = (S0 o 32).toNat)
/-- scratch, what changes of the land, the row, the tape -/
def pW (S0 : SS) (o : Nat) (τ : Nat → Nat) (r : Nat) (i : Int) : Prop := scW S0 o τ r i ∨ (r = o ∧ ((2 ≤ i ∧ i ≤ 5) ∨ i = 9 ∨ i = 29)) ∨ (S0 r (-2) = 4 ∧ 3 ≤ i ∧ i ≤ 5) ∨ (S0 r (-2) = 5 ∧ 2 ≤ i ∧ i ≤ 7) ∨ (S0 r (-2) = 100 ∧ (τ r = 25 ∨ τ r = 26) ∧ 0 ≤ i) ∨ (S0 r (-2) = 101 ∧ 0 ≤ i)
/-- scratch, and what changes of the land -/
def qW (S0 : SS) (o : Nat) (τ : Nat → Nat) (r : Nat) (i : Int) : Prop := scW S0 o τ r i ∨ (r = o ∧ 2 ≤ i ∧ i ≤ 5) ∨ (S0 r (-2) = 4 ∧ 3 ≤ i ∧ i ≤ 5) ∨ (S0 r (-2) = 5 ∧ 2 ≤ i ∧ i ≤ 6)
def CAr (Lw : List Nat) (S : SS) (o : Nat) (τ : Nat → Nat) (k : Nat) (c len : Int) : Prop := vc_ob Lw S (S o (k : Int)).toNat c ∧ S (S o (k : Int)).toNat (-1) = len ∧ τ (S o (k : Int)).toNat = k
def CAk (Lw : List Nat) (S : SS) (r : Nat) (τ : Nat → Nat) (k b : Nat) (len : Int) : Prop := vc_ob Lw S (S r (k : Int)).toNat 100 ∧ S (S r (k : Int)).toNat (-1) = len ∧ τ (S r (k : Int)).toNat = b + k
def CKp (Lw : List Nat) (S : SS) (r o : Nat) (τ : Nat → Nat) (b : Nat) : Prop := vc_ob Lw S r 2 ∧ (CAk Lw S r τ 0 b 6 ∧ CAk Lw S r τ 1 b 6 ∧ CAk Lw S r τ 2 b 6 ∧ CAk Lw S r τ 3 b 6 ∧ CAk Lw S r τ 4 b 6 ∧ CAk Lw S r τ 5 b 14 ∧ CAk Lw S r τ 6 b 14) ∧ S r 11 = (o : Int)
/-- the object's own arrays -/
def CSh (Lw : List Nat) (S : SS) (o : Nat) (τ : Nat → Nat) : Prop := vc_ob Lw S o 0 ∧
  (CAr Lw S o τ 12 100 6 ∧ CAr Lw S o τ 16 100 8 ∧ CAr Lw S o τ 17 100 8 ∧ CAr Lw S o τ 18 100 14 ∧ CAr Lw S o τ 24 100 2001 ∧ CAr Lw S o τ 25 100 40 ∧ CAr Lw S o τ 26 100 40 ∧ CAr Lw S o τ 27 100 6 ∧ CAr Lw S o τ 28 100 6 ∧ CAr Lw S o τ 8 101 400 ∧ CAr Lw S o τ 23 102 2001 ∧ CAr Lw S o τ 31 102 12) ∧
  CKp Lw S (S o 32).toNat o τ 60 ∧ ((S o 10 = 0 ∧ S o 11 = 0) ∨ (CAr Lw S o τ 10 100 1048576 ∧ CAr Lw S o τ 11 100 1048576))
section AGS
variable {Lw : List Nat} {S0 S : SS} {B : SB} {d o : Nat} {τ : Nat → Nat} {f : Int → Int} {wr gr : Int → Nat} {lt : Int → Int} {K : Int}
theorem pW.ob0 (h : S0 o (-2) = 0) {i : Int} (hf : scF i = false) (h2 : i < 2 ∨ (5 < i ∧ i ≠ 9 ∧ i ≠ 29)) : ¬ pW S0 o τ o i := by
  rintro ((⟨-, z⟩ | ⟨z, -⟩ | ⟨z, -⟩) | ⟨-, z⟩ | ⟨z, -⟩ | ⟨z, -⟩ | ⟨z, -⟩ | ⟨z, -⟩)
  · rw [hf] at z; cases z
  all_goals omega
theorem scW.ob0 (h : S0 o (-2) = 0) {i : Int} (hf : scF i = false) : ¬ scW S0 o τ o i := by
  rintro (⟨-, z⟩ | ⟨z, -⟩ | ⟨z, -⟩)
  · rw [hf] at z; cases z
  all_goals omega
/-- cells of kinds that nothing writes -/
theorem pW.k {r : Nat} {c : Int} (h0 : S0 o (-2) = 0) (h : S0 r (-2) = c) (hc : c = 1 ∨ c = 3 ∨ (6 ≤ c ∧ c ≤ 99) ∨ 102 ≤ c) {i : Int} : ¬ pW S0 o τ r i := by
  rintro ((⟨z, -⟩ | ⟨z, -⟩ | ⟨z, -⟩) | ⟨z, -⟩ | ⟨z, -⟩ | ⟨z, -⟩ | ⟨z, -⟩ | ⟨z, -⟩)
  · subst z; omega
  · omega
  · omega
  · subst z; omega
  · omega
  · omega
  · omega
  · omega
theorem scW.k {r : Nat} {c : Int} (h0 : S0 o (-2) = 0) (h : S0 r (-2) = c) (hc : c = 1 ∨ (3 ≤ c ∧ c ≤ 99) ∨ 101 ≤ c) {i : Int} : ¬ scW S0 o τ r i := by
  rintro (⟨z, -⟩ | ⟨z, -⟩ | ⟨z, -⟩)
  · subst z; omega
  · omega
  · omega
theorem qW.p {r : Nat} {i : Int} (h : qW S0 o τ r i) : pW S0 o τ r i := by
  rcases h with h | ⟨h, h2⟩ | h | h
  · exact Or.inl h
  · exact Or.inr (Or.inl ⟨h, Or.inl h2⟩)
  · exact Or.inr (Or.inr (Or.inl h))
  · exact Or.inr (Or.inr (Or.inr (Or.inl ⟨h.1, h.2.1, by omega⟩)))
theorem Ag.p (h : Ag (qW S0 o τ) S0 S) : Ag (pW S0 o τ) S0 S := h.mono (fun _ _ z => z.p)
theorem pW.neg {r : Nat} {i : Int} (hi : i < 0) : ¬ pW S0 o τ r i := by
  rintro ((⟨-, z⟩ | ⟨-, -, z⟩ | ⟨-, z, -⟩) | ⟨-, z⟩ | ⟨-, z, -⟩ | ⟨-, z, -⟩ | ⟨-, -, z⟩ | ⟨-, z⟩)
  · have : i ∈ [13, 14, 15, 19, 20, 21, 22, 30] := List.contains_iff_mem.mp z
    simp only [List.mem_cons, List.not_mem_nil, or_false] at this
    omega
  all_goals omega
theorem scW.q {r : Nat} {i : Int} (h : scW S0 o τ r i) : pW S0 o τ r i := Or.inl h
theorem Ag.q (h : Ag (scW S0 o τ) S0 S) : Ag (pW S0 o τ) S0 S := h.mono (fun _ _ z => z.q)
theorem Ag.ob (h : Ag (pW S0 o τ) S0 S) {r : Nat} {c : Int} (hr : vc_ob Lw S0 r c) : vc_ob Lw S r c := ⟨hr.1, (h r (-2) (pW.neg (by decide))).trans hr.2⟩
theorem Ag.ln (h : Ag (pW S0 o τ) S0 S) {r : Nat} : S r (-1) = S0 r (-1) := h r (-1) (pW.neg (by decide))
theorem Ag.li (h : Ag (pW S0 o τ) S0 S) (h0 : S0 o (-2) = 0) {r : Nat} {n : Int} {g : Int → Nat} (hr : vc_li Lw S0 r n g) : vc_li Lw S r n g := by
  obtain ⟨h1, h2, h3, h4, h5⟩ := hr
  have e1 : S r 1 = S0 r 1 := h r 1 (pW.k h0 h1.2 (by omega))
  have e2 : S r 2 = S0 r 2 := h r 2 (pW.k h0 h1.2 (by omega))
  refine ⟨h.ob h1, by rw [e2]; exact h2, by rw [e1]; exact h.ob h3, by rw [e1, h.ln]; exact h4, fun i i0 i1 => ?_⟩
  rw [e1, h _ i (pW.k h0 h3.2 (by omega))]
  exact h5 i i0 i1
theorem CLd.ag (h : CLd Lw S0 o f wr gr lt) (ha : Ag (scW S0 o τ) S0 S) : CLd Lw S o f wr gr lt := by
  obtain ⟨h1, h2, h3, h4, h5, h6, h7, h8, h9, h10⟩ := h
  have k0 := h1.2
  have eo : ∀ i, scF i = false → S o i = S0 o i := fun i hi => ha o i (scW.ob0 k0 hi)
  refine ⟨ha.q.ob h1, ?_, ?_, fun w w0 w1 => ?_, fun g g0 g1 => ?_, ?_, ?_, ?_, ?_, ?_⟩
  · rw [eo 0 rfl]; exact ha.q.li k0 h2
  · rw [eo 1 rfl]; exact ha.q.li k0 h3
  · obtain ⟨w1, w2⟩ := h4 w w0 w1
    have e : ∀ i, S (wr w) i = S0 (wr w) i := fun i => ha _ i (scW.k k0 w1.2 (by omega))
    refine ⟨ha.q.ob w1, ?_⟩
    rw [e, e, e, e, e, e]
    exact w2
  · obtain ⟨w1, w2⟩ := h5 g g0 g1
    have e : ∀ i, S (gr g) i = S0 (gr g) i := fun i => ha _ i (scW.k k0 w1.2 (by omega))
    refine ⟨ha.q.ob w1, ?_⟩
    rw [e, e, e, e, e, e, e, e]
    exact w2
  · rw [eo 2 rfl]; exact h6
  · rw [eo 3 rfl]; exact h7
  · rw [eo 4 rfl]; exact h8
  · rw [eo 5 rfl]; exact h9
  · rw [eo 29 rfl]; exact h10
theorem CAr.ag {k : Nat} {c len : Int} (h0 : S0 o (-2) = 0) (h : CAr Lw S0 o τ k c len) (ha : Ag (pW S0 o τ) S0 S) (hf : scF k = false) (h2 : 5 < k ∧ k ≠ 9 ∧ k ≠ 29) : CAr Lw S o τ k c len := by
  unfold CAr
  rw [ha o k (pW.ob0 h0 hf (by omega)), ha.ln]
  exact ⟨ha.ob h.1, h.2⟩
theorem CAk.ag {r k b : Nat} {len : Int} (hk : k ≤ 6) (h0 : S0 o (-2) = 0) (hr : S0 r (-2) = 2) (h : CAk Lw S0 r τ k b len) (ha : Ag (pW S0 o τ) S0 S) : CAk Lw S r τ k b len := by
  unfold CAk
  rw [ha r k (by
    rintro ((⟨z, -⟩ | ⟨z, -⟩ | ⟨-, z, -⟩) | ⟨z, -⟩ | ⟨z, -⟩ | ⟨z, -⟩ | ⟨z, -⟩ | ⟨z, -⟩)
    · subst z; omega
    · omega
    · omega
    · subst z; omega
    · omega
    · omega
    · omega
    · omega), ha.ln]
  exact ⟨ha.ob h.1, h.2⟩
theorem CKp.ag {r b : Nat} (h0 : S0 o (-2) = 0) (h : CKp Lw S0 r o τ b) (ha : Ag (pW S0 o τ) S0 S) : CKp Lw S r o τ b := by
  obtain ⟨h1, ⟨a0, a1, a2, a3, a4, a5, a6⟩, h3⟩ := h
  refine ⟨ha.ob h1, ⟨a0.ag (by decide) h0 h1.2 ha, a1.ag (by decide) h0 h1.2 ha, a2.ag (by decide) h0 h1.2 ha, a3.ag (by decide) h0 h1.2 ha, a4.ag (by decide) h0 h1.2 ha, a5.ag (by decide) h0 h1.2 ha, a6.ag (by decide) h0 h1.2 ha⟩, ?_⟩
  rw [ha r 11 (by
    rintro ((⟨z, -⟩ | ⟨z, -⟩ | ⟨-, z, -⟩) | ⟨z, -⟩ | ⟨z, -⟩ | ⟨z, -⟩ | ⟨z, -⟩ | ⟨z, -⟩)
    · subst z; have := h1.2; omega
    · have := h1.2; omega
    · omega
    · subst z; have := h1.2; omega
    · have := h1.2; omega
    · have := h1.2; omega
    · have := h1.2; omega
    · have := h1.2; omega)]
  exact h3
theorem CSh.ag (h : CSh Lw S0 o τ) (ha : Ag (pW S0 o τ) S0 S) : CSh Lw S o τ := by
  obtain ⟨h1, ⟨a1, a2, a3, a4, a5, a6, a7, a8, a9, a10, a11, a12⟩, h3, h4⟩ := h
  have k0 := h1.2
  refine ⟨ha.ob h1, ⟨a1.ag k0 ha rfl (by decide), a2.ag k0 ha rfl (by decide), a3.ag k0 ha rfl (by decide), a4.ag k0 ha rfl (by decide), a5.ag k0 ha rfl (by decide), a6.ag k0 ha rfl (by decide), a7.ag k0 ha rfl (by decide), a8.ag k0 ha rfl (by decide), a9.ag k0 ha rfl (by decide), a10.ag k0 ha rfl (by decide), a11.ag k0 ha rfl (by decide), a12.ag k0 ha rfl (by decide)⟩, ?_, ?_⟩
  · rw [ha o 32 (pW.ob0 k0 rfl (by decide))]
    exact h3.ag k0 ha
  · rcases h4 with ⟨z1, z2⟩ | ⟨z1, z2⟩
    · left
      rw [ha o 10 (pW.ob0 k0 rfl (by decide)), ha o 11 (pW.ob0 k0 rfl (by decide))]
      exact ⟨z1, z2⟩
    · exact Or.inr ⟨z1.ag k0 ha rfl (by decide), z2.ag k0 ha rfl (by decide)⟩
/-- writes into the object's scratch -/
theorem scW.fl {i : Int} (h : scF i = true) : scW S0 o τ o i := Or.inl ⟨rfl, h⟩
/-- writes into a scratch array (S: as it is now) -/
theorem scW.a {k : Nat} {len i : Int} (h : CAr Lw S0 o τ k 100 len) (hk : scL k = true) (hi : 0 ≤ i) : scW S0 o τ (S0 o (k : Int)).toNat i := Or.inr (Or.inl ⟨h.1.2, by rw [h.2.2]; exact hk, hi⟩)
theorem CAr.ne {k k' : Nat} {c c' len len' : Int} (h : CAr Lw S o τ k c len) (h' : CAr Lw S o τ k' c' len') (hk : k ≠ k') : (S o (k : Int)).toNat ≠ (S o (k' : Int)).toNat := by
  intro z
  have e1 := h.2.2
  rw [z, h'.2.2] at e1
  exact hk e1.symm
theorem CAr.ne0 {k : Nat} {c len : Int} (h : CAr Lw S o τ k c len) (h0 : vc_ob Lw S o 0) (hc : c ≠ 0) : (S o (k : Int)).toNat ≠ o := by
  intro z
  have := h.1.2
  rw [z, h0.2] at this
  exact hc this.symm
end AGS
