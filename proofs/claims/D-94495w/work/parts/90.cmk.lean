/-! THE COMPONENT's methods: the row of goings -/
set_option maxRecDepth 100000
/-- the row -/
def CRw (S : SS) (o : Nat) (f : Int → Int) : Prop := ∀ k, 0 ≤ k → k < f 6 → S (S o 25).toNat k = f (122 + 2 * k) ∧ S (S o 26).toNat k = f (122 + 2 * k + 1)
section CMK
variable {Lw : List Nat} {S0 S : SS} {B : SB} {d o : Nat} {τ : Nat → Nat} {f : Int → Int} {wr gr : Int → Nat} {lt : Int → Int} {K : Int}
/-- what a row's entry writes -/
def rwW (S0 : SS) (o : Nat) (τ : Nat → Nat) (r : Nat) (i : Int) : Prop := (r = o ∧ i = 29) ∨ (S0 r (-2) = 100 ∧ (τ r = 25 ∨ τ r = 26) ∧ 0 ≤ i)
theorem rwW.p {r : Nat} {i : Int} (h : rwW S0 o τ r i) : pW S0 o τ r i := by
  rcases h with ⟨h1, h2⟩ | h
  · exact Or.inr (Or.inl ⟨h1, Or.inr (Or.inr h2)⟩)
  · exact Or.inr (Or.inr (Or.inr (Or.inr (Or.inl h))))
theorem Ag.rwp (h : Ag (rwW S0 o τ) S0 S) : Ag (pW S0 o τ) S0 S := h.mono (fun _ _ z => z.p)
theorem rwW.rw {k : Nat} {len i : Int} (h : CAr Lw S0 o τ k 100 len) (hk : k = 25 ∨ k = 26) (hi : 0 ≤ i) : rwW S0 o τ (S0 o (k : Int)).toNat i := Or.inr ⟨h.1.2, by rw [h.2.2]; exact hk, hi⟩
theorem pW.rw {k : Nat} {len i : Int} (h : CAr Lw S0 o τ k 100 len) (hk : k = 25 ∨ k = 26) (hi : 0 ≤ i) : pW S0 o τ (S0 o (k : Int)).toNat i := Or.inr (Or.inr (Or.inr (Or.inr (Or.inl ⟨h.1.2, by rw [h.2.2]; exact hk, hi⟩))))
theorem qW.rw {k : Nat} {len i : Int} (h : CAr Lw S0 o τ k 100 len) (h0 : vc_ob Lw S0 o 0) (hk : k = 25 ∨ k = 26) : ¬ qW S0 o τ (S0 o (k : Int)).toNat i := by
  have e := h.1.2
  rintro ((⟨z, -⟩ | ⟨-, z, -⟩ | ⟨z, -⟩) | ⟨z, -⟩ | ⟨z, -⟩ | ⟨z, -⟩)
  · exact h.ne0 h0 (by decide) z
  · rw [h.2.2] at z
    rcases hk with rfl | rfl <;> cases z
  · omega
  · exact h.ne0 h0 (by decide) z
  · omega
  · omega
theorem CRw.ag (h : CRw S0 o f) (hsh : CSh Lw S0 o τ) (ha : Ag (qW S0 o τ) S0 S) {f' : Int → Int} (h6 : f' 6 = f 6) (hf : ∀ i, 122 ≤ i → f' i = f i) : CRw S o f' := by
  intro k k0 k1
  have e25 : S o 25 = S0 o 25 := ha o 25 (by
    rintro ((⟨-, z⟩ | ⟨z, -⟩ | ⟨z, -⟩) | ⟨-, z⟩ | ⟨z, -⟩ | ⟨z, -⟩)
    · cases z
    all_goals have := hsh.1.2; omega)
  have e26 : S o 26 = S0 o 26 := ha o 26 (by
    rintro ((⟨-, z⟩ | ⟨z, -⟩ | ⟨z, -⟩) | ⟨-, z⟩ | ⟨z, -⟩ | ⟨z, -⟩)
    · cases z
    all_goals have := hsh.1.2; omega)
  have q25 : ¬ qW S0 o τ (S0 o 25).toNat k := qW.rw (k := 25) hsh.2.1.2.2.2.2.2.1 hsh.1 (Or.inl rfl)
  have q26 : ¬ qW S0 o τ (S0 o 26).toNat k := qW.rw (k := 26) hsh.2.1.2.2.2.2.2.2.1 hsh.1 (Or.inr rfl)
  rw [e25, e26, ha _ k q25, ha _ k q26, hf _ (by omega), hf _ (by omega)]
  exact h k k0 (by omega)
theorem cm_row {g w : Int} (hg : -2147483648 ≤ g ∧ g ≤ 2147483647) (hw : -2147483648 ≤ w ∧ w ≤ 2147483647) (hsh : CSh Lw S o τ) (h : CLd Lw S o f wr gr lt) (hr : CRw S o f) (hl : LI K f) : vc_M (d + 2) 0 0 58 [.inr (.inr o), ii g, ii w] Lw S B (vc_up (fun v Lw' S' B' => v = some (ii (sp_row f g w).1) ∧ Lw = Lw' ∧ Ag (rwW S o τ) S S' ∧ CLd Lw S' o (sp_row f g w).2 wr gr lt ∧ CRw S' o (sp_row f g w).2)) := by
  refine vc_start rfl rfl (Nat.le_of_ble_eq_true rfl) (fun X hX hd => ?_)
  have hC := h
  obtain ⟨h1, h2, h3, h4, h5, h6, h7, h8, h9, h10⟩ := h
  have r6 := hl.rows
  have hb := bI_rg (sIsG f g)
  have hb2 := bI_rg (sIsW f w)
  refine vc_walk hX ck_X0_row [(40, [0, 1, 2])] 60 hd ?_
  refine ⟨by omega, fun c => ?_, fun c => ?_⟩
  rotate_left
  · subst c
    have e : sp_row f (-1) w = (0, upF f 6 0) := if_pos rfl
    have e1 : (sp_row f (-1) w).1 = 0 := by rw [e]
    have e2 : (sp_row f (-1) w).2 = upF f 6 0 := by rw [e]
    rw [e1, e2]
    refine ⟨h1, ⟨Nat.le_refl _, Nat.le_refl _⟩, rfl, rfl, Ag.rf.up (Or.inl ⟨rfl, rfl⟩), ?_, fun k k0 k1 => ?_⟩
    · refine hC.own (by decide) (fun j _ _ _ _ _ _ h6 => upF_ne h6) hl.nW hl.nG ?_ ?_ ?_ ?_ ?_
      · rw [up_ne (Or.inr (by decide)), upF_ne (by decide)]; exact h6
      · rw [up_ne (Or.inr (by decide)), upF_ne (by decide)]; exact h7
      · rw [up_ne (Or.inr (by decide)), upF_ne (by decide)]; exact h8
      · rw [up_ne (Or.inr (by decide)), upF_ne (by decide)]; exact h9
      · rw [vt_up_self, upF_self]
    · have k1 : k < upF f 6 0 6 := k1
      rw [upF_self] at k1; omega
  have nog : ∀ (b : Prop), ¬ b → (sIsG f g = true ∧ sIsW f w = true ∧ f 6 ≠ 40 → b) → sp_row f g w = (-2, f) := by
    intro b hb hh
    unfold sp_row
    rw [if_neg c, if_neg (fun z => hb (hh z))]
  refine vc_kv h1 (cm_isGoer (d := d) hg hC hl) ⟨Nat.le_refl _, Nat.le_refl _⟩ ?_
  refine ⟨by omega, fun c1 => ?_, fun c1 => ?_⟩
  · rw [nog (sIsG f g = true) (by rw [bI_0.mp c1]; decide) (fun z => z.1)]
    exact ⟨⟨Nat.le_refl _, Nat.le_refl _⟩, rfl, rfl, Ag.rf, hC, hr⟩
  refine vc_kv h1 (cm_isWay (d := d) hw hC hl) ⟨Nat.le_refl _, Nat.le_refl _⟩ ?_
  refine ⟨by omega, fun c2 => ?_, fun c2 => ?_⟩
  · rw [nog (sIsW f w = true) (by rw [bI_0.mp c2]; decide) (fun z => z.2.1)]
    exact ⟨⟨Nat.le_refl _, Nat.le_refl _⟩, rfl, rfl, Ag.rf, hC, hr⟩
  refine ⟨h1, by omega, fun c3 => ?_, fun c3 => ?_⟩
  rotate_left
  · rw [nog False (fun z => z) (fun z => z.2.2 (by omega))]
    exact ⟨⟨Nat.le_refl _, Nat.le_refl _⟩, rfl, rfl, Ag.rf, hC, hr⟩
  have e : sp_row f g w = (f 6 + 1, upF (upF (upF f (122 + 2 * f 6) g) (122 + 2 * f 6 + 1) w) 6 (f 6 + 1)) := by
    unfold sp_row
    rw [if_neg c, if_pos ⟨bI_n0.mp c1, bI_n0.mp c2, by omega⟩]
  have e1 : (sp_row f g w).1 = f 6 + 1 := by rw [e]
  have e2 : (sp_row f g w).2 = upF (upF (upF f (122 + 2 * f 6) g) (122 + 2 * f 6 + 1) w) 6 (f 6 + 1) := by rw [e]
  rw [e1, e2]
  have a25 := hsh.2.1.2.2.2.2.2.1
  have a26 := hsh.2.1.2.2.2.2.2.2.1
  have l25 : S (S o 25).toNat (-1) = 40 := a25.2.1
  have l26 : S (S o 26).toNat (-1) = 40 := a26.2.1
  have n25 : (S o 25).toNat ≠ o := a25.ne0 h1 (by decide)
  have n26 : (S o 26).toNat ≠ o := a26.ne0 h1 (by decide)
  have n56 : (S o 25).toNat ≠ (S o 26).toNat := a25.ne a26 (by decide)
  have A1 : Ag (rwW S o τ) S (vt_up S (S o 25).toNat (S o 29) g) := Ag.rf.up (rwW.rw a25 (Or.inl rfl) (by omega))
  have ro : ∀ i, vt_up S (S o 25).toNat (S o 29) g o i = S o i := fun i => up_ne (Or.inl (fun z => n25 z.symm))
  refine vc_walk hX ck_X0_row [] 60 hd ?_
  refine ⟨h1, h1, ⟨a25.1, by omega, by omega, by omega⟩, A1.rwp.ob h1, A1.rwp.ob h1, ?_⟩
  rw [ro, ro]
  have A2 : Ag (rwW S o τ) S (vt_up (vt_up S (S o 25).toNat (S o 29) g) (S o 26).toNat (S o 29) w) := A1.up (rwW.rw a26 (Or.inr rfl) (by omega))
  have ro2 : ∀ i, vt_up (vt_up S (S o 25).toNat (S o 29) g) (S o 26).toNat (S o 29) w o i = S o i := fun i => by rw [up_ne (Or.inl (fun z => n26 z.symm)), ro]
  refine ⟨⟨A1.rwp.ob a26.1, by omega, by rw [A1.rwp.ln]; omega, by rw [A1.rwp.ln]; omega⟩, A2.rwp.ob h1, A2.rwp.ob h1, ?_⟩
  rw [ro2]
  have A3 : Ag (rwW S o τ) S (vt_up (vt_up (vt_up S (S o 25).toNat (S o 29) g) (S o 26).toNat (S o 29) w) o 29 (S o 29 + 1)) := A2.up (Or.inl ⟨rfl, rfl⟩)
  refine ⟨A3.rwp.ob h1, ⟨Nat.le_refl _, Nat.le_refl _⟩, by rw [vt_up_self, h10], rfl, A3, ?_, fun k k0 k1 => ?_⟩
  · have hC2 : CLd Lw (vt_up (vt_up S (S o 25).toNat (S o 29) g) (S o 26).toNat (S o 29) w) o f wr gr lt := by
      have ek : ∀ q c, vc_ob Lw S q c → c ≠ 100 → ∀ i, (vt_up (vt_up S (S o 25).toNat (S o 29) g) (S o 26).toNat (S o 29) w) q i = S q i := fun q c hq hc i => by
        have x26 : q ≠ (S o 26).toNat := ob_ne hq a26.1 hc
        have x25 : q ≠ (S o 25).toNat := ob_ne hq a25.1 hc
        rw [up_ne (Or.inl x26), up_ne (Or.inl x25)]
      have eo := ek o 0 h1 (by decide)
      refine ⟨A2.rwp.ob h1, ?_, ?_, fun w w0 w1 => ?_, fun g g0 g1 => ?_, ?_, ?_, ?_, ?_, ?_⟩
      · rw [eo]; exact li_of h2 (fun q c hq hc => ek q c hq (by omega))
      · rw [eo]; exact li_of h3 (fun q c hq hc => ek q c hq (by omega))
      · obtain ⟨a0, a1⟩ := h4 w w0 w1
        have ev := ek _ 4 a0 (by decide)
        unfold CW
        rw [ev, ev, ev, ev, ev, ev]
        exact ⟨A2.rwp.ob a0, a1⟩
      · obtain ⟨a0, a1⟩ := h5 g g0 g1
        have ev := ek _ 5 a0 (by decide)
        unfold CG
        rw [ev, ev, ev, ev, ev, ev, ev, ev]
        exact ⟨A2.rwp.ob a0, a1⟩
      · rw [eo]; exact h6
      · rw [eo]; exact h7
      · rw [eo]; exact h8
      · rw [eo]; exact h9
      · rw [eo]; exact h10
    refine hC2.own (by decide) (fun j j0 j1 _ _ _ _ j6 => by rw [upF_ne j6, upF_ne (by omega), upF_ne (by omega)]) hl.nW hl.nG ?_ ?_ ?_ ?_ ?_
    · rw [up_ne (Or.inr (by decide)), ro2, upF_ne (by decide), upF_ne (by omega), upF_ne (by omega)]; exact h6
    · rw [up_ne (Or.inr (by decide)), ro2, upF_ne (by decide), upF_ne (by omega), upF_ne (by omega)]; exact h7
    · rw [up_ne (Or.inr (by decide)), ro2, upF_ne (by decide), upF_ne (by omega), upF_ne (by omega)]; exact h8
    · rw [up_ne (Or.inr (by decide)), ro2, upF_ne (by decide), upF_ne (by omega), upF_ne (by omega)]; exact h9
    · rw [vt_up_self, upF_self, h10]
  · have k1 : k < upF (upF (upF f (122 + 2 * f 6) g) (122 + 2 * f 6 + 1) w) 6 (f 6 + 1) 6 := k1
    rw [upF_self] at k1
    show _ = upF (upF (upF f (122 + 2 * f 6) g) (122 + 2 * f 6 + 1) w) 6 (f 6 + 1) (122 + 2 * k) ∧ _ = upF (upF (upF f (122 + 2 * f 6) g) (122 + 2 * f 6 + 1) w) 6 (f 6 + 1) (122 + 2 * k + 1)
    rw [up_ne (r' := o) (i' := 25) (Or.inr (by decide)), up_ne (r' := o) (i' := 26) (Or.inr (by decide)), ro2, ro2, up_ne (Or.inl n25), up_ne (Or.inl n26), up_ne (Or.inl n56), up_rd, up_rd, h10]
    by_cases c : k = f 6
    · subst c
      rw [if_pos ⟨rfl, rfl⟩, if_pos ⟨rfl, rfl⟩, upF_ne (by omega), upF_ne (by omega), upF_self, upF_ne (by omega), upF_self]
      exact ⟨rfl, rfl⟩
    · rw [if_neg (fun z => c z.2), if_neg (fun z => c z.2), up_ne (Or.inl (fun z => n56 z.symm)), upF_ne (by omega), upF_ne (by omega), upF_ne (by omega), upF_ne (by omega), upF_ne (by omega), upF_ne (by omega)]
      exact hr k k0 (by omega)
/-- the places in the row's scratch -/
def CRs (S : SS) (o : Nat) (f : Int → Int) (st : RS) : Prop := S o 30 = st.1 ∧ ∀ g, 0 ≤ g → g < f 1 → S (S o 27).toNat g = st.2 g
theorem cm_standsAll (hsh : CSh Lw S0 o τ) (hC : CLd Lw S0 o f wr gr lt) (hl : LI K f) (hA : Ag (scW S0 o τ) S0 S) : vc_M (d + 4) 0 0 61 [.inr (.inr o)] Lw S B (vc_up (fun v Lw' S' B' => v = none ∧ Lw = Lw' ∧ B = B' ∧ Ag (scW S0 o τ) S0 S' ∧ (∀ i, S' (S0 o 28).toNat i = S (S0 o 28).toNat i) ∧ CRs S' o f (rs0 f))) := by
  refine vc_start rfl rfl (Nat.le_of_ble_eq_true rfl) (fun X hX hd => ?_)
  have n1 := hl.nG
  have a27 := hsh.2.1.2.2.2.2.2.2.2.1
  have a28 := hsh.2.1.2.2.2.2.2.2.2.2.1
  have n78 : (S0 o 28).toNat ≠ (S0 o 27).toNat := a28.ne a27 (by decide)
  have n70 : (S0 o 27).toNat ≠ o := a27.ne0 hsh.1 (by decide)
  have n80 : (S0 o 28).toNat ≠ o := a28.ne0 hsh.1 (by decide)
  have loop : ∀ (m : Nat) (k : Int) (S1 : SS), 0 ≤ k → k + m = f 1 → Ag (scW S0 o τ) S0 S1 → (∀ i, S1 (S0 o 28).toNat i = S (S0 o 28).toNat i) → S1 o 30 = f 2 → (∀ g, 0 ≤ g → g < k → S1 (S0 o 27).toNat g = sG f g 0) → vc_J 61 (vc_up (fun v Lw' S' B' => v = none ∧ Lw = Lw' ∧ B = B' ∧ Ag (scW S0 o τ) S0 S' ∧ (∀ i, S' (S0 o 28).toNat i = S (S0 o 28).toNat i) ∧ CRs S' o f (rs0 f))) X 10 [(0, .inr (.inr o)), (1, ii k)] [] Lw S1 B 0 0 := by
    intro m
    induction m with
    | zero =>
      intro k S1 k0 km A1 F1 D1 P1
      have C1 := hC.ag A1
      have l1 := C1.2.2.1
      have l2 := l1.2.1
      have e27 : S1 o 27 = S0 o 27 := A1 o 27 (scW.ob0 hsh.1.2 rfl)
      refine vc_walk hX ck_X0_standsAll [] 60 hd ?_
      refine ⟨C1.1, ?_⟩
      refine vc_kv l1.1 (cm_size (d := d + 3) l1.1) ⟨Nat.le_refl _, Nat.le_refl _⟩ ?_
      refine ⟨by omega, fun _ => ?_, fun c => absurd c (by omega)⟩
      exact ⟨⟨Nat.le_refl _, Nat.le_refl _⟩, rfl, rfl, rfl, A1, F1, D1, fun g g0 g1 => by rw [e27]; exact P1 g g0 (by omega)⟩
    | succ m ih =>
      intro k S1 k0 km A1 F1 D1 P1
      have C1 := hC.ag A1
      have H1 := hsh.ag A1.q
      have l1 := C1.2.2.1
      have l2 := l1.2.1
      have e27 : S1 o 27 = S0 o 27 := A1 o 27 (scW.ob0 hsh.1.2 rfl)
      have b27 := H1.2.1.2.2.2.2.2.2.2.1
      have m27 : S1 (S1 o 27).toNat (-1) = 6 := b27.2.1
      have hG := C1.2.2.2.2.1 k k0 (by omega)
      have hgi := hl.g k0 (show k < f 1 by omega)
      have hr := hgi.way hl.nW.2
      have g4 := hG.2.2.2.2.1
      have hbs := bI_rg (S1 (gr k) 3 == -1)
      have go : ∀ v, v = sG f k 0 → vc_J 61 (vc_up (fun v Lw' S' B' => v = none ∧ Lw = Lw' ∧ B = B' ∧ Ag (scW S0 o τ) S0 S' ∧ (∀ i, S' (S0 o 28).toNat i = S (S0 o 28).toNat i) ∧ CRs S' o f (rs0 f))) X 62 [(0, .inr (.inr o)), (1, ii k)] [ii v, ii k, .inr (.inr (S1 o 27).toNat)] Lw S1 B 0 0 := by
        intro v hv
        refine vc_walk hX ck_X0_standsAll [(10, [0, 1])] 60 hd ?_
        refine ⟨⟨b27.1, by omega, by omega, by omega⟩, ?_⟩
        refine ih (k + 1) _ (by omega) (by omega) (A1.up (by rw [e27]; exact scW.a a27 rfl k0)) (fun i => ?_) ?_ (fun g g0 g1 => ?_)
        · rw [e27, up_ne (Or.inl n78)]; exact F1 i
        · rw [e27, up_ne (Or.inl (fun z => n70 z.symm))]; exact D1
        · rw [e27, up_rd]
          by_cases c : g = k
          · rw [if_pos ⟨rfl, c⟩, hv, c]
          · rw [if_neg (fun z => c z.2)]; exact P1 g g0 (by omega)
      refine vc_walk hX ck_X0_standsAll [(62, [0, 1])] 60 hd ?_
      refine ⟨C1.1, ?_⟩
      refine vc_kv l1.1 (cm_size (d := d + 3) l1.1) ⟨Nat.le_refl _, Nat.le_refl _⟩ ?_
      refine ⟨by omega, fun c => absurd c (by omega), fun _ => ?_⟩
      refine ⟨C1.1, C1.1, ?_⟩
      refine vc_kv l1.1 (cm_get (d := d + 1) l1 (i := k) ⟨k0, by omega⟩) ⟨Nat.le_refl _, Nat.le_refl _⟩ ?_
      refine ⟨Or.inr hG.1, ?_⟩
      refine vc_kv hG.1 (cm_stands (d := d + 3) hG.1 (by omega)) ⟨Nat.le_refl _, Nat.le_refl _⟩ ?_
      refine ⟨by omega, fun c => ?_, fun c => ?_⟩
      · have c := ne_of_beq_false (bI_0.mp c)
        refine go 8 ?_
        obtain ⟨-, -, -, hi | hi⟩ := hgi <;> omega
      · have c := eq_of_beq (bI_n0.mp c)
        refine ⟨C1.1, ?_⟩
        refine vc_kv l1.1 (cm_get (d := d + 1) l1 (i := k) ⟨k0, by omega⟩) ⟨Nat.le_refl _, Nat.le_refl _⟩ ?_
        refine ⟨Or.inr hG.1, hG.1, ?_⟩
        exact go _ (hG.2.2.2.1.2 (by omega))
  have C1 := hC.ag hA
  refine vc_walk hX ck_X0_standsAll [(10, [0, 1])] 60 hd ?_
  refine vc_kv C1.1 (cm_directions (d := d) C1 hl) ⟨Nat.le_refl _, Nat.le_refl _⟩ ?_
  refine ⟨C1.1, ?_⟩
  refine loop (f 1).toNat 0 _ (by decide) (by omega) (hA.up (scW.fl rfl)) (fun i => ?_) vt_up_self (fun g g0 g1 => by omega)
  rw [up_ne (Or.inl n80)]
theorem cm_does {k : Int} {st : RS} (hk : 0 ≤ k ∧ k < f 6) (hv : stV f st) (hsh : CSh Lw S0 o τ) (hC : CLd Lw S0 o f wr gr lt) (hrw : CRw S0 o f) (hl : LI K f) (hA : Ag (scW S0 o τ) S0 S) (hs : CRs S o f st) : vc_M (d + 4) 0 0 62 [.inr (.inr o), ii k] Lw S B (vc_up (fun v Lw' S' B' => v = some (ii (bI (rg f k st).isSome)) ∧ Lw = Lw' ∧ B = B' ∧ Ag (scW S0 o τ) S0 S' ∧ (∀ i, S' (S0 o 28).toNat i = S (S0 o 28).toNat i) ∧ CRs S' o f ((rg f k st).getD st))) := by
  refine vc_start rfl rfl (Nat.le_of_ble_eq_true rfl) (fun X hX hd => ?_)
  have n0 := hl.nW
  have n1 := hl.nG
  have n6 := hl.rows
  have h14 := pow14 n0.2
  have C1 := hC.ag hA
  have H1 := hsh.ag hA.q
  have R1 := hrw.ag hsh (hA.mono (fun _ _ z => Or.inl z) : Ag (qW S0 o τ) S0 S) rfl (fun _ _ => rfl) k hk.1 hk.2
  have hRI := hl.r hk.1 hk.2
  have l1 := C1.2.1
  have a25 := H1.2.1.2.2.2.2.2.1
  have a26 := H1.2.1.2.2.2.2.2.2.1
  have a27 := H1.2.1.2.2.2.2.2.2.2.1
  have a28 := H1.2.1.2.2.2.2.2.2.2.2.1
  have l25 : S (S o 25).toNat (-1) = 40 := a25.2.1
  have l26 : S (S o 26).toNat (-1) = 40 := a26.2.1
  have l27 : S (S o 27).toNat (-1) = 6 := a27.2.1
  have n78 : (S o 28).toNat ≠ (S o 27).toNat := a28.ne a27 (by decide)
  have n80 : (S o 28).toNat ≠ o := a28.ne0 C1.1 (by decide)
  have n70 : (S o 27).toNat ≠ o := a27.ne0 C1.1 (by decide)
  have e28 : S o 28 = S0 o 28 := hA o 28 (scW.ob0 hsh.1.2 rfl)
  have e27 : S o 27 = S0 o 27 := hA o 27 (scW.ob0 hsh.1.2 rfl)
  obtain ⟨r1, r2⟩ := R1
  obtain ⟨s1, s2⟩ := hs
  obtain ⟨⟨v1, v2⟩, v3⟩ := hv
  unfold RI at hRI
  generalize hgg : f (122 + 2 * k) = g at *
  generalize hww : f (122 + 2 * k + 1) = w at *
  have hW := C1.2.2.2.1 w hRI.2.1 hRI.2.2
  have hp := v3 g hRI.1.1 hRI.1.2
  have hsg := s2 g hRI.1.1 hRI.1.2
  have hon := sOn_rg hl w
  have he := sE_rg (x := st.1) (e := 0) (hl.w hRI.2.1 hRI.2.2) (.inl rfl)
  have he1 := sE_rg (x := st.1) (e := 1) (hl.w hRI.2.1 hRI.2.2) (.inr rfl)
  have erg : rg f k st = if st.2 g ≠ 8 ∧ sOn f w = 0 ∧ sE f st.1 w 0 = st.2 g then some (xr st.1 w, upF st.2 g (sE f st.1 w 1)) else none := by unfold rg; rw [hgg, hww]
  refine vc_walk hX ck_X0_does [(53, [0, 1, 2, 3])] 60 hd ?_
  refine ⟨C1.1, ⟨a26.1, by omega, by omega, by omega⟩, C1.1, ?_⟩
  rw [r2, s1]
  refine ⟨by omega, ?_⟩
  have no : (¬ (st.2 g ≠ 8 ∧ sOn f w = 0 ∧ sE f st.1 w 0 = st.2 g)) → vc_J 62 (vc_up (fun v Lw' S' B' => v = some (ii (bI (rg f k st).isSome)) ∧ Lw = Lw' ∧ B = B' ∧ Ag (scW S0 o τ) S0 S' ∧ (∀ i, S' (S0 o 28).toNat i = S (S0 o 28).toNat i) ∧ CRs S' o f ((rg f k st).getD st))) X 53 [(0, .inr (.inr o)), (1, ii k), (2, ii w), (3, ii (vt_and (st.1 / 2 ^ w.toNat) 1))] [] Lw S B 0 0 := by
    intro hn
    rw [erg, if_neg hn]
    refine vc_walk hX ck_X0_does [] 60 hd ?_
    exact ⟨⟨Or.inl rfl, Nat.le_refl _, Nat.le_refl _⟩, rfl, rfl, rfl, hA, fun _ => rfl, s1, s2⟩
  refine vc_kv C1.1 (cm_on (d := d) (by omega) C1 hl) ⟨Nat.le_refl _, Nat.le_refl _⟩ ?_
  refine ⟨by omega, fun c => no (by omega), fun c => ?_⟩
  refine ⟨C1.1, ?_⟩
  refine vc_kv l1.1 (cm_get (d := d + 1) l1 (i := w) hRI.2) ⟨Nat.le_refl _, Nat.le_refl _⟩ ?_
  refine ⟨Or.inr hW.1, ?_⟩
  refine vc_kv hW.1 (cm_fromB (d := d + 3) hW.1 (bt_01 (by omega))) ⟨Nat.le_refl _, Nat.le_refl _⟩ ?_
  rw [hW.fromB (by omega)]
  refine ⟨C1.1, C1.1, ⟨a25.1, by omega, by omega, by omega⟩, ?_⟩
  rw [r1]
  refine ⟨⟨a27.1, by omega, by omega, by omega⟩, by omega, fun c2 => ?_, fun c2 => no (by omega)⟩
  have hyes : st.2 g ≠ 8 ∧ sOn f w = 0 ∧ sE f st.1 w 0 = st.2 g := by omega
  rw [erg, if_pos hyes]
  refine ⟨C1.1, C1.1, ⟨a25.1, by omega, by omega, by omega⟩, ?_⟩
  rw [r1]
  refine ⟨C1.1, ?_⟩
  refine vc_kv l1.1 (cm_get (d := d + 1) l1 (i := w) hRI.2) ⟨Nat.le_refl _, Nat.le_refl _⟩ ?_
  refine ⟨Or.inr hW.1, ?_⟩
  refine vc_kv hW.1 (cm_toB (d := d + 3) hW.1 (bt_01 (by omega))) ⟨Nat.le_refl _, Nat.le_refl _⟩ ?_
  rw [hW.toB (by omega)]
  have A2 : Ag (scW S0 o τ) S0 (vt_up S (S o 27).toNat g (sE f st.1 w 1)) := hA.up (by rw [e27]; exact scW.a hsh.2.1.2.2.2.2.2.2.2.1 rfl hRI.1.1)
  have C2 := (hC.ag A2).1
  have ro : ∀ i, vt_up S (S o 27).toNat g (sE f st.1 w 1) o i = S o i := fun i => up_ne (Or.inl (fun z => n70 z.symm))
  refine ⟨⟨a27.1, by omega, by omega, by omega⟩, C2, by omega, C2, ?_⟩
  have hpw : (2 : Nat) ^ w.toNat ≤ 2 ^ 13 := Nat.pow_le_pow_right (by decide) (by omega)
  have ep : (1 : Int) * 2 ^ w.toNat = ((2 ^ w.toNat : Nat) : Int) := by simp
  rw [ro, s1, ep, bt_xor (by omega) ⟨Int.natCast_nonneg _, by omega⟩, Int.toNat_natCast]
  refine ⟨⟨Or.inr rfl, Nat.le_refl _, Nat.le_refl _⟩, rfl, rfl, rfl, A2.up (scW.fl rfl), fun i => ?_, vt_up_self, fun j j0 j1 => ?_⟩
  · rw [← e28, up_ne (Or.inl n80), up_ne (Or.inl n78)]
  · rw [up_ne (r' := o) (i' := 27) (Or.inr (by decide)), ro, up_ne (Or.inl n70), up_rd]
    show _ = upF st.2 g (sE f st.1 w 1) j
    by_cases c : j = g
    · rw [if_pos ⟨rfl, c⟩, c, upF_self]
    · rw [if_neg (fun z => c z.2), upF_ne c]; exact s2 j j0 j1
end CMK
