/-! THE COMPONENT's methods: a minute -/
set_option maxRecDepth 100000
section CNA
variable {Lw Lw' : List Nat} {S0 S : SS} {B : SB} {d o D : Nat} {τ τ' : Nat → Nat} {f : Int → Int} {wr gr : Int → Nat} {lt : Int → Int} {K : Int}
theorem CVal.ext (hE : Ext (eW S0 o τ) Lw S0 τ Lw' S τ') (h0 : S0 o (-2) = 0) : ∀ {n r : Nat} {F : WF}, CVal Lw S0 n r F → CVal Lw' S n r F
  | 0, _, _, h => h.elim
  | n + 1, r, F, h => by
    have e : ∀ c : Int, vc_ob Lw S0 r c → (6 ≤ c ∧ c ≤ 99) → ∀ i, S r i = S0 r i := fun c hc hk i => hE.2.1 r i hc.1 (eW.k h0 hc.2 (by omega))
    rcases h with ⟨h1, h2, h3⟩ | ⟨h1, h2, h3⟩ | ⟨h1, F1, F2, s, h2, h3, h4, h5⟩
    · have e := e 7 h1 (by omega)
      exact Or.inl ⟨hE.ob h1, by rw [e]; exact h2, by rw [e]; exact h3⟩
    · have e := e 8 h1 (by omega)
      exact Or.inr (Or.inl ⟨hE.ob h1, by rw [e]; exact h2, by rw [e]; exact h3⟩)
    · have e := e 9 h1 (by omega)
      exact Or.inr (Or.inr ⟨hE.ob h1, F1, F2, s, by rw [e]; exact CVal.ext hE h0 h2, by rw [e]; exact CVal.ext hE h0 h3, by rw [e]; exact h4, h5⟩)
theorem CCon.ext (hE : Ext (eW S0 o τ) Lw S0 τ Lw' S τ') (h0 : S0 o (-2) = 0) : ∀ {n r : Nat} {F : WF}, CCon Lw S0 n r F → CCon Lw' S n r F
  | 0, _, _, h => h.elim
  | n + 1, r, F, h => by
    have e : ∀ c : Int, vc_ob Lw S0 r c → (6 ≤ c ∧ c ≤ 99) → ∀ i, S r i = S0 r i := fun c hc hk i => hE.2.1 r i hc.1 (eW.k h0 hc.2 (by omega))
    rcases h with ⟨h1, G1, h2, h3⟩ | ⟨h1, F1, F2, s, h2, h3, h4, h5⟩ | ⟨h1, G1, G2, h2, h3, h4⟩
    · have e := e 11 h1 (by omega)
      exact Or.inl ⟨hE.ob h1, G1, by rw [e]; exact CCon.ext hE h0 h2, h3⟩
    · have e := e 12 h1 (by omega)
      exact Or.inr (Or.inl ⟨hE.ob h1, F1, F2, s, by rw [e]; exact CVal.ext hE h0 h2, by rw [e]; exact CVal.ext hE h0 h3, by rw [e, e]; exact h4, h5⟩)
    · have e := e 13 h1 (by omega)
      exact Or.inr (Or.inr ⟨hE.ob h1, G1, G2, by rw [e]; exact CCon.ext hE h0 h2, by rw [e]; exact CCon.ext hE h0 h3, by rw [e]; exact h4⟩)
theorem CTo.ext (hE : Ext (eW S0 o τ) Lw S0 τ Lw' S τ') (h0 : S0 o (-2) = 0) {r : Nat} {cl : Int × WF × Option WF} (h : CTo Lw S0 D r cl) : CTo Lw' S D r cl := by
  obtain ⟨h1, h2, h3⟩ := h
  have e : ∀ i, S r i = S0 r i := fun i => hE.2.1 r i h1.1 (eW.k h0 h1.2 (by omega))
  refine ⟨hE.ob h1, by rw [e]; exact h2.ext hE h0, ?_⟩
  rw [e]
  rcases h3 with h3 | ⟨G, e2, h3⟩
  · exact Or.inl h3
  · exact Or.inr ⟨G, e2, h3.ext hE h0⟩
theorem CRu.ext (hE : Ext (eW S0 o τ) Lw S0 τ Lw' S τ') (h0 : S0 o (-2) = 0) {r : Nat} {ru : RU1} (h : CRu Lw S0 D r ru) : CRu Lw' S D r ru := by
  obtain ⟨h1, hr, nt, nw, ti, wi, tr, ur, l1, l2, hn, x1, x2, x3, x4⟩ := h
  have e : ∀ i, S r i = S0 r i := fun i => hE.2.1 r i h1.1 (eW.k h0 h1.2 (by omega))
  refine ⟨hE.ob h1, hr, nt, nw, ti, wi, tr, ur, by rw [e]; exact hE.li h0 l1, by rw [e]; exact hE.li h0 l2, hn, x1, x2, fun j j0 j1 => (x3 j j0 j1).ext hE h0, fun j j0 j1 => ?_⟩
  obtain ⟨G, e2, h3⟩ := x4 j j0 j1
  exact ⟨G, e2, h3.ext hE h0⟩
theorem Ag.ee (h : Ag (qW S0 o τ) S0 S) : Ext (eW S0 o τ) Lw S0 τ Lw S τ := (h.mono (fun _ _ z => Or.inl z.p) : Ag (eW S0 o τ) S0 S).ext
theorem qW.back {S1 : SS} (hA : Ag (pW S0 o τ) S0 S1) (h0 : vc_ob Lw S0 o 0) {r : Nat} {i : Int} (h : qW S1 o τ r i) : qW S0 o τ r i := by
  have e2 : S1 r (-2) = S0 r (-2) := hA r (-2) (pW.neg (by decide))
  have e32 : S1 o 32 = S0 o 32 := hA o 32 (pW.ob0 h0.2 rfl (by decide))
  rcases h with (⟨z1, z2⟩ | ⟨z1, z2, z3⟩ | ⟨z1, z2, z3⟩) | h | ⟨h1, h2⟩ | ⟨h1, h2⟩
  · exact Or.inl (Or.inl ⟨z1, z2⟩)
  · exact Or.inl (Or.inr (Or.inl ⟨by omega, z2, z3⟩))
  · exact Or.inl (Or.inr (Or.inr ⟨by omega, z2, by rw [z3, e32]⟩))
  · exact Or.inr (Or.inl h)
  · exact Or.inr (Or.inr (Or.inl ⟨by omega, h2⟩))
  · exact Or.inr (Or.inr (Or.inr ⟨by omega, h2⟩))
theorem Ag.qtr {S1 S2 : SS} (h0 : vc_ob Lw S0 o 0) (h : Ag (qW S0 o τ) S0 S1) (h2 : Ag (qW S1 o τ) S1 S2) : Ag (qW S0 o τ) S0 S2 := fun r i hn => (h2 r i (fun z => hn (qW.back h.p h0 z))).trans (h r i hn)
/-- what changes of the land alone -/
def uW (S0 : SS) (o : Nat) (r : Nat) (i : Int) : Prop := False ∨ (r = o ∧ 2 ≤ i ∧ i ≤ 5) ∨ (S0 r (-2) = 4 ∧ 3 ≤ i ∧ i ≤ 5) ∨ (S0 r (-2) = 5 ∧ 2 ≤ i ∧ i ≤ 6)
theorem uW.q {r : Nat} {i : Int} (h : uW S0 o r i) : qW S0 o τ r i := by
  rcases h with h | h
  · exact absurd h id
  · exact Or.inr h
theorem Ag.uq (h : Ag (uW S0 o) S0 S) : Ag (qW S0 o τ) S0 S := h.mono (fun _ _ z => z.q)
theorem uW.k {r : Nat} {c i : Int} (h0 : S0 o (-2) = 0) (h : S0 r (-2) = c) (hc : c ≠ 0 ∧ c ≠ 4 ∧ c ≠ 5) : ¬ uW S0 o r i := by
  rintro (z | ⟨z, -⟩ | ⟨z, -⟩ | ⟨z, -⟩)
  · exact z
  · subst z; omega
  · omega
  · omega
theorem uW.neg {r : Nat} {i : Int} (hi : i < 0) : ¬ uW S0 o r i := by
  rintro (z | ⟨-, z⟩ | ⟨-, z⟩ | ⟨-, z⟩)
  · exact z
  all_goals omega
theorem Ag.utr {S1 S2 : SS} (h : Ag (uW S0 o) S0 S1) (h2 : Ag (uW S1 o) S1 S2) : Ag (uW S0 o) S0 S2 := fun r i hn => (h2 r i (fun z => hn (by
  have e : S1 r (-2) = S0 r (-2) := h r (-2) (uW.neg (by decide))
  unfold uW at z ⊢
  rw [e] at z
  exact z))).trans (h r i hn)
theorem gnS_u {rg rw : Nat} {to t : Int} (hg : S0 rg (-2) = 5) (hw : S0 rw (-2) = 4) (h : Ag (uW S0 o) S0 S) : Ag (uW S0 o) S0 (gnS S o rg rw to t) := by
  have a1 : ∀ i, 2 ≤ i → i ≤ 6 → uW S0 o rg i := fun i h1 h2 => Or.inr (Or.inr (Or.inr ⟨hg, h1, h2⟩))
  have a2 : ∀ i, 3 ≤ i → i ≤ 5 → uW S0 o rw i := fun i h1 h2 => Or.inr (Or.inr (Or.inl ⟨hw, h1, h2⟩))
  have a3 : uW S0 o o 2 := Or.inr (Or.inl ⟨rfl, by decide, by decide⟩)
  unfold gnS
  have a5 := ((((h.up (v := to) (a1 2 (by decide) (by decide))).up (v := 1 - S rw 5) (a2 5 (by decide) (by decide))).up (v := S rw 3 + 1) (a2 3 (by decide) (by decide))).up (v := S o 2 + 1) a3).up (v := S o 2 + 1) (a2 4 (by decide) (by decide))
  split
  · exact a5.up (a1 6 (by decide) (by decide))
  · exact a5
/-- another number in a goer's cell -/
theorem CLd.goerL {g : Int} {lt' : Int → Int} {f' : Int → Int} {S' : SS} (h : CLd Lw S o f wr gr lt) (hj : CIj f wr gr) (n0 : 0 ≤ f 0 ∧ f 0 ≤ 14) (n1 : 0 ≤ f 1 ∧ f 1 ≤ 6) (hg : 0 ≤ g ∧ g < f 1) (e : ∀ r i, r ≠ gr g → S' r i = S r i) (ef : ∀ i : Int, i < 80 ∨ 122 ≤ i → f' i = f i) (efG : ∀ v k, 0 ≤ v → v ≤ 5 → v ≠ g → 0 ≤ k → k ≤ 6 → sG f' v k = sG f v k) (hlt : ∀ v, v ≠ g → lt' v = lt v) (hG : CG Lw S' (gr g) f' g (lt' g)) : CLd Lw S' o f' wr gr lt' := by
  obtain ⟨h1, h2, h3, h4, h5, h6, h7, h8, h9, h10⟩ := h
  have oG := (h5 g hg.1 hg.2).1
  have no1 : o ≠ gr g := ob_ne h1 oG (by decide)
  have eo : ∀ i, S' o i = S o i := fun i => e o i no1
  have ek : ∀ q c, vc_ob Lw S q c → c ≠ 5 → ∀ i, S' q i = S q i := fun q c hq hc i => e q i (ob_ne hq oG hc)
  have f0 : f' 0 = f 0 := ef 0 (by omega)
  have f1 : f' 1 = f 1 := ef 1 (by omega)
  have f2 : f' 2 = f 2 := ef 2 (by omega)
  refine ⟨⟨h1.1, by rw [eo]; exact h1.2⟩, ?_, ?_, fun w w0 w1 => ?_, fun v v0 v1 => ?_, ?_, ?_, ?_, ?_, ?_⟩
  · rw [eo, f0]; exact li_of h2 (fun q c hq hc => ek q c hq (by omega))
  · rw [eo, f1]; exact li_of h3 (fun q c hq hc => ek q c hq (by omega))
  · rw [f0] at w1
    obtain ⟨a0, a1⟩ := h4 w w0 w1
    have ev := ek _ 4 a0 (by decide)
    have eW : ∀ k, 0 ≤ k → k ≤ 4 → sW f' w k = sW f w k := fun k a b => ef _ (by omega)
    unfold CW vc_ob
    rw [ev, ev, ev, ev, ev, ev, ev, f2, eW 0 (by decide) (by decide), eW 1 (by decide) (by decide), eW 2 (by decide) (by decide), eW 3 (by decide) (by decide), eW 4 (by decide) (by decide)]
    exact ⟨a0, a1⟩
  · rw [f1] at v1
    by_cases c : v = g
    · subst c; exact hG
    · obtain ⟨a0, a1⟩ := h5 v v0 v1
      have ev : ∀ i, S' (gr v) i = S (gr v) i := fun i => e _ i (fun z => c (hj.2 v g v0 v1 hg.1 hg.2 z))
      have eG : ∀ k, 0 ≤ k → k ≤ 6 → sG f' v k = sG f v k := fun k a b => efG v k v0 (by omega) c a b
      rw [hlt v c]
      unfold CG vc_ob
      rw [ev, ev, ev, ev, ev, ev, ev, ev, ev, eG 0 (by decide) (by decide), eG 1 (by decide) (by decide), eG 2 (by decide) (by decide), eG 3 (by decide) (by decide), eG 4 (by decide) (by decide), eG 5 (by decide) (by decide), eG 6 (by decide) (by decide)]
      exact ⟨a0, a1⟩
  · rw [eo, ef 3 (by omega)]; exact h6
  · rw [eo, ef 4 (by omega)]; exact h7
  · rw [eo, ef 5 (by omega)]; exact h8
  · rw [eo, ef 7 (by omega), hlt (-1) (by omega)]; exact h9
  · rw [eo, ef 6 (by omega)]; exact h10
theorem CLd.goer {g : Int} {f' : Int → Int} {S' : SS} (h : CLd Lw S o f wr gr lt) (hj : CIj f wr gr) (n0 : 0 ≤ f 0 ∧ f 0 ≤ 14) (n1 : 0 ≤ f 1 ∧ f 1 ≤ 6) (hg : 0 ≤ g ∧ g < f 1) (e : ∀ r i, r ≠ gr g → S' r i = S r i) (ef : ∀ i : Int, i < 80 ∨ 122 ≤ i → f' i = f i) (efG : ∀ v k, 0 ≤ v → v ≤ 5 → v ≠ g → 0 ≤ k → k ≤ 6 → sG f' v k = sG f v k) (hG : CG Lw S' (gr g) f' g (lt g)) : CLd Lw S' o f' wr gr lt := h.goerL hj n0 n1 hg e ef efG (fun _ _ => rfl) hG
theorem cm_goesOn {g : Int} (hg : 0 ≤ g ∧ g < f 1) (hj : CIj f wr gr) (hC : CLd Lw S o f wr gr lt) (hl : LI K f) : vc_M (d + 4) 0 0 67 [.inr (.inr o), .inr (.inr (gr g))] Lw S B (vc_up (fun v Lw' S' B' => v = none ∧ Lw = Lw' ∧ B = B' ∧ Ag (uW S o) S S' ∧ CLd Lw S' o (sp_m1 f g) wr gr lt)) := by
  refine vc_start rfl rfl (Nat.le_of_ble_eq_true rfl) (fun X hX hd => ?_)
  have n0 := hl.nW
  have n1 := hl.nG
  have hck := hl.clock
  have hG := hC.2.2.2.2.1 g hg.1 hg.2
  have hgi := hl.g hg.1 hg.2
  have hr := hgi.way hl.nW.2
  have g4 := hG.2.2.2.2.1
  have hbs := bI_rg (S (gr g) 3 == -1)
  refine vc_walk hX ck_X0_goesOn [] 60 hd ?_
  refine vc_kv hG.1 (cm_stands (d := d + 3) hG.1 (by omega)) ⟨Nat.le_refl _, Nat.le_refl _⟩ ?_
  refine ⟨by omega, fun c1 => ?_, fun c1 => ?_⟩
  rotate_left
  · have : S (gr g) 3 = -1 := eq_of_beq (bI_n0.mp c1)
    have e : sp_m1 f g = f := if_pos (by omega)
    rw [e]
    exact ⟨⟨Nat.le_refl _, Nat.le_refl _⟩, rfl, rfl, rfl, Ag.rf, hC⟩
  have hns : sG f g 3 ≠ -1 := by have := ne_of_beq_false (bI_0.mp c1); omega
  obtain ⟨ga, gb, gc, gd | gd⟩ := hgi
  · exact absurd gd.1 hns
  obtain ⟨q0, q1, q2, ⟨q3, q3b⟩, q4, q5, q6, q7, q8⟩ := hG
  have hw : 0 ≤ sG f g 3 ∧ sG f g 3 < f 0 := ⟨gd.1, gd.2.1⟩
  have hwi := hl.w hw.1 hw.2
  have hW := hC.2.2.2.1 _ hw.1 hw.2
  have A1 : Ag (uW S o) S (vt_up S (gr g) 4 (S (gr g) 4 + 1)) := Ag.rf.up (Or.inr (Or.inr (Or.inr ⟨q0.2, by decide, by decide⟩)))
  have ngw : gr g ≠ wr (sG f g 3) := ob_ne q0 hW.1 (by decide)
  have ngo : gr g ≠ o := ob_ne q0 hC.1 (by decide)
  have nwo : wr (sG f g 3) ≠ o := ob_ne hW.1 hC.1 (by decide)
  have C1 : CLd Lw (vt_up S (gr g) 4 (S (gr g) 4 + 1)) o (upF f (80 + 7 * g + 4) (sG f g 4 + 1)) wr gr lt := by
    refine hC.goer hj n0 n1 hg (fun r i hr => up_ne (Or.inl hr)) (fun i hi => upF_ne (by omega)) (fun v k v0 v1 hv k0 k1 => upF_ne (by omega)) ?_
    have eG : ∀ k, 0 ≤ k → k ≤ 6 → k ≠ 4 → sG (upF f (80 + 7 * g + 4) (sG f g 4 + 1)) g k = sG f g k := fun k a b c => upF_ne (by omega)
    have e4 : sG (upF f (80 + 7 * g + 4) (sG f g 4 + 1)) g 4 = sG f g 4 + 1 := upF_self
    have er : ∀ i, i ≠ 4 → vt_up S (gr g) 4 (S (gr g) 4 + 1) (gr g) i = S (gr g) i := fun i hi => up_ne (Or.inr hi)
    refine ⟨(A1.uq (τ := fun _ => 0)).p.ob q0, ?_, ?_, ⟨?_, ?_⟩, ?_, ?_, ?_, ?_, ?_⟩
    · rw [er _ (by decide), eG 1 (by decide) (by decide) (by decide)]; exact q1
    · rw [er _ (by decide), eG 2 (by decide) (by decide) (by decide)]; exact q2
    · rw [er _ (by decide)]; exact q3
    · rw [er _ (by decide), eG 3 (by decide) (by decide) (by decide), eG 0 (by decide) (by decide) (by decide)]; exact q3b
    · rw [er _ (by decide), eG 3 (by decide) (by decide) (by decide)]; exact q4
    · rw [vt_up_self, e4, q5]
    · rw [er _ (by decide), eG 6 (by decide) (by decide) (by decide)]; exact q6
    · rw [er _ (by decide), eG 5 (by decide) (by decide) (by decide)]; exact q7
    · rw [er _ (by decide)]; exact q8
  have f0 : upF f (80 + 7 * g + 4) (sG f g 4 + 1) 0 = f 0 := upF_ne (by omega)
  have u1 := C1.2.1
  rw [f0] at u1
  have r4 : vt_up S (gr g) 4 (S (gr g) 4 + 1) (gr g) 4 = S (gr g) 4 + 1 := vt_up_self
  have r3 : vt_up S (gr g) 4 (S (gr g) 4 + 1) (gr g) 3 = sG f g 3 := by rw [up_ne (Or.inr (by decide))]; exact q4
  have rw2 : ∀ i, vt_up S (gr g) 4 (S (gr g) 4 + 1) (wr (sG f g 3)) i = S (wr (sG f g 3)) i := fun i => up_ne (Or.inl (fun z => ngw z.symm))
  have oW1 : vc_ob Lw (vt_up S (gr g) 4 (S (gr g) 4 + 1)) (wr (sG f g 3)) 4 := (A1.uq (τ := fun _ => 0)).p.ob hW.1
  have oG1 : vc_ob Lw (vt_up S (gr g) 4 (S (gr g) 4 + 1)) (gr g) 5 := (A1.uq (τ := fun _ => 0)).p.ob q0
  obtain ⟨-, -, -, i2, i3, i4⟩ := hwi
  have w2 := hW.2.2.2.1
  refine ⟨q0, q0, oG1, C1.1, oG1, ?_⟩
  rw [r4, r3]
  refine vc_kv u1.1 (cm_get (d := d + 1) u1 (i := sG f g 3) hw) ⟨Nat.le_refl _, Nat.le_refl _⟩ ?_
  refine ⟨Or.inr oW1, oW1, ?_⟩
  rw [rw2, w2]
  refine ⟨by omega, fun c2 => ?_, fun c2 => ?_⟩
  rotate_left
  · have e : sp_m1 f g = upF f (80 + 7 * g + 4) (sG f g 4 + 1) := by
      unfold sp_m1
      rw [if_neg hns, if_neg (by omega)]
    rw [e]
    exact ⟨⟨Nat.le_refl _, Nat.le_refl _⟩, rfl, rfl, rfl, A1, C1⟩
  have e : sp_m1 f g = sp_arr f g (sG f g 3) (sG f g 6) (f 4 + 1) := by
    unfold sp_m1
    rw [if_neg hns, if_pos (by omega)]
  rw [e]
  refine ⟨C1.1, oG1, ?_⟩
  rw [r3]
  refine vc_kv u1.1 (cm_get (d := d + 1) u1 (i := sG f g 3) hw) ⟨Nat.le_refl _, Nat.le_refl _⟩ ?_
  have A2 := A1.up (v := -1) (r := gr g) (i := 3) (Or.inr (Or.inr (Or.inr ⟨q0.2, by decide, by decide⟩)))
  have A3 := A2.up (v := -1) (r := gr g) (i := 5) (Or.inr (Or.inr (Or.inr ⟨q0.2, by decide, by decide⟩)))
  have A4 := A3.up (v := 0) (r := gr g) (i := 4) (Or.inr (Or.inr (Or.inr ⟨q0.2, by decide, by decide⟩)))
  have r5 : vt_up S (gr g) 4 (S (gr g) 4 + 1) (gr g) 5 = sG f g 6 := by rw [up_ne (Or.inr (by decide))]; exact q6
  refine ⟨Or.inr oW1, oG1, ?_⟩
  rw [r5]
  refine ⟨oG1, (A2.uq (τ := fun _ => 0)).p.ob q0, (A3.uq (τ := fun _ => 0)).p.ob q0, (A4.uq (τ := fun _ => 0)).p.ob hC.1, ?_⟩
  generalize hS4 : vt_up (vt_up (vt_up (vt_up S (gr g) 4 (S (gr g) 4 + 1)) (gr g) 3 (-1)) (gr g) 5 (-1)) (gr g) 4 0 = S4 at *
  have rd : ∀ r i, r ≠ gr g → S4 r i = S r i := fun r i hr => by rw [← hS4, up_ne (Or.inl hr), up_ne (Or.inl hr), up_ne (Or.inl hr), up_ne (Or.inl hr)]
  have rg0 : ∀ i, i ≠ 3 → i ≠ 4 → i ≠ 5 → S4 (gr g) i = S (gr g) i := fun i h3 h4 h5 => by rw [← hS4, up_ne (Or.inr h4), up_ne (Or.inr h5), up_ne (Or.inr h3), up_ne (Or.inr h4)]
  have rg3 : S4 (gr g) 3 = -1 := by rw [← hS4, up_ne (Or.inr (by decide)), up_ne (Or.inr (by decide)), vt_up_self]
  have rg5 : S4 (gr g) 5 = -1 := by rw [← hS4, up_ne (Or.inr (by decide)), vt_up_self]
  have rg4 : S4 (gr g) 4 = 0 := by rw [← hS4, vt_up_self]
  have h3c : S4 o 3 = f 4 := by rw [rd o 3 (fun z => ngo z.symm)]; exact hC.2.2.2.2.2.2.1
  rw [h3c]
  have hto : 0 ≤ sG f g 6 ∧ sG f g 6 ≤ 7 := ⟨gd.2.2.2.2.1, gd.2.2.2.2.2.1⟩
  refine vc_kv ((A4.uq (τ := fun _ => 0)).p.ob hC.1) (cm_gone (d := d) ((A4.uq (τ := fun _ => 0)).p.ob hC.1) ((A4.uq (τ := fun _ => 0)).p.ob q0) ((A4.uq (τ := fun _ => 0)).p.ob hW.1) (by rw [rd _ 5 (fun z => ngw z.symm)]; exact hW.b) (by omega) hto (by rw [rg0 0 (by decide) (by decide) (by decide), q1]; exact ga) (by rw [rg0 6 (by decide) (by decide) (by decide), q7]; omega)) ⟨Nat.le_refl _, Nat.le_refl _⟩ ?_
  refine ⟨⟨Nat.le_refl _, Nat.le_refl _⟩, rfl, rfl, rfl, gnS_u q0.2 hW.1.2 A4, ?_⟩
  have x6 := rg0 6 (by decide) (by decide) (by decide)
  have x0 := rg0 0 (by decide) (by decide) (by decide)
  have xo2 := rd o 2 (fun z => ngo z.symm)
  have xw3 := rd (wr (sG f g 3)) 3 (fun z => ngw z.symm)
  have xw5 := rd (wr (sG f g 3)) 5 (fun z => ngw z.symm)
  have h2g := hC.2.2.2.2.2.1
  have w3 := hW.2.2.2.2.1
  refine hC.arr hj hl hg hw hto (fun r i c1 c2 c3 => ?_) ?_ (fun i c1 c2 c3 => ?_) ?_ ?_ ?_ (fun i c => ?_) ?_ ?_ ?_ ?_ ?_
  · rw [gnS_rd, if_neg (fun z => c1 z.1), if_neg (fun z => c2 z.1), if_neg (by omega), if_neg (fun z => c2 z.1), if_neg (fun z => c2 z.1), if_neg (fun z => c1 z.1)]
    exact rd r i c1
  · rw [gnS_rd, if_neg (fun z => ngo z.1.symm), if_neg (fun z => nwo z.1.symm), if_pos ⟨rfl, rfl⟩, xo2, h2g]
  · rw [gnS_rd, if_neg (fun z => ngw z.1.symm), if_neg (by omega), if_neg (fun z => nwo z.1), if_neg (by omega), if_neg (by omega), if_neg (fun z => ngw z.1.symm)]
    exact rd _ i (fun z => ngw z.symm)
  · rw [gnS_rd, if_neg (fun z => ngw z.1.symm), if_neg (by omega), if_neg (fun z => nwo z.1), if_pos ⟨rfl, rfl⟩, xw3, w3]
  · rw [gnS_rd, if_neg (fun z => ngw z.1.symm), if_pos ⟨rfl, rfl⟩, xo2, h2g]
  · rw [gnS_rd, if_neg (fun z => ngw z.1.symm), if_neg (by omega), if_neg (fun z => nwo z.1), if_neg (by omega), if_pos ⟨rfl, rfl⟩, xw5]
  · rw [gnS_rd, if_neg (by omega), if_neg (fun z => ngw z.1), if_neg (fun z => ngo z.1), if_neg (fun z => ngw z.1), if_neg (fun z => ngw z.1), if_neg (by omega)]
    exact rg0 i (by omega) (by omega) (by omega)
  · rw [gnS_rd, if_neg (by omega), if_neg (fun z => ngw z.1), if_neg (fun z => ngo z.1), if_neg (fun z => ngw z.1), if_neg (fun z => ngw z.1), if_pos ⟨rfl, rfl⟩]
  · rw [gnS_rd, if_neg (by omega), if_neg (fun z => ngw z.1), if_neg (fun z => ngo z.1), if_neg (fun z => ngw z.1), if_neg (fun z => ngw z.1), if_neg (by omega)]
    exact rg3
  · rw [gnS_rd, if_neg (by omega), if_neg (fun z => ngw z.1), if_neg (fun z => ngo z.1), if_neg (fun z => ngw z.1), if_neg (fun z => ngw z.1), if_neg (by omega)]
    exact rg4
  · rw [gnS_rd, if_neg (by omega), if_neg (fun z => ngw z.1), if_neg (fun z => ngo z.1), if_neg (fun z => ngw z.1), if_neg (fun z => ngw z.1), if_neg (by omega)]
    exact rg5
  · rw [gnS_rd]
    by_cases c : sG f g 6 = sG f g 1 ∧ sG f g 5 = -1
    · rw [if_pos c, if_pos ⟨rfl, rfl, by omega, rg3, by omega⟩]
    · rw [if_neg c, if_neg (by omega), if_neg (fun z => ngw z.1), if_neg (fun z => ngo z.1), if_neg (fun z => ngw z.1), if_neg (fun z => ngw z.1), if_neg (by omega), x6, q7]
end CNA
