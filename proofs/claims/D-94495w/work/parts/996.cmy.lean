/-! THE COMPONENT's rules -/
set_option maxRecDepth 100000
/-- what a clause tells -/
def CTo (Lw : List Nat) (S : SS) (D r : Nat) (cl : Int × WF × Option WF) : Prop := vc_ob Lw S r 10 ∧ CVal Lw S D (S r 1).toNat cl.2.1 ∧ ((cl.2.2 = none ∧ S r 2 = 0) ∨ ∃ G, cl.2.2 = some G ∧ CCon Lw S D (S r 2).toNat G)
/-- clauses of a sort, in their order -/
def Idx (ru : RU1) (so n : Int) (ti : Int → Int) : Prop := (∀ j, 0 ≤ j → j < n → (0 ≤ ti j ∧ ti j < ru.1) ∧ (ru.2 (ti j)).1 = so) ∧ (∀ i j, 0 ≤ i → i < j → j < n → ti i < ti j) ∧ ∀ c, 0 ≤ c → c < ru.1 → (ru.2 c).1 = so → ∃ j, 0 ≤ j ∧ j < n ∧ ti j = c
def CRu (Lw : List Nat) (S : SS) (D r : Nat) (ru : RU1) : Prop := vc_ob Lw S r 6 ∧ (0 ≤ ru.1 ∧ ru.1 ≤ 12) ∧ ∃ (nt nw : Int) (ti wi : Int → Int) (tr ur : Int → Nat), vc_li Lw S (S r 0).toNat nt tr ∧ vc_li Lw S (S r 1).toNat nw ur ∧ (nt ≤ 12 ∧ nw ≤ 12) ∧ Idx ru 0 nt ti ∧ Idx ru 1 nw wi ∧ (∀ j, 0 ≤ j → j < nt → CTo Lw S D (tr j) (ru.2 (ti j))) ∧ ∀ j, 0 ≤ j → j < nw → ∃ G, (ru.2 (wi j)).2.2 = some G ∧ CCon Lw S D (ur j) G
theorem Idx.none {ru : RU1} {so n : Int} {ti : Int → Int} {wd : Int → Int64} (h : Idx ru so n ti) (hr : 0 ≤ ru.1) (hf : ∀ j, 0 ≤ j → j < n → tstB (ru.2 (ti j)) wd = false) : cth ru so wd = -1 := by
  unfold cth
  rcases lst_spec (fun c => ((ru.2 c).1 == so) && tstB (ru.2 c) wd) ru.1.toNat with ⟨x, -⟩ | ⟨x1, x2, x3, -⟩
  · exact x
  · simp only [Bool.and_eq_true, beq_iff_eq] at x3
    obtain ⟨j, j0, j1, e⟩ := h.2.2 _ x1 (by omega) x3.1
    have := hf j j0 j1
    rw [e, x3.2] at this
    cases this
theorem Idx.some {ru : RU1} {so n : Int} {ti : Int → Int} {wd : Int → Int64} (h : Idx ru so n ti) (hr : 0 ≤ ru.1) {j : Int} (j0 : 0 ≤ j) (j1 : j < n) (hf : ∀ i, 0 ≤ i → i < j → tstB (ru.2 (ti i)) wd = false) (ht : tstB (ru.2 (ti j)) wd = true) : cth ru so wd = ti j := by
  have hj := h.1 j j0 j1
  unfold cth
  rcases lst_spec (fun c => ((ru.2 c).1 == so) && tstB (ru.2 c) wd) ru.1.toNat with ⟨x, y⟩ | ⟨x1, x2, x3, x4⟩
  · have := y (ti j) hj.1.1 (by omega)
    rw [hj.2, ht] at this
    simp at this
  · simp only [Bool.and_eq_true, beq_iff_eq] at x3
    obtain ⟨i, i0, i1, e⟩ := h.2.2 _ x1 (by omega) x3.1
    rcases Int.lt_trichotomy i j with c | c | c
    · have := hf i i0 c
      rw [e, x3.2] at this
      cases this
    · rw [← e, c]
    · have h1 := h.2.1 j i j0 c i1
      have := x4 (ti j) hj.1.1 (by omega)
      rw [hj.2, ht] at this
      simp at this
section CMY
variable {Lw : List Nat} {S : SS} {B : SB} {d o D : Nat} {rw : Nat} {wd : Int → Int64}
theorem tst_b {cl : Int × WF × Option WF} {G : WF} {b : Bool} (h : cl.2.2 = some G) (hb : G wd = Int64.ofInt (bI b)) : tstB cl wd = b := by
  unfold tstB
  rw [h]
  show (G wd == Int64.ofInt 1) = b
  rw [hb]
  cases b <;> decide
theorem tst_n {cl : Int × WF × Option WF} (h : cl.2.2 = none) : tstB cl wd = true := by
  unfold tstB
  rw [h]
theorem CCon.nz : ∀ {n r : Nat} {G : WF}, CCon Lw S n r G → r ≠ 0
  | 0, _, _, h => h.elim
  | n + 1, r, G, h => by
    rcases h with ⟨⟨⟨a, ha, -⟩, -⟩, -⟩ | ⟨⟨⟨a, ha, -⟩, -⟩, -⟩ | ⟨⟨⟨a, ha, -⟩, -⟩, -⟩ <;> omega
theorem CCon.ob : ∀ {n r : Nat} {G : WF}, CCon Lw S n r G → ∃ c' : Nat, vc_sub 1 c' = true ∧ vc_ob Lw S r (c' : Int)
  | 0, _, _, h => h.elim
  | n + 1, r, G, h => by
    rcases h with ⟨h, -⟩ | ⟨h, -⟩ | ⟨h, -⟩
    · exact ⟨11, rfl, h⟩
    · exact ⟨12, rfl, h⟩
    · exact ⟨13, rfl, h⟩
theorem cm_holds {r : Nat} {cl : Int × WF × Option WF} (h : CTo Lw S D r cl) (hw : CWd Lw S B rw wd) : vc_M (D + d + 1) 0 0 128 [.inr (.inr r), .inr (.inr rw)] Lw S B (vc_eq (some (ii (bI (tstB cl wd)))) Lw S B) := by
  refine vc_start rfl rfl (Nat.le_of_ble_eq_true rfl) (fun X hX hd => ?_)
  obtain ⟨h1, h2, h3⟩ := h
  refine vc_walk hX ck_X12_holds [] 40 hd ?_
  rcases h3 with ⟨e, z⟩ | ⟨G, e, hG⟩
  · rw [tst_n e]
    refine ⟨h1, fun _ => ?_, fun q => absurd (show (S r 2).toNat = 0 by rw [z]; rfl) q⟩
    exact ⟨⟨Or.inr rfl, Nat.le_refl _, Nat.le_refl _⟩, rfl, rfl, rfl, rfl⟩
  · obtain ⟨b, hb, c1⟩ := cm_cond hw D _ G d hG
    rw [tst_b e hb]
    refine ⟨h1, fun q => absurd q hG.nz, fun _ => ?_⟩
    refine ⟨h1, ?_⟩
    refine vc_ka c1 ⟨Nat.le_refl _, Nat.le_refl _⟩ ?_
    cases b
    · refine ⟨by decide, fun _ => ?_, fun z => absurd rfl z⟩
      exact ⟨⟨Or.inl rfl, Nat.le_refl _, Nat.le_refl _⟩, rfl, rfl, rfl, rfl⟩
    · refine ⟨by decide, fun z => absurd z (by decide), fun _ => ?_⟩
      exact ⟨⟨Or.inr rfl, Nat.le_refl _, Nat.le_refl _⟩, rfl, rfl, rfl, rfl⟩
theorem cm_isWait {r : Nat} {ru : RU1} (h : CRu Lw S D r ru) (hw : CWd Lw S B rw wd) : vc_M (D + d + 3) 0 0 119 [.inr (.inr r), .inr (.inr rw)] Lw S B (vc_eq (some (ii (bI (decide (0 ≤ cth ru 1 wd))))) Lw S B) := by
  refine vc_start rfl rfl (Nat.le_of_ble_eq_true rfl) (fun X hX hd => ?_)
  obtain ⟨h1, hr, nt, nw, ti, wi, tr, ur, l1, l2, hn, x1, x2, x3, x4⟩ := h
  have e2 := l2.2.1
  have e3 := l2.2.2.2.1
  have loop : ∀ (m : Nat) (k : Int) (b : Bool), 0 ≤ k → k + m = nw → ((b = false ∧ ∀ i, 0 ≤ i → i < k → tstB (ru.2 (wi i)) wd = false) ∨ (b = true ∧ 0 ≤ cth ru 1 wd)) → vc_J 119 (vc_eq (some (ii (bI (decide (0 ≤ cth ru 1 wd))))) Lw S B) X 4 [(0, .inr (.inr r)), (1, .inr (.inr rw)), (2, ii (bI b)), (3, ii k)] [] Lw S B 0 0 := by
    intro m
    induction m with
    | zero =>
      intro k b k0 km hb
      refine vc_walk hX ck_X7_isWait [] 60 hd ?_
      refine ⟨h1, ?_⟩
      refine vc_kv l2.1 (cm_size (d := D + d + 2) l2.1) ⟨Nat.le_refl _, Nat.le_refl _⟩ ?_
      refine ⟨by omega, fun _ => ?_, fun z => absurd z (by omega)⟩
      refine ⟨⟨bI_01 _, Nat.le_refl _, Nat.le_refl _⟩, ?_, rfl, rfl, rfl⟩
      rcases hb with ⟨rfl, hf⟩ | ⟨rfl, ht⟩
      · rw [x2.none hr.1 (fun j j0 j1 => hf j j0 (by omega))]; rfl
      · rw [decide_eq_true ht]
    | succ m ih =>
      intro k b k0 km hb
      obtain ⟨G, eG, hG⟩ := x4 k k0 (by omega)
      obtain ⟨b2, hb2, c1⟩ := cm_cond hw D _ G (d + 2) hG
      have hbr := bI_rg b
      refine vc_walk hX ck_X7_isWait [(4, [0, 1, 2, 3])] 60 hd ?_
      refine ⟨h1, ?_⟩
      refine vc_kv l2.1 (cm_size (d := D + d + 2) l2.1) ⟨Nat.le_refl _, Nat.le_refl _⟩ ?_
      refine ⟨by omega, fun z => absurd z (by omega), fun _ => ?_⟩
      refine ⟨by omega, fun z => ?_, fun z => ?_⟩
      · have hbt := bI_n0.mp z
        have ht : 0 ≤ cth ru 1 wd := by
          rcases hb with ⟨q, -⟩ | ⟨-, q⟩
          · rw [q] at hbt; cases hbt
          · exact q
        exact ih (k + 1) true (by omega) (by omega) (Or.inr ⟨rfl, ht⟩)
      · have hbf : b = false := (bI_0 (b := b)).mp (by omega)
        have hf : ∀ i, 0 ≤ i → i < k → tstB (ru.2 (wi i)) wd = false := by
          rcases hb with ⟨-, q⟩ | ⟨q, -⟩
          · exact q
          · rw [q] at hbf; cases hbf
        refine ⟨h1, ?_⟩
        refine vc_kv l2.1 (cm_get (d := D + d) l2 (i := k) ⟨k0, by omega⟩) ⟨Nat.le_refl _, Nat.le_refl _⟩ ?_
        refine ⟨Or.inr hG.ob, ?_⟩
        refine vc_ka c1 ⟨Nat.le_refl _, Nat.le_refl _⟩ ?_
        cases hb2v : b2
        · refine ⟨by decide, fun _ => ?_, fun z => absurd rfl z⟩
          refine ih (k + 1) false (by omega) (by omega) (Or.inl ⟨rfl, fun i i0 i1 => ?_⟩)
          by_cases e : i = k
          · subst e; rw [tst_b eG hb2, hb2v]
          · exact hf i i0 (by omega)
        · refine ⟨by decide, fun z => absurd z (by decide), fun _ => ?_⟩
          refine ih (k + 1) true (by omega) (by omega) (Or.inr ⟨rfl, ?_⟩)
          rw [x2.some hr.1 k0 (by omega) hf (by rw [tst_b eG hb2, hb2v])]
          exact (x2.1 k k0 (by omega)).1.1
  refine vc_walk hX ck_X7_isWait [(4, [0, 1, 2, 3])] 60 hd ?_
  exact loop nw.toNat 0 false (by decide) (by omega) (Or.inl ⟨rfl, fun i i0 i1 => by omega⟩)
theorem cm_take {r : Nat} {ru : RU1} (h : CRu Lw S D r ru) (hw : CWd Lw S B rw wd) : vc_M (D + d + 3) 0 0 120 [.inr (.inr r), .inr (.inr rw)] Lw S B (vc_up (fun v Lw' S' B' => Lw = Lw' ∧ S = S' ∧ B = B' ∧ ∃ r', v = some (.inr (.inr r')) ∧ ((cth ru 0 wd = -1 ∧ r' = 0) ∨ (0 ≤ cth ru 0 wd ∧ CTo Lw S D r' (ru.2 (cth ru 0 wd)))))) := by
  refine vc_start rfl rfl (Nat.le_of_ble_eq_true rfl) (fun X hX hd => ?_)
  obtain ⟨h1, hr, nt, nw, ti, wi, tr, ur, l1, l2, hn, x1, x2, x3, x4⟩ := h
  have e2 := l1.2.1
  have e3 := l1.2.2.2.1
  have loop : ∀ (m : Nat) (k : Int), 0 ≤ k → k + m = nt → (∀ i, 0 ≤ i → i < k → tstB (ru.2 (ti i)) wd = false) → vc_J 120 (vc_up (fun v Lw' S' B' => Lw = Lw' ∧ S = S' ∧ B = B' ∧ ∃ r', v = some (.inr (.inr r')) ∧ ((cth ru 0 wd = -1 ∧ r' = 0) ∨ (0 ≤ cth ru 0 wd ∧ CTo Lw S D r' (ru.2 (cth ru 0 wd)))))) X 2 [(0, .inr (.inr r)), (1, .inr (.inr rw)), (2, ii k)] [] Lw S B 0 0 := by
    intro m
    induction m with
    | zero =>
      intro k k0 km hf
      refine vc_walk hX ck_X7_take [] 60 hd ?_
      refine ⟨h1, ?_⟩
      refine vc_kv l1.1 (cm_size (d := D + d + 2) l1.1) ⟨Nat.le_refl _, Nat.le_refl _⟩ ?_
      refine ⟨by omega, fun _ => ?_, fun z => absurd z (by omega)⟩
      exact ⟨⟨Nat.le_refl _, Nat.le_refl _⟩, rfl, rfl, rfl, 0, rfl, Or.inl ⟨x1.none hr.1 (fun j j0 j1 => hf j j0 (by omega)), rfl⟩⟩
    | succ m ih =>
      intro k k0 km hf
      have hT := x3 k k0 (by omega)
      have hb := bI_rg (tstB (ru.2 (ti k)) wd)
      refine vc_walk hX ck_X7_take [(2, [0, 1, 2])] 60 hd ?_
      refine ⟨h1, ?_⟩
      refine vc_kv l1.1 (cm_size (d := D + d + 2) l1.1) ⟨Nat.le_refl _, Nat.le_refl _⟩ ?_
      refine ⟨by omega, fun z => absurd z (by omega), fun _ => ?_⟩
      refine ⟨h1, ?_⟩
      refine vc_kv l1.1 (cm_get (d := D + d) l1 (i := k) ⟨k0, by omega⟩) ⟨Nat.le_refl _, Nat.le_refl _⟩ ?_
      refine ⟨Or.inr hT.1, ?_⟩
      refine vc_kv hT.1 (cm_holds (d := d + 1) hT hw) ⟨Nat.le_refl _, Nat.le_refl _⟩ ?_
      refine ⟨by omega, fun z => ?_, fun z => ?_⟩
      · refine ih (k + 1) (by omega) (by omega) (fun i i0 i1 => ?_)
        by_cases e : i = k
        · subst e; exact bI_0.mp z
        · exact hf i i0 (by omega)
      · refine ⟨h1, ?_⟩
        refine vc_kv l1.1 (cm_get (d := D + d) l1 (i := k) ⟨k0, by omega⟩) ⟨Nat.le_refl _, Nat.le_refl _⟩ ?_
        have hc := x1.some hr.1 k0 (by omega) hf (bI_n0.mp z)
        refine ⟨Or.inr hT.1, ⟨Nat.le_refl _, Nat.le_refl _⟩, rfl, rfl, rfl, tr k, rfl, Or.inr ⟨?_, ?_⟩⟩
        · rw [hc]; exact (x1.1 k k0 (by omega)).1.1
        · rw [hc]; exact hT
  refine vc_walk hX ck_X7_take [(2, [0, 1, 2])] 60 hd ?_
  exact loop nt.toNat 0 (by decide) (by omega) (fun i i0 i1 => by omega)
end CMY
