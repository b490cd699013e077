/-! THE COMPONENT's sums, tests and rules -/
set_option maxRecDepth 100000
def sgn (s z : Int) : Prop := (s = 2 ∧ z = 43) ∨ (s = 3 ∧ z = 45) ∨ (s = 4 ∧ z = 42) ∨ (s = 5 ∧ z = 47)
def cmz (s z sm : Int) : Prop := (s = 6 ∧ z = 60 ∧ sm = 0) ∨ (s = 7 ∧ z = 60 ∧ sm = 1) ∨ (s = 8 ∧ z = 61 ∧ sm = 0) ∨ (s = 9 ∧ z = 62 ∧ sm = 1) ∨ (s = 10 ∧ z = 62 ∧ sm = 0)
/-- the cell r is a sum that answers F -/
def CVal (Lw : List Nat) (S : SS) : Nat → Nat → WF → Prop
  | 0, _, _ => False
  | n + 1, r, F => (vc_ob Lw S r 7 ∧ (0 ≤ S r 0 ∧ S r 0 ≤ 99999) ∧ F = fun _ => Int64.ofInt (S r 0)) ∨ (vc_ob Lw S r 8 ∧ (0 ≤ S r 0 ∧ S r 0 ≤ 11) ∧ F = fun wd => wd (S r 0)) ∨ (vc_ob Lw S r 9 ∧ ∃ F1 F2 s, CVal Lw S n (S r 0).toNat F1 ∧ CVal Lw S n (S r 1).toNat F2 ∧ sgn s (S r 2) ∧ F = jn s F1 F2)
/-- the cell r is a test that answers G -/
def CCon (Lw : List Nat) (S : SS) : Nat → Nat → WF → Prop
  | 0, _, _ => False
  | n + 1, r, G => (vc_ob Lw S r 11 ∧ ∃ G1, CCon Lw S n (S r 0).toNat G1 ∧ G = ngW G1) ∨ (vc_ob Lw S r 12 ∧ ∃ F1 F2 s, CVal Lw S n (S r 0).toNat F1 ∧ CVal Lw S n (S r 1).toNat F2 ∧ cmz s (S r 2) (S r 3) ∧ G = jn s F1 F2) ∨ (vc_ob Lw S r 13 ∧ ∃ G1 G2, CCon Lw S n (S r 0).toNat G1 ∧ CCon Lw S n (S r 1).toNat G2 ∧ ((S r 2 = 0 ∧ G = jn 12 G1 G2) ∨ (S r 2 = 1 ∧ G = jn 13 G1 G2)))
/-- the row of words -/
def CWd (Lw : List Nat) (S : SS) (B : SB) (rw : Nat) (wd : Int → Int64) : Prop := vc_ob Lw S rw 102 ∧ S rw (-1) = 12 ∧ ∀ k, 0 ≤ k → k ≤ 11 → B rw k = wd k
section CMX
variable {Lw : List Nat} {S : SS} {B : SB} {d o : Nat}
/-- an abstract call -/
theorem vc_ka {k e r : Nat} {as : List AV} {v : Option AV} {cc sl mc ms : Nat} {Q : Option AV → List Nat → SS → SB → Nat → Nat → Prop} (h : ∃ c' mt', vc_im k c' = some mt' ∧ vc_ob Lw S r (c' : Int) ∧ vc_M e 0 0 mt' (.inr (.inr r) :: as) Lw S B (vc_eq v Lw S B)) (hb : cc + 0 ≤ mc ∧ sl + 0 ≤ ms) (kk : Q v Lw S B (cc + 0) (sl + 0)) : ∃ c' mt', vc_im k c' = some mt' ∧ vc_ob Lw S r (c' : Int) ∧ ∃ mc' ms' P', vc_M e mc' ms' mt' (.inr (.inr r) :: as) Lw S B (vc_up P') ∧ (cc + mc' ≤ mc ∧ sl + ms' ≤ ms) ∧ ∀ v Lw' S' B', P' v Lw' S' B' → Q v Lw' S' B' (cc + mc') (sl + ms') := by
  obtain ⟨c', mt', h1, h2, h3⟩ := h
  exact ⟨c', mt', h1, h2, 0, 0, _, vc_eq_up h3, hb, by rintro _ _ _ _ ⟨rfl, rfl, rfl, rfl⟩; exact kk⟩
theorem i64_0 : (Int64.ofInt 0 : Int64) = 0 := by decide
theorem cm_valu {rw : Nat} {wd : Int → Int64} (hw : CWd Lw S B rw wd) : ∀ (n r : Nat) (F : WF) (d : Nat), CVal Lw S n r F → ∃ c' mt', vc_im 0 c' = some mt' ∧ vc_ob Lw S r (c' : Int) ∧ vc_M (n + d) 0 0 mt' [.inr (.inr r), .inr (.inr rw)] Lw S B (vc_eq (some (ll (F wd))) Lw S B)
  | 0, _, _, _, h => h.elim
  | n + 1, r, F, d, h => by
    rcases h with ⟨h1, h2, rfl⟩ | ⟨h1, h2, rfl⟩ | ⟨h1, F1, F2, s, h2, h3, h4, rfl⟩
    · refine ⟨7, 122, rfl, h1, ?_⟩
      refine vc_start rfl rfl (Nat.le_of_ble_eq_true rfl) (fun X hX hd => ?_)
      refine vc_walk hX ck_X9_of [] 40 hd ?_
      exact ⟨h1, by omega, ⟨Nat.le_refl _, Nat.le_refl _⟩, rfl, rfl, rfl, rfl⟩
    · refine ⟨8, 124, rfl, h1, ?_⟩
      refine vc_start rfl rfl (Nat.le_of_ble_eq_true rfl) (fun X hX hd => ?_)
      have h3 := hw.2.2 (S r 0) h2.1 h2.2
      have h4 := hw.2.1
      refine vc_walk hX ck_X10_of [] 40 hd ?_
      refine ⟨h1, ⟨hw.1, by omega, by omega, by omega⟩, ⟨Nat.le_refl _, Nat.le_refl _⟩, ?_, rfl, rfl, rfl⟩
      rw [h3]
    · refine ⟨9, 126, rfl, h1, ?_⟩
      refine vc_start rfl rfl (Nat.le_of_ble_eq_true rfl) (fun X hX hd => ?_)
      have c1 := cm_valu hw n _ F1 d h2
      have c2 := cm_valu hw n _ F2 d h3
      have hd : X.2.2.2.2.2.2.2.2.2.2.2.2.2.2 = (n + d + 1, 0, 0) := by rw [hd, show n + 1 + d = n + d + 1 by omega]
      have hs : -2147483648 ≤ S r 2 ∧ S r 2 ≤ 2147483647 := by unfold sgn at h4; omega
      have hcr := cmp_rg (F2 wd) (Int64.ofInt 0)
      refine vc_walk hX ck_X11_of [] 60 hd ?_
      refine ⟨h1, ?_⟩
      refine vc_ka c1 ⟨Nat.le_refl _, Nat.le_refl _⟩ ?_
      refine ⟨h1, ?_⟩
      refine vc_ka c2 ⟨Nat.le_refl _, Nat.le_refl _⟩ ?_
      unfold jn opr
      rcases h4 with ⟨rfl, hz⟩ | ⟨rfl, hz⟩ | ⟨rfl, hz⟩ | ⟨rfl, hz⟩
      · refine ⟨h1, by omega, fun z => absurd hz z, fun _ => ?_⟩
        exact ⟨⟨Nat.le_refl _, Nat.le_refl _⟩, rfl, rfl, rfl, rfl⟩
      · refine ⟨h1, by omega, fun _ => ?_, fun z => absurd z (by omega)⟩
        refine ⟨h1, by omega, fun z => absurd hz z, fun _ => ?_⟩
        exact ⟨⟨Nat.le_refl _, Nat.le_refl _⟩, rfl, rfl, rfl, rfl⟩
      · refine ⟨h1, by omega, fun _ => ?_, fun z => absurd z (by omega)⟩
        refine ⟨h1, by omega, fun _ => ?_, fun z => absurd z (by omega)⟩
        refine ⟨h1, by omega, fun z => absurd hz z, fun _ => ?_⟩
        exact ⟨⟨Nat.le_refl _, Nat.le_refl _⟩, rfl, rfl, rfl, rfl⟩
      · refine ⟨h1, by omega, fun _ => ?_, fun z => absurd z (by omega)⟩
        refine ⟨h1, by omega, fun _ => ?_, fun z => absurd z (by omega)⟩
        refine ⟨h1, by omega, fun _ => ?_, fun z => absurd z (by omega)⟩
        rw [if_neg (by decide), if_neg (by decide), if_neg (by decide), if_pos rfl]
        refine ⟨by omega, fun z => ?_, fun z => ?_⟩
        · have hy : ¬ F2 wd = Int64.ofInt 0 := fun q => z (cmp_eq0.mpr q)
          rw [if_neg hy]
          exact ⟨by rw [← i64_0]; exact hy, ⟨Nat.le_refl _, Nat.le_refl _⟩, rfl, rfl, rfl, rfl⟩
        · rw [if_pos (cmp_eq0.mp z)]
          exact ⟨⟨Nat.le_refl _, Nat.le_refl _⟩, rfl, rfl, rfl, rfl⟩
theorem i64_b {b : Bool} : Int64.ofInt (bI b) = Int64.ofInt 1 ↔ b = true := by cases b <;> decide
theorem cm_cond {rw : Nat} {wd : Int → Int64} (hw : CWd Lw S B rw wd) : ∀ (n r : Nat) (G : WF) (d : Nat), CCon Lw S n r G → ∃ b : Bool, G wd = Int64.ofInt (bI b) ∧ ∃ c' mt', vc_im 1 c' = some mt' ∧ vc_ob Lw S r (c' : Int) ∧ vc_M (n + d) 0 0 mt' [.inr (.inr r), .inr (.inr rw)] Lw S B (vc_eq (some (ii (bI b))) Lw S B)
  | 0, _, _, _, h => h.elim
  | n + 1, r, G, d, h => by
    rcases h with ⟨h1, G1, h2, rfl⟩ | ⟨h1, F1, F2, s, h2, h3, h4, rfl⟩ | ⟨h1, G1, G2, h2, h3, h4⟩
    · obtain ⟨b1, e1, c1⟩ := cm_cond hw n _ G1 d h2
      refine ⟨!b1, ?_, 11, 130, rfl, h1, ?_⟩
      · unfold ngW
        rw [e1]
        cases b1 <;> decide
      · refine vc_start rfl rfl (Nat.le_of_ble_eq_true rfl) (fun X hX hd => ?_)
        have hd : X.2.2.2.2.2.2.2.2.2.2.2.2.2.2 = (n + d + 1, 0, 0) := by rw [hd, show n + 1 + d = n + d + 1 by omega]
        refine vc_walk hX ck_X14_is [] 40 hd ?_
        refine ⟨h1, ?_⟩
        refine vc_ka c1 ⟨Nat.le_refl _, Nat.le_refl _⟩ ?_
        cases b1
        · refine ⟨by decide, fun z => absurd rfl z, fun _ => ?_⟩
          exact ⟨⟨Or.inr rfl, Nat.le_refl _, Nat.le_refl _⟩, rfl, rfl, rfl, rfl⟩
        · refine ⟨by decide, fun _ => ?_, fun z => absurd z (by decide)⟩
          exact ⟨⟨Or.inl rfl, Nat.le_refl _, Nat.le_refl _⟩, rfl, rfl, rfl, rfl⟩
    · have c1 := cm_valu hw n _ F1 d h2
      have c2 := cm_valu hw n _ F2 d h3
      have hs : (-2147483648 ≤ S r 2 ∧ S r 2 ≤ 2147483647) ∧ (-2147483648 ≤ S r 3 ∧ S r 3 ≤ 2147483647) := by unfold cmz at h4; omega
      have hcr := cmp_rg (F1 wd) (F2 wd)
      have hlt := cmp_lt0 (x := F1 wd) (y := F2 wd)
      have hgt := cmp_gt0 (x := F1 wd) (y := F2 wd)
      have heq := cmp_eq0 (x := F1 wd) (y := F2 wd)
      have key : ∀ b : Bool, (∀ X, vc_F 132 X → X.2.2.2.2.2.2.2.2.2.2.2.2.2.2 = (n + d + 1, 0, 0) → vc_J 132 (vc_eq (some (ii (bI b))) Lw S B) X 19 [(0, .inr (.inr r)), (2, ll (F1 wd)), (4, ll (F2 wd))] [] Lw S B 0 0) → vc_M (n + 1 + d) 0 0 132 [.inr (.inr r), .inr (.inr rw)] Lw S B (vc_eq (some (ii (bI b))) Lw S B) := by
        intro b hb
        refine vc_start rfl rfl (Nat.le_of_ble_eq_true rfl) (fun X hX hd => ?_)
        have hd : X.2.2.2.2.2.2.2.2.2.2.2.2.2.2 = (n + d + 1, 0, 0) := by rw [hd, show n + 1 + d = n + d + 1 by omega]
        refine vc_walk hX ck_X15_is [(19, [0, 2, 4])] 60 hd ?_
        refine ⟨h1, ?_⟩
        refine vc_ka c1 ⟨Nat.le_refl _, Nat.le_refl _⟩ ?_
        refine ⟨h1, ?_⟩
        refine vc_ka c2 ⟨Nat.le_refl _, Nat.le_refl _⟩ ?_
        exact hb X hX hd
      have tt : ∀ b : Bool, b = true → (∀ X, vc_F 132 X → X.2.2.2.2.2.2.2.2.2.2.2.2.2.2 = (n + d + 1, 0, 0) → vc_J 132 (vc_eq (some (ii (bI b))) Lw S B) X 87 [] [ii 1] Lw S B 0 0) := by
        intro b hb X hX hd
        subst hb
        refine vc_walk hX ck_X15_is [] 60 hd ?_
        exact ⟨⟨Or.inr rfl, Nat.le_refl _, Nat.le_refl _⟩, rfl, rfl, rfl, rfl⟩
      have ff : ∀ b : Bool, b = false → (∀ X, vc_F 132 X → X.2.2.2.2.2.2.2.2.2.2.2.2.2.2 = (n + d + 1, 0, 0) → vc_J 132 (vc_eq (some (ii (bI b))) Lw S B) X 87 [] [ii 0] Lw S B 0 0) := by
        intro b hb X hX hd
        subst hb
        refine vc_walk hX ck_X15_is [] 60 hd ?_
        exact ⟨⟨Or.inl rfl, Nat.le_refl _, Nat.le_refl _⟩, rfl, rfl, rfl, rfl⟩
      -- what is compared, by its sign
      let bb : Bool := decide ((vt_cmp (F1 wd) (F2 wd) = 0 ∧ (S r 2 = 61 ∨ S r 3 ≠ 0)) ∨ (vt_cmp (F1 wd) (F2 wd) < 0 ∧ S r 2 = 60) ∨ (0 < vt_cmp (F1 wd) (F2 wd) ∧ S r 2 = 62))
      have hbb : ∀ b, decide ((vt_cmp (F1 wd) (F2 wd) = 0 ∧ (S r 2 = 61 ∨ S r 3 ≠ 0)) ∨ (vt_cmp (F1 wd) (F2 wd) < 0 ∧ S r 2 = 60) ∨ (0 < vt_cmp (F1 wd) (F2 wd) ∧ S r 2 = 62)) = b → vc_M (n + 1 + d) 0 0 132 [.inr (.inr r), .inr (.inr rw)] Lw S B (vc_eq (some (ii (bI b))) Lw S B) := by
        intro b hb
        refine key b (fun X hX hd => ?_)
        refine vc_walk hX ck_X15_is [(87, [])] 60 hd ?_
        refine ⟨by omega, fun z => ?_, fun z => ?_⟩
        · refine ⟨h1, by omega, fun z2 => ?_, fun z2 => ?_⟩
          · refine ⟨h1, by omega, fun z3 => ?_, fun z3 => ?_⟩
            · exact ff b (by rw [← hb]; exact decide_eq_false (by omega)) X hX hd
            · refine ⟨by omega, fun z4 => ?_, fun z4 => ?_⟩
              · exact ff b (by rw [← hb]; exact decide_eq_false (by omega)) X hX hd
              · exact tt b (by rw [← hb]; exact decide_eq_true (by omega)) X hX hd
          · refine ⟨by omega, fun z3 => ?_, fun z3 => ?_⟩
            · exact tt b (by rw [← hb]; exact decide_eq_true (by omega)) X hX hd
            · refine ⟨h1, by omega, fun z4 => ?_, fun z4 => ?_⟩
              · exact ff b (by rw [← hb]; exact decide_eq_false (by omega)) X hX hd
              · exact absurd z4 (by omega)
        · refine ⟨h1, by omega, fun z2 => ?_, fun z2 => ?_⟩
          · exact tt b (by rw [← hb]; exact decide_eq_true (by omega)) X hX hd
          · refine ⟨h1, by omega, fun z3 => ?_, fun z3 => ?_⟩
            · exact ff b (by rw [← hb]; exact decide_eq_false (by omega)) X hX hd
            · exact tt b (by rw [← hb]; exact decide_eq_true (by omega)) X hX hd
      refine ⟨_, ?_, 12, 132, rfl, h1, hbb _ rfl⟩
      unfold jn opr
      have le1 : F1 wd ≤ F2 wd ↔ ¬ 0 < vt_cmp (F1 wd) (F2 wd) := by rw [hgt]; exact Int64.not_lt.symm
      have le2 : F2 wd ≤ F1 wd ↔ ¬ vt_cmp (F1 wd) (F2 wd) < 0 := by rw [hlt]; exact Int64.not_lt.symm
      rcases h4 with ⟨rfl, e2, e3⟩ | ⟨rfl, e2, e3⟩ | ⟨rfl, e2, e3⟩ | ⟨rfl, e2, e3⟩ | ⟨rfl, e2, e3⟩
      · show Int64.ofInt (bI (decide (F1 wd < F2 wd))) = _
        congr 2
        exact decide_eq_decide.mpr (by rw [← hlt]; omega)
      · show Int64.ofInt (bI (decide (F1 wd ≤ F2 wd))) = _
        congr 2
        exact decide_eq_decide.mpr (by rw [le1]; omega)
      · show Int64.ofInt (bI (decide (F1 wd = F2 wd))) = _
        congr 2
        exact decide_eq_decide.mpr (by rw [← heq]; omega)
      · show Int64.ofInt (bI (decide (F2 wd ≤ F1 wd))) = _
        congr 2
        exact decide_eq_decide.mpr (by rw [le2]; omega)
      · show Int64.ofInt (bI (decide (F2 wd < F1 wd))) = _
        congr 2
        exact decide_eq_decide.mpr (by rw [← hgt]; omega)
    · obtain ⟨b1, e1, c1⟩ := cm_cond hw n _ G1 d h2
      obtain ⟨b2, e2, c2⟩ := cm_cond hw n _ G2 d h3
      have h2r : S r 2 = 0 ∨ S r 2 = 1 := by omega
      refine ⟨if S r 2 = 0 then b1 && b2 else b1 || b2, ?_, 13, 134, rfl, h1, ?_⟩
      · rcases h4 with ⟨hz, rfl⟩ | ⟨hz, rfl⟩
        · rw [if_pos hz]
          show G1 wd &&& G2 wd = _
          rw [e1, e2]
          cases b1 <;> cases b2 <;> decide
        · rw [if_neg (by omega)]
          show G1 wd ||| G2 wd = _
          rw [e1, e2]
          cases b1 <;> cases b2 <;> decide
      · refine vc_start rfl rfl (Nat.le_of_ble_eq_true rfl) (fun X hX hd => ?_)
        have hd : X.2.2.2.2.2.2.2.2.2.2.2.2.2.2 = (n + d + 1, 0, 0) := by rw [hd, show n + 1 + d = n + d + 1 by omega]
        refine vc_walk hX ck_X16_is [] 60 hd ?_
        refine ⟨h1, by omega, fun z => ?_, fun z => ?_⟩
        · rw [if_pos z]
          refine ⟨h1, ?_⟩
          refine vc_ka c1 ⟨Nat.le_refl _, Nat.le_refl _⟩ ?_
          cases b1
          · refine ⟨by decide, fun _ => ?_, fun z => absurd rfl z⟩
            exact ⟨⟨Or.inl rfl, Nat.le_refl _, Nat.le_refl _⟩, rfl, rfl, rfl, rfl⟩
          · refine ⟨by decide, fun z => absurd z (by decide), fun _ => ?_⟩
            refine ⟨h1, ?_⟩
            refine vc_ka c2 ⟨Nat.le_refl _, Nat.le_refl _⟩ ?_
            cases b2
            · refine ⟨by decide, fun _ => ?_, fun z => absurd rfl z⟩
              exact ⟨⟨Or.inl rfl, Nat.le_refl _, Nat.le_refl _⟩, rfl, rfl, rfl, rfl⟩
            · refine ⟨by decide, fun z => absurd z (by decide), fun _ => ?_⟩
              exact ⟨⟨Or.inr rfl, Nat.le_refl _, Nat.le_refl _⟩, rfl, rfl, rfl, rfl⟩
        · rw [if_neg z]
          refine ⟨h1, ?_⟩
          refine vc_ka c1 ⟨Nat.le_refl _, Nat.le_refl _⟩ ?_
          cases b1
          · refine ⟨by decide, fun z => absurd rfl z, fun _ => ?_⟩
            refine ⟨h1, ?_⟩
            refine vc_ka c2 ⟨Nat.le_refl _, Nat.le_refl _⟩ ?_
            cases b2
            · refine ⟨by decide, fun _ => ?_, fun z => absurd rfl z⟩
              exact ⟨⟨Or.inl rfl, Nat.le_refl _, Nat.le_refl _⟩, rfl, rfl, rfl, rfl⟩
            · refine ⟨by decide, fun z => absurd z (by decide), fun _ => ?_⟩
              exact ⟨⟨Or.inr rfl, Nat.le_refl _, Nat.le_refl _⟩, rfl, rfl, rfl, rfl⟩
          · refine ⟨by decide, fun _ => ?_, fun z => absurd z (by decide)⟩
            exact ⟨⟨Or.inr rfl, Nat.le_refl _, Nat.le_refl _⟩, rfl, rfl, rfl, rfl⟩
end CMX
