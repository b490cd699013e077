/-! THE COMPONENT's constructors -/
set_option maxRecDepth 100000
section CXE
variable {Lw Lw' : List Nat} {S0 S : SS} {B : SB} {d o D r x y rr : Nat} {τ τ' : Nat → Nat} {c a b e : Int}
theorem cm_valInit (h : vc_ob Lw S r c) : vc_M (d + 1) 0 0 146 [.inr (.inr r)] Lw S B (vc_eq none Lw S B) := by
  refine vc_start rfl rfl (Nat.le_of_ble_eq_true rfl) (fun X hX hd => ?_)
  refine vc_walk hX ck_X8_init [] 60 hd ?_
  exact ⟨⟨_, h⟩, ⟨Nat.le_refl _, Nat.le_refl _⟩, rfl, rfl, rfl, rfl⟩
theorem cm_conInit (h : vc_ob Lw S r c) : vc_M (d + 1) 0 0 147 [.inr (.inr r)] Lw S B (vc_eq none Lw S B) := by
  refine vc_start rfl rfl (Nat.le_of_ble_eq_true rfl) (fun X hX hd => ?_)
  refine vc_walk hX ck_X13_init [] 60 hd ?_
  exact ⟨⟨_, h⟩, ⟨Nat.le_refl _, Nat.le_refl _⟩, rfl, rfl, rfl, rfl⟩
theorem cm_recInit (h : vc_ob Lw S r c) : vc_M (d + 1) 0 0 158 [.inr (.inr r)] Lw S B (vc_eq none Lw S B) := by
  refine vc_start rfl rfl (Nat.le_of_ble_eq_true rfl) (fun X hX hd => ?_)
  refine vc_walk hX ck_J13_init [] 60 hd ?_
  exact ⟨⟨_, h⟩, ⟨Nat.le_refl _, Nat.le_refl _⟩, rfl, rfl, rfl, rfl⟩
theorem cm_wayInit (h : vc_ob Lw S r 4) : vc_M (d + 1) 0 0 109 [.inr (.inr r), ii a, ii b, ii e] Lw S B (vc_eq none Lw (vt_up (vt_up (vt_up S r 0 a) r 1 b) r 2 e) B) := by
  refine vc_start rfl rfl (Nat.le_of_ble_eq_true rfl) (fun X hX hd => ?_)
  refine vc_walk hX ck_X5_init [] 60 hd ?_
  exact ⟨⟨_, h⟩, h, ob_up h (by decide), ob_up (ob_up h (by decide)) (by decide), ⟨Nat.le_refl _, Nat.le_refl _⟩, rfl, rfl, rfl, rfl⟩
theorem cm_goerInit (h : vc_ob Lw S r 5) : vc_M (d + 1) 0 0 114 [.inr (.inr r), ii a, ii b, ii e] Lw S B (vc_eq none Lw (vt_up (vt_up (vt_up (vt_up (vt_up (vt_up S r 3 (-1)) r 5 (-1)) r 6 (-1)) r 2 a) r 0 b) r 1 e) B) := by
  refine vc_start rfl rfl (Nat.le_of_ble_eq_true rfl) (fun X hX hd => ?_)
  refine vc_walk hX ck_X6_init [] 60 hd ?_
  have h1 := ob_up (v := -1) (i := 3) (r' := r) h (by decide)
  have h2 := ob_up (v := -1) (i := 5) (r' := r) h1 (by decide)
  have h3 := ob_up (v := -1) (i := 6) (r' := r) h2 (by decide)
  have h4 := ob_up (v := a) (i := 2) (r' := r) h3 (by decide)
  exact ⟨⟨_, h⟩, h, h1, h2, h3, h4, ob_up h4 (by decide), ⟨Nat.le_refl _, Nat.le_refl _⟩, rfl, rfl, rfl, rfl⟩
theorem cm_plainInit (h : vc_ob Lw S r 7) : vc_M (d + 2) 0 0 121 [.inr (.inr r), ii a] Lw S B (vc_eq none Lw (vt_up S r 0 a) B) := by
  refine vc_start rfl rfl (Nat.le_of_ble_eq_true rfl) (fun X hX hd => ?_)
  obtain ⟨z, rfl, hz⟩ := h.1
  refine vc_walk hX ck_X9_init [] 60 hd ?_
  refine vc_k (cm_valInit (d := d) h) ⟨Nat.le_refl _, Nat.le_refl _⟩ ?_
  exact ⟨h, ⟨Nat.le_refl _, Nat.le_refl _⟩, rfl, rfl, rfl, rfl⟩
theorem cm_askedInit (h : vc_ob Lw S r 8) : vc_M (d + 2) 0 0 123 [.inr (.inr r), ii a] Lw S B (vc_eq none Lw (vt_up S r 0 a) B) := by
  refine vc_start rfl rfl (Nat.le_of_ble_eq_true rfl) (fun X hX hd => ?_)
  obtain ⟨z, rfl, hz⟩ := h.1
  refine vc_walk hX ck_X10_init [] 60 hd ?_
  refine vc_k (cm_valInit (d := d) h) ⟨Nat.le_refl _, Nat.le_refl _⟩ ?_
  exact ⟨h, ⟨Nat.le_refl _, Nat.le_refl _⟩, rfl, rfl, rfl, rfl⟩
theorem cm_joinedInit (h : vc_ob Lw S r 9) : vc_M (d + 2) 0 0 125 [.inr (.inr r), .inr (.inr x), .inr (.inr y), ii a] Lw S B (vc_eq none Lw (vt_up (vt_up (vt_up S r 0 (x : Int)) r 1 (y : Int)) r 2 a) B) := by
  refine vc_start rfl rfl (Nat.le_of_ble_eq_true rfl) (fun X hX hd => ?_)
  obtain ⟨z, rfl, hz⟩ := h.1
  refine vc_walk hX ck_X11_init [] 60 hd ?_
  refine vc_k (cm_valInit (d := d) h) ⟨Nat.le_refl _, Nat.le_refl _⟩ ?_
  exact ⟨h, ob_up h (by decide), ob_up (ob_up h (by decide)) (by decide), ⟨Nat.le_refl _, Nat.le_refl _⟩, rfl, rfl, rfl, rfl⟩
theorem cm_toldInit (h : vc_ob Lw S r 10) : vc_M (d + 2) 0 0 127 [.inr (.inr r), ii a, .inr (.inr x), .inr (.inr y)] Lw S B (vc_eq none Lw (vt_up (vt_up (vt_up S r 0 a) r 1 (x : Int)) r 2 (y : Int)) B) := by
  refine vc_start rfl rfl (Nat.le_of_ble_eq_true rfl) (fun X hX hd => ?_)
  obtain ⟨z, rfl, hz⟩ := h.1
  refine vc_walk hX ck_X12_init [] 60 hd ?_
  refine vc_k (cm_recInit (d := d) h) ⟨Nat.le_refl _, Nat.le_refl _⟩ ?_
  exact ⟨h, ob_up h (by decide), ob_up (ob_up h (by decide)) (by decide), ⟨Nat.le_refl _, Nat.le_refl _⟩, rfl, rfl, rfl, rfl⟩
theorem cm_notInit (h : vc_ob Lw S r 11) : vc_M (d + 2) 0 0 129 [.inr (.inr r), .inr (.inr x)] Lw S B (vc_eq none Lw (vt_up S r 0 (x : Int)) B) := by
  refine vc_start rfl rfl (Nat.le_of_ble_eq_true rfl) (fun X hX hd => ?_)
  obtain ⟨z, rfl, hz⟩ := h.1
  refine vc_walk hX ck_X14_init [] 60 hd ?_
  refine vc_k (cm_conInit (d := d) h) ⟨Nat.le_refl _, Nat.le_refl _⟩ ?_
  exact ⟨h, ⟨Nat.le_refl _, Nat.le_refl _⟩, rfl, rfl, rfl, rfl⟩
theorem cm_comparedInit (hb : b = 0 ∨ b = 1) (h : vc_ob Lw S r 12) : vc_M (d + 2) 0 0 131 [.inr (.inr r), .inr (.inr x), .inr (.inr y), ii a, ii b] Lw S B (vc_eq none Lw (vt_up (vt_up (vt_up (vt_up S r 0 (x : Int)) r 1 (y : Int)) r 2 a) r 3 b) B) := by
  refine vc_start rfl rfl (Nat.le_of_ble_eq_true rfl) (fun X hX hd => ?_)
  obtain ⟨z, rfl, hz⟩ := h.1
  refine vc_walk hX ck_X15_init [] 60 hd ?_
  refine vc_k (cm_conInit (d := d) h) ⟨Nat.le_refl _, Nat.le_refl _⟩ ?_
  exact ⟨h, ob_up h (by decide), ob_up (ob_up h (by decide)) (by decide), ⟨ob_up (ob_up (ob_up h (by decide)) (by decide)) (by decide), hb⟩, ⟨Nat.le_refl _, Nat.le_refl _⟩, rfl, rfl, rfl, rfl⟩
theorem cm_bothInit (hb : b = 0 ∨ b = 1) (h : vc_ob Lw S r 13) : vc_M (d + 2) 0 0 133 [.inr (.inr r), .inr (.inr x), .inr (.inr y), ii b] Lw S B (vc_eq none Lw (vt_up (vt_up (vt_up S r 0 (x : Int)) r 1 (y : Int)) r 2 b) B) := by
  refine vc_start rfl rfl (Nat.le_of_ble_eq_true rfl) (fun X hX hd => ?_)
  obtain ⟨z, rfl, hz⟩ := h.1
  refine vc_walk hX ck_X16_init [] 60 hd ?_
  refine vc_k (cm_conInit (d := d) h) ⟨Nat.le_refl _, Nat.le_refl _⟩ ?_
  exact ⟨h, ob_up h (by decide), ⟨ob_up (ob_up h (by decide)) (by decide), hb⟩, ⟨Nat.le_refl _, Nat.le_refl _⟩, rfl, rfl, rfl, rfl⟩
theorem cm_parserInit (h : vc_ob Lw S r 3) : vc_M (d + 1) 0 0 86 [.inr (.inr r), .inr (.inr x), .inr (.inr y), ii a] Lw S B (vc_eq none Lw (vt_up (vt_up (vt_up S r 6 (x : Int)) r 0 (y : Int)) r 5 a) B) := by
  refine vc_start rfl rfl (Nat.le_of_ble_eq_true rfl) (fun X hX hd => ?_)
  refine vc_walk hX ck_X4_init [] 60 hd ?_
  exact ⟨h, ⟨_, ob_up h (by decide)⟩, ob_up h (by decide), ob_up (ob_up h (by decide)) (by decide), ⟨Nat.le_refl _, Nat.le_refl _⟩, rfl, rfl, rfl, rfl⟩
/-- what fails: the one Wrong gets the number -/
theorem cm_fails (h0 : vc_ob Lw S o 0) (h7 : vc_ob Lw S (S o 7).toNat 1) : vc_M d 0 0 6 [.inr (.inr o), ii a, ii b] Lw S B (vc_eq (some (.inr (.inr (S o 7).toNat))) Lw (vt_up S (S o 7).toNat 6 (1 + 8 * b + a)) B) := by
  refine vc_start rfl rfl (Nat.le_of_ble_eq_true rfl) (fun X hX hd => ?_)
  have hne : o ≠ (S o 7).toNat := ob_ne h0 h7 (by decide)
  refine vc_walk hX ck_X0_fails [] 60 hd ?_
  refine ⟨h0, h7, ob_up h0 (by decide), ⟨Nat.le_refl _, Nat.le_refl _⟩, ?_, rfl, rfl, rfl⟩
  rw [up_ne (Or.inl hne)]
theorem li_keep {W : Nat → Int → Prop} {n : Int} {g : Int → Nat} (hE : Ext W Lw S0 τ Lw' S τ') (h : vc_li Lw S0 r n g) (hn : ∀ q i, i < 0 → ¬ W q i) (h1 : ∀ i, ¬ W r i) (h2 : ∀ i, ¬ W (S0 r 1).toNat i) : vc_li Lw' S r n g ∧ (liC S0 r → liC S r) ∧ τ' r = τ r ∧ τ' (S r 1).toNat = τ (S0 r 1).toNat := by
  have e1 : ∀ i, S r i = S0 r i := fun i => hE.2.1 r i h.1.1 (h1 i)
  have e2 : ∀ i, S (S0 r 1).toNat i = S0 (S0 r 1).toNat i := fun i => hE.2.1 _ i h.2.2.1.1 (h2 i)
  refine ⟨hE.liG h hn h1 h2, fun hc => ?_, hE.2.2 _ h.1.1, by rw [e1]; exact hE.2.2 _ h.2.2.1.1⟩
  unfold liC
  rw [e1, e2]
  exact hc
/-- a new rule: two empty lists -/
def RuN (Lw : List Nat) (S : SS) (τ : Nat → Nat) (rr : Nat) : Prop := vc_ob Lw S rr 6 ∧ (∀ g, vc_li Lw S (S rr 0).toNat 0 g) ∧ liC S (S rr 0).toNat ∧ (τ (S rr 0).toNat = 44 ∧ τ (S (S rr 0).toNat 1).toNat = 45) ∧ (∀ g, vc_li Lw S (S rr 1).toNat 0 g) ∧ liC S (S rr 1).toNat ∧ (τ (S rr 1).toNat = 46 ∧ τ (S (S rr 1).toNat 1).toNat = 47)
theorem cm_ruleInit (h : vc_ob Lw S rr 6) : vc_M (d + 4) 4 10 118 [.inr (.inr rr)] Lw S B (vc_up (fun v Lw' S' B' => v = none ∧ ∃ τ', Ext (fun q i => q = rr ∧ 0 ≤ i) Lw S τ Lw' S' τ' ∧ RuN Lw' S' τ' rr)) := by
  refine vc_start rfl rfl (Nat.le_of_ble_eq_true rfl) (fun X hX hd => ?_)
  refine vc_walk hX ck_X7_init [] 60 hd ?_
  refine ⟨⟨_, h⟩, ⟨by decide, by decide⟩, fun a1 n1 => ?_⟩
  have E1 : Ext (fun _ _ => False) Lw S τ (Lw ++ [a1]) (vc_nw S (a1 + 1) 15 0) (fun r => if r = a1 + 1 then 44 else τ r) := ⟨fun _ h => List.mem_append_left _ h, fun r i hr _ => nw_old n1 hr, fun r hr => if_neg (isO.ne hr n1)⟩
  refine ⟨1, 2, _, cm_listInit (d := d) (cap := 2) (t := 45) (τ := fun r => if r = a1 + 1 then 44 else τ r) (by decide) nw_new (by show (vc_nw S (a1 + 1) 15 0) (a1 + 1) 2 = 0; rw [vc_nw_at]; rfl), ⟨by decide, by decide⟩, ?_⟩
  rintro _ Lw2 S2 B2 ⟨rfl, τ2, E2, l2, c2, t2⟩
  have oa1 : isO (Lw ++ [a1]) (a1 + 1) := isO.new
  have E12 : Ext (fun _ _ => False) Lw S τ Lw2 S2 τ2 := E1.tr E2 (fun q i hq z => isO.ne hq n1 z.1)
  have h2 := E12.ob2 h id
  have hne1 : rr ≠ a1 + 1 := isO.ne h.1 n1
  have t1 : τ2 (a1 + 1) = 44 := by rw [E2.2.2 _ oa1]; exact if_pos rfl
  refine ⟨h2, ?_⟩
  have E3 : Ext (fun q i => q = rr ∧ 0 ≤ i) Lw2 S2 τ2 Lw2 (vt_up S2 rr 0 ((a1 + 1 : Nat) : Int)) τ2 := (Ag.rf.up ⟨rfl, by decide⟩ : Ag (fun q i => q = rr ∧ 0 ≤ i) S2 _).ext
  have h3 : vc_ob Lw2 (vt_up S2 rr 0 ((a1 + 1 : Nat) : Int)) rr 6 := ob_up h2 (by decide)
  have e3 : vt_up S2 rr 0 ((a1 + 1 : Nat) : Int) rr 0 = ((a1 + 1 : Nat) : Int) := vt_up_self
  generalize vt_up S2 rr 0 ((a1 + 1 : Nat) : Int) = S3 at *
  refine ⟨⟨by decide, by decide⟩, fun a2 n2 => ?_⟩
  have E4 : Ext (fun _ _ => False) Lw2 S3 τ2 (Lw2 ++ [a2]) (vc_nw S3 (a2 + 1) 15 0) (fun r => if r = a2 + 1 then 46 else τ2 r) := ⟨fun _ h => List.mem_append_left _ h, fun r i hr _ => nw_old n2 hr, fun r hr => if_neg (isO.ne hr n2)⟩
  refine ⟨1, 2, _, cm_listInit (d := d) (cap := 2) (t := 47) (τ := fun r => if r = a2 + 1 then 46 else τ2 r) (by decide) nw_new (by show (vc_nw S3 (a2 + 1) 15 0) (a2 + 1) 2 = 0; rw [vc_nw_at]; rfl), ⟨by decide, by decide⟩, ?_⟩
  rintro _ Lw5 S5 B5 ⟨rfl, τ5, E5, l5, c5, t5⟩
  have oa2 : isO (Lw2 ++ [a2]) (a2 + 1) := isO.new
  have E45 : Ext (fun _ _ => False) Lw2 S3 τ2 Lw5 S5 τ5 := E4.tr E5 (fun q i hq z => isO.ne hq n2 z.1)
  have h5 := E45.ob2 h3 id
  have e5 : S5 rr 0 = ((a1 + 1 : Nat) : Int) := by rw [E45.2.1 rr 0 h3.1 id]; exact e3
  have hne2 : rr ≠ a2 + 1 := isO.ne h3.1 n2
  have u5 : τ5 (a2 + 1) = 46 := by rw [E5.2.2 _ oa2]; exact if_pos rfl
  refine ⟨h5, ⟨by decide, by decide⟩, rfl, τ5, ?_⟩
  have E6 : Ext (fun q i => q = rr ∧ 0 ≤ i) Lw5 S5 τ5 Lw5 (vt_up S5 rr 1 ((a2 + 1 : Nat) : Int)) τ5 := (Ag.rf.up ⟨rfl, by decide⟩ : Ag (fun q i => q = rr ∧ 0 ≤ i) S5 _).ext
  have h6 : vc_ob Lw5 (vt_up S5 rr 1 ((a2 + 1 : Nat) : Int)) rr 6 := ob_up h5 (by decide)
  have e6 : vt_up S5 rr 1 ((a2 + 1 : Nat) : Int) rr 0 = ((a1 + 1 : Nat) : Int) := by rw [up_ne (Or.inr (by decide))]; exact e5
  have e7 : vt_up S5 rr 1 ((a2 + 1 : Nat) : Int) rr 1 = ((a2 + 1 : Nat) : Int) := vt_up_self
  generalize vt_up S5 rr 1 ((a2 + 1 : Nat) : Int) = S6 at *
  have E36 : Ext (fun q i => q = rr ∧ 0 ≤ i) Lw2 S2 τ2 Lw5 S6 τ5 := (E3.tr E45 (fun _ _ _ z => z.elim)).tr E6 (fun _ _ _ z => z)
  have hn : ∀ (q : Nat) (i : Int), i < 0 → ¬ (q = rr ∧ 0 ≤ i) := fun q i hi z => by omega
  have A := fun g => li_keep E36 (l2 g) hn (fun i z => hne1 z.1.symm) (fun i z => ob_ne (l2 (fun _ => 0)).2.2.1 h2 (by decide) z.1)
  have Bk := fun g => li_keep E6 (l5 g) hn (fun i z => hne2 z.1.symm) (fun i z => ob_ne (l5 (fun _ => 0)).2.2.1 h5 (by decide) z.1)
  refine ⟨(E12.mono (fun _ _ _ z => z.elim)).tr E36 (fun _ _ _ z => z), h6, ?_⟩
  rw [e6, e7, Int.toNat_natCast, Int.toNat_natCast]
  obtain ⟨-, p2, p3, p4⟩ := A (fun _ => 0)
  obtain ⟨-, s2, s3, s4⟩ := Bk (fun _ => 0)
  exact ⟨fun g => (A g).1, p2 c2, ⟨p3.trans t1, p4.trans t2⟩, fun g => (Bk g).1, s2 c5, s3.trans u5, s4.trans t5⟩
end CXE
