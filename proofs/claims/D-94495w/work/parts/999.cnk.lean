/-! THE COMPONENT's methods: images are made -/
set_option maxRecDepth 100000
/-- a new array, its reference laid into a field -/
def naS (S : SS) (r0 : Nat) (k : Int) (a : Nat) (c n : Int) : SS := vt_up (vc_nw S (a + 1) c n) r0 k ((a + 1 : Nat) : Int)
section CNK
variable {Lw Lw' : List Nat} {S0 S : SS} {B : SB} {d o D kr ir b r0 a t : Nat} {τ τ' : Nat → Nat} {f F l : Int → Int} {wr gr rr : Int → Nat} {lt : Int → Int} {K k c n : Int}
theorem isO.ne {r : Nat} (h : isO Lw r) (ha : a ∉ Lw) : r ≠ a + 1 := by
  obtain ⟨b, rfl, hb⟩ := h
  exact fun z => ha (by rw [show a = b by omega]; exact hb)
theorem isO.app {r : Nat} (h : isO Lw r) : isO (Lw ++ [a]) r := by
  obtain ⟨b, rfl, hb⟩ := h
  exact ⟨b, rfl, List.mem_append_left _ hb⟩
theorem isO.new : isO (Lw ++ [a]) (a + 1) := ⟨a, rfl, List.mem_append_right _ (List.mem_singleton.mpr rfl)⟩
theorem nw_old {r : Nat} {i : Int} (ha : a ∉ Lw) (hr : isO Lw r) : vc_nw S (a + 1) c n r i = S r i := by rw [vc_nw_ne (hr.ne ha)]
theorem nw_ob {q : Nat} {c' : Int} (ha : a ∉ Lw) (h : vc_ob Lw S q c') : vc_ob (Lw ++ [a]) (vc_nw S (a + 1) c n) q c' := ⟨isO.app h.1, by rw [nw_old ha h.1]; exact h.2⟩
theorem nw_new : vc_ob (Lw ++ [a]) (vc_nw S (a + 1) c n) (a + 1) c := ⟨isO.new, by rw [vc_nw_at]; rfl⟩
theorem na_old {r : Nat} {i : Int} (ha : a ∉ Lw) (hr : isO Lw r) (hn : ¬ (r = r0 ∧ i = k)) : naS S r0 k a c n r i = S r i := by
  unfold naS
  rw [up_ne (by by_cases h : r = r0
                · exact Or.inr (fun z => hn ⟨h, z⟩)
                · exact Or.inl h), nw_old ha hr]
theorem na_ob {q : Nat} {c' : Int} (ha : a ∉ Lw) (hk : 0 ≤ k) (h : vc_ob Lw S q c') : vc_ob (Lw ++ [a]) (naS S r0 k a c n) q c' := ⟨isO.app h.1, by rw [na_old ha h.1 (fun z => by omega)]; exact h.2⟩
theorem na_at : naS S r0 k a c n r0 k = ((a + 1 : Nat) : Int) := vt_up_self
theorem na_new (ha : a ∉ Lw) (hr : isO Lw r0) (i : Int) : naS S r0 k a c n (a + 1) i = if i = -2 then c else if i = -1 then n else 0 := by
  unfold naS
  rw [up_ne (Or.inl (fun z => hr.ne ha z.symm)), vc_nw_at]
theorem na_obN (ha : a ∉ Lw) (hr : isO Lw r0) : vc_ob (Lw ++ [a]) (naS S r0 k a c n) (a + 1) c := ⟨isO.new, by rw [na_new ha hr]; rfl⟩
theorem na_ext (ha : a ∉ Lw) : Ext (fun r i => r = r0 ∧ i = k) Lw S τ (Lw ++ [a]) (naS S r0 k a c n) (fun r => if r = a + 1 then t else τ r) := ⟨fun _ h => List.mem_append_left _ h, fun r i hr hn => na_old ha hr hn, fun r hr => if_neg (hr.ne ha)⟩
theorem na_ak {k : Nat} (ha : a ∉ Lw) (hr : isO Lw r0) : CAk (Lw ++ [a]) (naS S r0 (k : Int) a 100 n) r0 (fun r => if r = a + 1 then b + k else τ r) k b n := by
  unfold CAk
  rw [na_at, Int.toNat_natCast, na_new ha hr]
  exact ⟨na_obN ha hr, rfl, if_pos rfl⟩
theorem na_akO {j : Nat} {len : Int} (h : CAk Lw S r0 τ j b len) (ha : a ∉ Lw) (hr : isO Lw r0) (hk : 0 ≤ k) (hj : (j : Int) ≠ k) : CAk (Lw ++ [a]) (naS S r0 k a c n) r0 (fun r => if r = a + 1 then t else τ r) j b len := by
  unfold CAk
  rw [na_old ha hr (fun z => hj z.2), na_old ha h.1.1 (fun z => by omega)]
  exact ⟨na_ob ha hk h.1, h.2.1, (if_neg (isO.ne h.1.1 ha)).trans h.2.2⟩
def kpL (j : Nat) : Int := if j < 5 then 6 else 14
def KI (Lw0 : List Nat) (S0 : SS) (τ0 : Nat → Nat) (kr o b j : Nat) (Lw : List Nat) (S : SS) (τ : Nat → Nat) : Prop := Ext (fun r _ => r = kr) Lw0 S0 τ0 Lw S τ ∧ vc_ob Lw S kr 2 ∧ S kr 11 = (o : Int) ∧ ∀ i, i < j → CAk Lw S kr τ i b (kpL i)
theorem KI.step {Lw0 : List Nat} {τ0 : Nat → Nat} {j : Nat} (h : KI Lw0 S0 τ0 kr o b j Lw S τ) (ha : a ∉ Lw) (hj : j < 7) : ∃ τ', KI Lw0 S0 τ0 kr o b (j + 1) (Lw ++ [a]) (naS S kr (j : Int) a 100 (kpL j)) τ' := by
  obtain ⟨h1, h2, h3, h4⟩ := h
  refine ⟨fun r => if r = a + 1 then b + j else τ r, h1.tr (na_ext ha) (fun _ _ _ z => z.1), na_ob ha (by omega) h2, ?_, fun i hi => ?_⟩
  · rw [na_old ha h2.1 (fun z => by omega)]; exact h3
  · by_cases c : i = j
    · subst c; exact na_ak ha h2.1
    · exact na_akO (h4 i (by omega)) ha h2.1 (by omega) (by omega)
/-- a cell is kept's: its arrays are made -/
theorem cm_keptInit (hk : vc_ob Lw S kr 2) : vc_M (d + 1) 7 58 83 [.inr (.inr kr), .inr (.inr o)] Lw S B (vc_up (fun v Lw' S' B' => v = none ∧ ∃ τ', Ext (fun r _ => r = kr) Lw S τ Lw' S' τ' ∧ CKp Lw' S' kr o τ' b)) := by
  refine vc_start rfl rfl (Nat.le_of_ble_eq_true rfl) (fun X hX hd => ?_)
  refine vc_walk hX ck_X2_init [] 60 hd ?_
  have A : Ag (fun r _ => r = kr) S (vt_up S kr 11 (o : Int)) := Ag.rf.up rfl
  have K0 : KI Lw S τ kr o b 0 Lw (vt_up S kr 11 (o : Int)) τ := ⟨A.ext, ob_up hk (by decide), vt_up_self, fun i hi => absurd hi (Nat.not_lt_zero _)⟩
  refine ⟨hk, ⟨2, K0.2.1⟩, ?_⟩
  refine ⟨⟨by decide, by decide, by decide, by decide⟩, fun a1 h1 => ⟨nw_ob h1 K0.2.1, ?_⟩⟩
  obtain ⟨τ1, K1⟩ := K0.step h1 (by decide)
  refine ⟨⟨by decide, by decide, by decide, by decide⟩, fun a2 h2 => ⟨nw_ob h2 K1.2.1, ?_⟩⟩
  obtain ⟨τ2, K2⟩ := K1.step h2 (by decide)
  refine ⟨⟨by decide, by decide, by decide, by decide⟩, fun a3 h3 => ⟨nw_ob h3 K2.2.1, ?_⟩⟩
  obtain ⟨τ3, K3⟩ := K2.step h3 (by decide)
  refine ⟨⟨by decide, by decide, by decide, by decide⟩, fun a4 h4 => ⟨nw_ob h4 K3.2.1, ?_⟩⟩
  obtain ⟨τ4, K4⟩ := K3.step h4 (by decide)
  refine ⟨⟨by decide, by decide, by decide, by decide⟩, fun a5 h5 => ⟨nw_ob h5 K4.2.1, ?_⟩⟩
  obtain ⟨τ5, K5⟩ := K4.step h5 (by decide)
  refine ⟨⟨by decide, by decide, by decide, by decide⟩, fun a6 h6 => ⟨nw_ob h6 K5.2.1, ?_⟩⟩
  obtain ⟨τ6, K6⟩ := K5.step h6 (by decide)
  refine ⟨⟨by decide, by decide, by decide, by decide⟩, fun a7 h7 => ⟨nw_ob h7 K6.2.1, ?_⟩⟩
  obtain ⟨τ7, K7⟩ := K6.step h7 (by decide)
  exact ⟨⟨by decide, by decide⟩, rfl, τ7, K7.1, K7.2.1, ⟨K7.2.2.2 0 (by decide), K7.2.2.2 1 (by decide), K7.2.2.2 2 (by decide), K7.2.2.2 3 (by decide), K7.2.2.2 4 (by decide), K7.2.2.2 5 (by decide), K7.2.2.2 6 (by decide)⟩, K7.2.2.1⟩
theorem Ext.ob2 {W : Nat → Int → Prop} {q : Nat} {c' : Int} (hE : Ext W Lw S0 τ Lw' S τ') (h : vc_ob Lw S0 q c') (hn : ¬ W q (-2)) : vc_ob Lw' S q c' := by
  obtain ⟨⟨x, hx, hm⟩, h2⟩ := h
  exact ⟨⟨x, hx, hE.1 x hm⟩, by rw [hE.2.1 q (-2) ⟨x, hx, hm⟩ hn]; exact h2⟩
theorem CAk.ext2 {W : Nat → Int → Prop} {r j : Nat} {len : Int} (h : CAk Lw S0 r τ j b len) (hE : Ext W Lw S0 τ Lw' S τ') (h1 : S r (j : Int) = S0 r (j : Int)) (h2 : ∀ i, i < 0 → ¬ W (S0 r (j : Int)).toNat i) : CAk Lw' S r τ' j b len := by
  unfold CAk
  rw [h1, hE.2.1 _ (-1) h.1.1 (h2 _ (by decide)), hE.2.2 _ h.1.1]
  exact ⟨hE.ob2 h.1 (h2 _ (by decide)), h.2.1, h.2.2⟩
theorem CKp.iro (h : CKp Lw S0 kr o τ b) (hE : Ext (fun r i => r = ir ∧ i = k) Lw S0 τ Lw' S τ') (hk : 0 ≤ k) (hn : kr ≠ ir) : CKp Lw' S kr o τ' b := by
  obtain ⟨h1, ⟨a0, a1, a2, a3, a4, a5, a6⟩, h11⟩ := h
  have e : ∀ i, S kr i = S0 kr i := fun i => hE.2.1 kr i h1.1 (fun z => hn z.1)
  have x : ∀ (q : Nat) (i : Int), i < 0 → ¬ (q = ir ∧ i = k) := fun q i hi z => by omega
  exact ⟨hE.ob2 h1 (x _ _ (by decide)), ⟨a0.ext2 hE (e _) (x _), a1.ext2 hE (e _) (x _), a2.ext2 hE (e _) (x _), a3.ext2 hE (e _) (x _), a4.ext2 hE (e _) (x _), a5.ext2 hE (e _) (x _), a6.ext2 hE (e _) (x _)⟩, by rw [e]; exact h11⟩
/-- what an image's constructor makes -/
def ImN (Lw : List Nat) (S : SS) (o : Nat) (τ : Nat → Nat) (b ir : Nat) : Prop := vc_ob Lw S ir 14 ∧ S ir 7 = (o : Int) ∧ CKp Lw S (S ir 0).toNat o τ b ∧ CAk Lw S ir τ 1 (b + 7) 40 ∧ CAk Lw S ir τ 2 (b + 7) 40
theorem cm_imageInit (hk : vc_ob Lw S ir 14) : vc_M (d + 2) 10 150 135 [.inr (.inr ir), .inr (.inr o)] Lw S B (vc_up (fun v Lw' S' B' => v = none ∧ ∃ τ', Ext (fun r _ => r = ir) Lw S τ Lw' S' τ' ∧ ImN Lw' S' o τ' b ir)) := by
  refine vc_start rfl rfl (Nat.le_of_ble_eq_true rfl) (fun X hX hd => ?_)
  refine vc_walk hX ck_X17_init [] 60 hd ?_
  have A : Ag (fun r _ => r = ir) S (vt_up S ir 7 (o : Int)) := Ag.rf.up rfl
  have k0 : vc_ob Lw (vt_up S ir 7 (o : Int)) ir 14 := ob_up hk (by decide)
  have E0 : Ext (fun r _ => r = ir) Lw S τ Lw (vt_up S ir 7 (o : Int)) τ := A.ext
  have e0 : vt_up S ir 7 (o : Int) ir 7 = (o : Int) := vt_up_self
  refine ⟨hk, ⟨14, k0⟩, ?_⟩
  generalize vt_up S ir 7 (o : Int) = S0 at *
  refine ⟨⟨by decide, by decide⟩, fun a1 h1 => ?_⟩
  have k1 := nw_ob (c := 2) (n := 0) h1 k0
  have e1 : vc_nw S0 (a1 + 1) 2 0 ir 7 = (o : Int) := by rw [nw_old h1 k0.1]; exact e0
  refine ⟨k1, ?_⟩
  rw [show vc_nw S0 (a1 + 1) ((2 : Nat) : Int) 0 = vc_nw S0 (a1 + 1) 2 0 from rfl, e1, Int.toNat_natCast]
  have n1 : vc_ob (Lw ++ [a1]) (vc_nw S0 (a1 + 1) 2 0) (a1 + 1) 2 := nw_new
  have E1 : Ext (fun r _ => r = ir) Lw S τ (Lw ++ [a1]) (vc_nw S0 (a1 + 1) 2 0) τ := E0.tr (W1 := fun _ _ => False) ⟨fun _ h => List.mem_append_left _ h, fun r i hr _ => nw_old h1 hr, fun _ _ => rfl⟩ (fun _ _ _ z => z.elim)
  generalize vc_nw S0 (a1 + 1) 2 0 = S1 at *
  refine ⟨7, 58, _, cm_keptInit (d := d) (τ := τ) (o := o) (b := b) n1, ⟨by decide, by decide⟩, ?_⟩
  rintro _ Lw2 S2 B2 ⟨rfl, τ2, E2, K2⟩
  have hne : ir ≠ a1 + 1 := isO.ne k0.1 h1
  have k2 : vc_ob Lw2 S2 ir 14 := E2.ob2 k1 hne
  have e2 : S2 ir 7 = (o : Int) := by rw [E2.2.1 ir 7 k1.1 hne]; exact e1
  have E2' : Ext (fun r _ => r = ir) Lw S τ Lw2 S2 τ2 := E1.tr E2 (fun r i hr z => absurd z (hr.ne h1))
  have A3 : Ext (fun r i => r = ir ∧ i = 0) Lw2 S2 τ2 Lw2 (vt_up S2 ir 0 ((a1 + 1 : Nat) : Int)) τ2 := (Ag.rf.up ⟨rfl, rfl⟩ : Ag (fun r i => r = ir ∧ i = 0) S2 _).ext
  have k3 : vc_ob Lw2 (vt_up S2 ir 0 ((a1 + 1 : Nat) : Int)) ir 14 := ob_up k2 (by decide)
  have e3 : vt_up S2 ir 0 ((a1 + 1 : Nat) : Int) ir 7 = (o : Int) := by rw [up_ne (Or.inr (by decide))]; exact e2
  have c3 : vt_up S2 ir 0 ((a1 + 1 : Nat) : Int) ir 0 = ((a1 + 1 : Nat) : Int) := vt_up_self
  have K3 := K2.iro A3 (by decide) (fun z => hne z.symm)
  have E3 := E2'.tr A3 (fun _ _ _ z => z.1)
  refine ⟨k2, ?_⟩
  generalize vt_up S2 ir 0 ((a1 + 1 : Nat) : Int) = S3 at *
  refine ⟨⟨by decide, by decide, by decide, by decide⟩, fun a4 h4 => ⟨nw_ob h4 k3, ?_⟩⟩
  have k4 := na_ob (r0 := ir) (k := 1) (c := 100) (n := 40) h4 (by decide) k3
  have e4 := (na_old (r0 := ir) (k := 1) (c := 100) (n := 40) (i := 7) h4 k3.1 (by omega)).trans e3
  have c4 := (na_old (r0 := ir) (k := 1) (c := 100) (n := 40) (i := 0) h4 k3.1 (by omega)).trans c3
  have A4 := na_ext (S := S3) (τ := τ2) (r0 := ir) (k := 1) (c := 100) (n := 40) (t := b + 7 + 1) h4
  have K4 := K3.iro A4 (by decide) (fun z => hne z.symm)
  have E4 := E3.tr A4 (fun _ _ _ z => z.1)
  have q1 : CAk _ (naS S3 ir 1 a4 100 40) ir _ 1 (b + 7) 40 := na_ak (k := 1) (n := 40) (b := b + 7) (τ := τ2) h4 k3.1
  refine ⟨⟨by decide, by decide, by decide, by decide⟩, fun a5 h5 => ⟨nw_ob h5 k4, ?_⟩⟩
  have k5 := na_ob (r0 := ir) (k := 2) (c := 100) (n := 40) h5 (by decide) k4
  have e5 := (na_old (r0 := ir) (k := 2) (c := 100) (n := 40) (i := 7) h5 k4.1 (by omega)).trans e4
  have c5 := (na_old (r0 := ir) (k := 2) (c := 100) (n := 40) (i := 0) h5 k4.1 (by omega)).trans c4
  have A5 := na_ext (S := naS S3 ir 1 a4 100 40) (τ := fun r => if r = a4 + 1 then b + 7 + 1 else τ2 r) (r0 := ir) (k := 2) (c := 100) (n := 40) (t := b + 7 + 2) h5
  have K5 := K4.iro A5 (by decide) (fun z => hne z.symm)
  have E5 := E4.tr A5 (fun _ _ _ z => z.1)
  have q12 := na_akO (k := 2) (c := 100) (n := 40) (t := b + 7 + 2) q1 h5 k4.1 (by decide) (by decide)
  have q2 : CAk _ (naS (naS S3 ir 1 a4 100 40) ir 2 a5 100 40) ir _ 2 (b + 7) 40 := na_ak (k := 2) (n := 40) (b := b + 7) (τ := fun r => if r = a4 + 1 then b + 7 + 1 else τ2 r) h5 k4.1
  have K6 : CKp (Lw2 ++ [a4] ++ [a5]) (naS (naS S3 ir 1 a4 100 40) ir 2 a5 100 40) (naS (naS S3 ir 1 a4 100 40) ir 2 a5 100 40 ir 0).toNat o (fun r => if r = a5 + 1 then b + 7 + 2 else if r = a4 + 1 then b + 7 + 1 else τ2 r) b := by
    rw [c5, Int.toNat_natCast]
    exact K5
  exact ⟨⟨by decide, by decide⟩, rfl, _, E5, k5, e5, K6, q12, q2⟩
end CNK
