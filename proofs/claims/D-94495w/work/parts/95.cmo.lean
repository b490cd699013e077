/-! THE COMPONENT's methods: begins, puts -/
set_option maxRecDepth 100000
/-- what a search makes at first -/
def bgc (S : SS) (o : Nat) : Nat := if S o 10 = 0 then 2 else 0
def bgs (S : SS) (o : Nat) : Nat := if S o 10 = 0 then 2097152 else 0
/-- states are below it -/
def nSt (f : Int → Int) (c : Int) : Int := ((2 ^ (f 0 + 3 * c).toNat : Nat) : Int)
theorem nSt_le {f : Int → Int} {c : Int} (h : f 0 + 3 * c ≤ 20) : 1 ≤ nSt f c ∧ nSt f c ≤ 1048576 := by
  have : 2 ^ (f 0 + 3 * c).toNat ≤ 2 ^ 20 := Nat.pow_le_pow_right (by decide) (by omega)
  have h2 : 0 < 2 ^ (f 0 + 3 * c).toNat := Nat.two_pow_pos _
  unfold nSt
  omega
section CMO
variable {Lw : List Nat} {S0 S : SS} {B : SB} {d o : Nat} {τ : Nat → Nat} {f : Int → Int} {wr gr : Int → Nat} {lt : Int → Int} {K : Int}
def BgP (Lw : List Nat) (S : SS) (o : Nat) (τ : Nat → Nat) (f : Int → Int) (c : Int) (mv : Int → Int) (v : Option AV) (Lw' : List Nat) (S' : SS) : Prop := v = none ∧ ∃ τ', Ext (bW S o τ) Lw S τ Lw' S' τ' ∧ CSh Lw' S' o τ' ∧ CAr Lw' S' o τ' 10 100 1048576 ∧ CAr Lw' S' o τ' 11 100 1048576 ∧ CSc S' o f c mv ∧ S' o 14 = (shB f : Int) ∧ ∀ s, 0 ≤ s → s < nSt f c → S' (S' o 10).toNat s = -1
theorem CSc.ext {τ' : Nat → Nat} {Lw' : List Nat} {c : Int} {mv : Int → Int} (h : CSc S0 o f c mv) (h13 : S o 13 = S0 o 13) (h12 : S o 12 = S0 o 12) (ha : ∀ i, 0 ≤ i → S (S0 o 12).toNat i = S0 (S0 o 12).toNat i) : CSc S o f c mv := by
  obtain ⟨e13, hc, h20, hmv⟩ := h
  exact ⟨by rw [h13]; exact e13, hc, h20, fun i i0 i1 => by rw [h12, ha i i0]; exact hmv i i0 i1⟩
theorem cm_begins {c : Int} {mv : Int → Int} (hsh : CSh Lw S o τ) (hC : CLd Lw S o f wr gr lt) (hl : LI K f) (hS : CSc S o f c mv) : vc_M (d + 4) (bgc S o) (bgs S o) 32 [.inr (.inr o)] Lw S B (vc_up (fun v Lw' S' _ => BgP Lw S o τ f c mv v Lw' S')) := by
  refine vc_start rfl rfl (Nat.le_of_ble_eq_true rfl) (fun X hX hd => ?_)
  have n0 := hl.nW
  have hN := nSt_le hS.2.2.1
  have eN : (1 : Int) * 2 ^ (f 0 + 3 * c).toNat = nSt f c := by unfold nSt; simp
  have main : ∀ (Lw1 : List Nat) (S1 : SS) (B1 : SB) (τ1 : Nat → Nat) (cc sl : Nat), Ext (bW S o τ) Lw S τ Lw1 S1 τ1 → CSh Lw1 S1 o τ1 → CAr Lw1 S1 o τ1 10 100 1048576 → CAr Lw1 S1 o τ1 11 100 1048576 → CSc S1 o f c mv → cc ≤ bgc S o → sl ≤ bgs S o → vc_J 32 (vc_up (fun v Lw' S' _ => BgP Lw S o τ f c mv v Lw' S')) X 23 [(0, .inr (.inr o))] [] Lw1 S1 B1 cc sl := by
    intro Lw1 S1 B1 τ1 cc sl E1 H1 a10 a11 C1 hcc hsl
    have D1 := hC.ext E1
    have n10 : (S1 o 10).toNat ≠ o := a10.ne0 H1.1 (by decide)
    have a12 := H1.2.1.1
    have n102 : (S1 o 12).toNat ≠ (S1 o 10).toNat := a12.ne a10 (by decide)
    have n12 : (S1 o 12).toNat ≠ o := a12.ne0 H1.1 (by decide)
    have keep : ∀ S2, Ag (scW S1 o τ1) S1 S2 → (∀ i, i ≠ 14 → S2 o i = S1 o i) → (∀ i, S2 (S1 o 12).toNat i = S1 (S1 o 12).toNat i) → CSc S2 o f c mv := fun S2 A e1 e2 => C1.ext (τ' := τ1) (Lw' := Lw1) (e1 13 (by decide)) (e1 12 (by decide)) (fun i _ => e2 i)
    -- the second row: what is shut
    have l2 : ∀ (m : Nat) (k : Int) (S2 : SS), 0 ≤ k → k + m = f 0 → Ag (scW S1 o τ1) S1 S2 → (∀ i, i ≠ 14 → S2 o i = S1 o i) → (∀ i, S2 (S1 o 12).toNat i = S1 (S1 o 12).toNat i) → (∀ s, 0 ≤ s → s < nSt f c → S2 (S1 o 10).toNat s = -1) → S2 o 14 = ((bset (fun w => decide (0 < sOn f w)) k.toNat : Nat) : Int) → vc_J 32 (vc_up (fun v Lw' S' _ => BgP Lw S o τ f c mv v Lw' S')) X 65 [(0, .inr (.inr o)), (1, ii k)] [] Lw1 S2 B1 cc sl := by
      intro m
      induction m with
      | zero =>
        intro k S2 k0 km A2 e1 e2 e3 e4
        have D2 := D1.ag A2
        have H2 := H1.ag A2.q
        have w1 := D2.2.1
        have w2 := w1.2.1
        have hk : k = f 0 := by omega
        subst hk
        refine vc_walk hX ck_X0_begins [] 60 hd ?_
        refine ⟨D2.1, ?_⟩
        refine vc_kv w1.1 (cm_size (d := d + 3) w1.1) ⟨by omega, by omega⟩ ?_
        refine ⟨by omega, fun _ => ?_, fun z => absurd z (by omega)⟩
        refine ⟨⟨by omega, by omega⟩, rfl, τ1, E1.ag hC.1 A2, H2, a10.ag H1.1.2 A2.q rfl (by decide), a11.ag H1.1.2 A2.q rfl (by decide), keep S2 A2 e1 e2, e4, fun s s0 s1 => ?_⟩
        rw [e1 10 (by decide)]
        exact e3 s s0 s1
      | succ m ih =>
        intro k S2 k0 km A2 e1 e2 e3 e4
        have D2 := D1.ag A2
        have w1 := D2.2.1
        have w2 := w1.2.1
        have ho := sOn_rg hl k
        have hlt := bset_lt (fun w => decide (0 < sOn f w)) k.toNat
        have hp : (2 : Nat) ^ k.toNat ≤ 2 ^ 13 := Nat.pow_le_pow_right (by decide) (by omega)
        have go : ∀ b : Int, b = ((if decide (0 < sOn f k) = true then 2 ^ k.toNat else 0 : Nat) : Int) → vc_J 32 (vc_up (fun v Lw' S' _ => BgP Lw S o τ f c mv v Lw' S')) X 96 [(0, .inr (.inr o)), (1, ii k)] [ii b, ii (S2 o 14), .inr (.inr o)] Lw1 S2 B1 cc sl := by
          intro b hb
          have hb2 : (if decide (0 < sOn f k) = true then 2 ^ k.toNat else 0 : Nat) ≤ 2 ^ 13 := by split <;> omega
          subst hb
          refine vc_walk hX ck_X0_begins [(65, [0, 1])] 60 hd ?_
          refine ⟨D2.1, ?_⟩
          show vc_J _ _ _ _ _ _ _ _ _ _ _
          rw [e4, bt_or ⟨Int.natCast_nonneg _, by omega⟩ ⟨Int.natCast_nonneg _, by omega⟩, Int.toNat_natCast, Int.toNat_natCast]
          refine ih (k + 1) _ (by omega) (by omega) (A2.up (scW.fl rfl)) (fun i hi => ?_) (fun i => ?_) (fun s s0 s1 => ?_) ?_
          · rw [up_ne (Or.inr hi)]; exact e1 i hi
          · rw [up_ne (Or.inl n12)]; exact e2 i
          · rw [up_ne (Or.inl n10)]; exact e3 s s0 s1
          · rw [vt_up_self, bset_s k0]
        refine vc_walk hX ck_X0_begins [(96, [0, 1])] 60 hd ?_
        refine ⟨D2.1, ?_⟩
        refine vc_kv w1.1 (cm_size (d := d + 3) w1.1) ⟨by omega, by omega⟩ ?_
        refine ⟨by omega, fun z => absurd z (by omega), fun _ => ?_⟩
        refine ⟨D2.1, ?_⟩
        refine vc_kv D2.1 (cm_on (d := d) (by omega) D2 hl) ⟨by omega, by omega⟩ ?_
        refine ⟨by omega, fun z => ?_, fun z => ?_⟩
        · refine go 0 ?_
          rw [if_neg (by rw [decide_eq_true_eq]; omega)]; rfl
        · refine ⟨by omega, ?_⟩
          refine go _ ?_
          rw [if_pos (by rw [decide_eq_true_eq]; omega)]
          simp
    -- the first row: nothing is met
    have l1 : ∀ (m : Nat) (k : Int) (S2 : SS), 0 ≤ k → k + m = nSt f c → Ag (scW S1 o τ1) S1 S2 → (∀ i, S2 o i = S1 o i) → (∀ i, S2 (S1 o 12).toNat i = S1 (S1 o 12).toNat i) → (∀ s, 0 ≤ s → s < k → S2 (S1 o 10).toNat s = -1) → vc_J 32 (vc_up (fun v Lw' S' _ => BgP Lw S o τ f c mv v Lw' S')) X 25 [(0, .inr (.inr o)), (1, ii k)] [] Lw1 S2 B1 cc sl := by
      intro m
      induction m with
      | zero =>
        intro k S2 k0 km A2 e1 e2 e3
        have D2 := D1.ag A2
        have w1 := D2.2.1
        have w2 := w1.2.1
        have e13 : S2 o 13 = c := by rw [e1]; exact C1.1
        refine vc_walk hX ck_X0_begins [(65, [0, 1])] 60 hd ?_
        refine ⟨D2.1, ?_⟩
        refine vc_kv w1.1 (cm_size (d := d + 3) w1.1) ⟨by omega, by omega⟩ ?_
        refine ⟨D2.1, ?_⟩
        rw [w2, e13]
        have hc := C1.2.1
        have h20 := C1.2.2.1
        refine ⟨by omega, ?_⟩
        rw [eN]
        refine ⟨by omega, fun _ => ?_, fun z => absurd z (by omega)⟩
        refine ⟨D2.1, ?_⟩
        refine l2 (f 0).toNat 0 _ (by decide) (by omega) (A2.up (scW.fl rfl)) (fun i hi => ?_) (fun i => ?_) (fun s s0 s1 => ?_) vt_up_self
        · rw [up_ne (Or.inr hi)]; exact e1 i
        · rw [up_ne (Or.inl n12)]; exact e2 i
        · rw [up_ne (Or.inl n10)]; exact e3 s s0 (by omega)
      | succ m ih =>
        intro k S2 k0 km A2 e1 e2 e3
        have D2 := D1.ag A2
        have w1 := D2.2.1
        have w2 := w1.2.1
        have e13 : S2 o 13 = c := by rw [e1]; exact C1.1
        have e10 : S2 o 10 = S1 o 10 := e1 10
        have b10 := a10.ag H1.1.2 A2.q rfl (by decide)
        have m10 : S2 (S2 o 10).toNat (-1) = 1048576 := b10.2.1
        have hc := C1.2.1
        have h20 := C1.2.2.1
        refine vc_walk hX ck_X0_begins [(25, [0, 1])] 60 hd ?_
        refine ⟨D2.1, ?_⟩
        refine vc_kv w1.1 (cm_size (d := d + 3) w1.1) ⟨by omega, by omega⟩ ?_
        refine ⟨D2.1, ?_⟩
        rw [w2, e13]
        refine ⟨by omega, ?_⟩
        rw [eN]
        refine ⟨by omega, fun z => absurd z (by omega), fun _ => ?_⟩
        refine ⟨D2.1, ⟨b10.1, by omega, by omega, by omega⟩, ?_⟩
        rw [e10]
        refine ih (k + 1) _ (by omega) (by omega) (A2.up (scW.a a10 rfl k0)) (fun i => ?_) (fun i => ?_) (fun s s0 s1 => ?_)
        · rw [up_ne (Or.inl (fun z => n10 z.symm))]; exact e1 i
        · rw [up_ne (Or.inl n102)]; exact e2 i
        · rw [up_rd]
          by_cases cs : s = k
          · rw [if_pos ⟨rfl, cs⟩]
          · rw [if_neg (fun z => cs z.2)]; exact e3 s s0 (by omega)
    refine vc_walk hX ck_X0_begins [(25, [0, 1])] 60 hd ?_
    exact l1 (nSt f c).toNat 0 S1 (by decide) (by omega) Ag.rf (fun _ => rfl) (fun _ => rfl) (fun s s0 s1 => by omega)
  refine vc_walk hX ck_X0_begins [(23, [0])] 60 hd ?_
  refine ⟨hC.1, fun c1 => ?_, fun c1 => ?_⟩
  · rcases hsh.2.2.2 with ⟨z1, z2⟩ | ⟨z1, z2⟩
    · rw [z1] at c1; exact absurd rfl c1
    · exact main Lw S B τ 0 0 Ag.rf.ext hsh z1 z2 hS (Nat.zero_le _) (Nat.zero_le _)
  · have z1 : S o 10 = 0 ∧ S o 11 = 0 := by
      rcases hsh.2.2.2 with z | ⟨z1, z2⟩
      · exact z
      · obtain ⟨⟨⟨a, ha, hb⟩, hk⟩, -⟩ := z1
        have ha : (S o 10).toNat = a + 1 := ha
        omega
    have hbc : bgc S o = 2 := if_pos z1.1
    have hbs : bgs S o = 2097152 := if_pos z1.1
    refine ⟨⟨by decide, by decide, by rw [hbc]; decide, by rw [hbs]; decide⟩, fun a ha => ?_⟩
    obtain ⟨⟨p0, hp0, hpm⟩, hk0⟩ := hC.1
    have hoa : o ≠ a + 1 := fun z => ha (by rw [show a = p0 by omega]; exact hpm)
    have q1 : vc_ob (Lw ++ [a]) (vc_nw S (a + 1) 100 1048576) o 0 := ⟨⟨p0, hp0, List.mem_append_left _ hpm⟩, by rw [vc_nw_ne hoa]; exact hk0⟩
    refine ⟨q1, ⟨by decide, by decide, by rw [hbc]; decide, by rw [hbs]; decide⟩, fun a2 ha2 => ?_⟩
    have ha2' : a2 ∉ Lw := fun z => ha2 (List.mem_append_left _ z)
    have ha12 : a2 ≠ a := fun z => ha2 (by rw [z]; exact List.mem_append_right _ (List.mem_singleton.mpr rfl))
    have hoa2 : o ≠ a2 + 1 := fun z => ha2' (by rw [show a2 = p0 by omega]; exact hpm)
    have q2 : vc_ob (Lw ++ [a] ++ [a2]) (vc_nw (vt_up (vc_nw S (a + 1) 100 1048576) o 10 ((a + 1 : Nat) : Int)) (a2 + 1) 100 1048576) o 0 := ⟨⟨p0, hp0, List.mem_append_left _ (List.mem_append_left _ hpm)⟩, by rw [vc_nw_ne hoa2, up_ne (Or.inr (by decide)), vc_nw_ne hoa]; exact hk0⟩
    refine ⟨q2, ?_⟩
    generalize hS1 : vt_up (vc_nw (vt_up (vc_nw S (a + 1) 100 1048576) o 10 ((a + 1 : Nat) : Int)) (a2 + 1) 100 1048576) o 11 ((a2 + 1 : Nat) : Int) = S1
    have old : ∀ r i, isO Lw r → ¬ (r = o ∧ (i = 10 ∨ i = 11)) → S1 r i = S r i := by
      rintro r i ⟨b, rfl, hb⟩ hn
      have x1 : b + 1 ≠ a + 1 := fun z => ha (by rw [show a = b by omega]; exact hb)
      have x2 : b + 1 ≠ a2 + 1 := fun z => ha2' (by rw [show a2 = b by omega]; exact hb)
      rw [← hS1, up_ne (by omega), vc_nw_ne x2, up_ne (by omega), vc_nw_ne x1]
    have o10 : S1 o 10 = ((a + 1 : Nat) : Int) := by rw [← hS1, up_ne (Or.inr (by decide)), vc_nw_ne hoa2, vt_up_self]
    have o11 : S1 o 11 = ((a2 + 1 : Nat) : Int) := by rw [← hS1, vt_up_self]
    have r1 : S1 (a + 1) = fun i => if i = -2 then 100 else if i = -1 then 1048576 else 0 := by
      rw [← hS1, vt_up_ne (fun z => hoa z.symm), vc_nw_ne (by omega), vt_up_ne (fun z => hoa z.symm), vc_nw_at]
    have r2 : S1 (a2 + 1) = fun i => if i = -2 then 100 else if i = -1 then 1048576 else 0 := by
      rw [← hS1, vt_up_ne (fun z => hoa2 z.symm), vc_nw_at]
    have E1 : Ext (bW S o τ) Lw S τ (Lw ++ [a] ++ [a2]) S1 (fun r => if r = a + 1 then 10 else if r = a2 + 1 then 11 else τ r) := by
      refine ⟨fun b hb => List.mem_append_left _ (List.mem_append_left _ hb), fun r i hr hn => old r i hr (fun z => hn (Or.inr z)), ?_⟩
      rintro r ⟨b, rfl, hb⟩
      have x1 : b + 1 ≠ a + 1 := fun z => ha (by rw [show a = b by omega]; exact hb)
      have x2 : b + 1 ≠ a2 + 1 := fun z => ha2' (by rw [show a2 = b by omega]; exact hb)
      show (if b + 1 = a + 1 then 10 else if b + 1 = a2 + 1 then 11 else τ (b + 1)) = _
      rw [if_neg x1, if_neg x2]
    have a10 : CAr (Lw ++ [a] ++ [a2]) S1 o (fun r => if r = a + 1 then 10 else if r = a2 + 1 then 11 else τ r) 10 100 1048576 := by
      unfold CAr
      rw [show S1 o ((10 : Nat) : Int) = ((a + 1 : Nat) : Int) from o10, Int.toNat_natCast]
      refine ⟨⟨⟨a, rfl, List.mem_append_left _ (List.mem_append_right _ (List.mem_singleton.mpr rfl))⟩, by rw [r1]; rfl⟩, by rw [r1]; rfl, if_pos rfl⟩
    have a11 : CAr (Lw ++ [a] ++ [a2]) S1 o (fun r => if r = a + 1 then 10 else if r = a2 + 1 then 11 else τ r) 11 100 1048576 := by
      unfold CAr
      rw [show S1 o ((11 : Nat) : Int) = ((a2 + 1 : Nat) : Int) from o11, Int.toNat_natCast]
      refine ⟨⟨⟨a2, rfl, List.mem_append_right _ (List.mem_singleton.mpr rfl)⟩, by rw [r2]; rfl⟩, by rw [r2]; rfl, ?_⟩
      show (if a2 + 1 = a + 1 then 10 else if a2 + 1 = a2 + 1 then 11 else τ (a2 + 1)) = 11
      rw [if_neg (by omega), if_pos rfl]
    have oo : isO Lw o := hC.1.1
    have a12 := hsh.2.1.1
    refine main _ S1 _ _ _ _ E1 (hsh.ext E1.e (Or.inr ⟨a10, a11⟩)) a10 a11 (hS.ext (τ' := τ) (Lw' := Lw) (old o 13 oo (by omega)) (old o 12 oo (by omega)) (fun i i0 => old _ i a12.1.1 (fun z => a12.ne0 hsh.1 (by decide) z.1))) (by rw [hbc]; exact Nat.le_refl _) (by rw [hbs]; exact Nat.le_refl _)
end CMO
