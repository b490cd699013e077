/-! THE COMPONENT's methods: closed, alike, decoys -/
set_option maxRecDepth 100000
theorem cntB_last {h : Int → Bool} {g : Int → Int} {c x : Int} (c0 : 0 ≤ c) : cntB (fun i => h (upF g c x i)) (c + 1).toNat = cntB (fun i => h (g i)) c.toNat + (if h x = true then 1 else 0) := by
  rw [cntB_s c0]
  show _ + (if h (upF g c x c) = true then 1 else 0) = _
  rw [upF_self]
  congr 1
  exact cntB_congr _ (fun i a b => by
    show h (upF g c x i) = h (g i)
    rw [upF_ne (by omega)])
/-- movers at their aims, and not at their places -/
theorem thr_mv (s p : Int) (A P : Int → Int) : ∀ n : Nat, cntB (fun g => (if sBit s g = true then A g else P g) == p) n - cntB (fun g => P g == p) n = cntB (fun i => A ((mvF s n).2 i) == p) (mvF s n).1.toNat - cntB (fun i => P ((mvF s n).2 i) == p) (mvF s n).1.toNat
  | 0 => rfl
  | n + 1 => by
    have ih := thr_mv s p A P n
    have hr := (mvF_rg s n).1.1
    show cntB _ n + _ - (cntB _ n + _) = _
    by_cases hb : sBit s (n : Int) = true
    · have e : mvF s (n + 1) = ((mvF s n).1 + 1, upF (mvF s n).2 (mvF s n).1 (n : Int)) := if_pos hb
      rw [e]
      show _ = cntB (fun i => (fun y => A y == p) (upF (mvF s n).2 (mvF s n).1 (n : Int) i)) ((mvF s n).1 + 1).toNat - cntB (fun i => (fun y => P y == p) (upF (mvF s n).2 (mvF s n).1 (n : Int) i)) ((mvF s n).1 + 1).toNat
      rw [cntB_last (h := fun y => A y == p) hr, cntB_last (h := fun y => P y == p) hr]
      simp only [if_pos hb]
      omega
    · have e : mvF s (n + 1) = mvF s n := if_neg hb
      rw [e, ← ih]
      simp only [if_neg hb]
      omega
section CMT
variable {Lw : List Nat} {S S0 : SS} {B : SB} {d o : Nat} {τ : Nat → Nat} {f : Int → Int} {wr gr : Int → Nat} {lt : Int → Int} {K c : Int} {mv : Int → Int}
/-- only what is wanted is written, and a row of scratch -/
def wnW (S0 : SS) (o : Nat) (r : Nat) (i : Int) : Prop := (r = (S0 o 16).toNat ∨ r = (S0 o 17).toNat) ∧ 0 ≤ i
theorem wnW.sc (h : CSh Lw S0 o τ) {r : Nat} {i : Int} (hw : wnW S0 o r i) : scW S0 o τ r i := by
  obtain ⟨rfl | rfl, h2⟩ := hw
  · exact scW.a h.2.1.2.1 rfl h2
  · exact scW.a h.2.1.2.2.1 rfl h2
theorem cm_alike (hsh : CSh Lw S o τ) (hC : CLd Lw S o f wr gr lt) (hl : LI K f) : vc_M (d + 5) 0 0 47 [.inr (.inr o)] Lw S B (vc_up (fun v Lw' S' B' => v = some (ii (sp_alike f)) ∧ Lw = Lw' ∧ Ag (scW S o τ) S S')) := by
  refine vc_start rfl rfl (Nat.le_of_ble_eq_true rfl) (fun X hX hd => ?_)
  have a17 := hsh.2.1.2.2.1
  have n17 : (S o 17).toNat ≠ o := a17.ne0 hsh.1 (by decide)
  have loop : ∀ (m : Nat) (p : Int) (S1 : SS), 0 ≤ p → p + m = 8 → Ag (scW S o τ) S S1 → (∀ j, 0 ≤ j → j < p → S1 (S o 17).toNat j = sLd f (f 2) j 0) → vc_J 47 (vc_up (fun v Lw' S' B' => v = some (ii (sp_alike f)) ∧ Lw = Lw' ∧ Ag (scW S o τ) S S')) X 2 [(0, .inr (.inr o)), (1, ii p)] [] Lw S1 B 0 0 := by
    intro m
    induction m with
    | zero =>
      intro p S1 p0 pm A1 P1
      have C1 := hC.ag A1
      have H1 := hsh.ag A1.q
      have e17 : S1 o 17 = S o 17 := A1 o 17 (scW.ob0 hsh.1.2 rfl)
      refine vc_walk hX ck_X0_alike [] 60 hd ?_
      refine ⟨by omega, fun _ => ?_, fun z => absurd z (by omega)⟩
      refine vc_kp C1.1 (cm_countWanted (d := d) (wn := fun p => sLd f (f 2) p 0) H1 C1 hl (fun p p0 p1 => ⟨by rw [e17]; exact P1 p p0 (by omega), by have := sLd_rg hl (f 2) p 0; omega, by have := sLd_rg hl (f 2) p 0; omega⟩)) ⟨Nat.le_refl _, Nat.le_refl _⟩ ?_
      rintro _ _ S2 _ ⟨rfl, rfl, rfl, A2⟩
      refine ⟨⟨Nat.le_refl _, Nat.le_refl _⟩, rfl, rfl, A1.tr ?_⟩
      intro r i hn
      refine A2 r i (fun z => hn ?_)
      obtain ⟨rfl, z2⟩ := z
      rw [A1 o 16 (scW.ob0 hsh.1.2 rfl)]
      exact scW.a hsh.2.1.2.1 rfl z2
    | succ m ih =>
      intro p S1 p0 pm A1 P1
      have C1 := hC.ag A1
      have H1 := hsh.ag A1.q
      have e17 : S1 o 17 = S o 17 := A1 o 17 (scW.ob0 hsh.1.2 rfl)
      have b17 := H1.2.1.2.2.1
      have m17 : S1 (S1 o 17).toNat (-1) = 8 := b17.2.1
      refine vc_walk hX ck_X0_alike [(2, [0, 1])] 60 hd ?_
      refine ⟨by omega, fun z => absurd z (by omega), fun _ => ?_⟩
      refine ⟨C1.1, ?_⟩
      refine vc_kv C1.1 (cm_out (d := d + 1) (by omega) C1 hl) ⟨Nat.le_refl _, Nat.le_refl _⟩ ?_
      refine ⟨⟨b17.1, by omega, by omega, by omega⟩, ?_⟩
      rw [e17]
      refine ih (p + 1) _ (by omega) (by omega) (A1.up (scW.a a17 rfl p0)) (fun j j0 j1 => ?_)
      rw [up_rd]
      by_cases cj : j = p
      · rw [if_pos ⟨rfl, cj⟩, cj]
      · rw [if_neg (fun z => cj z.2)]; exact P1 j j0 (by omega)
  refine vc_walk hX ck_X0_alike [(2, [0, 1])] 60 hd ?_
  exact loop 8 0 S (by decide) (by omega) Ag.rf (fun j j0 j1 => by omega)
theorem cm_hasSums {s : Int} (hsh : CSh Lw S o τ) (hC : CLd Lw S o f wr gr lt) (hl : LI K f) (hS : CSc S o f (mvC f s) (mvG f s)) : vc_M (d + 5) 0 0 44 [.inr (.inr o)] Lw S B (vc_up (fun v Lw' S' B' => v = some (ii (bI (sp_sums f s))) ∧ Lw = Lw' ∧ Ag (scW S o τ) S S')) := by
  refine vc_start rfl rfl (Nat.le_of_ble_eq_true rfl) (fun X hX hd => ?_)
  have n0 := hl.nW
  have a17 := hsh.2.1.2.2.1
  have a12 := hsh.2.1.1
  have n17 : (S o 17).toNat ≠ o := a17.ne0 hsh.1 (by decide)
  have n127 : (S o 12).toNat ≠ (S o 17).toNat := a12.ne a17 (by decide)
  obtain ⟨e13, hc, h20, hmv⟩ := hS
  have toS : ∀ S1, Ag (fun r i => r = (S o 17).toNat ∧ 0 ≤ i) S S1 → Ag (scW S o τ) S S1 := fun S1 h => h.mono (fun r i z => by obtain ⟨rfl, z2⟩ := z; exact scW.a a17 rfl z2)
  have eo : ∀ S1, Ag (fun r i => r = (S o 17).toNat ∧ 0 ≤ i) S S1 → ∀ i, S1 o i = S o i := fun S1 h i => h o i (fun z => n17 z.1.symm)
  have e12 : ∀ S1, Ag (fun r i => r = (S o 17).toNat ∧ 0 ≤ i) S S1 → ∀ i, S1 (S o 12).toNat i = S (S o 12).toNat i := fun S1 h i => h _ i (fun z => n127 z.1)
  let wn : Int → Int → Int := fun k p => sLd f (f 2) p 0 - cntB (fun i => sG f (mvG f s i) 0 == p) k.toNat + cntB (fun i => sG f (mvG f s i) 1 == p) k.toNat
  have wnr : ∀ k p, 0 ≤ k → k ≤ 6 → -100 ≤ wn k p ∧ wn k p ≤ 100 := by
    intro k p k0 k6
    have h1 := sLd_rg hl (f 2) p 0
    have h2 := cntB_le (fun i => sG f (mvG f s i) 0 == p) k0
    have h3 := cntB_le (fun i => sG f (mvG f s i) 1 == p) k0
    show -100 ≤ sLd f (f 2) p 0 - cntB (fun i => sG f (mvG f s i) 0 == p) k.toNat + cntB (fun i => sG f (mvG f s i) 1 == p) k.toNat ∧ sLd f (f 2) p 0 - cntB (fun i => sG f (mvG f s i) 0 == p) k.toNat + cntB (fun i => sG f (mvG f s i) 1 == p) k.toNat ≤ 100
    omega
  have hend : (0 < cntB (fun x => allB (fun p => sLd f x p 0 == wn (mvC f s) p) 8) (2 ^ (f 0).toNat)) ↔ sp_sums f s = true := by
    have key : ∀ x, allB (fun p => sLd f x p 0 == wn (mvC f s) p) 8 = allB (smB f s x) 8 := by
      intro x
      have h1 : ∀ p, (sLd f x p 0 == wn (mvC f s) p) = smB f s x p := by
        intro p
        have h := thr_mv s p (fun g => sG f g 1) (fun g => sG f g 0) (f 1).toNat
        have h : thr f s p - sSt f p = cntB (fun i => sG f (mvG f s i) 1 == p) (mvC f s).toNat - cntB (fun i => sG f (mvG f s i) 0 == p) (mvC f s).toNat := h
        unfold smB
        show (sLd f x p 0 == sLd f (f 2) p 0 - cntB (fun i => sG f (mvG f s i) 0 == p) (mvC f s).toNat + cntB (fun i => sG f (mvG f s i) 1 == p) (mvC f s).toNat) = _
        rw [Bool.eq_iff_iff, beq_iff_eq, beq_iff_eq]
        constructor <;> intro z <;> omega
      rw [show (fun p => sLd f x p 0 == wn (mvC f s) p) = smB f s x from funext h1]
    rw [show (fun x => allB (fun p => sLd f x p 0 == wn (mvC f s) p) 8) = (fun x => allB (smB f s x) 8) from funext key]
    unfold sp_sums
    constructor
    · intro h
      cases ha : anyB (fun d => allB (smB f s d) 8) (2 ^ (f 0).toNat) with
      | true => rfl
      | false =>
        have z : cntB (fun x => allB (smB f s x) 8) (2 ^ (f 0).toNat) = cntB (fun _ => false) (2 ^ (f 0).toNat) := cntB_congr _ (fun i a b => by
          cases hb : allB (smB f s i) 8 with
          | false => rfl
          | true =>
            have := (anyB_iff (p := fun d => allB (smB f s d) 8) (n := 2 ^ (f 0).toNat)).mpr ⟨i, a, b, hb⟩
            rw [ha] at this; cases this)
        have z2 : ∀ n : Nat, cntB (fun _ => false) n = 0 := by
          intro n
          induction n with
          | zero => rfl
          | succ n ih => show cntB _ n + _ = 0; rw [ih]; rfl
        rw [z, z2] at h
        omega
    · intro h
      obtain ⟨i, a, b, hi⟩ := anyB_iff.mp h
      have := cntB_pos (p := fun x => allB (smB f s x) 8) a hi (2 ^ (f 0).toNat) b
      omega
  have l2 : ∀ (m : Nat) (k : Int) (S1 : SS), 0 ≤ k → k + m = mvC f s → Ag (fun r i => r = (S o 17).toNat ∧ 0 ≤ i) S S1 → (∀ p, 0 ≤ p → p ≤ 7 → S1 (S o 17).toNat p = wn k p) → vc_J 44 (vc_up (fun v Lw' S' B' => v = some (ii (bI (sp_sums f s))) ∧ Lw = Lw' ∧ Ag (scW S o τ) S S')) X 27 [(0, .inr (.inr o)), (1, ii k)] [] Lw S1 B 0 0 := by
    intro m
    induction m with
    | zero =>
      intro k S1 k0 km A1 P1
      have A1s := toS S1 A1
      have C1 := hC.ag A1s
      have H1 := hsh.ag A1s.q
      have e17 := eo S1 A1 17
      have x13 := eo S1 A1 13
      have hk : k = mvC f s := by omega
      have hcr := cntB_b (fun x => allB (fun p => sLd f x p 0 == wn (mvC f s) p) 8) (2 ^ (f 0).toNat)
      have h14 := pow14 n0.2
      have ep : ((2 ^ (f 0).toNat : Nat) : Int) = (2 : Int) ^ (f 0).toNat := by simp
      refine vc_walk hX ck_X0_hasSums [] 60 hd ?_
      refine ⟨C1.1, by omega, fun _ => ?_, fun z => absurd z (by omega)⟩
      refine vc_kp C1.1 (cm_countWanted (d := d) (wn := wn (mvC f s)) H1 C1 hl (fun p p0 p1 => ⟨by rw [e17, P1 p p0 p1, hk], wnr _ p (by omega) (by omega)⟩)) ⟨Nat.le_refl _, Nat.le_refl _⟩ ?_
      rintro _ _ S2 _ ⟨rfl, rfl, rfl, A2⟩
      have A3 : Ag (scW S o τ) S S2 := A1s.tr (fun r i hn => A2 r i (fun z => hn (by
        obtain ⟨rfl, z2⟩ := z
        rw [A1s o 16 (scW.ob0 hsh.1.2 rfl)]
        exact scW.a hsh.2.1.2.1 rfl z2)))
      refine ⟨by omega, fun z => ?_, fun z => ?_⟩
      · rw [show sp_sums f s = false by
          cases h : sp_sums f s with
          | false => rfl
          | true => have := hend.mpr h; omega]
        exact ⟨⟨Or.inl rfl, Nat.le_refl _, Nat.le_refl _⟩, rfl, rfl, A3⟩
      · rw [hend.mp (by omega)]
        exact ⟨⟨Or.inr rfl, Nat.le_refl _, Nat.le_refl _⟩, rfl, rfl, A3⟩
    | succ m ih =>
      intro k S1 k0 km A1 P1
      have A1s := toS S1 A1
      have C1 := hC.ag A1s
      have H1 := hsh.ag A1s.q
      have e17 := eo S1 A1 17
      have e12o := eo S1 A1 12
      have x13 := eo S1 A1 13
      obtain ⟨m1, m2, m3⟩ := hmv k k0 (by omega)
      have hm1 : S1 (S1 o 12).toNat k = mvG f s k := by rw [e12o, e12 S1 A1 k]; exact m1
      have b12 := H1.2.1.1
      have b17 := H1.2.1.2.2.1
      have l12 : S1 (S1 o 12).toNat (-1) = 6 := b12.2.1
      have l17 : S1 (S1 o 17).toNat (-1) = 8 := b17.2.1
      have hG := C1.2.2.2.2.1 _ m2.1 m2.2
      have g1 := C1.2.2.1
      have hgi := hl.g m2.1 m2.2
      have hp : 0 ≤ sG f (mvG f s k) 0 ∧ sG f (mvG f s k) 0 ≤ 7 := by obtain ⟨-, -, -, q | q⟩ := hgi <;> omega
      have ha := hgi.1
      have hg2 := hG.2.2.2.1.2 m3
      have hg0 := hG.2.1
      refine vc_walk hX ck_X0_hasSums [(27, [0, 1])] 60 hd ?_
      refine ⟨C1.1, by omega, fun z => absurd z (by omega), fun _ => ?_⟩
      refine ⟨C1.1, C1.1, C1.1, ⟨b12.1, by omega, by omega, by omega⟩, ?_⟩
      rw [hm1]
      refine vc_kv g1.1 (cm_get (d := d + 2) g1 (i := mvG f s k) m2) ⟨Nat.le_refl _, Nat.le_refl _⟩ ?_
      refine ⟨Or.inr hG.1, hG.1, ?_⟩
      rw [hg2, e17]
      have q1 := P1 _ hp.1 hp.2
      rw [e17] at l17
      have b17' : vc_ob Lw S1 (S o 17).toNat 100 := by rw [← e17]; exact b17.1
      refine ⟨⟨b17', by omega, by omega, by omega⟩, ⟨b17', by omega, by omega, by omega⟩, ?_⟩
      rw [q1]
      have A2 : Ag (fun r i => r = (S o 17).toNat ∧ 0 ≤ i) S (vt_up S1 (S o 17).toNat (sG f (mvG f s k) 0) (wn k (sG f (mvG f s k) 0) - 1)) := A1.up ⟨rfl, hp.1⟩
      have A2s := toS _ A2
      have C2 := hC.ag A2s
      have H2 := hsh.ag A2s.q
      have hm2 : (vt_up S1 (S o 17).toNat (sG f (mvG f s k) 0) (wn k (sG f (mvG f s k) 0) - 1)) (S o 12).toNat k = mvG f s k := by rw [e12 _ A2 k]; exact m1
      have f17 := eo _ A2 17
      have f12 := eo _ A2 12
      have hG2 := C2.2.2.2.2.1 _ m2.1 m2.2
      have c12 := H2.2.1.1
      have k12 : (vt_up S1 (S o 17).toNat (sG f (mvG f s k) 0) (wn k (sG f (mvG f s k) 0) - 1)) ((vt_up S1 (S o 17).toNat (sG f (mvG f s k) 0) (wn k (sG f (mvG f s k) 0) - 1)) o 12).toNat (-1) = 6 := c12.2.1
      have c17 := H2.2.1.2.2.1
      have k17 : (vt_up S1 (S o 17).toNat (sG f (mvG f s k) 0) (wn k (sG f (mvG f s k) 0) - 1)) ((vt_up S1 (S o 17).toNat (sG f (mvG f s k) 0) (wn k (sG f (mvG f s k) 0) - 1)) o 17).toNat (-1) = 8 := c17.2.1
      have c17' := c17.1
      rw [show (vt_up S1 (S o 17).toNat (sG f (mvG f s k) 0) (wn k (sG f (mvG f s k) 0) - 1)) o ((17 : Nat) : Int) = S o 17 from f17] at c17'
      rw [f17] at k17
      have h2 := C2.2.2.1
      refine ⟨C2.1, C2.1, C2.1, ⟨c12.1, by omega, by omega, by omega⟩, ?_⟩
      rw [f12, hm2, f17]
      refine vc_kv h2.1 (cm_get (d := d + 2) h2 (i := mvG f s k) m2) ⟨Nat.le_refl _, Nat.le_refl _⟩ ?_
      refine ⟨Or.inr hG2.1, hG2.1, ?_⟩
      rw [hG2.2.1]
      refine ⟨⟨c17', by omega, by omega, by omega⟩, ⟨c17', by omega, by omega, by omega⟩, ?_⟩
      refine ih (k + 1) _ (by omega) (by omega) (A2.up ⟨rfl, ha.1⟩) (fun p p0 p1 => ?_)
      show _ = sLd f (f 2) p 0 - cntB (fun i => sG f (mvG f s i) 0 == p) (k + 1).toNat + cntB (fun i => sG f (mvG f s i) 1 == p) (k + 1).toNat
      have hq : ∀ p, 0 ≤ p → p ≤ 7 → (vt_up S1 (S o 17).toNat (sG f (mvG f s k) 0) (wn k (sG f (mvG f s k) 0) - 1)) (S o 17).toNat p = wn k p - (if sG f (mvG f s k) 0 = p then 1 else 0) := by
        intro p p0 p1
        rw [up_rd]
        by_cases cp : p = sG f (mvG f s k) 0
        · subst cp
          rw [if_pos ⟨rfl, rfl⟩, if_pos rfl]
        · rw [if_neg (fun z => cp z.2), if_neg (fun z => cp z.symm), P1 p p0 p1, Int.sub_zero]
      rw [cntB_s k0, cntB_s k0, up_rd]
      have hwk : wn k p = sLd f (f 2) p 0 - cntB (fun i => sG f (mvG f s i) 0 == p) k.toNat + cntB (fun i => sG f (mvG f s i) 1 == p) k.toNat := rfl
      have hq1 := hq p p0 p1
      by_cases cp : p = sG f (mvG f s k) 1
      · rw [if_pos ⟨rfl, cp⟩, ← cp, hq1, if_pos (show (p == p) = true from beq_self_eq_true p)]
        by_cases cq : sG f (mvG f s k) 0 = p
        · rw [if_pos cq, if_pos (show (sG f (mvG f s k) 0 == p) = true from beq_iff_eq.mpr cq)]; omega
        · rw [if_neg cq, if_neg (by rw [beq_iff_eq]; exact cq)]; omega
      · rw [if_neg (fun z => cp z.2), hq1, if_neg (show ¬ (sG f (mvG f s k) 1 == p) = true by rw [beq_iff_eq]; exact fun z => cp z.symm)]
        by_cases cq : sG f (mvG f s k) 0 = p
        · rw [if_pos cq, if_pos (show (sG f (mvG f s k) 0 == p) = true from beq_iff_eq.mpr cq)]; omega
        · rw [if_neg cq, if_neg (by rw [beq_iff_eq]; exact cq)]; omega
  have l1 : ∀ (m : Nat) (p : Int) (S1 : SS), 0 ≤ p → p + m = 8 → Ag (fun r i => r = (S o 17).toNat ∧ 0 ≤ i) S S1 → (∀ j, 0 ≤ j → j < p → S1 (S o 17).toNat j = sLd f (f 2) j 0) → vc_J 44 (vc_up (fun v Lw' S' B' => v = some (ii (bI (sp_sums f s))) ∧ Lw = Lw' ∧ Ag (scW S o τ) S S')) X 2 [(0, .inr (.inr o)), (1, ii p)] [] Lw S1 B 0 0 := by
    intro m
    induction m with
    | zero =>
      intro p S1 p0 pm A1 P1
      refine vc_walk hX ck_X0_hasSums [(27, [0, 1])] 60 hd ?_
      refine ⟨by omega, fun _ => ?_, fun z => absurd z (by omega)⟩
      refine l2 (mvC f s).toNat 0 S1 (by decide) (by omega) A1 (fun j j0 j1 => ?_)
      rw [P1 j j0 (by omega)]
      show _ = sLd f (f 2) j 0 - 0 + 0
      omega
    | succ m ih =>
      intro p S1 p0 pm A1 P1
      have A1s := toS S1 A1
      have C1 := hC.ag A1s
      have H1 := hsh.ag A1s.q
      have e17 := eo S1 A1 17
      have b17 := H1.2.1.2.2.1
      have l17 : S1 (S1 o 17).toNat (-1) = 8 := b17.2.1
      refine vc_walk hX ck_X0_hasSums [(2, [0, 1])] 60 hd ?_
      refine ⟨by omega, fun z => absurd z (by omega), fun _ => ?_⟩
      refine ⟨C1.1, ?_⟩
      refine vc_kv C1.1 (cm_out (d := d + 1) (by omega) C1 hl) ⟨Nat.le_refl _, Nat.le_refl _⟩ ?_
      refine ⟨⟨b17.1, by omega, by omega, by omega⟩, ?_⟩
      rw [e17]
      refine ih (p + 1) _ (by omega) (by omega) (A1.up ⟨rfl, p0⟩) (fun j j0 j1 => ?_)
      rw [up_rd]
      by_cases cj : j = p
      · rw [if_pos ⟨rfl, cj⟩, cj]
      · rw [if_neg (fun z => cj z.2)]; exact P1 j j0 (by omega)
  refine vc_walk hX ck_X0_hasSums [(2, [0, 1])] 60 hd ?_
  exact l1 8 0 S (by decide) (by omega) Ag.rf (fun j j0 j1 => by omega)
theorem cm_closed {s k : Int} {mc ms : Nat} (hmc : sAre f s = true ∧ k = 0 → bgc S o ≤ mc ∧ bgs S o ≤ ms) (hs : -2147483648 ≤ s ∧ s ≤ 2147483647) (hk : -2147483648 ≤ k ∧ k ≤ 2147483647) (hsh : CSh Lw S o τ) (hC : CLd Lw S o f wr gr lt) (hl : LI K f) : vc_M (d + 7) mc ms 42 [.inr (.inr o), ii s, ii k] Lw S B (vc_up (fun v Lw' S' _ => FwP Lw S o τ (sAre f s = true ∧ k = 0) (fun z => z = sp_clo f s k) v Lw' S')) := by
  refine vc_start rfl rfl (Nat.le_of_ble_eq_true rfl) (fun X hX hd => ?_)
  have hb := bI_rg (sAre f s)
  have hb2 := bI_rg (sIn k 0 1)
  refine vc_walk hX ck_X0_closed [] 60 hd ?_
  refine vc_kp hC.1 (cm_chooses (d := d + 3) hs hsh hC hl Ag.rf) ⟨by omega, by omega⟩ ?_
  rintro _ _ S1 _ ⟨rfl, rfl, rfl, A1, h10, hSc⟩
  have noA : ¬ (sAre f s = true ∧ sIn k 0 1 = true) → FwP Lw S o τ (sAre f s = true ∧ k = 0) (fun z => z = sp_clo f s k) (some (ii (-1))) Lw S1 := by
    intro hn
    refine ⟨⟨-1, rfl, ?_⟩, (fun z => hn ⟨z.1, decide_eq_true (by omega)⟩ |>.elim), τ, (A1.mono (fun _ _ z => Or.inl z) : Ag (bW S o τ) S S1).ext, hsh.ag A1.q⟩
    unfold sp_clo
    rw [if_neg hn]
  refine ⟨by omega, fun c1 => ⟨⟨by omega, by omega⟩, noA (by rw [bI_0.mp c1]; simp)⟩, fun c1 => ?_⟩
  have hy := bI_n0.mp c1
  refine ⟨by omega, vc_k (cm_in (d := d + 6) (by omega) (by decide) (by decide)) ⟨by omega, by omega⟩ ?_⟩
  refine ⟨by omega, fun c2 => ?_, fun c2 => ⟨⟨by omega, by omega⟩, noA (by rw [(bI_0 (b := sIn k 0 1)).mp (by omega)]; simp)⟩⟩
  have hy2 := bI_n0.mp c2
  have hk2 : 0 ≤ k ∧ k ≤ 1 := of_decide_eq_true hy2
  have C1 := hSc hy
  have D1 := hC.ag A1
  have hbc : bgc S1 o = bgc S o := by unfold bgc; rw [h10]
  have hbs : bgs S1 o = bgs S o := by unfold bgs; rw [h10]
  have hsp : sp_clo f s k = if k = 1 then bI (sp_sums f s) else cntB (rcB f s) (2 ^ (f 0).toNat) := if_pos ⟨hy, hy2⟩
  have hb3 := bI_rg (sp_sums f s)
  refine ⟨by omega, fun c3 => ?_, fun c3 => ?_⟩
  · refine vc_kp D1.1 (cm_hasSums (d := d + 1) (hsh.ag A1.q) D1 hl C1) ⟨by omega, by omega⟩ ?_
    rintro _ _ S2 _ ⟨rfl, rfl, A2⟩
    have A3 : Ag (bW S o τ) S S2 := (A1.mono (fun _ _ z => Or.inl z) : Ag (bW S o τ) S S1).tr (fun r i hn => A2 r i (fun z => hn (by
      rcases z with ⟨z1, z2⟩ | ⟨z1, z2, z3⟩ | ⟨z1, z2, z3⟩
      · exact Or.inl (Or.inl ⟨z1, z2⟩)
      · refine Or.inl (Or.inr (Or.inl ⟨?_, z2, z3⟩))
        rw [← A1.q r (-2) (pW.neg (by decide))]; exact z1
      · refine Or.inl (Or.inr (Or.inr ⟨?_, z2, ?_⟩))
        · rw [← A1.q r (-2) (pW.neg (by decide))]; exact z1
        · rw [z3, A1 o 32 (scW.ob0 hsh.1.2 rfl)])))
    have H2 := (hsh.ag A1.q).ag A2.q
    refine ⟨by omega, fun c4 => ?_, fun c4 => ?_⟩
    · refine ⟨⟨by omega, by omega⟩, ⟨0, rfl, ?_⟩, (fun z => absurd z.2 c3), τ, A3.ext, H2⟩
      rw [hsp, if_pos (by omega), c4]
    · refine ⟨⟨by omega, by omega⟩, ⟨1, rfl, ?_⟩, (fun z => absurd z.2 c3), τ, A3.ext, H2⟩
      rw [hsp, if_pos (by omega), bI_n0.mp c4]; rfl
  · have hmc := hmc ⟨hy, c3⟩
    refine vc_kp D1.1 (cm_closedMany (d := d) hy (hsh.ag A1.q) D1 hl C1) ⟨by omega, by omega⟩ ?_
    rintro _ Lw2 S2 B2 ⟨⟨z, rfl, hz⟩, hnz, τ2, E2, H2⟩
    refine ⟨⟨by omega, by omega⟩, ⟨z, rfl, ?_⟩, (fun _ => hnz trivial), τ2, Ext.pre A1 hC.1 E2, H2⟩
    rw [hz, hsp, if_neg (by omega)]
end CMT
