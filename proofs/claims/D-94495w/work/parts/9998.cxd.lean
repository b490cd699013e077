/-! THE COMPONENT's lists: made, added to -/
set_option maxRecDepth 100000
/-- what adding to a list writes -/
def adW (lr ar : Nat) (q : Nat) (i : Int) : Prop := (q = lr ∧ 0 ≤ i ∧ i ≤ 2) ∨ (q = ar ∧ 0 ≤ i)
/-- a list with room for more: its array is not too long -/
def liC (S : SS) (r : Nat) : Prop := 0 < S (S r 1).toNat (-1) ∧ S (S r 1).toNat (-1) ≤ 30
def liA (g : Int → Nat) (n : Int) (e : Nat) (i : Int) : Nat := if i = n then e else g i
def AdP (Lw : List Nat) (S : SS) (τ : Nat → Nat) (lr e : Nat) (n : Int) (g : Int → Nat) (Lw' : List Nat) (S' : SS) : Prop := ∃ τ', Ext (adW lr (S lr 1).toNat) Lw S τ Lw' S' τ' ∧ vc_li Lw' S' lr (n + 1) (liA g n e) ∧ liC S' lr ∧ τ' (S' lr 1).toNat = τ (S lr 1).toNat
section CXD
variable {Lw Lw' : List Nat} {S0 S : SS} {B : SB} {d o D lr e c' : Nat} {τ τ' : Nat → Nat} {n : Int} {g : Int → Nat}
theorem li_app {ar : Nat} (h1 : vc_ob Lw S lr 15) (hr1 : S lr 1 = (ar : Int)) (h2 : vc_ob Lw S ar 103) (hn : 0 ≤ n ∧ n < S ar (-1) ∧ S ar (-1) ≤ 30) (hg : ∀ i, 0 ≤ i → i < n → S ar i = (g i : Int)) : vc_li Lw (vt_up (vt_up S ar n (e : Int)) lr 2 (n + 1)) lr (n + 1) (liA g n e) ∧ liC (vt_up (vt_up S ar n (e : Int)) lr 2 (n + 1)) lr ∧ (vt_up (vt_up S ar n (e : Int)) lr 2 (n + 1) lr 1).toNat = ar := by
  have hne : ar ≠ lr := ob_ne h2 h1 (by decide)
  have e1 : vt_up (vt_up S ar n (e : Int)) lr 2 (n + 1) lr 1 = (ar : Int) := by rw [up_ne (Or.inr (by decide)), up_ne (Or.inl (fun z => hne z.symm))]; exact hr1
  have ea : ∀ i, vt_up (vt_up S ar n (e : Int)) lr 2 (n + 1) ar i = if i = n then (e : Int) else S ar i := fun i => by
    rw [up_ne (Or.inl hne)]
    by_cases c : i = n
    · subst c; rw [vt_up_self, if_pos rfl]
    · rw [up_ne (Or.inr c), if_neg c]
  have en : vt_up (vt_up S ar n (e : Int)) lr 2 (n + 1) ar (-1) = S ar (-1) := by rw [ea, if_neg (by omega)]
  unfold vc_li liC
  rw [e1, Int.toNat_natCast, en]
  refine ⟨⟨ob_up (ob_up h1 (by omega)) (by decide), vt_up_self, ob_up (ob_up h2 (by omega)) (by decide), by omega, fun i i0 i1 => ?_⟩, by omega, rfl⟩
  rw [ea]
  unfold liA
  by_cases c : i = n
  · rw [if_pos c, if_pos c]
  · rw [if_neg c, if_neg c]; exact hg i i0 (by omega)
theorem cm_add2 (hli : vc_li Lw S lr n g) (hc : liC S lr) (hn : n ≤ 18) (he : vc_ob Lw S e (c' : Int)) (hc' : c' < 16) (hel : ∀ i, 0 ≤ i → i < n → ∃ c' : Nat, c' < 16 ∧ vc_ob Lw S (g i) (c' : Int)) : vc_M (d + 5) 1 46 141 [.inr (.inr lr), .inr (.inr e), .inr (.inr (S lr 1).toNat), ii n] Lw S B (vc_up (fun v Lw' S' B' => v = none ∧ AdP Lw S τ lr e n g Lw' S')) := by
  refine vc_start rfl rfl (Nat.le_of_ble_eq_true rfl) (fun X hX hd => ?_)
  obtain ⟨h1, h2, h3, h4, h5⟩ := hli
  have hlr1 : S lr 1 = (((S lr 1).toNat : Nat) : Int) := by
    obtain ⟨x, hx, -⟩ := h3.1
    omega
  have fin : ∀ (Lw1 : List Nat) (S1 : SS) (B1 : SB) (ar : Nat) (cc sl : Nat), (cc ≤ 1 ∧ sl ≤ 46) → vc_ob Lw1 S1 lr 15 → S1 lr 1 = (ar : Int) → vc_ob Lw1 S1 ar 103 → (0 ≤ n ∧ n < S1 ar (-1) ∧ S1 ar (-1) ≤ 30) → (∀ i, 0 ≤ i → i < n → S1 ar i = (g i : Int)) → vc_ob Lw1 S1 e (c' : Int) → (∃ τ', Ext (adW lr (S lr 1).toNat) Lw S τ Lw1 S1 τ' ∧ τ' ar = τ (S lr 1).toNat ∧ (ar = (S lr 1).toNat ∨ ¬ isO Lw ar)) → vc_J 141 (vc_up (fun v Lw' S' B' => v = none ∧ AdP Lw S τ lr e n g Lw' S')) X 11 [(0, .inr (.inr lr)), (1, .inr (.inr e)), (2, .inr (.inr ar)), (3, ii n)] [] Lw1 S1 B1 cc sl := by
    intro Lw1 S1 B1 ar cc sl hb k1 k2 k3 k4 k5 k6 ⟨τ1, E1, t1, ho⟩
    obtain ⟨l1, l2, l3⟩ := li_app (e := e) k1 k2 k3 k4 k5
    refine vc_walk hX ck_J2_add_2 [(14, [0, 3])] 60 hd ?_
    refine vc_x_aastO hX dJ2_add_2_14 k3 k6 hc' (by omega) ?_
    refine vc_walk hX ck_J2_add_2 [] 60 hd ?_
    refine ⟨ob_up k1 (by omega), hb, rfl, τ1, ?_, l1, l2, by rw [l3]; exact t1⟩
    have E2 : Ext (fun q i => (q = ar ∧ i = n) ∨ (q = lr ∧ i = 2)) Lw1 S1 τ1 Lw1 (vt_up (vt_up S1 ar n (e : Int)) lr 2 (n + 1)) τ1 := ((Ag.rf.up (Or.inl ⟨rfl, rfl⟩)).up (Or.inr ⟨rfl, rfl⟩) : Ag (fun q i => (q = ar ∧ i = n) ∨ (q = lr ∧ i = 2)) S1 _).ext
    refine E1.tr E2 (fun q i hq z => ?_)
    rcases z with ⟨rfl, rfl⟩ | ⟨rfl, rfl⟩
    · rcases ho with ho | ho
      · exact Or.inr ⟨ho, k4.1⟩
      · exact absurd hq ho
    · exact Or.inl ⟨rfl, by decide, by decide⟩
  have hrg := hc
  refine vc_walk hX ck_J2_add_2 [(11, [0, 1, 2, 3])] 60 hd ?_
  refine ⟨⟨⟨103, by decide, by decide, h3⟩, by have := hrg.1; have := hrg.2; omega⟩, ?_⟩
  have r1 := hrg.1
  have r2 := hrg.2
  refine ⟨by omega, fun z => ?_, fun z => ?_⟩
  · exact fin Lw S B (S lr 1).toNat _ _ ⟨by omega, by omega⟩ h1 hlr1 h3 (by omega) h5 he ⟨τ, (Ag.rf : Ag (adW lr (S lr 1).toNat) S S).ext, rfl, Or.inl rfl⟩
  · have hel2 : ∀ i, 0 ≤ i → i < S (S lr 1).toNat (-1) → (S (S lr 1).toNat i).toNat = 0 ∨ ∃ c' : Nat, c' < 16 ∧ vc_ob Lw S (S (S lr 1).toNat i).toNat (c' : Int) := fun i i0 i1 => by
      rw [h5 i i0 (by omega), Int.toNat_natCast]
      exact Or.inr (hel i i0 (by omega))
    refine vc_kp h1 (cm_grow (d := d) h1 (by omega) h3 (by omega) hel2) ⟨by omega, by omega⟩ ?_
    rintro _ _ _ _ ⟨a, ha, rfl, rfl, rfl, rfl⟩
    have hnl : lr ≠ a + 1 := isO.ne h1.1 ha
    have hna : (S lr 1).toNat ≠ a + 1 := isO.ne h3.1 ha
    generalize hcap : (S (S lr 1).toNat (-1) + if 1 < S (S lr 1).toNat (-1) / 2 then S (S lr 1).toNat (-1) / 2 else 1) = cap
    have hcr : n < cap ∧ cap ≤ 30 := by
      rw [← hcap]
      split <;> omega
    have x1 : ∀ q i, isO Lw q → cpS (vc_nw S (a + 1) 103 cap) (a + 1) (S lr 1).toNat (S (S lr 1).toNat (-1)) q i = S q i := fun q i hq => by
      show (if q = a + 1 ∧ 0 ≤ i ∧ i < _ then _ else vc_nw S (a + 1) 103 cap q i) = _
      rw [if_neg (fun z => isO.ne hq ha z.1), nw_old ha hq]
    have x2 : ∀ i, i < 0 → cpS (vc_nw S (a + 1) 103 cap) (a + 1) (S lr 1).toNat (S (S lr 1).toNat (-1)) (a + 1) i = if i = -2 then 103 else if i = -1 then cap else 0 := fun i hi => by
      show (if a + 1 = a + 1 ∧ 0 ≤ i ∧ i < _ then _ else vc_nw S (a + 1) 103 cap (a + 1) i) = _
      rw [if_neg (by omega), vc_nw_at]
    have x3 : ∀ i, 0 ≤ i → i < n → cpS (vc_nw S (a + 1) 103 cap) (a + 1) (S lr 1).toNat (S (S lr 1).toNat (-1)) (a + 1) i = (g i : Int) := fun i i0 i1 => by
      show (if a + 1 = a + 1 ∧ 0 ≤ i ∧ i < S (S lr 1).toNat (-1) then vc_nw S (a + 1) 103 cap (S lr 1).toNat i else _) = _
      rw [if_pos ⟨rfl, i0, by omega⟩, nw_old ha h3.1]
      exact h5 i i0 i1
    generalize cpS (vc_nw S (a + 1) 103 cap) (a + 1) (S lr 1).toNat (S (S lr 1).toNat (-1)) = S1 at *
    refine fin (Lw ++ [a]) (vt_up S1 lr 1 ((a + 1 : Nat) : Int)) _ (a + 1) _ _ ⟨by omega, by omega⟩ ?_ vt_up_self ?_ ?_ (fun i i0 i1 => ?_) ?_ ⟨fun r => if r = a + 1 then τ (S lr 1).toNat else τ r, ?_, if_pos rfl, Or.inr (fun z => isO.ne z ha rfl)⟩
    · exact ⟨isO.app h1.1, by rw [up_ne (Or.inr (by decide)), x1 _ _ h1.1]; exact h1.2⟩
    · exact ⟨isO.new, by rw [up_ne (Or.inr (by decide)), x2 _ (by decide)]; rfl⟩
    · rw [up_ne (Or.inr (by decide)), x2 _ (by decide)]
      exact ⟨by omega, hcr⟩
    · rw [up_ne (Or.inl (fun z => hnl z.symm))]; exact x3 i i0 i1
    · exact ⟨isO.app he.1, by rw [up_ne (Or.inr (by decide)), x1 _ _ he.1]; exact he.2⟩
    · refine ⟨fun _ h => List.mem_append_left _ h, fun q i hq hz => ?_, fun q hq => if_neg (isO.ne hq ha)⟩
      rw [up_ne (by by_cases cq : q = lr
                    · exact Or.inr (fun z => hz (Or.inl ⟨cq, by omega, by omega⟩))
                    · exact Or.inl cq)]
      exact x1 q i hq
theorem cm_add (hli : vc_li Lw S lr n g) (hc : liC S lr) (hn : n ≤ 18) (he : vc_ob Lw S e (c' : Int)) (hc' : c' < 16) (hel : ∀ i, 0 ≤ i → i < n → ∃ c' : Nat, c' < 16 ∧ vc_ob Lw S (g i) (c' : Int)) : vc_M (d + 6) 1 46 140 [.inr (.inr lr), .inr (.inr e)] Lw S B (vc_up (fun v Lw' S' B' => v = some (ii 1) ∧ AdP Lw S τ lr e n g Lw' S')) := by
  refine vc_start rfl rfl (Nat.le_of_ble_eq_true rfl) (fun X hX hd => ?_)
  obtain ⟨h1, h2, h3, h4, h5⟩ := hli
  have hne : (S lr 1).toNat ≠ lr := ob_ne h3 h1 (by decide)
  refine vc_walk hX ck_J2_add [(2, [0, 1])] 60 hd ?_
  refine vc_x_getI hX (ci := 15) (f := 0) (ref := "java/util/ArrayList") (by decide) (by decide) q204 q205 (by decide) dJ2_add_2 h1 ?_
  refine vc_walk hX ck_J2_add [(7, [0, 1])] 60 hd ?_
  refine vc_x_putI hX (ci := 15) (f := 0) (ref := "java/util/ArrayList") (by decide) (by decide) q204 (Or.inr q205) rfl rfl dJ2_add_7 h1 ?_
  have k1 : vc_ob Lw (vt_up S lr ((0 : Nat) : Int) (S lr ((0 : Nat) : Int) + 1)) lr 15 := ob_up h1 (by decide)
  have x1 : ∀ i, i ≠ 0 → vt_up S lr ((0 : Nat) : Int) (S lr ((0 : Nat) : Int) + 1) lr i = S lr i := fun i hi => up_ne (Or.inr hi)
  have x2 : ∀ q, q ≠ lr → ∀ i, vt_up S lr ((0 : Nat) : Int) (S lr ((0 : Nat) : Int) + 1) q i = S q i := fun q hq i => up_ne (Or.inl hq)
  have ob : ∀ q c, vc_ob Lw S q c → vc_ob Lw (vt_up S lr ((0 : Nat) : Int) (S lr ((0 : Nat) : Int) + 1)) q c := fun q c hq => ob_up hq (by decide)
  have E0 : Ext (fun q i => q = lr ∧ i = 0) Lw S τ Lw (vt_up S lr ((0 : Nat) : Int) (S lr ((0 : Nat) : Int) + 1)) τ := (Ag.rf.up ⟨rfl, rfl⟩ : Ag (fun q i => q = lr ∧ i = 0) S _).ext
  generalize vt_up S lr ((0 : Nat) : Int) (S lr ((0 : Nat) : Int) + 1) = S1 at *
  have l1 : vc_li Lw S1 lr n g := by
    unfold vc_li
    rw [x1 1 (by decide), x1 2 (by decide), x2 _ hne]
    exact ⟨k1, h2, ob _ _ h3, h4, fun i i0 i1 => by rw [x2 _ hne]; exact h5 i i0 i1⟩
  have c1 : liC S1 lr := by
    unfold liC
    rw [x1 1 (by decide), x2 _ hne]
    exact hc
  refine vc_walk hX ck_J2_add [] 60 hd ?_
  refine ⟨k1, k1, ?_⟩
  rw [x1 2 (by decide), h2]
  refine vc_kp k1 (cm_add2 (d := d) (τ := τ) l1 c1 hn (ob _ _ he) hc' (fun i i0 i1 => by
    obtain ⟨c2, y1, y2⟩ := hel i i0 i1
    exact ⟨c2, y1, ob _ _ y2⟩)) ⟨by omega, by omega⟩ ?_
  rintro _ Lw2 S2 B2 ⟨rfl, τ2, E2, l2, c2, t2⟩
  rw [x1 1 (by decide)] at E2 t2
  refine ⟨⟨Or.inr rfl, by omega, by omega⟩, rfl, τ2, ?_, l2, c2, t2⟩
  refine (E0.mono (W' := adW lr (S lr 1).toNat) (fun q i _ z => ?_)).tr E2 (fun _ _ _ z => z)
  obtain ⟨rfl, rfl⟩ := z
  exact Or.inl ⟨rfl, by decide, by decide⟩
theorem cm_colInit (h1 : vc_ob Lw S lr 15) : vc_M (d + 1) 0 0 148 [.inr (.inr lr)] Lw S B (vc_eq none Lw S B) := by
  refine vc_start rfl rfl (Nat.le_of_ble_eq_true rfl) (fun X hX hd => ?_)
  refine vc_walk hX ck_J0_init [] 60 hd ?_
  exact ⟨⟨_, h1⟩, ⟨Nat.le_refl _, Nat.le_refl _⟩, rfl, rfl, rfl, rfl⟩
theorem cm_lisInit (h1 : vc_ob Lw S lr 15) : vc_M (d + 2) 0 0 149 [.inr (.inr lr)] Lw S B (vc_eq none Lw (vt_up S lr 0 0) B) := by
  refine vc_start rfl rfl (Nat.le_of_ble_eq_true rfl) (fun X hX hd => ?_)
  refine vc_walk hX ck_J1_init [(6, [0])] 60 hd ?_
  obtain ⟨x, rfl, hx⟩ := h1.1
  refine vc_k (cm_colInit (d := d) h1) ⟨Nat.le_refl _, Nat.le_refl _⟩ ?_
  refine vc_x_putI hX (ci := 15) (f := 0) (ref := "java/util/AbstractList") (by decide) (by decide) q203 (Or.inl rfl) rfl rfl dJ1_init_6 h1 ?_
  refine vc_walk hX ck_J1_init [] 60 hd ?_
  exact ⟨⟨Nat.le_refl _, Nat.le_refl _⟩, rfl, rfl, rfl, rfl⟩
/-- a new list, empty -/
theorem cm_listInit {cap : Int} {t : Nat} (hcap : 0 < cap ∧ cap ≤ 30) (h1 : vc_ob Lw S lr 15) (h2 : S lr 2 = 0) : vc_M (d + 3) 1 cap.toNat 138 [.inr (.inr lr), ii cap] Lw S B (vc_up (fun v Lw' S' B' => v = none ∧ ∃ τ', Ext (fun q i => q = lr ∧ 0 ≤ i ∧ i ≤ 1) Lw S τ Lw' S' τ' ∧ (∀ g, vc_li Lw' S' lr 0 g) ∧ liC S' lr ∧ τ' (S' lr 1).toNat = t)) := by
  refine vc_start rfl rfl (Nat.le_of_ble_eq_true rfl) (fun X hX hd => ?_)
  refine vc_walk hX ck_J2_init [(10, [0])] 60 hd ?_
  obtain ⟨x, rfl, hx⟩ := h1.1
  refine vc_k (cm_lisInit (d := d) h1) ⟨Nat.zero_le _, Nat.zero_le _⟩ ?_
  refine ⟨by omega, fun z => absurd z (by omega), fun _ => ?_⟩
  refine vc_x_anew hX hd (k := 103) (Or.inl ⟨rfl, q197⟩) dJ2_init_10 (by omega) ⟨by omega, by omega⟩ (fun a ha => ?_)
  have k1 : vc_ob Lw (vt_up S (x + 1) 0 0) (x + 1) 15 := ob_up h1 (by decide)
  have E0 : Ext (fun q i => q = x + 1 ∧ 0 ≤ i ∧ i ≤ 1) Lw S τ Lw (vt_up S (x + 1) 0 0) τ := (Ag.rf.up ⟨rfl, by decide, by decide⟩ : Ag (fun q i => q = x + 1 ∧ 0 ≤ i ∧ i ≤ 1) S _).ext
  have e2 : vt_up S (x + 1) 0 0 (x + 1) 2 = 0 := by rw [up_ne (Or.inr (by decide))]; exact h2
  generalize vt_up S (x + 1) 0 0 = S1 at *
  refine vc_walk hX ck_J2_init [] 60 hd ?_
  refine ⟨nw_ob ha k1, ⟨by omega, by omega⟩, rfl, _, E0.tr (na_ext (τ := τ) (t := t) ha) (fun q i _ z => ⟨z.1, by rw [z.2]; decide, by rw [z.2]; decide⟩), fun g => ?_, ?_, ?_⟩
  · have q1 := na_ob (r0 := x + 1) (k := 1) (c := 103) (n := cap) ha (by decide) k1
    have q2 : (naS S1 (x + 1) 1 a 103 cap (x + 1) 1).toNat = a + 1 := by rw [na_at, Int.toNat_natCast]
    show vc_li _ (naS S1 (x + 1) 1 a 103 cap) _ _ _
    unfold vc_li
    rw [q2, na_new ha k1.1, na_old ha k1.1 (fun z => by omega)]
    exact ⟨q1, e2, na_obN ha k1.1, by show 0 ≤ 0 ∧ 0 ≤ cap ∧ cap ≤ 1000; omega, fun i i0 i1 => by omega⟩
  · show liC (naS S1 (x + 1) 1 a 103 cap) _
    unfold liC
    rw [na_at, Int.toNat_natCast, na_new ha k1.1]
    exact hcap
  · show (if (naS S1 (x + 1) 1 a 103 cap (x + 1) 1).toNat = a + 1 then t else _) = t
    rw [na_at, Int.toNat_natCast, if_pos rfl]
end CXD
