/-! THE TWIN's methods: clauses and words -/
set_option maxRecDepth 100000
abbrev WF : Type := (Int → Int64) → Int64
/-- rules: how many clauses; a clause: 0 take or 1 wait, its sum, its test -/
abbrev RU : Type := Int → Int × (Int → Int × WF × Option WF)
theorem rrun_congr {sg : Int → Int} {wd wd' : Int → Int64} (h : ∀ i, 0 ≤ i → i ≤ 11 → wd i = wd' i) : ∀ (n : Nat) (i : Int) (st : List Int64), (∀ j, i ≤ j → j < i + n → 0 ≤ sg j ∧ (sg j % 16 = 1 → sg j / 16 ≤ 11)) → rrun sg wd n i st = rrun sg wd' n i st
  | 0, _, _, _ => rfl
  | n + 1, i, st, hs => by
    have h1 := hs i (by omega) (by omega)
    have e : rst wd (sg i) st = rst wd' (sg i) st := by
      unfold rst
      by_cases c : sg i % 16 = 1
      · rw [h (sg i / 16) (by omega) (h1.2 c)]
      · rw [if_neg c, if_neg c]
    unfold rrun
    rw [e]
    split
    · exact rrun_congr h n (i + 1) _ (fun j a b => hs j (by omega) (by omega))
    · rfl
theorem Seg.congr {sg : Int → Int} {b e : Int} {F : WF} (h : Seg sg b e F) {wd wd' : Int → Int64} (hw : ∀ i, 0 ≤ i → i ≤ 11 → wd i = wd' i) : F wd = F wd' := by
  have h1 := h.2.2.2 wd
  have h2 := h.2.2.2 wd'
  rw [rrun_congr hw _ _ _ (fun j a b => ⟨(h.2.2.1 j a (by have := h.1; omega)).1.1, (h.2.2.1 j a (by have := h.1; omega)).2⟩), h2] at h1
  exact ((List.cons.inj (Option.some.inj h1)).1).symm
/-- the twin's arrays hold the rule t -/
def RuT1 (S : SS) (t : Int) (r : Int × (Int → Int × WF × Option WF)) : Prop := S 6 t = r.1 ∧ (0 ≤ r.1 ∧ r.1 ≤ 12) ∧ ∀ c, 0 ≤ c → c < r.1 → S 5 (60 * t + 5 * c) = (r.2 c).1 ∧ ((r.2 c).1 = 0 ∨ (r.2 c).1 = 1) ∧ ((r.2 c).1 = 0 → Seg (fun i => S 3 (400 * t + i)) (S 5 (60 * t + 5 * c + 1)) (S 5 (60 * t + 5 * c + 2)) (r.2 c).2.1) ∧
  match (r.2 c).2.2 with
  | none => S 5 (60 * t + 5 * c + 3) = -1
  | some G => 0 ≤ S 5 (60 * t + 5 * c + 3) ∧ Seg (fun i => S 3 (400 * t + i)) (S 5 (60 * t + 5 * c + 3)) (S 5 (60 * t + 5 * c + 4)) G
def RuT (S : SS) (R : RU) : Prop := (0 ≤ S 43 2 ∧ S 43 2 ≤ 6) ∧ ∀ t, 0 ≤ t → t < S 43 2 → RuT1 S t (R t)
/-- whether a clause's test holds -/
def tstB (c : Int × WF × Option WF) (wd : Int → Int64) : Bool := match c.2.2 with
  | none => true
  | some G => G wd == Int64.ofInt 1
/-- the first clause of a sort that holds; none: -1 -/
def cth (r : Int × (Int → Int × WF × Option WF)) (so : Int) (wd : Int → Int64) : Int := lst (fun c => ((r.2 c).1 == so) && tstB (r.2 c) wd) r.1.toNat
/-- only scratch of reckoning changed -/
def rkp (S : SS) (B : SB) (S' : SS) (B' : SB) : Prop := vt_but [43] S S' ∧ (∀ i : Int, i ≠ 21 → S' 43 i = S 43 i) ∧ ∀ k, k ≠ 20 → B' k = B k
section TMT
variable {S : SS} {B : SB} {K : Int}
theorem rkp.rf : rkp S B S B := ⟨vt_but.rf, fun _ _ => rfl, fun _ _ => rfl⟩
theorem rkp.tr {S1 S2 : SS} {B1 B2 : SB} (h : rkp S B S1 B1) (h2 : rkp S1 B1 S2 B2) : rkp S B S2 B2 := ⟨h.1.tr h2.1 (fun _ h => h), fun i hi => (h2.2.1 i hi).trans (h.2.1 i hi), fun k hk => (h2.2.2 k hk).trans (h.2.2 k hk)⟩
theorem tm_clauseThat {t so : Int} {r : Int × (Int → Int × WF × Option WF)} (ht : 0 ≤ t ∧ t ≤ 5) (hso : so = 0 ∨ so = 1) (hR : RuT1 S t r) : vt_M 94 [me, ii t, ii so] S B (fun rr S' B' => some (ii (if cth r so (B 22) < 0 then -1 else 60 * t + 5 * cth r so (B 22))) = rr ∧ rkp S B S' B') := by
  refine vt_start rfl rfl (Nat.le_of_ble_eq_true rfl) (fun X hX => ?_)
  obtain ⟨r1, r2, r3⟩ := hR
  generalize hV : (if cth r so (B 22) < 0 then -1 else 60 * t + 5 * cth r so (B 22)) = V
  have loop : ∀ (a : Nat) (c : Int) (T : SS) (BB : SB), 0 ≤ c → c + a = r.1 → rkp S B T BB → (∀ i, 0 ≤ i → i < c → (((r.2 i).1 == so) && tstB (r.2 i) (B 22)) = false) → vt_J 94 (fun rr S' B' => some (ii V) = rr ∧ rkp S B S' B') X 2 [(0, me), (1, ii t), (2, ii so), (3, ii c)] [] T BB := by
    intro a
    induction a with
    | zero =>
      intro c T BB c0 ca hT hno
      have e6 : T 6 = S 6 := hT.1 6 (by decide)
      have hc : cth r so (B 22) = -1 := by
        unfold cth
        rcases lst_spec (fun c => ((r.2 c).1 == so) && tstB (r.2 c) (B 22)) r.1.toNat with ⟨x, -⟩ | ⟨x1, x2, x3, -⟩
        · exact x
        · rw [hno _ x1 (by omega)] at x3; cases x3
      refine vt_walk hX tk_clauseThat [] 60 ?_
      refine ⟨by omega, by rw [e6, r1]; omega, fun _ => ?_, fun z => absurd z (by rw [e6, r1]; omega)⟩
      refine ⟨?_, hT⟩
      rw [← hV, hc, if_pos (by decide)]
    | succ a ih =>
      intro c T BB c0 ca hT hno
      have e6 : T 6 = S 6 := hT.1 6 (by decide)
      have e5 : T 5 = S 5 := hT.1 5 (by decide)
      have e3 : T 3 = S 3 := hT.1 3 (by decide)
      have e22 : BB 22 = B 22 := hT.2.2 22 (by decide)
      obtain ⟨q1, q2, q3, q4⟩ := r3 c c0 (by omega)
      have go : ∀ T BB, rkp S B T BB → (((r.2 c).1 == so) && tstB (r.2 c) (B 22)) = false → vt_J 94 (fun rr S' B' => some (ii V) = rr ∧ rkp S B S' B') X 2 [(0, me), (1, ii t), (2, ii so), (3, ii (c + 1))] [] T BB := by
        intro T BB hT hq
        refine ih (c + 1) T BB (by omega) (by omega) hT (fun i i0 i1 => ?_)
        by_cases e : i = c
        · subst e; exact hq
        · exact hno i i0 (by omega)
      have stop : (((r.2 c).1 == so) && tstB (r.2 c) (B 22)) = true → V = 60 * t + 5 * c := by
        intro hq
        have hc : cth r so (B 22) = c := by
          unfold cth
          rcases lst_spec (fun c => ((r.2 c).1 == so) && tstB (r.2 c) (B 22)) r.1.toNat with ⟨-, x⟩ | ⟨x1, x2, x3, x4⟩
          · have := x c c0 (by omega)
            rw [hq] at this; cases this
          · rcases Int.lt_trichotomy (lst (fun c => ((r.2 c).1 == so) && tstB (r.2 c) (B 22)) r.1.toNat) c with z | z | z
            · rw [hno _ x1 z] at x3; cases x3
            · exact z
            · have := x4 c c0 z
              rw [hq] at this; cases this
        rw [← hV, hc, if_neg (by omega)]
      refine vt_walk hX tk_clauseThat [(2, [0, 1, 2, 3])] 60 ?_
      refine ⟨by omega, by rw [e6, r1]; omega, fun z => absurd z (by rw [e6, r1]; omega), fun _ => ?_⟩
      refine ⟨by omega, by rw [e5, q1]; omega, fun d => ?_, fun d => ?_⟩ <;> rw [e5, q1] at d
      · exact go T BB hT (by rw [show ((r.2 c).1 == so) = false by simpa using d]; rfl)
      have d1 : ((r.2 c).1 == so) = true := by simpa using d
      cases hG : (r.2 c).2.2 with
      | none =>
        rw [hG] at q4
        have q4 : S 5 (60 * t + 5 * c + 3) = -1 := q4
        have ht1 : tstB (r.2 c) (B 22) = true := by unfold tstB; rw [hG]
        refine ⟨by omega, by rw [e5, q4]; omega, fun _ => ?_, fun z => absurd z (by rw [e5, q4]; omega)⟩
        rw [stop (by rw [d1, ht1]; rfl)]
        exact ⟨rfl, hT⟩
      | some G =>
        rw [hG] at q4
        obtain ⟨q5, q6⟩ : 0 ≤ S 5 (60 * t + 5 * c + 3) ∧ Seg (fun i => S 3 (400 * t + i)) (S 5 (60 * t + 5 * c + 3)) (S 5 (60 * t + 5 * c + 4)) G := q4
        have hb := q6.1
        have ht1 : tstB (r.2 c) (B 22) = (G (B 22) == Int64.ofInt 1) := by unfold tstB; rw [hG]
        refine ⟨by omega, by rw [e5]; omega, fun z => absurd z (by rw [e5]; omega), fun _ => ?_⟩
        refine ⟨by omega, by omega, ?_⟩
        rw [e5]
        refine ⟨_, tm_reckons ht (by rw [e3]; exact q6), ?_⟩
        rintro _ T2 B2 ⟨rfl, u1, u2, u3⟩
        rw [e22]
        have hT2 : rkp S B T2 B2 := hT.tr ⟨u1, u2, u3⟩
        have hcr := cmp_rg (G (B 22)) (Int64.ofInt 1)
        refine ⟨by omega, fun w => ?_, fun w => ?_⟩
        · exact go T2 B2 hT2 (by rw [d1, ht1, show (G (B 22) == Int64.ofInt 1) = false by simpa using fun q => w (cmp_eq0.mpr q)]; rfl)
        · rw [stop (by rw [d1, ht1, show (G (B 22) == Int64.ofInt 1) = true by simpa using cmp_eq0.mp w]; rfl)]
          exact ⟨rfl, hT2⟩
  refine vt_walk hX tk_clauseThat [(2, [0, 1, 2, 3])] 60 ?_
  exact loop r.1.toNat 0 S B (by omega) (by omega) rkp.rf (fun i i0 i1 => by omega)
-- ===== words =====
def wd0 (f : Int → Int) (g k : Int) : Int := if k = 8 then g else if k = 9 then sG f g 1 else if k = 10 then f 4 else 0
noncomputable def wdA (f : Int → Int) (g p k : Int) : Int := if k = 4 then p else if k = 5 then (if dst f p (sG f g 1) < 0 then 99 else dst f p (sG f g 1)) else if k = 6 then sLd f (f 2) p 0 else if k = 7 then sSt f p else wd0 f g k
noncomputable def wdW (f : Int → Int) (g w k : Int) : Int := if k = 0 then w else if k = 1 then sW f w 2 else if k = 2 then sW f w 3 else if k = 3 then sW f w 4 else if k = 11 then sOn f w else wdA f g (sE f (f 2) w 1) k
def bkp (B B' : SB) : Prop := ∀ k, k ≠ 20 → k ≠ 22 → B' k = B k
theorem tm_clearWords {g : Int} (hg : 0 ≤ g ∧ g < S 23 1) (h : LI K (S 23)) : vt_M 92 [me, ii g] S B (fun r S' B' => none = r ∧ S = S' ∧ bkp B B' ∧ ∀ k, 0 ≤ k → k ≤ 11 → B' 22 k = Int64.ofInt (wd0 (S 23) g k)) := by
  refine vt_start rfl rfl (Nat.le_of_ble_eq_true rfl) (fun X hX => ?_)
  have n1 := h.nG
  have h4 := h.clock
  have hG := (h.g hg.1 hg.2).1
  have loop : ∀ (a : Nat) (k : Int) (BB : SB), 0 ≤ k → k + a = 12 → bkp B BB → (∀ i, 0 ≤ i → i < k → BB 22 i = Int64.ofInt 0) → vt_J 92 (fun r S' B' => none = r ∧ S = S' ∧ bkp B B' ∧ ∀ k, 0 ≤ k → k ≤ 11 → B' 22 k = Int64.ofInt (wd0 (S 23) g k)) X 2 [(0, me), (1, ii g), (2, ii k)] [] S BB := by
    intro a
    induction a with
    | zero =>
      intro k BB k0 ka hB hz
      refine vt_walk hX tk_clearWords [] 60 ?_
      refine ⟨by omega, fun _ => ?_, fun z => absurd z (by omega)⟩
      refine ⟨by omega, by omega, vt_k (tm_goerOf (by omega)) ?_⟩
      refine ⟨by unfold sG at *; omega, by omega, by omega, by omega, by omega, rfl, rfl, fun j j1 j2 => ?_, fun j j0 j1 => ?_⟩
      · rw [vt_ub_ne j2, vt_ub_ne j2, vt_ub_ne j2]; exact hB j j1 j2
      · rw [vt_ub_at, vt_ub_at, vt_ub_at]
        unfold wd0
        by_cases c8 : j = 8
        · subst c8; rfl
        by_cases c9 : j = 9
        · subst c9; rfl
        by_cases c10 : j = 10
        · subst c10; rfl
        simp only [c8, c9, c10, if_false]
        exact hz j j0 (by omega)
    | succ a ih =>
      intro k BB k0 ka hB hz
      refine vt_walk hX tk_clearWords [(2, [0, 1, 2])] 60 ?_
      refine ⟨by omega, fun z => absurd z (by omega), fun _ => ?_⟩
      refine ⟨by omega, ?_⟩
      refine ih (k + 1) _ (by omega) (by omega) (fun j j1 j2 => by rw [vt_ub_ne j2]; exact hB j j1 j2) (fun i i0 i1 => ?_)
      rw [vt_ub_at]
      by_cases e : i = k
      · subst e; exact if_pos rfl
      · simp only [e, if_false]; exact hz i i0 (by omega)
  refine vt_walk hX tk_clearWords [(2, [0, 1, 2])] 60 ?_
  exact loop 12 0 B (by omega) (by omega) (fun _ _ _ => rfl) (fun i i0 i1 => by omega)
theorem tm_placeWords {g p : Int} (hg : 0 ≤ g ∧ g < S 23 1) (hp : 0 ≤ p ∧ p ≤ 7) (h : LI K (S 23)) (hB : ∀ k, 0 ≤ k → k ≤ 11 → B 22 k = Int64.ofInt (wd0 (S 23) g k)) : vt_M 93 [me, ii g, ii p] S B (fun r S' B' => none = r ∧ vt_but [25] S S' ∧ bkp B B' ∧ ∀ k, 0 ≤ k → k ≤ 11 → B' 22 k = Int64.ofInt (wdA (S 23) g p k)) := by
  refine vt_start rfl rfl (Nat.le_of_ble_eq_true rfl) (fun X hX => ?_)
  have n1 := h.nG
  have hd := h.dir
  have hG := (h.g hg.1 hg.2).1
  refine vt_walk hX tk_placeWords [(43, [0, 1, 2, 3])] 60 ?_
  refine ⟨_, tm_spreads hp h, ?_⟩
  rintro _ T _ ⟨rfl, hT, rfl, hD⟩
  have e23 : T 23 = S 23 := hT 23 (by decide)
  have hLI : LI K (T 23) := by rw [e23]; exact h
  obtain ⟨d1, d2, d3⟩ := hD (sG (S 23) g 1) hG.1 hG.2
  have r1 := sLd_rg h (S 23 2) p 0
  have r2 := sSt_rg h p
  refine vt_k (tm_goerOf (by omega)) ?_
  rw [e23]
  refine ⟨by omega, by omega, by omega, ?_⟩
  rw [d1]
  have fin : ∀ v : Int, v = (if dst (S 23) p (sG (S 23) g 1) < 0 then 99 else dst (S 23) p (sG (S 23) g 1)) → vt_J 93 (fun r S' B' => none = r ∧ vt_but [25] S S' ∧ bkp B B' ∧ ∀ k, 0 ≤ k → k ≤ 11 → B' 22 k = Int64.ofInt (wdA (S 23) g p k)) X 43 [(0, me), (1, ii g), (2, ii p), (3, ii (dst (S 23) p (sG (S 23) g 1)))] [] T (vt_ub (vt_ub B 22 4 (Int64.ofInt p)) 22 5 (Int64.ofInt v)) := by
    intro v hv
    refine vt_walk hX tk_placeWords [] 60 ?_
    refine ⟨by omega, vt_k (tm_leading (by rw [e23]; omega) (by omega) (Or.inl rfl) hLI) ?_⟩
    rw [e23]
    refine ⟨by omega, by omega, vt_k (tm_standing (by omega) hLI) ?_⟩
    rw [e23]
    refine ⟨by omega, by omega, rfl, hT, fun j j1 j2 => ?_, fun j j0 j1 => ?_⟩
    · rw [vt_ub_ne j2, vt_ub_ne j2, vt_ub_ne j2, vt_ub_ne j2]
    · rw [vt_ub_at, vt_ub_at, vt_ub_at, vt_ub_at]
      unfold wdA
      by_cases c4 : j = 4
      · subst c4; rfl
      by_cases c5 : j = 5
      · subst c5; rw [hv]; rfl
      by_cases c6 : j = 6
      · subst c6; rfl
      by_cases c7 : j = 7
      · subst c7; rfl
      simp only [c4, c5, c6, c7, if_false]
      exact hB j j0 j1
  refine ⟨by omega, fun c => ?_, fun c => ?_⟩
  · refine ⟨by omega, by omega, ?_⟩
    exact fin _ (if_neg (by omega)).symm
  · refine ⟨by omega, ?_⟩
    exact fin 99 (if_pos c).symm
end TMT
