/-! THE TWIN's methods: days -/
set_option maxRecDepth 100000
theorem l_toI {a : Int} (h : -4611686018427387904 ≤ a ∧ a ≤ 4611686018427387904) : (Int64.ofInt a).toInt = a := Int64.toInt_ofInt_of_le (by omega) (by omega)
theorem l_div {a b : Int} (ha : 0 ≤ a ∧ a ≤ 4611686018427387904) (hb : 0 < b ∧ b ≤ 4611686018427387904) : Int64.ofInt a / Int64.ofInt b = Int64.ofInt (a / b) := by
  have h1 : 0 ≤ a / b := Int.ediv_nonneg ha.1 (by omega)
  have h2 : a / b ≤ a := Int.ediv_le_self b ha.1
  rw [← Int64.toInt_inj, Int64.toInt_div, l_toI (by omega), l_toI (by omega), l_toI (by omega), Int.tdiv_eq_ediv_of_nonneg ha.1]
  exact Int.bmod_eq_of_le (by omega) (by omega)
theorem l_rem {a b : Int} (ha : 0 ≤ a ∧ a ≤ 4611686018427387904) (hb : 0 < b ∧ b ≤ 4611686018427387904) : Int64.ofInt a - Int64.ofInt a / Int64.ofInt b * Int64.ofInt b = Int64.ofInt (a % b) := by
  rw [l_div ha hb, ← Int64.ofInt_mul, ← Int64.ofInt_sub, Int.emod_def, Int.mul_comm]
theorem l_ne0 {b : Int} (hb : 0 < b ∧ b ≤ 4611686018427387904) : ¬ Int64.ofInt b = 0 := by
  intro h
  have := congrArg Int64.toInt h
  rw [l_toI (by omega)] at this
  have z : (0 : Int64).toInt = 0 := by decide
  omega
def dgx (x : Int) : Int := (x * 1103515245 + 12345) % 2147483648
theorem dgx_rg (x : Int) : 0 ≤ dgx x ∧ dgx x ≤ 2147483647 := by
  unfold dgx
  omega
def dgF (f : Int → Int) (x : Int) : Nat → Int × (Int → Int)
  | 0 => (x, f)
  | n + 1 => (dgx (dgF f x n).1, upF (dgF f x n).2 (80 + 7 * (n : Int) + 2) ((dgF f x n).2 (80 + 7 * (n : Int) + 2) + dgx (dgF f x n).1 / 65536 % 60))
theorem dgF_s {f : Int → Int} {x g : Int} (h : 0 ≤ g) : dgF f x (g + 1).toNat = (dgx (dgF f x g.toNat).1, upF (dgF f x g.toNat).2 (80 + 7 * g + 2) ((dgF f x g.toNat).2 (80 + 7 * g + 2) + dgx (dgF f x g.toNat).1 / 65536 % 60)) := by
  obtain ⟨m, rfl⟩ := Int.eq_ofNat_of_zero_le h
  rw [show ((m : Int) + 1).toNat = m + 1 by omega, Int.toNat_natCast]
  rfl
theorem dgF_x {f : Int → Int} {x : Int} (hx : 0 ≤ x ∧ x ≤ 2147483647) : ∀ n, 0 ≤ (dgF f x n).1 ∧ (dgF f x n).1 ≤ 2147483647
  | 0 => hx
  | n + 1 => dgx_rg _
theorem LI.up2 {K : Int} {f : Int → Int} (h : LI K f) {g v : Int} (hg : 0 ≤ g ∧ g < f 1) (hv : 0 ≤ v ∧ v ≤ 2000) : LI K (upF f (80 + 7 * g + 2) v) := by
  have n0 := h.nW
  have n1 := h.nG
  have e : ∀ i, i ≠ 80 + 7 * g + 2 → upF f (80 + 7 * g + 2) v i = f i := fun i hi => upF_ne hi
  have eW : ∀ w k, 0 ≤ w → w ≤ 13 → 0 ≤ k → k ≤ 4 → sW (upF f (80 + 7 * g + 2) v) w k = sW f w k := fun w k a b c d => e _ (by omega)
  refine ⟨by rw [e 0 (by omega)]; exact n0, by rw [e 1 (by omega)]; exact n1, by rw [e 0 (by omega), e 2 (by omega)]; exact h.dirs, by rw [e 3 (by omega), e 4 (by omega)]; exact h.goings, by rw [e 4 (by omega)]; exact h.clock, by rw [e 5 (by omega), e 4 (by omega)]; exact h.met, by rw [e 6 (by omega)]; exact h.rows, by rw [e 7 (by omega)]; exact h.draw, ?_, ?_, ?_⟩
  · intro w w0 w1
    rw [e 0 (by omega)] at w1
    unfold WI
    rw [eW w 0 w0 (by omega) (by decide) (by decide), eW w 1 w0 (by omega) (by decide) (by decide), eW w 2 w0 (by omega) (by decide) (by decide), eW w 3 w0 (by omega) (by decide) (by decide), eW w 4 w0 (by omega) (by decide) (by decide), e 3 (by omega)]
    exact h.w w0 w1
  · intro u u0 u1
    rw [e 1 (by omega)] at u1
    obtain ⟨a1, a2, a3, a4⟩ := h.g u0 u1
    have eG : ∀ k, 0 ≤ k → k ≤ 6 → k ≠ 2 → sG (upF f (80 + 7 * g + 2) v) u k = sG f u k := fun k a b c => e _ (by omega)
    unfold GI
    rw [eG 0 (by decide) (by decide) (by decide), eG 1 (by decide) (by decide) (by decide), eG 4 (by decide) (by decide) (by decide), eG 3 (by decide) (by decide) (by decide), eG 5 (by decide) (by decide) (by decide), eG 6 (by decide) (by decide) (by decide), e 0 (by omega)]
    refine ⟨a1, ?_, a3, ?_⟩
    · by_cases c : u = g
      · subst c
        have e4 : sG (upF f (80 + 7 * u + 2) v) u 2 = v := upF_self
        rw [e4]
        exact hv
      · have e4 : sG (upF f (80 + 7 * g + 2) v) u 2 = sG f u 2 := e _ (by omega)
        rw [e4]
        exact a2
    · rcases a4 with a4 | a4
      · exact Or.inl a4
      · right
        rw [eW _ 2 (by omega) (by omega) (by decide) (by decide)]
        exact a4
  · intro k k0 k1
    rw [e 6 (by omega)] at k1
    have hr := h.rows
    unfold RI
    rw [e 0 (by omega), e 1 (by omega), e _ (by omega), e _ (by omega)]
    exact h.r k0 k1
theorem LI.dg {K : Int} {f : Int → Int} {x : Int} (h : LI K f) (hl : ∀ g, 0 ≤ g → g < f 1 → sG f g 2 ≤ 999) : ∀ n : Nat, (n : Int) ≤ f 1 → LI K (dgF f x n).2 ∧ (∀ i : Int, (∀ g : Int, 0 ≤ g → g < n → i ≠ 80 + 7 * g + 2) → (dgF f x n).2 i = f i)
  | 0, _ => ⟨h, fun _ _ => rfl⟩
  | n + 1, hn => by
    obtain ⟨a, b⟩ := h.dg (x := x) hl n (by omega)
    have n1 := h.nG
    have e1 : (dgF f x n).2 1 = f 1 := b 1 (fun g g0 g1 => by omega)
    have e2 : (dgF f x n).2 (80 + 7 * (n : Int) + 2) = sG f n 2 := b _ (fun g g0 g1 => by omega)
    have q := hl n (by omega) (by omega)
    have q2 := (h.g (g := n) (by omega) (by omega)).2.1
    refine ⟨?_, fun i hi => ?_⟩
    · show LI K (upF (dgF f x n).2 (80 + 7 * (n : Int) + 2) ((dgF f x n).2 (80 + 7 * (n : Int) + 2) + dgx (dgF f x n).1 / 65536 % 60))
      rw [e2]
      exact a.up2 (by omega) (by omega)
    · show upF (dgF f x n).2 (80 + 7 * (n : Int) + 2) _ i = f i
      rw [upF_ne (hi n (by omega) (by omega))]
      exact b i (fun g g0 g1 => hi g g0 (by omega))
noncomputable def dyF (f : Int → Int) (r : RU1) (n : Int) : Nat → Int × Int × Int × Int
  | 0 => (f 7, 0, 0, 0)
  | d + 1 => ((dgF f (dyF f r n d).1 (f 1).toNat).1, (dyF f r n d).2.1 + sArr (sp_mns (dgF f (dyF f r n d).1 (f 1).toNat).2 r n.toNat), (dyF f r n d).2.2.1 + (sp_mns (dgF f (dyF f r n d).1 (f 1).toNat).2 r n.toNat 5 - f 5), (dyF f r n d).2.2.2 + bI (sArr (sp_mns (dgF f (dyF f r n d).1 (f 1).toNat).2 r n.toNat) == f 1))
theorem dyF_s {f : Int → Int} {r : RU1} {n d : Int} (h : 0 ≤ d) : dyF f r n (d + 1).toNat = ((dgF f (dyF f r n d.toNat).1 (f 1).toNat).1, (dyF f r n d.toNat).2.1 + sArr (sp_mns (dgF f (dyF f r n d.toNat).1 (f 1).toNat).2 r n.toNat), (dyF f r n d.toNat).2.2.1 + (sp_mns (dgF f (dyF f r n d.toNat).1 (f 1).toNat).2 r n.toNat 5 - f 5), (dyF f r n d.toNat).2.2.2 + bI (sArr (sp_mns (dgF f (dyF f r n d.toNat).1 (f 1).toNat).2 r n.toNat) == f 1)) := by
  obtain ⟨m, rfl⟩ := Int.eq_ofNat_of_zero_le h
  rw [show ((m : Int) + 1).toNat = m + 1 by omega, Int.toNat_natCast]
  rfl
noncomputable def sp_days (f : Int → Int) (R : RU) (nr t m n k : Int) : Int := if (0 ≤ t ∧ t < nr) ∧ (1 ≤ m ∧ m ≤ 20) ∧ (0 ≤ n ∧ n ≤ 300) ∧ (0 ≤ k ∧ k ≤ 2) then (if k = 0 then (dyF f (R t) n m.toNat).2.1 else if k = 1 then (dyF f (R t) n m.toNat).2.2.1 else (dyF f (R t) n m.toNat).2.2.2) else -1
section TMX
variable {S : SS} {B : SB} {K : Int}
theorem dyF_x {f : Int → Int} {r : RU1} {n : Int} (h : LI K f) : ∀ d, 0 ≤ (dyF f r n d).1 ∧ (dyF f r n d).1 ≤ 2147483647
  | 0 => h.draw
  | d + 1 => dgF_x (dyF_x h d) _
theorem tm_days {t m n k : Int} {R : RU} (ht : -2147483648 ≤ t ∧ t ≤ 2147483647) (hm : -2147483648 ≤ m ∧ m ≤ 2147483647) (hn : -2147483648 ≤ n ∧ n ≤ 2147483647) (hk : -2147483648 ≤ k ∧ k ≤ 2147483647) (h : LI K (S 23)) (hK : K + 6 ≤ 100000) (h4 : S 23 4 ≤ 99999) (hl : ∀ g, 0 ≤ g → g < S 23 1 → sG (S 23) g 2 ≤ 999) (hR : RuT S R) : vt_M 106 [me, ii t, ii m, ii n, ii k] S B (fun rr S' B' => some (ii (sp_days (S 23) R (S 43 2) t m n k)) = rr ∧ vt_kp S S') := by
  refine vt_start rfl rfl (Nat.le_of_ble_eq_true rfl) (fun X hX => ?_)
  have hnr := hR.1
  have n1 := h.nG
  have h7 := h.draw
  have hb := bI_rg (decide (0 ≤ t ∧ t < S 43 2))
  have hb1 := bI_rg (sIn m 1 20)
  have hb2 := bI_rg (sIn n 0 300)
  have hb3 := bI_rg (sIn k 0 2)
  have hno : ¬ ((0 ≤ t ∧ t < S 43 2) ∧ (1 ≤ m ∧ m ≤ 20) ∧ (0 ≤ n ∧ n ≤ 300) ∧ (0 ≤ k ∧ k ≤ 2)) → (some (ii (sp_days (S 23) R (S 43 2) t m n k)) = some (ii (-1)) ∧ vt_kp S S) := by
    intro z
    unfold sp_days
    rw [if_neg z]
    exact ⟨rfl, vt_kp.rf⟩
  generalize hPost : (fun (rr : Option AV) (S' : SS) (B' : SB) => some (ii (sp_days (S 23) R (S 43 2) t m n k)) = rr ∧ vt_kp S S') = Post
  have hno : ¬ ((0 ≤ t ∧ t < S 43 2) ∧ (1 ≤ m ∧ m ≤ 20) ∧ (0 ≤ n ∧ n ≤ 300) ∧ (0 ≤ k ∧ k ≤ 2)) → Post (some (ii (-1))) S B := fun z => by rw [← hPost]; exact hno z
  refine vt_walk hX tk_days [(73, [0, 1, 2, 3, 4, 5, 7, 8, 9, 10])] 90 ?_
  refine vt_k (tm_isRule ht hnr) ?_
  refine ⟨by omega, fun c => ?_, fun c => ?_⟩
  · exact hno (fun z => of_decide_eq_false (bI_0.mp c) z.1)
  have c := of_decide_eq_true (bI_n0.mp c)
  refine ⟨by omega, vt_k (tm_in (by omega) (by omega) (by omega)) ?_⟩
  refine ⟨by omega, fun c1 => ?_, fun c1 => ?_⟩
  · exact hno (fun z => of_decide_eq_false (bI_0.mp c1) z.2.1)
  have c1 := of_decide_eq_true (bI_n0.mp c1)
  refine ⟨by omega, vt_k (tm_in (by omega) (by omega) (by omega)) ?_⟩
  refine ⟨by omega, fun c2 => ?_, fun c2 => ?_⟩
  · exact hno (fun z => of_decide_eq_false (bI_0.mp c2) z.2.2.1)
  have c2 := of_decide_eq_true (bI_n0.mp c2)
  refine ⟨by omega, vt_k (tm_in (by omega) (by omega) (by omega)) ?_⟩
  refine ⟨by omega, fun c3 => ?_, fun c3 => ?_⟩
  rotate_left
  · exact hno (fun z => of_decide_eq_false (bI_0.mp c3) z.2.2.2)
  have c3 := of_decide_eq_true (bI_n0.mp c3)
  have hp : sp_days (S 23) R (S 43 2) t m n k = if k = 0 then (dyF (S 23) (R t) n m.toNat).2.1 else if k = 1 then (dyF (S 23) (R t) n m.toNat).2.2.1 else (dyF (S 23) (R t) n m.toNat).2.2.2 := if_pos ⟨c, c1, c2, c3⟩
  refine vt_k tm_keeps ?_
  have sk : vt_km S (vt_st S 24 (cpF (S 24) (S 23) 0 202)) := vt_km.rf.st (Or.inr rfl)
  have loop : ∀ (a : Nat) (d : Int) (T : SS) (BB : SB), 0 ≤ d → d + a = m → vt_km S T → T 23 = S 23 → T 24 = cpF (S 24) (S 23) 0 202 → vt_J 106 Post X 73 [(0, me), (1, ii t), (2, ii m), (3, ii n), (4, ii k), (5, ll (Int64.ofInt (dyF (S 23) (R t) n d.toNat).1)), (7, ii (dyF (S 23) (R t) n d.toNat).2.1), (8, ii (dyF (S 23) (R t) n d.toNat).2.2.1), (9, ii (dyF (S 23) (R t) n d.toNat).2.2.2), (10, ii d)] [] T BB := by
    intro a
    induction a with
    | zero =>
      intro d T BB d0 da hT h23 h24
      have K := hT.kp h23
      have fin : ∀ v, v = sp_days (S 23) R (S 43 2) t m n k → Post (some (ii v)) T BB := fun v hv => by
        rw [← hPost, hv]
        exact ⟨rfl, K⟩
      rw [show d = m by omega]
      refine vt_walk hX tk_days [] 60 ?_
      refine ⟨by omega, fun _ => ?_, fun z => absurd z (by omega)⟩
      refine ⟨by omega, fun e => ?_, fun e => ?_⟩
      · refine ⟨by omega, fun e1 => ?_, fun e1 => ?_⟩
        · exact fin _ (by rw [hp, if_neg e, if_neg e1])
        · exact fin _ (by rw [hp, if_neg e, if_pos e1])
      · exact fin _ (by rw [hp, if_pos e])
    | succ a ih =>
      intro d T BB d0 da hT h23 h24
      have hs := dyF_s (f := S 23) (r := R t) (n := n) d0
      have hx := dyF_x (r := R t) (n := n) h d.toNat
      generalize dyF (S 23) (R t) n d.toNat = q at *
      obtain ⟨dl, df⟩ := h.dg (x := q.1) hl (S 23 1).toNat (by omega)
      have hday : ∀ (T : SS) (BB : SB), vt_km S T → T 23 = (dgF (S 23) q.1 (S 23 1).toNat).2 → T 24 = cpF (S 24) (S 23) 0 202 → vt_J 106 Post X 144 [(0, me), (1, ii t), (2, ii m), (3, ii n), (4, ii k), (5, ll (Int64.ofInt (dgF (S 23) q.1 (S 23 1).toNat).1)), (7, ii q.2.1), (8, ii q.2.2.1), (9, ii q.2.2.2), (10, ii d)] [] T BB := by
        intro T BB hT h23 h24
        have e4 : (dgF (S 23) q.1 (S 23 1).toNat).2 4 = S 23 4 := df 4 (fun g g0 g1 => by omega)
        have e1 : (dgF (S 23) q.1 (S 23 1).toNat).2 1 = S 23 1 := df 1 (fun g g0 g1 => by omega)
        have eo : ∀ i, i < 0 ∨ 202 ≤ i → (dgF (S 23) q.1 (S 23 1).toNat).2 i = S 23 i := fun i hi => df i (fun g g0 g1 => by omega)
        generalize hD : dgF (S 23) q.1 (S 23 1).toNat = D at *
        obtain ⟨m1, m2, m3⟩ := dl.mns (r := R t) hK n.toNat (by omega)
        have ha := sArr_rg m1
        have k5 : T 24 5 = S 23 5 := by rw [h24]; rfl
        refine vt_walk hX tk_days [(198, [0, 1, 2, 3, 4, 5, 7, 8, 10])] 60 ?_
        refine ⟨_, tm_minutes (r := R t) (by omega) (by omega) (by rw [h23]; exact dl) hK (by rw [h23]; omega) ((hR.2 t c.1 c.2).km hT), ?_⟩
        rintro _ T2 B2 ⟨rfl, k1, k2⟩
        rw [h23] at k2
        have t24 : T2 24 = T 24 := k1.1 24 (by decide)
        have x1 : T2 23 1 = S 23 1 := by rw [k2, m2.1 1 (by omega), e1]
        refine vt_k (tm_arrived (by rw [k2]; exact m1)) ?_
        refine ⟨by omega, by omega, vt_k (tm_arrived (by rw [k2]; exact m1)) ?_⟩
        have fin : ∀ z, z = bI (sArr (sp_mns D.2 (R t) n.toNat) == S 23 1) → vt_J 106 Post X 198 [(0, me), (1, ii t), (2, ii m), (3, ii n), (4, ii k), (5, ll (Int64.ofInt D.1)), (7, ii (q.2.1 + sArr (T2 23))), (8, ii (q.2.2.1 + (T2 23 5 - T2 24 5))), (10, ii d)] [ii (q.2.2.2 + z)] T2 B2 := by
          intro z hz
          refine vt_walk hX tk_days [(73, [0, 1, 2, 3, 4, 5, 7, 8, 9, 10])] 60 ?_
          refine vt_k tm_putsBack ?_
          have back : cpF (T2 23) (T2 24) 0 202 = S 23 := by
            rw [t24, h24]
            exact cp_back (fun i hi => by rw [k2, m2.out i hi]; exact eo i hi)
          rw [back]
          have K := ih (d + 1) (vt_st T2 23 (S 23)) B2 (by omega) (by omega) ((hT.tr k1.km).st (Or.inl rfl)) vt_st_at (by rw [vt_st_ne (by decide), t24, h24])
          rw [hs, ← hz] at K
          rw [t24, k5, k2]
          exact K
        refine ⟨by omega, by rw [x1, k2]; omega, fun e => ?_, fun e => ?_⟩ <;> rw [x1, k2] at e
        · refine fin 0 ?_
          rw [show (sArr (sp_mns D.2 (R t) n.toNat) == S 23 1) = false by simpa using e]
          rfl
        · refine fin 1 ?_
          rw [show (sArr (sp_mns D.2 (R t) n.toNat) == S 23 1) = true by simpa using e]
          rfl
      have inner : ∀ (b : Nat) (g : Int) (T : SS) (BB : SB), 0 ≤ g → g + b = S 23 1 → vt_km S T → T 23 = (dgF (S 23) q.1 g.toNat).2 → T 24 = cpF (S 24) (S 23) 0 202 → vt_J 106 Post X 82 [(0, me), (1, ii t), (2, ii m), (3, ii n), (4, ii k), (5, ll (Int64.ofInt (dgF (S 23) q.1 g.toNat).1)), (7, ii q.2.1), (8, ii q.2.2.1), (9, ii q.2.2.2), (10, ii d), (11, ii g)] [] T BB := by
        intro b
        induction b with
        | zero =>
          intro g T BB g0 gb hT h23 h24
          have e1 : T 23 1 = S 23 1 := by rw [h23]; exact (h.dg hl g.toNat (by omega)).2 1 (fun g g0 g1 => by omega)
          have hday := hday T BB hT (by rw [h23, show g = S 23 1 by omega]) h24
          rw [show g = S 23 1 by omega]
          refine vt_walk hX tk_days [(144, [0, 1, 2, 3, 4, 5, 7, 8, 9, 10])] 60 ?_
          refine ⟨by omega, by omega, fun _ => ?_, fun z => absurd z (by omega)⟩
          exact hday
        | succ b ihb =>
          intro g T BB g0 gb hT h23 h24
          have e1 : T 23 1 = S 23 1 := by rw [h23]; exact (h.dg hl g.toNat (by omega)).2 1 (fun g g0 g1 => by omega)
          have hgs := dgF_s (f := S 23) (x := q.1) g0
          have hxg := dgF_x (f := S 23) hx g.toNat
          generalize dgF (S 23) q.1 g.toNat = D at *
          refine vt_walk hX tk_days [(109, [0, 1, 2, 3, 4, 5, 7, 8, 9, 10, 11])] 60 ?_
          refine ⟨by omega, by omega, fun z => absurd z (by omega), fun _ => ?_⟩
          refine ⟨l_ne0 (by decide), ?_⟩
          show vt_J _ _ _ _ _ _ _ _
          have hd := dgx_rg D.1
          have ex : Int64.ofInt D.1 * Int64.ofInt 1103515245 + Int64.ofInt 12345 - (Int64.ofInt D.1 * Int64.ofInt 1103515245 + Int64.ofInt 12345) / Int64.ofInt 2147483648 * Int64.ofInt 2147483648 = Int64.ofInt (dgx D.1) := by
            rw [← Int64.ofInt_mul, ← Int64.ofInt_add, l_rem (by omega) (by decide)]
            rfl
          rw [ex]
          refine vt_walk hX tk_days [(82, [0, 1, 2, 3, 4, 5, 7, 8, 9, 10, 11])] 60 ?_
          refine ⟨by omega, l_ne0 (by decide), l_ne0 (by decide), by omega, ?_⟩
          show vt_J _ _ _ _ _ _ _ _
          rw [l_div (by omega) (by decide), l_rem (by omega) (by decide), Int64.toInt32_ofInt, vt_toI (by omega)]
          have K := ihb (g + 1) (vt_up T 23 (80 + 7 * g + 2) (T 23 (80 + 7 * g + 2) + dgx D.1 / 65536 % 60)) BB (by omega) (by omega) (by rw [vt_up_0]; exact hT.st (Or.inl rfl)) (by rw [vt_up_0, vt_st_at, h23, hgs]) (by rw [vt_up_ne (by decide)]; exact h24)
          rw [hgs] at K
          exact K
      refine vt_walk hX tk_days [(82, [0, 1, 2, 3, 4, 5, 7, 8, 9, 10, 11])] 60 ?_
      refine ⟨by omega, fun z => absurd z (by omega), fun _ => ?_⟩
      exact inner (S 23 1).toNat 0 T BB (by omega) (by omega) hT h23 h24
  refine ⟨by omega, by rw [vt_st_ne (by decide)]; omega, ?_⟩
  exact loop m.toNat 0 _ B (by omega) (by omega) sk (vt_st_ne (by decide)) vt_st_at
end TMX
