/-! THE TWIN's methods: who leaves, a minute -/
set_option maxRecDepth 100000
abbrev RU1 : Type := Int × (Int → Int × WF × Option WF)
def wv (h : Int → Int) : Int → Int64 := fun k => Int64.ofInt (h k)
noncomputable def tkS (f : Int → Int) (r : RU1) (g w : Int) (a : Int × Int64) : Int × Int64 := if sE f (f 2) w 0 = sG f g 0 then (if cth r 0 (wv (wdW f g w)) < 0 then a else if 0 ≤ a.1 ∧ (r.2 (cth r 0 (wv (wdW f g w)))).2.1 (wv (wdW f g w)) ≤ a.2 then a else (w, (r.2 (cth r 0 (wv (wdW f g w)))).2.1 (wv (wdW f g w)))) else a
noncomputable def tkF (f : Int → Int) (r : RU1) (g : Int) : Nat → Int × Int64
  | 0 => (-1, Int64.ofInt 0)
  | n + 1 => tkS f r g n (tkF f r g n)
theorem tkF_s {f : Int → Int} {r : RU1} {g w : Int} (h : 0 ≤ w) : tkF f r g (w + 1).toNat = tkS f r g w (tkF f r g w.toNat) := by
  obtain ⟨n, rfl⟩ := Int.eq_ofNat_of_zero_le h
  rw [show ((n : Int) + 1).toNat = n + 1 by omega, Int.toNat_natCast]
  rfl
theorem tkF_rg (f : Int → Int) (r : RU1) (g : Int) : ∀ n : Nat, -1 ≤ (tkF f r g n).1 ∧ (tkF f r g n).1 < n
  | 0 => ⟨Int.le_refl _, by show (-1 : Int) < _; omega⟩
  | n + 1 => by
    have h := tkF_rg f r g n
    show -1 ≤ (tkS f r g n (tkF f r g n)).1 ∧ (tkS f r g n (tkF f r g n)).1 < _
    unfold tkS
    split
    · split
      · omega
      · split
        · omega
        · show -1 ≤ (n : Int) ∧ (n : Int) < _; omega
    · omega
/-- the way that goer g takes; none: -1 -/
noncomputable def tkn (f : Int → Int) (r : RU1) (g : Int) : Int := if 0 ≤ cth r 1 (wv (wdA f g (sG f g 0))) then -1 else (tkF f r g (f 0).toNat).1
theorem tkn_rg {f : Int → Int} {r : RU1} {g : Int} (h : 0 ≤ f 0) : -1 ≤ tkn f r g ∧ tkn f r g < f 0 := by
  unfold tkn
  have := tkF_rg f r g (f 0).toNat
  split <;> omega
def sp_on (f : Int → Int) (g w : Int) : Int → Int := upF (upF (upF (upF f (80 + 7 * g) 8) (80 + 7 * g + 3) w) (80 + 7 * g + 4) 0) (80 + 7 * g + 6) (sE f (f 2) w 1)
noncomputable def sp_lv (f : Int → Int) (r : RU1) (g : Int) : Int → Int := if tkn f r g < 0 then f else sp_on f g (tkn f r g)
theorem on_x {f : Int → Int} {g w : Int} (hg : 0 ≤ g ∧ g ≤ 5) {i : Int} (hi : i < 80 ∨ 122 ≤ i) : sp_on f g w i = f i := by
  unfold sp_on
  rw [upF_ne (by omega), upF_ne (by omega), upF_ne (by omega), upF_ne (by omega)]
theorem on_W {f : Int → Int} {g w : Int} (hg : 0 ≤ g ∧ g ≤ 5) {v k : Int} (hv : 0 ≤ v ∧ v ≤ 13) (hk : 0 ≤ k ∧ k ≤ 4) : sW (sp_on f g w) v k = sW f v k := on_x hg (by omega)
theorem on_G {f : Int → Int} {g w : Int} (hg : 0 ≤ g ∧ g ≤ 5) {v k : Int} (hv : 0 ≤ v ∧ v ≤ 5) (hk : 0 ≤ k ∧ k ≤ 6) : sG (sp_on f g w) v k = if v = g then (if k = 0 then 8 else if k = 3 then w else if k = 4 then 0 else if k = 6 then sE f (f 2) w 1 else sG f g k) else sG f v k := by
  unfold sp_on
  rw [sG]
  by_cases c : v = g
  · subst c
    rw [if_pos rfl]
    by_cases k0 : k = 0
    · subst k0
      rw [if_pos rfl, upF_ne (by omega), upF_ne (by omega), upF_ne (by omega), Int.add_zero, upF_self]
    rw [if_neg k0]
    by_cases k3 : k = 3
    · subst k3
      rw [if_pos rfl, upF_ne (by omega), upF_ne (by omega), upF_self]
    rw [if_neg k3]
    by_cases k4 : k = 4
    · subst k4
      rw [if_pos rfl, upF_ne (by omega), upF_self]
    rw [if_neg k4]
    by_cases k6 : k = 6
    · subst k6
      rw [if_pos rfl, upF_self]
    rw [if_neg k6, upF_ne (by omega), upF_ne (by omega), upF_ne (by omega), upF_ne (by omega)]
    rfl
  · rw [if_neg c, upF_ne (by omega), upF_ne (by omega), upF_ne (by omega), upF_ne (by omega)]
    rfl
theorem LI.on {K : Int} {f : Int → Int} {g w : Int} (h : LI K f) (hg : 0 ≤ g ∧ g < f 1) (hw : 0 ≤ w ∧ w < f 0) : LI K (sp_on f g w) := by
  have n0 := h.nW
  have n1 := h.nG
  have hg5 : 0 ≤ g ∧ g ≤ 5 := by omega
  have ex : ∀ i : Int, i < 80 ∨ 122 ≤ i → sp_on f g w i = f i := fun i hi => on_x hg5 hi
  refine ⟨by rw [ex 0 (by omega)]; exact n0, by rw [ex 1 (by omega)]; exact n1, by rw [ex 0 (by omega), ex 2 (by omega)]; exact h.dirs, by rw [ex 3 (by omega), ex 4 (by omega)]; exact h.goings, by rw [ex 4 (by omega)]; exact h.clock, by rw [ex 5 (by omega), ex 4 (by omega)]; exact h.met, by rw [ex 6 (by omega)]; exact h.rows, by rw [ex 7 (by omega)]; exact h.draw, ?_, ?_, ?_⟩
  · intro v v0 v1
    rw [ex 0 (by omega)] at v1
    have hv : 0 ≤ v ∧ v ≤ 13 := by omega
    unfold WI
    rw [on_W hg5 hv (by decide), on_W hg5 hv (by decide), on_W hg5 hv (by decide), on_W hg5 hv (by decide), on_W hg5 hv (by decide), ex 3 (by omega)]
    exact h.w v0 v1
  · intro v v0 v1
    rw [ex 1 (by omega)] at v1
    have hv : 0 ≤ v ∧ v ≤ 5 := by omega
    obtain ⟨a1, a2, a3, a4⟩ := h.g v0 v1
    have ww := h.w hw.1 hw.2
    have we := ww.end (d := f 2) (Or.inr rfl)
    have w2 := ww.2.2.2.1
    unfold GI
    rw [ex 0 (by omega), on_G hg5 hv (by decide), on_G hg5 hv (by decide), on_G hg5 hv (by decide), on_G hg5 hv (by decide), on_G hg5 hv (by decide), on_G hg5 hv (by decide), on_G hg5 hv (by decide)]
    by_cases c : v = g
    · subst c
      simp only [if_true, show ((1 : Int) = 0) = False by decide, show ((1 : Int) = 3) = False by decide, show ((1 : Int) = 4) = False by decide, show ((1 : Int) = 6) = False by decide, show ((2 : Int) = 0) = False by decide, show ((2 : Int) = 3) = False by decide, show ((2 : Int) = 4) = False by decide, show ((2 : Int) = 6) = False by decide, show ((5 : Int) = 0) = False by decide, show ((5 : Int) = 3) = False by decide, show ((5 : Int) = 4) = False by decide, show ((5 : Int) = 6) = False by decide, show ((3 : Int) = 0) = False by decide, show ((4 : Int) = 0) = False by decide, show ((4 : Int) = 3) = False by decide, show ((6 : Int) = 0) = False by decide, show ((6 : Int) = 3) = False by decide, show ((6 : Int) = 4) = False by decide, if_false]
      refine ⟨a1, a2, a3, Or.inr ⟨hw.1, hw.2, by decide, ?_, we.1, we.2, trivial⟩⟩
      rw [on_W hg5 (by omega) (by decide)]
      omega
    · simp only [c, if_false]
      refine ⟨a1, a2, a3, ?_⟩
      rcases a4 with a4 | a4
      · exact Or.inl a4
      · right
        rw [on_W hg5 (by omega) (by decide)]
        exact a4
  · intro k k0 k1
    rw [ex 6 (by omega)] at k1
    unfold RI
    rw [ex 0 (by omega), ex 1 (by omega), ex _ (by omega), ex _ (by omega)]
    exact h.r k0 k1
theorem cth_congr {S : SS} {t so : Int} {r : RU1} (hR : RuT1 S t r) {wd wd' : Int → Int64} (hw : ∀ i, 0 ≤ i → i ≤ 11 → wd i = wd' i) : cth r so wd = cth r so wd' := by
  unfold cth
  refine lst_congr _ (fun c c0 c1 => ?_)
  obtain ⟨-, -, -, q4⟩ := hR.2.2 c c0 (by have := hR.2.1; omega)
  unfold tstB
  cases hG : (r.2 c).2.2 with
  | none => rfl
  | some G =>
    rw [hG] at q4
    show (_ && (G wd == _)) = (_ && (G wd' == _))
    rw [q4.2.congr hw]
theorem cth_rg (r : RU1) (so : Int) (wd : Int → Int64) : cth r so wd = -1 ∨ (0 ≤ cth r so wd ∧ cth r so wd < r.1 ∧ (r.2 (cth r so wd)).1 = so) := by
  unfold cth
  rcases lst_spec (fun c => ((r.2 c).1 == so) && tstB (r.2 c) wd) r.1.toNat with ⟨x, -⟩ | ⟨x1, x2, x3, -⟩
  · exact Or.inl x
  · refine Or.inr ⟨x1, by omega, ?_⟩
    rw [Bool.and_eq_true] at x3
    simpa using x3.1
def lkp (S : SS) (B : SB) (S' : SS) (B' : SB) : Prop := vt_but [25, 43] S S' ∧ (∀ i : Int, i ≠ 21 → S' 43 i = S 43 i) ∧ bkp B B'
theorem lkp.rf {S : SS} {B : SB} : lkp S B S B := ⟨vt_but.rf, fun _ _ => rfl, fun _ _ _ => rfl⟩
theorem lkp.tr {S S1 S2 : SS} {B B1 B2 : SB} (h : lkp S B S1 B1) (h2 : lkp S1 B1 S2 B2) : lkp S B S2 B2 := ⟨h.1.tr h2.1 (fun _ h => h), fun i hi => (h2.2.1 i hi).trans (h.2.1 i hi), fun k hk h22 => (h2.2.2 k hk h22).trans (h.2.2 k hk h22)⟩
theorem rkp.lk {S S1 : SS} {B B1 : SB} (h : rkp S B S1 B1) : lkp S B S1 B1 := ⟨fun j hj => h.1 j (fun z => hj (by simp at z ⊢; exact Or.inr z)), h.2.1, fun k hk _ => h.2.2 k hk⟩
theorem lk_far {S S1 : SS} {B B1 : SB} (h : vt_but [25] S S1) (h2 : bkp B B1) : lkp S B S1 B1 := ⟨fun j hj => h j (fun z => hj (by simp at z ⊢; exact Or.inl z)), fun i _ => by rw [h 43 (by decide)], h2⟩
theorem RuT1.of {S S' : SS} {t : Int} {r : RU1} (h : RuT1 S t r) (h3 : S' 3 = S 3) (h5 : S' 5 = S 5) (h6 : S' 6 = S 6) : RuT1 S' t r := by
  unfold RuT1
  rw [h3, h5, h6]
  exact h
section TMU
variable {S : SS} {B : SB} {K : Int}
theorem tm_leaves {t g : Int} {r : RU1} (ht : 0 ≤ t ∧ t ≤ 5) (hg : 0 ≤ g ∧ g < S 23 1) (hs : 0 ≤ sG (S 23) g 0 ∧ sG (S 23) g 0 ≤ 7) (h : LI K (S 23)) (hR : RuT1 S t r) : vt_M 91 [me, ii t, ii g] S B (fun rr S' B' => none = rr ∧ ∃ T, lkp S B T B' ∧ S' = vt_st T 23 (sp_lv (S 23) r g)) := by
  refine vt_start rfl rfl (Nat.le_of_ble_eq_true rfl) (fun X hX => ?_)
  have n0 := h.nW
  have n1 := h.nG
  have hd := h.dir
  generalize hPost : (fun (rr : Option AV) (S' : SS) (B' : SB) => none = rr ∧ ∃ T, lkp S B T B' ∧ S' = vt_st T 23 (sp_lv (S 23) r g)) = Post
  have loop : ∀ (a : Nat) (w : Int) (T : SS) (BB : SB), 0 ≤ w → w + a = S 23 0 → lkp S B T BB → cth r 1 (wv (wdA (S 23) g (sG (S 23) g 0))) < 0 → vt_J 91 Post X 37 [(0, me), (1, ii t), (2, ii g), (3, ii (sG (S 23) g 0)), (4, ii (tkF (S 23) r g w.toNat).1), (5, ll (tkF (S 23) r g w.toNat).2), (7, ii w)] [] T BB := by
    intro a
    induction a with
    | zero =>
      intro w T BB w0 wa hT hno
      have e23 : T 23 = S 23 := hT.1 23 (by decide)
      have hr := tkF_rg (S 23) r g w.toNat
      have ht : tkn (S 23) r g = (tkF (S 23) r g w.toNat).1 := by
        unfold tkn
        rw [if_neg (by omega), show w = S 23 0 by omega]
      refine vt_walk hX tk_leaves [] 200 ?_
      refine ⟨by omega, by rw [e23]; omega, fun _ => ?_, fun z => absurd z (by rw [e23]; omega)⟩
      refine ⟨by omega, fun c => ?_, fun c => ?_⟩
      · refine ⟨by omega, by omega, by omega, by omega, ?_⟩
        simp (disch := omega) only [vt_up_0, vt_st_st, vt_st_at, upF_ne, upF_self, e23]
        refine vt_k (tm_endOf (by omega) (by omega) (Or.inr rfl)) ?_
        refine ⟨by omega, ?_⟩
        show Post _ _ _
        rw [← hPost]
        refine ⟨rfl, T, hT, ?_⟩
        rw [vt_up_0, vt_st_st, vt_st_at]
        congr 1
        unfold sp_lv
        rw [if_neg (by omega), ht]
        unfold sp_on
        congr 1
        unfold sE
        unfold sW
        split <;> rw [upF_ne (by omega), upF_ne (by omega), upF_ne (by omega)]
      · show Post _ _ _
        rw [← hPost]
        refine ⟨rfl, T, hT, ?_⟩
        unfold sp_lv
        rw [if_pos (by omega), ← e23, vt_st_self]
    | succ a ih =>
      intro w T BB w0 wa hT hno
      have e23 : T 23 = S 23 := hT.1 23 (by decide)
      have hr := tkF_rg (S 23) r g w.toNat
      have hs1 := tkF_s (f := S 23) (r := r) (g := g) w0
      have ww := h.w w0 (by omega)
      have we0 := ww.end (d := S 23 2) (Or.inl rfl)
      have we1 := ww.end (d := S 23 2) (Or.inr rfl)
      have go2 : ∀ T BB (q : Int × Int64), lkp S B T BB → tkS (S 23) r g w (tkF (S 23) r g w.toNat) = q → vt_J 91 Post X 221 [(0, me), (1, ii t), (2, ii g), (3, ii (sG (S 23) g 0)), (4, ii q.1), (5, ll q.2), (7, ii w)] [] T BB := by
        intro T BB q hT hq
        have K := ih (w + 1) T BB (by omega) (by omega) hT hno
        rw [hs1, hq] at K
        exact vt_walk hX tk_leaves [(37, [0, 1, 2, 3, 4, 5, 7])] 20 K
      have go := fun T BB (hT : lkp S B T BB) hq => go2 T BB (tkF (S 23) r g w.toNat) hT hq
      refine vt_walk hX tk_leaves [(221, [0, 1, 2, 3, 4, 5, 7]), (37, [0, 1, 2, 3, 4, 5, 7])] 200 ?_
      refine ⟨by omega, by rw [e23]; omega, fun z => absurd z (by rw [e23]; omega), fun _ => ?_⟩
      refine ⟨by omega, vt_k (tm_endOf (by rw [e23]; omega) (by omega) (Or.inl rfl)) ?_⟩
      rw [e23]
      refine ⟨by omega, fun c => ?_, fun c => ?_⟩
      case refine_2 => exact go T BB hT (by unfold tkS; rw [if_neg c])
      have hLI : LI K (T 23) := by rw [e23]; exact h
      refine ⟨_, tm_clearWords (by rw [e23]; exact hg) hLI, ?_⟩
      rintro _ _ B1 ⟨rfl, rfl, b1, b2⟩
      refine ⟨by omega, vt_k (tm_endOf (by rw [e23]; omega) (by omega) (Or.inr rfl)) ?_⟩
      rw [e23]
      rw [e23] at b2
      refine ⟨_, tm_placeWords (by rw [e23]; exact hg) we1 hLI (by rw [e23]; exact b2), ?_⟩
      rintro _ T2 B2 ⟨rfl, t2, b3, b4⟩
      rw [e23] at b4
      have f23 : T2 23 = S 23 := by rw [t2 23 (by decide), e23]
      have hLI2 : LI K (T2 23) := by rw [f23]; exact h
      obtain ⟨-, -, -, m2, m3, m4⟩ := ww
      have h3 := h.goings
      have h4 := h.clock
      have ho := sOn_rg h w
      refine ⟨by omega, by omega, vt_k (tm_wayOf (by omega)) ?_⟩
      rw [f23]
      refine ⟨by omega, by omega, vt_k (tm_wayOf (by omega)) ?_⟩
      rw [f23]
      refine ⟨by omega, by omega, vt_k (tm_wayOf (by omega)) ?_⟩
      rw [f23]
      refine ⟨by omega, by omega, vt_k (tm_onWay (by omega) hLI2) ?_⟩
      rw [f23]
      refine ⟨by omega, by omega, ?_⟩
      generalize hB5 : vt_ub (vt_ub (vt_ub (vt_ub (vt_ub B2 22 0 (Int64.ofInt w)) 22 1 (Int64.ofInt (sW (S 23) w 2))) 22 2 (Int64.ofInt (sW (S 23) w 3))) 22 3 (Int64.ofInt (sW (S 23) w 4))) 22 11 (Int64.ofInt (sOn (S 23) w)) = B5
      have hT2 : lkp S B T2 B2 := (hT.tr (lk_far vt_but.rf b1)).tr (lk_far t2 b3)
      have hT5 : lkp S B T2 B5 := hT2.tr ⟨vt_but.rf, fun _ _ => rfl, fun j j1 j2 => by rw [← hB5, vt_ub_ne j2, vt_ub_ne j2, vt_ub_ne j2, vt_ub_ne j2, vt_ub_ne j2]⟩
      have hw5 : ∀ i, 0 ≤ i → i ≤ 11 → B5 22 i = wv (wdW (S 23) g w) i := by
        intro i i0 i1
        rw [← hB5, vt_ub_at, vt_ub_at, vt_ub_at, vt_ub_at, vt_ub_at]
        unfold wv wdW
        by_cases c0 : i = 0
        · subst c0; rfl
        by_cases c1 : i = 1
        · subst c1; rfl
        by_cases c2 : i = 2
        · subst c2; rfl
        by_cases c3 : i = 3
        · subst c3; rfl
        by_cases c11 : i = 11
        · subst c11; rfl
        simp only [c0, c1, c2, c3, c11, if_false]
        exact b4 i i0 i1
      have hR2 : RuT1 T2 t r := hR.of (hT2.1 3 (by decide)) (hT2.1 5 (by decide)) (hT2.1 6 (by decide))
      refine ⟨_, tm_clauseThat ht (Or.inl rfl) hR2, ?_⟩
      rintro _ T6 B6 ⟨rfl, hk6⟩
      rw [cth_congr hR2 hw5]
      have hT6 : lkp S B T6 B6 := hT5.tr hk6.lk
      have hR6 : RuT1 T6 t r := hR.of (hT6.1 3 (by decide)) (hT6.1 5 (by decide)) (hT6.1 6 (by decide))
      have e22 : B6 22 = B5 22 := hk6.2.2 22 (by decide)
      rcases cth_rg r 0 (wv (wdW (S 23) g w)) with cn | ⟨cp, cl, c0⟩
      · rw [if_pos (by omega)]
        refine ⟨by omega, fun z => absurd z (by omega), fun _ => ?_⟩
        exact go T6 B6 hT6 (by unfold tkS; rw [if_pos c, if_pos (by omega)])
      · have hr12 := hR.2.1
        rw [if_neg (by omega)]
        refine ⟨by omega, fun _ => ?_, fun z => absurd z (by omega)⟩
        refine ⟨by omega, by omega, ?_⟩
        have hseg := (hR6.2.2 _ cp cl).2.2.1 c0
        refine ⟨_, tm_reckons ht hseg, ?_⟩
        rintro _ T7 B7 ⟨rfl, k1, k2, k3⟩
        have hF : (r.2 (cth r 0 (wv (wdW (S 23) g w)))).2.1 (B6 22) = (r.2 (cth r 0 (wv (wdW (S 23) g w)))).2.1 (wv (wdW (S 23) g w)) := hseg.congr (fun i i0 i1 => by rw [e22]; exact hw5 i i0 i1)
        rw [hF]
        have hT7 : lkp S B T7 B7 := hT6.tr (rkp.lk ⟨k1, k2, k3⟩)
        have win : ¬ (0 ≤ (tkF (S 23) r g w.toNat).1 ∧ (r.2 (cth r 0 (wv (wdW (S 23) g w)))).2.1 (wv (wdW (S 23) g w)) ≤ (tkF (S 23) r g w.toNat).2) → tkS (S 23) r g w (tkF (S 23) r g w.toNat) = (w, (r.2 (cth r 0 (wv (wdW (S 23) g w)))).2.1 (wv (wdW (S 23) g w))) := by
          intro hn
          unfold tkS
          rw [if_pos c, if_neg (by omega), if_neg hn]
        have rc := cmp_rg ((r.2 (cth r 0 (wv (wdW (S 23) g w)))).2.1 (wv (wdW (S 23) g w))) (tkF (S 23) r g w.toNat).2
        refine ⟨by omega, fun d => ?_, fun d => ?_⟩
        · exact go2 T7 B7 _ hT7 (win (by omega))
        · refine ⟨by omega, fun e => ?_, fun e => ?_⟩
          · exact go2 T7 B7 _ hT7 (win (fun z => Int64.not_le.mpr (cmp_gt0.mp e) z.2))
          · exact go T7 B7 hT7 (by
              unfold tkS
              rw [if_pos c, if_neg (by omega), if_pos ⟨d, Int64.not_lt.mp (fun q => by have := cmp_gt0.mpr q; omega)⟩])
  refine vt_walk hX tk_leaves [(37, [0, 1, 2, 3, 4, 5, 7])] 60 ?_
  refine vt_k (tm_goerOf (by omega)) ?_
  refine ⟨_, tm_clearWords hg h, ?_⟩
  rintro _ _ B1 ⟨rfl, rfl, b1, b2⟩
  refine ⟨_, tm_placeWords hg hs h b2, ?_⟩
  rintro _ T2 B2 ⟨rfl, t2, b3, b4⟩
  have hT2 : lkp S B T2 B2 := (lk_far vt_but.rf b1).tr (lk_far t2 b3)
  have hR2 : RuT1 T2 t r := hR.of (hT2.1 3 (by decide)) (hT2.1 5 (by decide)) (hT2.1 6 (by decide))
  refine ⟨_, tm_clauseThat ht (Or.inr rfl) hR2, ?_⟩
  rintro _ T6 B6 ⟨rfl, hk6⟩
  have hw5 : ∀ i, 0 ≤ i → i ≤ 11 → B2 22 i = wv (wdA (S 23) g (sG (S 23) g 0)) i := b4
  rw [cth_congr hR2 hw5]
  have hT6 : lkp S B T6 B6 := hT2.tr hk6.lk
  have f23 : T6 23 = S 23 := hT6.1 23 (by decide)
  rcases cth_rg r 1 (wv (wdA (S 23) g (sG (S 23) g 0))) with cn | ⟨cp, cl, c0⟩
  · rw [if_pos (show cth r 1 (wv (wdA (S 23) g (sG (S 23) g 0))) < 0 by omega)]
    refine ⟨by omega, fun _ => ?_, fun z => absurd z (by omega)⟩
    exact loop (S 23 0).toNat 0 T6 B6 (by omega) (by omega) hT6 (by omega)
  · have hr12 := hR.2.1
    rw [if_neg (show ¬ cth r 1 (wv (wdA (S 23) g (sG (S 23) g 0))) < 0 by omega)]
    refine ⟨by omega, fun z => absurd z (by omega), fun _ => ?_⟩
    show Post _ _ _
    rw [← hPost]
    refine ⟨rfl, T6, hT6, ?_⟩
    unfold sp_lv tkn
    rw [if_pos cp, if_pos (by omega), ← f23, vt_st_self]
end TMU
