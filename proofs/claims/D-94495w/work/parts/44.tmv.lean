/-! THE TWIN's methods: a minute -/
set_option maxRecDepth 100000
theorem LI.mono {K K' : Int} {f : Int → Int} (h : LI K f) (hk : K ≤ K') (hk2 : K' ≤ 100000) : LI K' f := by
  have h3 := h.goings
  exact ⟨h.nW, h.nG, h.dirs, by omega, h.clock, h.met, h.rows, h.draw, h.2.2.2.2.2.2.2.2⟩
def sp_m1 (f : Int → Int) (g : Int) : Int → Int := if sG f g 3 = -1 then f else if sG f g 4 + 1 = sW f (sG f g 3) 2 then sp_arr f g (sG f g 3) (sG f g 6) (f 4 + 1) else upF f (80 + 7 * g + 4) (sG f g 4 + 1)
def sp_m1s (f : Int → Int) : Nat → Int → Int
  | 0 => f
  | n + 1 => sp_m1 (sp_m1s f n) n
noncomputable def sp_m2 (f : Int → Int) (r : RU1) (g : Int) : Int → Int := if sG f g 3 = -1 ∧ sG f g 0 ≠ sG f g 1 ∧ sG f g 2 ≤ f 4 then sp_lv f r g else f
noncomputable def sp_m2s (f : Int → Int) (r : RU1) : Nat → Int → Int
  | 0 => f
  | n + 1 => sp_m2 (sp_m2s f r n) r n
def mtB (f : Int → Int) (g o : Int) : Bool := sG f g 3 != -1 && sG f g 3 == sG f o 3 && sG f g 6 != sG f o 6
def sp_mt (f : Int → Int) : Int := sumI (fun g => cntB (mtB f g) g.toNat) (f 1).toNat
noncomputable def sp_min (f : Int → Int) (r : RU1) : Int → Int := upF (upF (sp_m2s (sp_m1s f (f 1).toNat) r (f 1).toNat) 5 (sp_m2s (sp_m1s f (f 1).toNat) r (f 1).toNat 5 + sp_mt (sp_m2s (sp_m1s f (f 1).toNat) r (f 1).toNat))) 4 (sp_m2s (sp_m1s f (f 1).toNat) r (f 1).toNat 4 + 1)
theorem m1s_s {f : Int → Int} {g : Int} (h : 0 ≤ g) : sp_m1s f (g + 1).toNat = sp_m1 (sp_m1s f g.toNat) g := by
  obtain ⟨n, rfl⟩ := Int.eq_ofNat_of_zero_le h
  rw [show ((n : Int) + 1).toNat = n + 1 by omega, Int.toNat_natCast]
  rfl
theorem m2s_s {f : Int → Int} {r : RU1} {g : Int} (h : 0 ≤ g) : sp_m2s f r (g + 1).toNat = sp_m2 (sp_m2s f r g.toNat) r g := by
  obtain ⟨n, rfl⟩ := Int.eq_ofNat_of_zero_le h
  rw [show ((n : Int) + 1).toNat = n + 1 by omega, Int.toNat_natCast]
  rfl
theorem sumI_s {h : Int → Int} {g : Int} (h0 : 0 ≤ g) : sumI h (g + 1).toNat = sumI h g.toNat + h g := by
  obtain ⟨n, rfl⟩ := Int.eq_ofNat_of_zero_le h0
  rw [show ((n : Int) + 1).toNat = n + 1 by omega, Int.toNat_natCast]
  rfl
theorem arr_up4 {f : Int → Int} {g w to ck v : Int} (hg : 0 ≤ g ∧ g ≤ 5) (hw : 0 ≤ w ∧ w ≤ 13) : sp_arr (upF f (80 + 7 * g + 4) v) g w to ck = sp_arr f g w to ck := by
  have e : ∀ i, i ≠ 80 + 7 * g + 4 → upF f (80 + 7 * g + 4) v i = f i := fun i hi => upF_ne hi
  funext i
  unfold sp_arr sG sW
  rw [e 2 (by omega), e 3 (by omega), e (10 + 5 * w + 3) (by omega), e (80 + 7 * g + 1) (by omega), e (80 + 7 * g + 5) (by omega)]
  by_cases c : i = 80 + 7 * g + 4
  · subst c
    simp (disch := omega) only [upF_ne, upF_self]
  · unfold upF
    simp only [c, if_false]
theorem LI.up4 {K : Int} {f : Int → Int} (h : LI K f) {g v : Int} (hg : 0 ≤ g ∧ g < f 1) (h3 : sG f g 3 ≠ -1) (hv : 0 ≤ v ∧ v < sW f (sG f g 3) 2) : LI K (upF f (80 + 7 * g + 4) v) := by
  have n0 := h.nW
  have n1 := h.nG
  have e : ∀ i, i ≠ 80 + 7 * g + 4 → upF f (80 + 7 * g + 4) v i = f i := fun i hi => upF_ne hi
  have eW : ∀ w k, 0 ≤ w → w ≤ 13 → 0 ≤ k → k ≤ 4 → sW (upF f (80 + 7 * g + 4) v) w k = sW f w k := fun w k a b c d => e _ (by omega)
  refine ⟨by rw [e 0 (by omega)]; exact n0, by rw [e 1 (by omega)]; exact n1, by rw [e 0 (by omega), e 2 (by omega)]; exact h.dirs, by rw [e 3 (by omega), e 4 (by omega)]; exact h.goings, by rw [e 4 (by omega)]; exact h.clock, by rw [e 5 (by omega), e 4 (by omega)]; exact h.met, by rw [e 6 (by omega)]; exact h.rows, by rw [e 7 (by omega)]; exact h.draw, ?_, ?_, ?_⟩
  · intro w w0 w1
    rw [e 0 (by omega)] at w1
    unfold WI
    rw [eW w 0 w0 (by omega) (by decide) (by decide), eW w 1 w0 (by omega) (by decide) (by decide), eW w 2 w0 (by omega) (by decide) (by decide), eW w 3 w0 (by omega) (by decide) (by decide), eW w 4 w0 (by omega) (by decide) (by decide), e 3 (by omega)]
    exact h.w w0 w1
  · intro u u0 u1
    rw [e 1 (by omega)] at u1
    obtain ⟨a1, a2, a3, a4⟩ := h.g u0 u1
    have eG : ∀ k, 0 ≤ k → k ≤ 6 → k ≠ 4 → sG (upF f (80 + 7 * g + 4) v) u k = sG f u k := fun k a b c => e _ (by omega)
    unfold GI
    rw [eG 0 (by decide) (by decide) (by decide), eG 1 (by decide) (by decide) (by decide), eG 2 (by decide) (by decide) (by decide), eG 3 (by decide) (by decide) (by decide), eG 5 (by decide) (by decide) (by decide), eG 6 (by decide) (by decide) (by decide), e 0 (by omega)]
    refine ⟨a1, a2, a3, ?_⟩
    by_cases c : u = g
    · subst c
      have e4 : sG (upF f (80 + 7 * u + 4) v) u 4 = v := upF_self
      rw [e4]
      right
      rw [eW _ 2 (by omega) (by omega) (by decide) (by decide)]
      omega
    · have e4 : sG (upF f (80 + 7 * g + 4) v) u 4 = sG f u 4 := e _ (by omega)
      rw [e4]
      rcases a4 with a4 | a4
      · exact Or.inl a4
      · right
        rw [eW _ 2 (by omega) (by omega) (by decide) (by decide)]
        exact a4
  · intro k k0 k1
    rw [e 6 (by omega)] at k1
    have hr := h.rows
    unfold RI
    rw [e 0 (by omega), e 1 (by omega), e _ (by omega), e _ (by omega)]
    exact h.r k0 k1
theorem arr_n {f : Int → Int} {g w to ck : Int} (hg : 0 ≤ g ∧ g ≤ 5) (hw : 0 ≤ w ∧ w ≤ 13) {i : Int} (hi : (i ≤ 9 ∧ i ≠ 2 ∧ i ≠ 3) ∨ 122 ≤ i) : sp_arr f g w to ck i = f i := by
  unfold sp_arr
  rw [upF_ne (by omega), upF_ne (by omega), upF_ne (by omega), upF_ne (by omega), upF_ne (by omega), upF_ne (by omega), upF_ne (by omega), upF_ne (by omega), upF_ne (by omega)]
/-- the same numbers of ways and goers, clock, met, row, x, aims and minutes -/
def sm0 (f f' : Int → Int) : Prop := (∀ i, (i ≤ 9 ∧ i ≠ 2 ∧ i ≠ 3) ∨ 122 ≤ i → f' i = f i) ∧ (∀ w k, 0 ≤ w → w ≤ 13 → 0 ≤ k → k ≤ 2 → sW f' w k = sW f w k) ∧ ∀ g k, 0 ≤ g → g ≤ 5 → k = 1 ∨ k = 2 → sG f' g k = sG f g k
theorem sm0.rf {f : Int → Int} : sm0 f f := ⟨fun _ _ => rfl, fun _ _ _ _ _ _ => rfl, fun _ _ _ _ _ => rfl⟩
theorem sm0.tr {f f1 f2 : Int → Int} (h : sm0 f f1) (h2 : sm0 f1 f2) : sm0 f f2 := ⟨fun i hi => (h2.1 i hi).trans (h.1 i hi), fun w k a b c d => (h2.2.1 w k a b c d).trans (h.2.1 w k a b c d), fun g k a b c => (h2.2.2 g k a b c).trans (h.2.2 g k a b c)⟩
theorem LI.m1 {K : Int} {f : Int → Int} (h : LI K f) (hK : K < 100000) {g : Int} (hg : 0 ≤ g ∧ g < f 1) : LI (K + 1) (sp_m1 f g) ∧ sm0 f (sp_m1 f g) := by
  have n0 := h.nW
  have n1 := h.nG
  have h4 := h.clock
  obtain ⟨a1, a2, a3, a4⟩ := h.g hg.1 hg.2
  unfold sp_m1
  split
  · exact ⟨h.mono (by omega) (by omega), sm0.rf⟩
  · rename_i c
    obtain ⟨b1, b2, b3, b4, b5, b6, b7⟩ : 0 ≤ sG f g 3 ∧ sG f g 3 < f 0 ∧ 0 ≤ sG f g 4 ∧ sG f g 4 < sW f (sG f g 3) 2 ∧ 0 ≤ sG f g 6 ∧ sG f g 6 ≤ 7 ∧ sG f g 0 = 8 := by
      rcases a4 with a4 | a4
      · exact absurd a4.1 c
      · exact a4
    split
    · refine ⟨h.arr hK hg ⟨b1, b2⟩ ⟨b5, b6⟩ (by omega), fun i hi => arr_n (by omega) (by omega) hi, fun w k w0 w1 k0 k1 => ?_, fun u k u0 u1 hk => ?_⟩
      · rw [arr_W (by omega) (by omega) ⟨w0, w1⟩ (by omega), if_neg (by omega), if_neg (by omega)]
      · rw [arr_G (by omega) (by omega) ⟨u0, u1⟩ (by omega), if_neg (by omega : ¬ k = 0), if_neg (by omega : ¬ k = 3), if_neg (by omega : ¬ k = 4), if_neg (by omega : ¬ k = 6), if_neg (by omega : ¬ k = 5)]
        split
        · rename_i z; rw [z]
        · rfl
    · rename_i d
      refine ⟨(h.up4 hg c (by omega)).mono (by omega) (by omega), fun i hi => upF_ne (by omega), fun w k w0 w1 k0 k1 => upF_ne (by omega), fun u k u0 u1 hk => upF_ne (by omega)⟩
theorem LI.m1s {K : Int} {f : Int → Int} (h : LI K f) (hK : K + 6 ≤ 100000) : ∀ n : Nat, (n : Int) ≤ f 1 → LI (K + n) (sp_m1s f n) ∧ sm0 f (sp_m1s f n)
  | 0, _ => ⟨by rw [show K + ((0 : Nat) : Int) = K by omega]; exact h, sm0.rf⟩
  | n + 1, hn => by
    obtain ⟨h1, h2⟩ := h.m1s hK n (by omega)
    have n1 := h.nG
    have e1 : sp_m1s f n 1 = f 1 := h2.1 1 (by omega)
    obtain ⟨h3, h4⟩ := h1.m1 (by omega) (g := n) (by rw [e1]; omega)
    exact ⟨by rw [show K + ((n + 1 : Nat) : Int) = K + n + 1 by omega]; exact h3, h2.tr h4⟩
theorem on_sm {f : Int → Int} {g w : Int} (hg : 0 ≤ g ∧ g ≤ 5) : sm0 f (sp_on f g w) := by
  refine ⟨fun i hi => on_x hg (by omega), fun w k w0 w1 k0 k1 => on_x hg (by omega), fun u k u0 u1 hk => ?_⟩
  rw [on_G hg ⟨u0, u1⟩ (by omega), if_neg (by omega : ¬ k = 0), if_neg (by omega : ¬ k = 3), if_neg (by omega : ¬ k = 4), if_neg (by omega : ¬ k = 6)]
  split
  · rename_i z; rw [z]
  · rfl
theorem LI.lv {K : Int} {f : Int → Int} {r : RU1} (h : LI K f) {g : Int} (hg : 0 ≤ g ∧ g < f 1) : LI K (sp_lv f r g) ∧ sm0 f (sp_lv f r g) := by
  have n0 := h.nW
  have n1 := h.nG
  have ht := tkn_rg (r := r) (g := g) n0.1
  unfold sp_lv
  split
  · exact ⟨h, sm0.rf⟩
  · exact ⟨h.on hg (by omega), on_sm (by omega)⟩
theorem LI.m2s {K : Int} {f : Int → Int} {r : RU1} (h : LI K f) : ∀ n : Nat, (n : Int) ≤ f 1 → LI K (sp_m2s f r n) ∧ sm0 f (sp_m2s f r n)
  | 0, _ => ⟨h, sm0.rf⟩
  | n + 1, hn => by
    obtain ⟨h1, h2⟩ := h.m2s (r := r) n (by omega)
    have e1 : sp_m2s f r n 1 = f 1 := h2.1 1 (by omega)
    show LI K (sp_m2 _ r n) ∧ sm0 f (sp_m2 _ r n)
    unfold sp_m2
    split
    · obtain ⟨h3, h4⟩ := h1.lv (r := r) (g := n) (by rw [e1]; omega)
      exact ⟨h3, h2.tr h4⟩
    · exact ⟨h1, h2⟩
theorem sumI_le {h k : Int → Int} : ∀ n : Nat, (∀ i : Int, 0 ≤ i → i < n → h i ≤ k i) → sumI h n ≤ sumI k n
  | 0, _ => Int.le_refl _
  | n + 1, hh => by
    have h1 := sumI_le n (fun i i0 i1 => hh i i0 (by omega))
    have h2 := hh n (by omega) (by omega)
    show sumI h n + _ ≤ sumI k n + _
    omega
theorem sumI_id : ∀ n : Nat, n ≤ 6 → sumI (fun i => i) n ≤ 15 := by decide
theorem mt_rg {K : Int} {f : Int → Int} (h : LI K f) : 0 ≤ sp_mt f ∧ sp_mt f ≤ 15 := by
  unfold sp_mt
  have n1 := h.nG
  constructor
  · exact sumI_nn (fun i => (cntB_b _ _).1) _
  · refine Int.le_trans (sumI_le (k := fun i => i) _ (fun i i0 i1 => ?_)) (sumI_id _ (by omega))
    exact (cntB_le _ i0).2
/-- clock and met go on -/
theorem LI.tick {K : Int} {f : Int → Int} (h : LI (K + 6) f) (h4 : f 4 ≤ 100699) {v : Int} (hv : f 5 ≤ v ∧ v ≤ f 5 + 15) : LI K (upF (upF f 5 v) 4 (f 4 + 1)) := by
  have n0 := h.nW
  have n1 := h.nG
  have g3 := h.goings
  have c4 := h.clock
  have c5 := h.met
  have e : ∀ i, i ≠ 4 → i ≠ 5 → upF (upF f 5 v) 4 (f 4 + 1) i = f i := fun i hi h5 => by rw [upF_ne hi, upF_ne h5]
  have e4 : upF (upF f 5 v) 4 (f 4 + 1) 4 = f 4 + 1 := upF_self
  have e5 : upF (upF f 5 v) 4 (f 4 + 1) 5 = v := by rw [upF_ne (by decide), upF_self]
  refine ⟨by rw [e 0 (by omega) (by omega)]; exact n0, by rw [e 1 (by omega) (by omega)]; exact n1, by rw [e 0 (by omega) (by omega), e 2 (by omega) (by omega)]; exact h.dirs, by rw [e 3 (by omega) (by omega), e4]; omega, by rw [e4]; omega, by rw [e5, e4]; omega, by rw [e 6 (by omega) (by omega)]; exact h.rows, by rw [e 7 (by omega) (by omega)]; exact h.draw, ?_, ?_, ?_⟩
  · intro w w0 w1
    rw [e 0 (by omega) (by omega)] at w1
    have eW : ∀ k, 0 ≤ k → sW (upF (upF f 5 v) 4 (f 4 + 1)) w k = sW f w k := fun k hk => e _ (by omega) (by omega)
    unfold WI
    rw [eW 0 (by decide), eW 1 (by decide), eW 2 (by decide), eW 3 (by decide), eW 4 (by decide), e 3 (by omega) (by omega)]
    exact h.w w0 w1
  · intro u u0 u1
    rw [e 1 (by omega) (by omega)] at u1
    have hu := h.g u0 u1
    have eG : ∀ k, 0 ≤ k → sG (upF (upF f 5 v) 4 (f 4 + 1)) u k = sG f u k := fun k hk => e _ (by omega) (by omega)
    unfold GI
    rw [eG 0 (by decide), eG 1 (by decide), eG 2 (by decide), eG 3 (by decide), eG 4 (by decide), eG 5 (by decide), eG 6 (by decide), e 0 (by omega) (by omega)]
    obtain ⟨a1, a2, a3, a4⟩ := hu
    refine ⟨a1, a2, a3, ?_⟩
    rcases a4 with a4 | a4
    · exact Or.inl a4
    · right
      have eW : sW (upF (upF f 5 v) 4 (f 4 + 1)) (sG f u 3) 2 = sW f (sG f u 3) 2 := e _ (by omega) (by omega)
      rw [eW]
      exact a4
  · intro k k0 k1
    rw [e 6 (by omega) (by omega)] at k1
    unfold RI
    rw [e 0 (by omega) (by omega), e 1 (by omega) (by omega), e _ (by omega) (by omega), e _ (by omega) (by omega)]
    exact h.r k0 k1
/-- what stays across minutes -/
def smn (f f' : Int → Int) : Prop := (∀ i, (i ≤ 9 ∧ i ≠ 2 ∧ i ≠ 3 ∧ i ≠ 4 ∧ i ≠ 5) ∨ 122 ≤ i → f' i = f i) ∧ (∀ w k, 0 ≤ w → w ≤ 13 → 0 ≤ k → k ≤ 2 → sW f' w k = sW f w k) ∧ ∀ g k, 0 ≤ g → g ≤ 5 → k = 1 ∨ k = 2 → sG f' g k = sG f g k
theorem smn.rf {f : Int → Int} : smn f f := ⟨fun _ _ => rfl, fun _ _ _ _ _ _ => rfl, fun _ _ _ _ _ => rfl⟩
theorem smn.tr {f f1 f2 : Int → Int} (h : smn f f1) (h2 : smn f1 f2) : smn f f2 := ⟨fun i hi => (h2.1 i hi).trans (h.1 i hi), fun w k a b c d => (h2.2.1 w k a b c d).trans (h.2.1 w k a b c d), fun g k a b c => (h2.2.2 g k a b c).trans (h.2.2 g k a b c)⟩
theorem LI.min {K : Int} {f : Int → Int} {r : RU1} (h : LI K f) (hK : K + 6 ≤ 100000) (h4 : f 4 ≤ 100699) : LI K (sp_min f r) ∧ smn f (sp_min f r) ∧ sp_min f r 4 = f 4 + 1 := by
  have n1 := h.nG
  obtain ⟨a1, a2⟩ := h.m1s hK (f 1).toNat (by omega)
  have e1 : sp_m1s f (f 1).toNat 1 = f 1 := a2.1 1 (by omega)
  obtain ⟨b1, b2⟩ := a1.m2s (r := r) (f 1).toNat (by rw [e1]; omega)
  have s2 := a2.tr b2
  unfold sp_min
  generalize sp_m2s (sp_m1s f (f 1).toNat) r (f 1).toNat = f2 at *
  have e4 : f2 4 = f 4 := s2.1 4 (by omega)
  have hm := mt_rg b1
  have hL : LI (K + 6) f2 := b1.mono (by omega) (by omega)
  refine ⟨hL.tick (by omega) (by omega), ⟨fun i hi => ?_, fun w k w0 w1 k0 k1 => ?_, fun g k g0 g1 hk => ?_⟩, ?_⟩
  · rw [upF_ne (by omega), upF_ne (by omega)]
    exact s2.1 i (by omega)
  · rw [← s2.2.1 w k w0 w1 k0 k1]
    unfold sW
    rw [upF_ne (by omega), upF_ne (by omega)]
  · rw [← s2.2.2 g k g0 g1 hk]
    unfold sG
    rw [upF_ne (by omega), upF_ne (by omega)]
  · rw [upF_self, e4]
/-- only said and scratch of reckoning changed -/
def mkp (S : SS) (B : SB) (S' : SS) (B' : SB) : Prop := vt_but [23, 25, 43] S S' ∧ (∀ i : Int, i ≠ 21 → S' 43 i = S 43 i) ∧ bkp B B'
theorem mkp.rf {S : SS} {B : SB} : mkp S B S B := ⟨vt_but.rf, fun _ _ => rfl, fun _ _ _ => rfl⟩
theorem mkp.tr {S S1 S2 : SS} {B B1 B2 : SB} (h : mkp S B S1 B1) (h2 : mkp S1 B1 S2 B2) : mkp S B S2 B2 := ⟨h.1.tr h2.1 (fun _ h => h), fun i hi => (h2.2.1 i hi).trans (h.2.1 i hi), fun k hk h22 => (h2.2.2 k hk h22).trans (h.2.2 k hk h22)⟩
theorem mkp.st {S S1 : SS} {B B1 : SB} (h : mkp S B S1 B1) {F : Int → Int} : mkp S B (vt_st S1 23 F) B1 := ⟨fun j hj => by rw [vt_st_ne (fun z => hj (by rw [z]; decide))]; exact h.1 j hj, fun i hi => by rw [vt_st_ne (by decide)]; exact h.2.1 i hi, h.2.2⟩
theorem lkp.mk {S S1 : SS} {B B1 : SB} (h : lkp S B S1 B1) : mkp S B S1 B1 := ⟨fun j hj => h.1 j (fun z => hj (by simp at z ⊢; exact Or.inr z)), h.2.1, h.2.2⟩
section TMV
variable {S : SS} {B : SB} {K : Int}
theorem tm_leaves2 {t g : Int} {r : RU1} (ht : 0 ≤ t ∧ t ≤ 5) (hg : 0 ≤ g ∧ g < S 23 1) (hs : 0 ≤ sG (S 23) g 0 ∧ sG (S 23) g 0 ≤ 7) (h : LI K (S 23)) (hR : RuT1 S t r) : vt_M 91 [me, ii t, ii g] S B (fun rr S' B' => none = rr ∧ mkp S B S' B' ∧ S' 23 = sp_lv (S 23) r g) := by
  refine vt_M.mono (tm_leaves ht hg hs h hR) ?_
  rintro rr S' B' ⟨h1, T, h2, rfl⟩
  exact ⟨h1, h2.mk.st, vt_st_at⟩
theorem tm_minute {t : Int} {r : RU1} (ht : 0 ≤ t ∧ t ≤ 5) (h : LI K (S 23)) (hK : K + 6 ≤ 100000) (hR : RuT1 S t r) : vt_M 90 [me, ii t] S B (fun rr S' B' => none = rr ∧ mkp S B S' B' ∧ S' 23 = sp_min (S 23) r) := by
  refine vt_start rfl rfl (Nat.le_of_ble_eq_true rfl) (fun X hX => ?_)
  have n1 := h.nG
  generalize hPost : (fun (rr : Option AV) (S' : SS) (B' : SB) => none = rr ∧ mkp S B S' B' ∧ S' 23 = sp_min (S 23) r) = Post
  obtain ⟨a1, a2⟩ := h.m1s hK (S 23 1).toNat (by omega)
  have e1 : sp_m1s (S 23) (S 23 1).toNat 1 = S 23 1 := a2.1 1 (by omega)
  have am2 := fun n => a1.m2s (r := r) n
  have hpost : ∀ (T : SS) (BB : SB), mkp S B T BB → T 23 = upF (sp_m2s (sp_m1s (S 23) (S 23 1).toNat) r (S 23 1).toNat) 5 (sp_m2s (sp_m1s (S 23) (S 23 1).toNat) r (S 23 1).toNat 5 + sp_mt (sp_m2s (sp_m1s (S 23) (S 23 1).toNat) r (S 23 1).toNat)) → Post none (vt_up T 23 4 (T 23 4 + 1)) BB := by
    intro T BB hT hF
    rw [← hPost]
    refine ⟨rfl, by rw [vt_up_0]; exact hT.st, ?_⟩
    rw [vt_up_0, vt_st_at, hF, upF_ne (by decide)]
    rfl
  generalize hf1 : sp_m1s (S 23) (S 23 1).toNat = f1 at *
  obtain ⟨b1, b2⟩ := am2 (S 23 1).toNat (by rw [e1]; omega)
  have e21 : sp_m2s f1 r (S 23 1).toNat 1 = S 23 1 := by rw [b2.1 1 (by omega), e1]
  have L3 : ∀ (a : Nat) (g : Int) (T : SS) (BB : SB), 0 ≤ g → g + a = S 23 1 → mkp S B T BB → T 23 = upF (sp_m2s f1 r (S 23 1).toNat) 5 (sp_m2s f1 r (S 23 1).toNat 5 + sumI (fun g => cntB (mtB (sp_m2s f1 r (S 23 1).toNat) g) g.toNat) g.toNat) → vt_J 90 Post X 153 [(0, me), (1, ii t), (2, ii g)] [] T BB := by
    generalize sp_m2s f1 r (S 23 1).toNat = f2 at *
    intro a
    induction a with
    | zero =>
      intro g T BB g0 ga hT hF
      have x1 : T 23 1 = S 23 1 := by rw [hF, upF_ne (by decide), e21]
      refine vt_walk hX tk_minute [] 80 ?_
      refine ⟨by omega, by omega, fun _ => ?_, fun z => absurd z (by omega)⟩
      refine ⟨by omega, by omega, hpost T BB hT ?_⟩
      rw [hF]
      unfold sp_mt
      rw [e21, show g = S 23 1 by omega]
    | succ a ih =>
      intro g T BB g0 ga hT hF
      have x1 : T 23 1 = S 23 1 := by rw [hF, upF_ne (by decide), e21]
      have inner : ∀ (b : Nat) (o : Int) (T : SS) (BB : SB), 0 ≤ o → o + b = g → mkp S B T BB → T 23 = upF f2 5 (f2 5 + sumI (fun g => cntB (mtB f2 g) g.toNat) g.toNat + cntB (mtB f2 g) o.toNat) → vt_J 90 Post X 165 [(0, me), (1, ii t), (2, ii g), (3, ii o)] [] T BB := by
        intro b
        induction b with
        | zero =>
          intro o T BB o0 ob hT hF
          refine vt_walk hX tk_minute [(153, [0, 1, 2])] 80 ?_
          refine ⟨by omega, fun _ => ?_, fun z => absurd z (by omega)⟩
          refine ih (g + 1) T BB (by omega) (by omega) hT ?_
          rw [hF, sumI_s g0, show o = g by omega, Int.add_assoc]
        | succ b ihb =>
          intro o T BB o0 ob hT hF
          have eg : ∀ u k, 0 ≤ u → 0 ≤ k → sG (T 23) u k = sG f2 u k := fun u k hu hk => by rw [hF]; unfold sG; exact upF_ne (by omega)
          have rg := b1.g g0 (by omega)
          have ro := b1.g o0 (by omega)
          have wg := rg.way b1.nW.2
          have wo := ro.way b1.nW.2
          have pg : -1 ≤ sG f2 g 6 ∧ sG f2 g 6 ≤ 7 := by
            obtain ⟨-, -, -, q | q⟩ := rg <;> omega
          have po : -1 ≤ sG f2 o 6 ∧ sG f2 o 6 ≤ 7 := by
            obtain ⟨-, -, -, q | q⟩ := ro <;> omega
          have hT5 : T 23 5 = f2 5 + sumI (fun g => cntB (mtB f2 g) g.toNat) g.toNat + cntB (mtB f2 g) o.toNat := by rw [hF, upF_self]
          have fin : ∀ z, z = bI (mtB f2 g o) → vt_J 90 Post X 226 [(0, me), (1, ii t), (2, ii g), (3, ii o)] [] (vt_up T 23 5 (T 23 5 + z)) BB := by
            intro z hz
            refine vt_walk hX tk_minute [(165, [0, 1, 2, 3])] 80 ?_
            refine ihb (o + 1) _ BB (by omega) (by omega) (by rw [vt_up_0]; exact hT.st) ?_
            rw [vt_up_0, vt_st_at, hT5, hF, cntB_s o0, hz]
            unfold bI
            rw [← Int.add_assoc]
            funext i
            unfold upF
            split <;> rfl
          refine vt_walk hX tk_minute [(226, [0, 1, 2, 3])] 80 ?_
          refine ⟨by omega, fun z => absurd z (by omega), fun _ => ?_⟩
          refine ⟨by omega, vt_k (tm_goerOf (by omega)) ?_⟩
          rw [eg g 3 g0 (by decide)]
          refine ⟨by omega, fun c => ?_, fun c => ?_⟩
          · refine ⟨by omega, fin 0 ?_⟩
            unfold mtB
            rw [show (sG f2 g 3 != -1) = false by simpa using c]
            rfl
          have hc : (sG f2 g 3 != -1) = true := by simpa using c
          refine vt_k (tm_goerOf (by omega)) ?_
          refine vt_k (tm_goerOf (by omega)) ?_
          rw [eg g 3 g0 (by decide), eg o 3 o0 (by decide)]
          refine ⟨by omega, fun d => ?_, fun d => ?_⟩
          · refine ⟨by omega, fin 0 ?_⟩
            unfold mtB
            rw [hc, show (sG f2 g 3 == sG f2 o 3) = false by simpa using d]
            rfl
          have hd : (sG f2 g 3 == sG f2 o 3) = true := by simpa using d
          refine vt_k (tm_goerOf (by omega)) ?_
          refine vt_k (tm_goerOf (by omega)) ?_
          rw [eg g 6 g0 (by decide), eg o 6 o0 (by decide)]
          refine ⟨by omega, fun x => ?_, fun x => ?_⟩
          · refine ⟨by omega, fin 0 ?_⟩
            unfold mtB
            rw [hc, hd, show (sG f2 g 6 != sG f2 o 6) = false by simpa using x]
            rfl
          · refine ⟨by omega, fin 1 ?_⟩
            unfold mtB
            rw [hc, hd, show (sG f2 g 6 != sG f2 o 6) = true by simpa using x]
            rfl
      refine vt_walk hX tk_minute [(165, [0, 1, 2, 3])] 80 ?_
      refine ⟨by omega, by omega, fun z => absurd z (by omega), fun _ => ?_⟩
      exact inner g.toNat 0 T BB (by omega) (by omega) hT (by rw [hF]; show _ = upF f2 5 (_ + cntB _ 0); rw [show cntB (mtB f2 g) 0 = 0 from rfl, Int.add_zero])
  have L2 : ∀ (a : Nat) (g : Int) (T : SS) (BB : SB), 0 ≤ g → g + a = S 23 1 → mkp S B T BB → T 23 = sp_m2s f1 r g.toNat → vt_J 90 Post X 89 [(0, me), (1, ii t), (2, ii g)] [] T BB := by
    intro a
    induction a with
    | zero =>
      intro g T BB g0 ga hT hF
      obtain ⟨c1, c2⟩ := am2 g.toNat (by rw [e1]; omega)
      have x1 : T 23 1 = S 23 1 := by rw [hF, c2.1 1 (by omega), e1]
      refine vt_walk hX tk_minute [(153, [0, 1, 2])] 80 ?_
      refine ⟨by omega, by omega, fun _ => ?_, fun z => absurd z (by omega)⟩
      refine L3 (S 23 1).toNat 0 T BB (by omega) (by omega) hT ?_
      rw [hF, show g = S 23 1 by omega]
      show _ = upF _ 5 (_ + 0)
      rw [Int.add_zero]
      funext i
      unfold upF
      split
      · rename_i q; rw [q]
      · rfl
    | succ a ih =>
      intro g T BB g0 ga hT hF
      obtain ⟨c1, c2⟩ := am2 g.toNat (by rw [e1]; omega)
      have hs := m2s_s (f := f1) (r := r) g0
      generalize sp_m2s f1 r g.toNat = F at *
      have x1 : T 23 1 = S 23 1 := by rw [hF, c2.1 1 (by omega), e1]
      have gF : 0 ≤ g ∧ g < F 1 := by rw [← hF]; omega
      have rg := c1.g g0 gF.2
      have wg := rg.way c1.nW.2
      have pg := rg.place
      have c4 := c1.clock
      have hLI : LI (K + ((S 23 1).toNat : Int)) (T 23) := by rw [hF]; exact c1
      have go : sp_m2 F r g = F → vt_J 90 Post X 145 [(0, me), (1, ii t), (2, ii g)] [] T BB := by
        intro hq
        refine vt_walk hX tk_minute [(89, [0, 1, 2])] 80 ?_
        exact ih (g + 1) T BB (by omega) (by omega) hT (by rw [hs, hq, hF])
      refine vt_walk hX tk_minute [(145, [0, 1, 2])] 80 ?_
      refine ⟨by omega, by omega, fun z => absurd z (by omega), fun _ => ?_⟩
      refine vt_k (tm_goerOf (by omega)) ?_
      rw [hF]
      refine ⟨by omega, fun c => ?_, fun c => ?_⟩
      · exact go (by unfold sp_m2; rw [if_neg (fun z => c z.1)])
      refine vt_k (tm_goerOf (by omega)) ?_
      refine vt_k (tm_goerOf (by omega)) ?_
      rw [hF]
      have r1 := rg.1
      have r2 := rg.2.1
      refine ⟨by omega, fun d => ?_, fun d => ?_⟩
      · exact go (by unfold sp_m2; rw [if_neg (fun z => z.2.1 d)])
      refine ⟨by omega, vt_k (tm_goerOf (by omega)) ?_⟩
      rw [hF]
      refine ⟨by omega, fun x => ?_, fun x => ?_⟩
      · exact go (by unfold sp_m2; rw [if_neg (fun z => by omega)])
      have st : 0 ≤ sG F g 0 ∧ sG F g 0 ≤ 7 := by
        obtain ⟨-, -, -, q | q⟩ := rg <;> omega
      refine ⟨_, tm_leaves2 ht (by rw [hF]; exact gF) (by rw [hF]; exact st) hLI (hR.of (hT.1 3 (by decide)) (hT.1 5 (by decide)) (hT.1 6 (by decide))), ?_⟩
      rintro _ T2 B2 ⟨rfl, k1, k2⟩
      refine vt_walk hX tk_minute [(89, [0, 1, 2])] 80 ?_
      refine ih (g + 1) T2 B2 (by omega) (by omega) (hT.tr k1) ?_
      rw [k2, hs, hF]
      unfold sp_m2
      rw [if_pos ⟨c, d, x⟩]
  have L1 : ∀ (a : Nat) (g : Int) (T : SS), 0 ≤ g → g + a = S 23 1 → mkp S B T B → T 23 = sp_m1s (S 23) g.toNat → vt_J 90 Post X 2 [(0, me), (1, ii t), (2, ii g)] [] T B := by
    intro a
    induction a with
    | zero =>
      intro g T g0 ga hT hF
      have x1 : T 23 1 = S 23 1 := by rw [hF, show g = S 23 1 by omega, hf1, e1]
      refine vt_walk hX tk_minute [(89, [0, 1, 2])] 80 ?_
      refine ⟨by omega, by omega, fun _ => ?_, fun z => absurd z (by omega)⟩
      refine L2 (S 23 1).toNat 0 T B (by omega) (by omega) hT ?_
      rw [hF, show g = S 23 1 by omega, hf1]
      rfl
    | succ a ih =>
      intro g T g0 ga hT hF
      obtain ⟨c1, c2⟩ := h.m1s hK g.toNat (by omega)
      have hs := m1s_s (f := S 23) g0
      generalize sp_m1s (S 23) g.toNat = F at *
      have x1 : T 23 1 = S 23 1 := by rw [hF, c2.1 1 (by omega)]
      have gF : 0 ≤ g ∧ g < F 1 := by rw [← hF]; omega
      have rg := c1.g g0 gF.2
      have wg := rg.way c1.nW.2
      have n0 := c1.nW
      have hd := c1.dir
      refine vt_walk hX tk_minute [(81, [0, 1, 2])] 80 ?_
      refine ⟨by omega, by omega, fun z => absurd z (by omega), fun _ => ?_⟩
      refine vt_k (tm_goerOf (by omega)) ?_
      rw [hF]
      have go : ∀ T', mkp S B T' B → T' 23 = sp_m1 F g → vt_J 90 Post X 81 [(0, me), (1, ii t), (2, ii g)] [] T' B := by
        intro T' hT' hq
        refine vt_walk hX tk_minute [(2, [0, 1, 2])] 80 ?_
        exact ih (g + 1) T' (by omega) (by omega) hT' (by rw [hs, hq])
      refine ⟨by omega, fun c => ?_, fun c => ?_⟩
      case refine_2 => exact go T hT (by rw [hF]; unfold sp_m1; rw [if_pos c])
      obtain ⟨q1, q2, q3, q4, q5, q6, q7⟩ : 0 ≤ sG F g 3 ∧ sG F g 3 < F 0 ∧ 0 ≤ sG F g 4 ∧ sG F g 4 < sW F (sG F g 3) 2 ∧ 0 ≤ sG F g 6 ∧ sG F g 6 ≤ 7 ∧ sG F g 0 = 8 := by
        obtain ⟨-, -, -, q | q⟩ := rg
        · exact absurd q.1 c
        · exact q
      have w2 := (c1.w q1 q2).2.2.2.1
      refine ⟨by omega, by omega, ?_⟩
      rw [vt_up_0, hF]
      refine vt_k (tm_goerOf (by omega)) ?_
      refine vt_k (tm_wayOf (by omega)) ?_
      rw [vt_st_at]
      have u4 : sG (upF F (80 + 7 * g + 4) (F (80 + 7 * g + 4) + 1)) g 4 = sG F g 4 + 1 := upF_self
      have uW : sW (upF F (80 + 7 * g + 4) (F (80 + 7 * g + 4) + 1)) (sG F g 3) 2 = sW F (sG F g 3) 2 := upF_ne (by omega)
      have u6 : sG (upF F (80 + 7 * g + 4) (F (80 + 7 * g + 4) + 1)) g 6 = sG F g 6 := upF_ne (by omega)
      rw [u4, uW]
      refine ⟨by omega, fun d => ?_, fun d => ?_⟩
      · refine go _ hT.st ?_
        rw [vt_st_at]
        unfold sp_m1
        rw [if_neg c, if_neg d]
        rfl
      · refine vt_k (tm_goerOf (by omega)) ?_
        rw [vt_st_at, u6]
        refine ⟨by omega, ?_⟩
        rw [vt_st_at, upF_ne (by omega)]
        have e : ∀ i, i ≠ 80 + 7 * g + 4 → upF F (80 + 7 * g + 4) (F (80 + 7 * g + 4) + 1) i = F i := fun i hi => upF_ne hi
        refine vt_k (tm_arr0 (by rw [vt_st_at, e 1 (by omega)]; exact gF) (by rw [vt_st_at, e 0 (by omega)]; exact ⟨q1, q2⟩) ⟨q5, q6⟩ (by rw [vt_st_at, e 0 (by omega)]; exact n0) (by rw [vt_st_at, e 1 (by omega)]; exact c1.nG) (by rw [vt_st_at, e 2 (by omega)]; exact hd) (by rw [vt_st_at]; unfold sG; rw [e _ (by omega)]; exact rg.1) (by rw [vt_st_at]; unfold sG; rw [e _ (by omega)]; exact rg.2.2.1)) ?_
        refine go _ hT.st.st ?_
        rw [vt_st_at, vt_st_at, arr_up4 (by omega) (by omega)]
        unfold sp_m1
        rw [if_neg c, if_pos d]
  refine vt_walk hX tk_minute [(2, [0, 1, 2])] 80 ?_
  exact L1 (S 23 1).toNat 0 S (by omega) (by omega) mkp.rf rfl
end TMV
