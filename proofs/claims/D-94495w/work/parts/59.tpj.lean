/-! THE TWIN's methods: lines of a land -/
set_option maxRecDepth 100000
def LX (S : SS) (tp : Int → Int) (n a : Int) : Prop := S 0 = tp ∧ TPI S n ∧ (S 43 11 = a ∧ 0 ≤ a ∧ a ≤ n) ∧ S 43 12 = 0
def fr (ks : List Nat) (fs : List Int) (S S' : SS) : Prop := vt_but ks S S' ∧ ∀ i : Int, i ∉ fs → S' 43 i = S 43 i
def MPo (S : SS) (B : SB) (tp : Int → Int) (n : Int) (q : Int ⊕ (Int × Int)) : vt_Po := fun rr S' B' => B' = B ∧ fr [43] [11, 12, 13] S S' ∧ match q with
  | .inl e => some (ii 0) = rr ∧ S' 43 12 = e ∧ 1 ≤ e ∧ e ≤ 4000
  | .inr q => some (ii 1) = rr ∧ LX S' tp n q.1 ∧ S' 43 13 = q.2
/-- a line read: its three numbers stand in the array kk behind the m lines ahead of it -/
def WPo (kk : Nat) (ff : Int) (S : SS) (B : SB) (tp : Int → Int) (n m : Int) (r : Int ⊕ (Int × T3)) : vt_Po := fun rr S' B' => B' = B ∧ fr [kk, 43] [ff, 11, 12, 13] S S' ∧ (∀ i, i < 3 * m → S' kk i = S kk i) ∧ match r with
  | .inl e => some (ii 0) = rr ∧ S' 43 12 = e ∧ 1 ≤ e ∧ e ≤ 4000
  | .inr p => some (ii 1) = rr ∧ LX S' tp n p.1 ∧ S' 43 ff = m + 1 ∧ S' kk (3 * m) = p.2.1 ∧ S' kk (3 * m + 1) = p.2.2.1 ∧ S' kk (3 * m + 2) = p.2.2.2
section TPJ
variable {S : SS} {B : SB} {n : Int}
variable {tp : Int → Int} {a : Int}
theorem fr.rf {ks : List Nat} {fs : List Int} : fr ks fs S S := ⟨vt_but.rf, fun _ _ => rfl⟩
theorem fr.tr {ks ls : List Nat} {fs gs : List Int} {S1 S2 : SS} (h : fr ks fs S S1) (h2 : fr ls gs S1 S2) (hk : ∀ k ∈ ks, k ∈ ls) (hf : ∀ k ∈ fs, k ∈ gs) : fr ls gs S S2 := ⟨h.1.tr h2.1 hk, fun i hi => by rw [h2.2 i hi, h.2 i (fun z => hi (hf i z))]⟩
theorem fr.mo {ks ls : List Nat} {fs gs : List Int} {S1 : SS} (h : fr ks fs S S1) (hk : ∀ k ∈ ks, k ∈ ls) (hf : ∀ k ∈ fs, k ∈ gs) : fr ls gs S S1 := ⟨fun j hj => h.1 j (fun z => hj (hk j z)), fun i hi => h.2 i (fun z => hi (hf i z))⟩
theorem fr.t {ks ls : List Nat} {fs gs : List Int} {S1 S2 : SS} (h : fr ls gs S S1) (h2 : fr ks fs S1 S2) (hk : ∀ k ∈ ks, k ∈ ls) (hf : ∀ k ∈ fs, k ∈ gs) : fr ls gs S S2 := h.tr (h2.mo hk hf) (fun _ z => z) (fun _ z => z)
theorem fr.f {ks : List Nat} {fs : List Int} {i v : Int} {S1 : SS} (h : fr ks fs S S1) (h43 : 43 ∈ ks) (hi : i ∈ fs) : fr ks fs S (vt_up S1 43 i v) := ⟨h.1.up h43, fun j hj => by
  rw [vt_up_off (fun (z : j = i) => hj (by rw [z]; exact hi))]; exact h.2 j hj⟩
theorem fr.upk {ks : List Nat} {fs : List Int} {k : Nat} {i v : Int} {S1 : SS} (h : fr ks fs S S1) (hk : k ∈ ks) (h43 : k ≠ 43) : fr ks fs S (vt_up S1 k i v) := ⟨h.1.up hk, fun j hj => by
  rw [vt_up_ne (Ne.symm h43)]; exact h.2 j hj⟩
theorem LX.nx {a' : Int} (h : LX S tp n a) (ha : 0 ≤ a' ∧ a' ≤ n) : LX (nx S a') tp n a' := by
  obtain ⟨h1, h2, h3, h4⟩ := h
  exact ⟨by rw [nx_k (by decide)]; exact h1, h2.nx, ⟨nx_11, ha⟩, by rw [nx_i (by decide)]; exact h4⟩
theorem LX.upk {k : Nat} {i v : Int} (h : LX S tp n a) (h0 : k ≠ 0) (h43 : k ≠ 43) : LX (vt_up S k i v) tp n a := by
  obtain ⟨h1, h2, h3, h4⟩ := h
  exact ⟨by rw [vt_up_ne (Ne.symm h0)]; exact h1, h2.kp (vt_up_ne (Ne.symm h0)) (by rw [vt_up_ne (Ne.symm h43)]), by rw [vt_up_ne (Ne.symm h43)]; exact h3, by rw [vt_up_ne (Ne.symm h43)]; exact h4⟩
theorem LX.f {i v : Int} (h : LX S tp n a) (h1 : i ≠ 1) (h11 : i ≠ 11) (h12 : i ≠ 12) : LX (vt_up S 43 i v) tp n a := by
  obtain ⟨g1, g2, g3, g4⟩ := h
  exact ⟨by rw [vt_up_ne (by decide)]; exact g1, g2.kp (vt_up_ne (by decide)) (vt_up_off (Ne.symm h1)), by rw [vt_up_off (Ne.symm h11)]; exact g3, by rw [vt_up_off (Ne.symm h12)]; exact g4⟩
theorem tm_num {lo hi : Int} (h : LX S tp n a) (hlo : 0 ≤ lo ∧ lo ≤ 100000) (hhi : 0 ≤ hi ∧ hi ≤ 100000) : vt_M 13 [me, ii lo, ii hi] S B (MPo S B tp n (pNum tp n a lo hi)) := by
  obtain ⟨h1, h2, h3, h4⟩ := h
  have := tm_numberHere (B := B) h2 h3.1 h3.2 h4 hlo hhi
  rw [h1] at this
  refine vt_M.mono this ?_
  rintro r S' B' ⟨rfl, b1, b2, b3⟩
  refine ⟨rfl, ⟨b1, fun i hi => b2 i (fun z => hi (by rw [z]; decide)) (fun z => hi (by rw [z]; decide)) (fun z => hi (by rw [z]; decide))⟩, ?_⟩
  cases hq : pNum tp n a lo hi with
  | inl e => rw [hq] at b3; exact b3
  | inr q =>
    rw [hq] at b3
    obtain ⟨c1, c2, c3, c4⟩ := b3
    have hg := pNum_pg hq
    have hs := sk_spec (tp := tp) (n := n) a
    exact ⟨c1, ⟨(b1 0 (by decide)).trans h1, h2.kp (b1 0 (by decide)) (b2 1 (by decide) (by decide) (by decide)), ⟨c2, by omega, by omega⟩, c3⟩, c4⟩
theorem pNum_sk {lo hi : Int} : pNum tp n (sk tp n a) lo hi = pNum tp n a lo hi := by
  unfold pNum
  rw [sk_sk]
theorem tm_isWayHere {m : Int} (h : LX S tp n a) (hsk : sk tp n a = a) (hw : wl tp n a = wWay) (h7 : S 43 7 = m) (hm : 0 ≤ m ∧ m ≤ 14) : vt_M 11 [me, ii a] S B (WPo 9 7 S B tp n m (if m = 14 then .inl (er 4 a) else lin tp n a)) := by
  refine vt_start rfl rfl (Nat.le_of_ble_eq_true rfl) (fun X hX => ?_)
  obtain ⟨h1, h2, h3, h4⟩ := id h
  have hn : 0 ≤ n ∧ n ≤ 400 := h2.2.1
  have hw3 : a + 3 ≤ n := wl3 h3.2.2 hw
  generalize hr : (if m = 14 then Sum.inl (er 4 a) else lin tp n a) = r
  refine vt_walk hX tk_isWayHere [(27, [0, 1, 2])] 120 ?_
  by_cases c14 : m = 14
  · rw [if_pos c14] at hr
    subst hr
    refine ⟨by omega, fun c => absurd c (by omega), fun _ => ?_⟩
    refine vt_k (tm_fails (by omega)) ?_
    rw [if_pos h4]
    refine ⟨by omega, rfl, fr.rf.f (by decide) (by decide), fun i hi => by rw [vt_up_ne (by decide)], rfl, ?_, by unfold er; omega⟩
    rw [vt_up_self]
    unfold er; omega
  rw [if_neg c14] at hr
  unfold lin at hr
  rw [hsk, if_pos hw] at hr
  refine ⟨by omega, fun _ => ?_, fun c => absurd c (by omega)⟩
  have s0 := tm_passWord (B := B) h2 h3.1 h3.2
  rw [h1, hw, show ((wWay.length : Nat) : Int) = 3 from rfl] at s0
  refine vt_k s0 ?_
  have x0 : LX (nx S (a + 3)) tp n (a + 3) := h.nx (by omega)
  have f0 : fr [9, 43] [7, 11, 12, 13] S (nx S (a + 3)) := fr.rf.f (by decide) (by decide)
  have e7 : nx S (a + 3) 43 7 = m := (nx_i (by decide)).trans h7
  have e9 : nx S (a + 3) 9 = S 9 := nx_k (by decide)
  show vt_J _ _ _ _ _ _ _ _
  rw [e7]
  generalize nx S (a + 3) = T0 at *
  refine vt_walk hX tk_isWayHere [(59, [0, 1, 2, 3])] 120 ?_
  refine ⟨_, tm_num x0 (by decide) (by decide), ?_⟩
  rintro rr S1 B1 ⟨rfl, g1, g2⟩
  have f1 : fr [9, 43] [7, 11, 12, 13] S S1 := f0.t g1 (by decide) (by decide)
  have e71 : S1 43 7 = m := (g1.2 7 (by decide)).trans e7
  have e91 : S1 9 = S 9 := (g1.1 9 (by decide)).trans e9
  cases hx : pNum tp n (a + 3) 0 7 with
  | inl e =>
    rw [hx] at g2 hr
    dsimp only at hr
    subst hr
    obtain ⟨rfl, g3⟩ := g2
    refine ⟨by decide, fun z => absurd rfl z, fun _ => ?_⟩
    exact ⟨by omega, rfl, f1, fun i hi => by rw [e91], rfl, g3⟩
  | inr x =>
  rw [hx] at g2 hr
  dsimp only at hr
  obtain ⟨rfl, x1, g13⟩ := g2
  refine ⟨by decide, fun _ => ?_, fun z => absurd z (by decide)⟩
  refine ⟨by omega, ?_⟩
  rw [g13]
  have x2 : LX (vt_up S1 9 (3 * m) x.2) tp n x.1 := x1.upk (by decide) (by decide)
  have f2 : fr [9, 43] [7, 11, 12, 13] S (vt_up S1 9 (3 * m) x.2) := f1.upk (by decide) (by decide)
  have e72 : vt_up S1 9 (3 * m) x.2 43 7 = m := by rw [vt_up_ne (by decide)]; exact e71
  have a2 : vt_up S1 9 (3 * m) x.2 9 (3 * m) = x.2 := vt_up_self
  have b2 : ∀ i, i < 3 * m → vt_up S1 9 (3 * m) x.2 9 i = S 9 i := fun i hi => by rw [vt_up_off (by omega), e91]
  generalize vt_up S1 9 (3 * m) x.2 = T2 at *
  have hs := sk_spec (tp := tp) (n := n) x.1
  have hsn := hs.2.1 x2.2.2.1.2.2
  have s1 := tm_see (B := B1) x2.2.1 x2.2.2.1.1 x2.2.2.1.2
  rw [x2.1] at s1
  refine vt_k s1 ?_
  have x3 : LX (nx T2 (sk tp n x.1)) tp n (sk tp n x.1) := x2.nx (by have := x2.2.2.1; omega)
  have e3 : nx T2 (sk tp n x.1) 43 11 = sk tp n x.1 := nx_11
  have f3 : fr [9, 43] [7, 11, 12, 13] S (nx T2 (sk tp n x.1)) := f2.f (by decide) (by decide)
  have e73 : nx T2 (sk tp n x.1) 43 7 = m := (nx_i (by decide)).trans e72
  have e93 : nx T2 (sk tp n x.1) 9 = T2 9 := nx_k (by decide)
  show vt_J _ _ _ _ _ _ _ _
  rw [e3]
  generalize nx T2 (sk tp n x.1) = T3 at *
  refine vt_walk hX tk_isWayHere [] 120 ?_
  have sN := tm_num (B := B1) (lo := 0) (hi := 7) x3 (by decide) (by decide)
  rw [pNum_sk] at sN
  refine ⟨_, sN, ?_⟩
  rintro rr S4 B4 ⟨rfl, g4, g5⟩
  have f4 : fr [9, 43] [7, 11, 12, 13] S S4 := f3.t g4 (by decide) (by decide)
  have e74 : S4 43 7 = m := (g4.2 7 (by decide)).trans e73
  have e94 : S4 9 = T2 9 := (g4.1 9 (by decide)).trans e93
  cases hy : pNum tp n x.1 0 7 with
  | inl e =>
    rw [hy] at g5 hr
    dsimp only at hr
    subst hr
    obtain ⟨rfl, g6⟩ := g5
    refine ⟨by decide, fun z => absurd rfl z, fun _ => ?_⟩
    exact ⟨by omega, rfl, f4, fun i hi => by rw [e94]; exact b2 i hi, rfl, g6⟩
  | inr y =>
  rw [hy] at g5 hr
  dsimp only at hr
  obtain ⟨rfl, x4, g13b⟩ := g5
  have hxr := pNum_pg hx
  have hyr := pNum_pg hy
  refine ⟨by decide, fun _ => ?_, fun z => absurd z (by decide)⟩
  have a4 : S4 9 (3 * m) = x.2 := by rw [e94]; exact a2
  refine ⟨by omega, by omega, fun c => ?_, fun c => ?_⟩
  rotate_left
  · rw [if_pos (by omega)] at hr
    subst hr
    have hx3 := x3.2.2.1
    refine vt_k (tm_fails (by have := x4.2.2.2; omega)) ?_
    rw [if_pos x4.2.2.2]
    refine ⟨by omega, rfl, f4.f (by decide) (by decide), fun i hi => by rw [vt_up_ne (by decide), e94]; exact b2 i hi, rfl, ?_, by unfold er; omega⟩
    rw [vt_up_self]
    unfold er; omega
  · rw [if_neg (by omega)] at hr
    refine ⟨by omega, ?_⟩
    rw [g13b]
    have x5 : LX (vt_up S4 9 (3 * m + 1) y.2) tp n y.1 := x4.upk (by decide) (by decide)
    have f5 : fr [9, 43] [7, 11, 12, 13] S (vt_up S4 9 (3 * m + 1) y.2) := f4.upk (by decide) (by decide)
    have e75 : vt_up S4 9 (3 * m + 1) y.2 43 7 = m := by rw [vt_up_ne (by decide)]; exact e74
    have a5 : vt_up S4 9 (3 * m + 1) y.2 9 (3 * m) = x.2 := by rw [vt_up_off (by omega)]; exact a4
    have a51 : vt_up S4 9 (3 * m + 1) y.2 9 (3 * m + 1) = y.2 := vt_up_self
    have b5 : ∀ i, i < 3 * m → vt_up S4 9 (3 * m + 1) y.2 9 i = S 9 i := fun i hi => by rw [vt_up_off (by omega), e94]; exact b2 i hi
    generalize vt_up S4 9 (3 * m + 1) y.2 = T5 at *
    refine ⟨_, tm_num x5 (by decide) (by decide), ?_⟩
    rintro rr S6 B6 ⟨rfl, g6, g7⟩
    have f6 : fr [9, 43] [7, 11, 12, 13] S S6 := f5.t g6 (by decide) (by decide)
    have e76 : S6 43 7 = m := (g6.2 7 (by decide)).trans e75
    have e96 : S6 9 = T5 9 := g6.1 9 (by decide)
    cases hz : pNum tp n y.1 1 60 with
    | inl e =>
      rw [hz] at g7 hr
      dsimp only at hr
      subst hr
      obtain ⟨rfl, g8⟩ := g7
      refine ⟨by decide, fun z => absurd rfl z, fun _ => ?_⟩
      exact ⟨by omega, rfl, f6, fun i hi => by rw [e96]; exact b5 i hi, rfl, g8⟩
    | inr z =>
    rw [hz] at g7 hr
    dsimp only at hr
    obtain ⟨rfl, x6, g13c⟩ := g7
    refine ⟨by decide, fun _ => ?_, fun z => absurd z (by decide)⟩
    have e77 : vt_up S6 9 (3 * m + 2) z.2 43 7 = m := by rw [vt_up_ne (by decide)]; exact e76
    subst hr
    refine ⟨by omega, ?_⟩
    rw [g13c]
    refine ⟨by omega, rfl, (f6.upk (by decide) (by decide)).f (by decide) (by decide), fun i hi => ?_, rfl, ?_, ?_, ?_, ?_, ?_⟩
    · rw [vt_up_ne (by decide), vt_up_off (by omega), e96]; exact b5 i hi
    · exact (x6.upk (by decide) (by decide)).f (by decide) (by decide) (by decide)
    · rw [vt_up_self, e77]
    · rw [vt_up_ne (by decide), vt_up_off (by omega), e96]; exact a5
    · rw [vt_up_ne (by decide), vt_up_off (by omega), e96]; exact a51
    · rw [vt_up_ne (by decide), vt_up_self]
theorem tm_isGoerHere {m : Int} (h : LX S tp n a) (hsk : sk tp n a = a) (hw : wl tp n a = wGoer) (h8 : S 43 8 = m) (hm : 0 ≤ m ∧ m ≤ 6) : vt_M 16 [me, ii a] S B (WPo 10 8 S B tp n m (if m = 6 then .inl (er 4 a) else lin tp n a)) := by
  refine vt_start rfl rfl (Nat.le_of_ble_eq_true rfl) (fun X hX => ?_)
  obtain ⟨h1, h2, h3, h4⟩ := id h
  have hn : 0 ≤ n ∧ n ≤ 400 := h2.2.1
  have hw3 : a + 4 ≤ n := wl3 h3.2.2 hw
  generalize hr : (if m = 6 then Sum.inl (er 4 a) else lin tp n a) = r
  refine vt_walk hX tk_isGoerHere [(22, [0, 2])] 120 ?_
  by_cases c14 : m = 6
  · rw [if_pos c14] at hr
    subst hr
    refine ⟨by omega, fun c => absurd c (by omega), fun _ => ?_⟩
    refine vt_k (tm_fails (by omega)) ?_
    rw [if_pos h4]
    refine ⟨by omega, rfl, fr.rf.f (by decide) (by decide), fun i hi => by rw [vt_up_ne (by decide)], rfl, ?_, by unfold er; omega⟩
    rw [vt_up_self]
    unfold er; omega
  rw [if_neg c14] at hr
  unfold lin at hr
  rw [hsk, if_neg (by rw [hw]; decide)] at hr
  refine ⟨by omega, fun _ => ?_, fun c => absurd c (by omega)⟩
  have s0 := tm_passWord (B := B) h2 h3.1 h3.2
  rw [h1, hw, show ((wGoer.length : Nat) : Int) = 4 from rfl] at s0
  refine vt_k s0 ?_
  show vt_J _ _ _ _ _ _ _ _
  have x0 : LX (nx S (a + 4)) tp n (a + 4) := h.nx (by omega)
  have f0 : fr [10, 43] [8, 11, 12, 13] S (nx S (a + 4)) := fr.rf.f (by decide) (by decide)
  have e8 : nx S (a + 4) 43 8 = m := (nx_i (by decide)).trans h8
  have e9 : nx S (a + 4) 10 = S 10 := nx_k (by decide)
  generalize nx S (a + 4) = T0 at *
  -- the first
  refine vt_walk hX tk_isGoerHere [(22, [0, 2])] 120 ?_
  refine ⟨by decide, fun z => absurd z (by decide), fun _ => ?_⟩
  refine ⟨by decide, fun z => absurd z (by decide), fun _ => ?_⟩
  refine ⟨_, tm_num x0 (by decide) (by decide), ?_⟩
  rintro rr S1 B1 ⟨rfl, g1, g2⟩
  have f1 : fr [10, 43] [8, 11, 12, 13] S S1 := f0.t g1 (by decide) (by decide)
  have e81 : S1 43 8 = m := (g1.2 8 (by decide)).trans e8
  have e91 : S1 10 = S 10 := (g1.1 10 (by decide)).trans e9
  cases hx : pNum tp n (a + 4) 0 7 with
  | inl e =>
    rw [hx] at g2 hr
    dsimp only at hr
    subst hr
    obtain ⟨rfl, g3⟩ := g2
    refine ⟨by decide, fun z => absurd rfl z, fun _ => ?_⟩
    exact ⟨by omega, rfl, f1, fun i hi => by rw [e91], rfl, g3⟩
  | inr x =>
  rw [hx] at g2 hr
  dsimp only at hr
  obtain ⟨rfl, x1, g13⟩ := g2
  refine ⟨by decide, fun _ => ?_, fun z => absurd z (by decide)⟩
  refine ⟨by omega, ?_⟩
  show vt_J _ _ _ _ _ _ _ _
  rw [g13, e81]
  have x2 : LX (vt_up S1 10 (3 * m + 0) x.2) tp n x.1 := x1.upk (by decide) (by decide)
  have f2 : fr [10, 43] [8, 11, 12, 13] S (vt_up S1 10 (3 * m + 0) x.2) := f1.upk (by decide) (by decide)
  have e82 : vt_up S1 10 (3 * m + 0) x.2 43 8 = m := by rw [vt_up_ne (by decide)]; exact e81
  have a2 : vt_up S1 10 (3 * m + 0) x.2 10 (3 * m) = x.2 := by rw [Int.add_zero]; exact vt_up_self
  have b2 : ∀ i, i < 3 * m → vt_up S1 10 (3 * m + 0) x.2 10 i = S 10 i := fun i hi => by rw [vt_up_off (by omega), e91]
  generalize vt_up S1 10 (3 * m + 0) x.2 = T2 at *
  -- the second
  refine vt_walk hX tk_isGoerHere [(22, [0, 2])] 120 ?_
  refine ⟨by decide, fun z => absurd z (by decide), fun _ => ?_⟩
  refine ⟨by decide, fun z => absurd z (by decide), fun _ => ?_⟩
  refine ⟨_, tm_num x2 (by decide) (by decide), ?_⟩
  rintro rr S4 B4 ⟨rfl, g4, g5⟩
  have f4 : fr [10, 43] [8, 11, 12, 13] S S4 := f2.t g4 (by decide) (by decide)
  have e84 : S4 43 8 = m := (g4.2 8 (by decide)).trans e82
  have e94 : S4 10 = T2 10 := g4.1 10 (by decide)
  cases hy : pNum tp n x.1 0 7 with
  | inl e =>
    rw [hy] at g5 hr
    dsimp only at hr
    subst hr
    obtain ⟨rfl, g6⟩ := g5
    refine ⟨by decide, fun z => absurd rfl z, fun _ => ?_⟩
    exact ⟨by omega, rfl, f4, fun i hi => by rw [e94]; exact b2 i hi, rfl, g6⟩
  | inr y =>
  rw [hy] at g5 hr
  dsimp only at hr
  obtain ⟨rfl, x4, g13b⟩ := g5
  refine ⟨by decide, fun _ => ?_, fun z => absurd z (by decide)⟩
  refine ⟨by omega, ?_⟩
  show vt_J _ _ _ _ _ _ _ _
  rw [g13b, e84, show 3 * m + (0 + 1) = 3 * m + 1 by omega]
  have x5 : LX (vt_up S4 10 (3 * m + 1) y.2) tp n y.1 := x4.upk (by decide) (by decide)
  have f5 : fr [10, 43] [8, 11, 12, 13] S (vt_up S4 10 (3 * m + 1) y.2) := f4.upk (by decide) (by decide)
  have e85 : vt_up S4 10 (3 * m + 1) y.2 43 8 = m := by rw [vt_up_ne (by decide)]; exact e84
  have a5 : vt_up S4 10 (3 * m + 1) y.2 10 (3 * m) = x.2 := by rw [vt_up_off (by omega), e94]; exact a2
  have a51 : vt_up S4 10 (3 * m + 1) y.2 10 (3 * m + 1) = y.2 := vt_up_self
  have b5 : ∀ i, i < 3 * m → vt_up S4 10 (3 * m + 1) y.2 10 i = S 10 i := fun i hi => by rw [vt_up_off (by omega), e94]; exact b2 i hi
  generalize vt_up S4 10 (3 * m + 1) y.2 = T5 at *
  -- the third
  refine vt_walk hX tk_isGoerHere [(22, [0, 2])] 120 ?_
  refine ⟨by decide, fun z => absurd z (by decide), fun _ => ?_⟩
  refine ⟨by decide, fun _ => ?_, fun z => absurd z (by decide)⟩
  refine ⟨_, tm_num x5 (by decide) (by decide), ?_⟩
  rintro rr S6 B6 ⟨rfl, g6, g7⟩
  have f6 : fr [10, 43] [8, 11, 12, 13] S S6 := f5.t g6 (by decide) (by decide)
  have e86 : S6 43 8 = m := (g6.2 8 (by decide)).trans e85
  have e96 : S6 10 = T5 10 := g6.1 10 (by decide)
  cases hz : pNum tp n y.1 0 999 with
  | inl e =>
    rw [hz] at g7 hr
    dsimp only at hr
    subst hr
    obtain ⟨rfl, g8⟩ := g7
    refine ⟨by decide, fun z => absurd rfl z, fun _ => ?_⟩
    exact ⟨by omega, rfl, f6, fun i hi => by rw [e96]; exact b5 i hi, rfl, g8⟩
  | inr z =>
  rw [hz] at g7 hr
  dsimp only at hr
  obtain ⟨rfl, x6, g13c⟩ := g7
  refine ⟨by decide, fun _ => ?_, fun z => absurd z (by decide)⟩
  refine ⟨by omega, ?_⟩
  show vt_J _ _ _ _ _ _ _ _
  rw [g13c, e86, show 3 * m + (0 + 1 + 1) = 3 * m + 2 by omega]
  have e87 : vt_up S6 10 (3 * m + 2) z.2 43 8 = m := by rw [vt_up_ne (by decide)]; exact e86
  subst hr
  refine vt_walk hX tk_isGoerHere [] 120 ?_
  refine ⟨by decide, fun _ => ?_, fun z => absurd z (by decide)⟩
  refine ⟨by omega, rfl, (f6.upk (by decide) (by decide)).f (by decide) (by decide), fun i hi => ?_, rfl, ?_, ?_, ?_, ?_, ?_⟩
  · rw [vt_up_ne (by decide), vt_up_off (by omega), e96]; exact b5 i hi
  · exact (x6.upk (by decide) (by decide)).f (by decide) (by decide) (by decide)
  · rw [vt_up_self, e87]
  · rw [vt_up_ne (by decide), vt_up_off (by omega), e96]; exact a5
  · rw [vt_up_ne (by decide), vt_up_off (by omega), e96]; exact a51
  · rw [vt_up_ne (by decide), vt_up_self]
end TPJ
