/-! THE COMPONENT's parser: words -/
set_option maxRecDepth 100000
def wdL (i : Nat) : List Int := (vc_tl.getD i []).map Int32.toInt
theorem wd_len : ∀ i : Nat, i < 18 → (wdL i).length = tlN i := by decide
theorem wd_at : ∀ i : Nat, i < 18 → ∀ j : Nat, j < 7 → j < tlN i → (wdL i)[j]? = some (tcI i j) := by decide
/-- of what the constants are nothing changes -/
theorem vc_M.z0 {d mc ms mt : Nat} {as : List AV} {Lw : List Nat} {S : SS} {B : SB} {P : vc_Po} (h : vc_M d mc ms mt as Lw S B P) : vc_M d mc ms mt as Lw S B (fun r Lw' S' B' => P r Lw' S' B' ∧ S' 0 = S 0) := by
  intro l D cA sz
  refine (h l D cA sz).mono ?_
  rintro a s o t ⟨⟨r, L1, S1, B1, h1, h2, h3, h4, h6, h7⟩, h5⟩
  exact ⟨⟨r, L1, S1, B1, h1, h2, ⟨h3, h7⟩, h4, h6, h7⟩, h5⟩
theorem up0 {Lw : List Nat} {S : SS} {r : Nat} {c i v : Int} (h : vc_ob Lw S r c) : vt_up S r i v 0 = S 0 := by
  obtain ⟨⟨a, rfl, -⟩, -⟩ := h
  exact vt_up_ne (by omega)
section CPG
variable {Lw Lw' : List Nat} {S0 S : SS} {B : SB} {d o pr i r : Nat} {τ τ' : Nat → Nat} {tp : Int → Int} {n a : Int}
theorem cm_isWord (hi : i < 18) (hr : r = (S 0 (i : Int)).toNat) (h : CPs Lw S pr o tp n a) (ha : a ≤ n) : vc_M (d + 4) 0 0 90 [.inr (.inr pr), .inr (.inr r)] Lw S B (vc_eq (some (ii (bI (decide (wl tp n (sk tp n a) = wdL i))))) Lw (vt_up S pr 1 (sk tp n a)) B) := by
  refine vc_start rfl rfl (Nat.le_of_ble_eq_true rfl) (fun X hX hd => ?_)
  have hn := h.2.2.2.2.2.2.1
  have hsk := sk_spec (tp := tp) (n := n) a
  have hi0 := h.2.2.2.2.2.2.2.1
  have hskn := hsk.2.1 ha
  have hN := cm_nextS (B := B) (d := d + 2) h
  generalize hb : sk tp n a = b at *
  have C : CPs Lw (vt_up S pr 1 b) pr o tp n b := h.at_ (by omega)
  have hr1 : r = ((vt_up S pr 1 b) 0 (i : Int)).toNat := by rw [up0 h.1]; exact hr
  refine vc_walk hX ck_X4_isWord [(10, [0, 1, 2])] 60 hd ?_
  refine vc_kv h.1 hN ⟨Nat.le_refl _, Nat.le_refl _⟩ ?_
  refine ⟨C.1, ?_⟩
  rw [C.2.2.1]
  generalize vt_up S pr 1 b = S1 at *
  clear hN
  obtain ⟨h1, h2, h3, h4, ⟨h5, h6⟩, ⟨h7, h8⟩, h9, h10, h11, h12⟩ := C
  have e6 : (S1 pr 6).toNat = o := by rw [h2, Int.toNat_natCast]
  have h7n := tl_rg i hi
  have hwl := wd_len i hi
  generalize hW : wl tp n b = W at *
  have hWl : b + W.length ≤ n := by rw [← hW]; exact wl_len hskn
  have hend : isLt tp n (b + W.length) = false := by rw [← hW]; exact wl_end
  have hat : ∀ (j : Nat) (x : Int), W[j]? = some x → isLt tp n (b + j) = true ∧ tp (b + j) = x := fun j x hx => wl_at (by rw [hW]; exact hx)
  have fl : W ≠ wdL i → ∀ k : Nat, k ≤ 8 → vc_J 90 (vc_eq (some (ii (bI (decide (W = wdL i))))) Lw S1 B) X 71 [(0, .inr (.inr pr)), (1, .inr (.inr r)), (3, ii 0), (4, ii (k : Int))] [] Lw S1 B 0 0 := by
    intro hne k hk
    rw [decide_eq_false hne]
    refine vc_walk hX ck_X4_isWord [(74, [0, 1, 3, 4])] 60 hd ?_
    refine vc_x_callT (st := [ii (k : Int)]) (k := 150) hX hd (Nat.succ_pos _) (Nat.le_of_ble_eq_true rfl) [] hi hr1 dX4_isWord_74 q519 q520 q521 q522 ⟨rfl, by decide, by decide, rfl⟩ (by decide) (cm_len (d := d + 2) hi hr1) ⟨Nat.le_refl _, Nat.le_refl _⟩ ?_
    refine vc_walk hX ck_X4_isWord [] 60 hd ?_
    refine ⟨by omega, fun _ => ?_, fun _ => ?_⟩
    · exact ⟨⟨Or.inl rfl, Nat.le_refl _, Nat.le_refl _⟩, rfl, rfl, rfl, rfl⟩
    · refine ⟨by decide, fun _ => ?_, fun z => absurd rfl z⟩
      exact ⟨⟨Or.inl rfl, Nat.le_refl _, Nat.le_refl _⟩, rfl, rfl, rfl, rfl⟩
  have l2 : ∀ (m k : Nat), k + m = tlN i → W.length = tlN i → (∀ k' : Nat, k' < k → W[k']? = (wdL i)[k']?) → vc_J 90 (vc_eq (some (ii (bI (decide (W = wdL i))))) Lw S1 B) X 71 [(0, .inr (.inr pr)), (1, .inr (.inr r)), (3, ii 1), (4, ii (k : Int))] [] Lw S1 B 0 0 := by
    intro m
    induction m with
    | zero =>
      intro k hk hl hal
      have heq : W = wdL i := by
        apply List.ext_getElem?
        intro q
        by_cases c : q < k
        · exact hal q c
        · rw [List.getElem?_eq_none (by omega), List.getElem?_eq_none (by omega)]
      rw [decide_eq_true heq]
      refine vc_walk hX ck_X4_isWord [(74, [0, 1, 3, 4])] 60 hd ?_
      refine vc_x_callT (st := [ii (k : Int)]) (k := 150) hX hd (Nat.succ_pos _) (Nat.le_of_ble_eq_true rfl) [] hi hr1 dX4_isWord_74 q519 q520 q521 q522 ⟨rfl, by decide, by decide, rfl⟩ (by decide) (cm_len (d := d + 2) hi hr1) ⟨Nat.le_refl _, Nat.le_refl _⟩ ?_
      refine vc_walk hX ck_X4_isWord [] 60 hd ?_
      refine ⟨by omega, fun _ => ?_, fun z => absurd z (by omega)⟩
      exact ⟨⟨Or.inr rfl, Nat.le_refl _, Nat.le_refl _⟩, rfl, rfl, rfl, rfl⟩
    | succ m ih =>
      intro k hk hl hal
      have hkl : k < W.length := by omega
      obtain ⟨xk, hx⟩ : ∃ x, W[k]? = some x := ⟨_, List.getElem?_eq_getElem hkl⟩
      obtain ⟨x1, x2⟩ := hat k _ hx
      have x3 := isLt_rg x1
      have x4 := isLt_lt x1
      have hwk := wd_at i hi k (by omega) (by omega)
      have htc := tc_rg i hi k (by omega) (by omega)
      refine vc_walk hX ck_X4_isWord [(74, [0, 1, 3, 4])] 60 hd ?_
      refine vc_x_callT (st := [ii (k : Int)]) (k := 150) hX hd (Nat.succ_pos _) (Nat.le_of_ble_eq_true rfl) [] hi hr1 dX4_isWord_74 q519 q520 q521 q522 ⟨rfl, by decide, by decide, rfl⟩ (by decide) (cm_len (d := d + 2) hi hr1) ⟨Nat.le_refl _, Nat.le_refl _⟩ ?_
      refine vc_walk hX ck_X4_isWord [(102, [0, 1, 4])] 60 hd ?_
      refine ⟨by omega, fun z => absurd z (by omega), fun _ => ?_⟩
      refine ⟨by decide, fun z => absurd z (by decide), fun _ => ?_⟩
      refine ⟨h1, ?_⟩
      rw [e6]
      refine ⟨h4, h1, ?_⟩
      rw [h3]
      refine ⟨⟨h7, by omega, by omega, by omega⟩, ?_⟩
      rw [h6 _ (by omega) (by omega)]
      refine vc_x_callT (st := [ii (tp (b + k))]) (k := 152) hX hd (Nat.succ_pos _) (Nat.le_of_ble_eq_true rfl) [ii (k : Int)] hi hr1 dX4_isWord_102 q529 q530 q531 q532 ⟨rfl, by decide, by decide, rfl⟩ (by decide) (cm_charAt (d := d) hi (by omega) hr1) ⟨Nat.le_refl _, Nat.le_refl _⟩ ?_
      refine vc_walk hX ck_X4_isWord [(71, [0, 1, 3, 4])] 60 hd ?_
      refine ⟨by omega, fun z => ?_, fun z => ?_⟩
      · have := fl (fun q => z (by
          rw [q, hwk] at hx
          rw [x2]
          exact (Option.some.inj hx).symm)) (k + 1) (by omega)
        rw [show ((k + 1 : Nat) : Int) = (k : Int) + 1 by omega] at this
        exact this
      · have := ih (k + 1) (by omega) hl (fun k' hk' => by
          by_cases c : k' < k
          · exact hal k' c
          · rw [show k' = k by omega, hwk, hx, ← x2, z])
        rw [show ((k + 1 : Nat) : Int) = (k : Int) + 1 by omega] at this
        exact this
  have ex : vc_J 90 (vc_eq (some (ii (bI (decide (W = wdL i))))) Lw S1 B) X 49 [(0, .inr (.inr pr)), (1, .inr (.inr r)), (2, ii (b + W.length))] [] Lw S1 B 0 0 := by
    refine vc_walk hX ck_X4_isWord [(56, [0, 1])] 60 hd ?_
    refine ⟨h1, ?_⟩
    rw [h3]
    refine vc_x_callT (st := [ii (b + W.length - b)]) (k := 150) hX hd (Nat.succ_pos _) (Nat.le_of_ble_eq_true rfl) [] hi hr1 dX4_isWord_56 q519 q520 q521 q522 ⟨rfl, by decide, by decide, rfl⟩ (by decide) (cm_len (d := d + 2) hi hr1) ⟨Nat.le_refl _, Nat.le_refl _⟩ ?_
    refine vc_walk hX ck_X4_isWord [(71, [0, 1, 3, 4])] 60 hd ?_
    refine ⟨by omega, fun z => ?_, fun z => ?_⟩
    · exact fl (fun q => z (by rw [q]; omega)) 0 (by omega)
    · exact l2 (tlN i) 0 (by omega) (by omega) (fun k' hk' => absurd hk' (Nat.not_lt_zero _))
  have l1 : ∀ (m j : Nat), j + m = W.length → vc_J 90 (vc_eq (some (ii (bI (decide (W = wdL i))))) Lw S1 B) X 10 [(0, .inr (.inr pr)), (1, .inr (.inr r)), (2, ii (b + (j : Int)))] [] Lw S1 B 0 0 := by
    intro m
    induction m with
    | zero =>
      intro j hj
      have hj : j = W.length := by omega
      subst hj
      refine vc_walk hX ck_X4_isWord [(49, [0, 1, 2])] 60 hd ?_
      refine ⟨h1, ?_⟩
      rw [e6]
      refine ⟨h4, ?_⟩
      rw [h5]
      refine ⟨by omega, fun _ => ex, fun c => ?_⟩
      have c : b + (W.length : Int) < n := by omega
      refine ⟨h1, ?_⟩
      rw [e6]
      refine ⟨h4, ⟨h7, by omega, by omega, by omega⟩, ?_⟩
      rw [h6 _ (by omega) (by omega)]
      have hr2 := h11 (b + (W.length : Int)) (by omega) (by omega)
      have hs : sIn (tp (b + (W.length : Int))) 97 122 = false := by
        unfold isLt at hend
        rw [decide_eq_true c, Bool.true_and] at hend
        exact hend
      refine ⟨by omega, vc_k (cm_in (by omega) (by decide) (by decide)) ⟨Nat.le_refl _, Nat.le_refl _⟩ ?_⟩
      rw [hs]
      exact ⟨by decide, fun _ => ex, fun z => absurd rfl z⟩
    | succ m ih =>
      intro j hj
      have hkl : j < W.length := by omega
      obtain ⟨x1, x2⟩ := hat j _ (List.getElem?_eq_getElem hkl)
      have x3 := isLt_rg x1
      have x4 := isLt_lt x1
      have K := ih (j + 1) (by omega)
      rw [show b + ((j + 1 : Nat) : Int) = b + (j : Int) + 1 by omega] at K
      refine vc_walk hX ck_X4_isWord [(10, [0, 1, 2])] 60 hd ?_
      refine ⟨h1, ?_⟩
      rw [e6]
      refine ⟨h4, ?_⟩
      rw [h5]
      refine ⟨by omega, fun c => absurd c (by omega), fun _ => ?_⟩
      refine ⟨h1, ?_⟩
      rw [e6]
      refine ⟨h4, ⟨h7, by omega, by omega, by omega⟩, ?_⟩
      rw [h6 _ (by omega) (by omega)]
      have hs : sIn (tp (b + (j : Int))) 97 122 = true := decide_eq_true x3
      refine ⟨by omega, vc_k (cm_in (by omega) (by decide) (by decide)) ⟨Nat.le_refl _, Nat.le_refl _⟩ ?_⟩
      rw [hs]
      exact ⟨by decide, fun z => absurd z (by decide), fun _ => K⟩
  have := l1 W.length 0 (by omega)
  rw [show b + ((0 : Nat) : Int) = b by omega] at this
  exact this
theorem cm_takes (hi : i < 18) (hr : r = (S 0 (i : Int)).toNat) (h : CPs Lw S pr o tp n a) (ha : a ≤ n) : vc_M (d + 5) 0 0 104 [.inr (.inr pr), .inr (.inr r)] Lw S B (vc_eq (some (ii (bI (decide (wl tp n (sk tp n a) = wdL i))))) Lw (vt_up S pr 1 (sk tp n a + if wl tp n (sk tp n a) = wdL i then (tlN i : Int) else 0)) B) := by
  refine vc_start rfl rfl (Nat.le_of_ble_eq_true rfl) (fun X hX hd => ?_)
  have hn := h.2.2.2.2.2.2.1
  have hsk := sk_spec (tp := tp) (n := n) a
  have hi0 := h.2.2.2.2.2.2.2.1
  have hskn := hsk.2.1 ha
  have hN := cm_isWord (B := B) (d := d) hi hr h ha
  generalize hb : sk tp n a = b at *
  have C : CPs Lw (vt_up S pr 1 b) pr o tp n b := h.at_ (by omega)
  have hr1 : r = ((vt_up S pr 1 b) 0 (i : Int)).toNat := by rw [up0 h.1]; exact hr
  have h7n := tl_rg i hi
  by_cases cw : wl tp n b = wdL i
  · rw [decide_eq_true cw] at hN ⊢
    rw [if_pos cw]
    refine vc_walk hX ck_X4_takes [(16, [0, 1, 2])] 60 hd ?_
    refine vc_kv h.1 hN ⟨Nat.le_refl _, Nat.le_refl _⟩ ?_
    refine ⟨C.1, ?_⟩
    rw [C.2.2.1]
    refine ⟨by decide, fun z => absurd z (by decide), fun _ => ?_⟩
    refine vc_x_callT (st := [ii b, .inr (.inr pr)]) (k := 150) hX hd (Nat.succ_pos _) (Nat.le_of_ble_eq_true rfl) [] hi hr1 dX4_takes_16 q519 q520 q521 q522 ⟨rfl, by decide, by decide, rfl⟩ (by decide) (cm_len (d := d + 3) hi hr1) ⟨Nat.le_refl _, Nat.le_refl _⟩ ?_
    refine vc_walk hX ck_X4_takes [] 60 hd ?_
    refine ⟨C.1, ⟨Or.inr rfl, Nat.le_refl _, Nat.le_refl _⟩, rfl, rfl, ?_, rfl⟩
    exact vt_up_up
  · rw [decide_eq_false cw] at hN ⊢
    rw [if_neg cw]
    refine vc_walk hX ck_X4_takes [] 60 hd ?_
    refine vc_kv h.1 hN ⟨Nat.le_refl _, Nat.le_refl _⟩ ?_
    refine ⟨C.1, ?_⟩
    rw [C.2.2.1]
    refine ⟨by decide, fun _ => ?_, fun z => absurd rfl z⟩
    refine ⟨C.1, ⟨Or.inl rfl, Nat.le_refl _, Nat.le_refl _⟩, rfl, rfl, ?_, rfl⟩
    exact vt_up_up
/-- a step of a reading that answers nothing, or throws e -/
def StP (Lw : List Nat) (S : SS) (B : SB) (o : Nat) (bad : Prop) (e : Int) (S2 : SS) : vc_Po := fun r Lw' S' B' => Lw = Lw' ∧ B = B' ∧ ((¬ bad ∧ r = .inl none ∧ S' = S2) ∨ (bad ∧ r = .inr (S o 7).toNat ∧ S' = vt_up S (S o 7).toNat 6 e))
theorem cm_counts {x : Int} (h : CPs Lw S pr o tp n a) (hc : 0 ≤ S pr 3 ∧ S pr 3 ≤ 60) : vc_M (d + 1) 0 0 103 [.inr (.inr pr), ii x] Lw S B (StP Lw S B o (S pr 3 = 60) (er 3 x) (vt_up S pr 3 (S pr 3 + 1))) := by
  refine vc_start rfl rfl (Nat.le_of_ble_eq_true rfl) (fun X hX hd => ?_)
  obtain ⟨h1, h2, h3, h4, -, -, -, -, -, h12⟩ := h
  have e6 : (S pr 6).toNat = o := by rw [h2, Int.toNat_natCast]
  have x0 : 0 < (S o 7).toNat := by
    obtain ⟨⟨q, hq, -⟩, -⟩ := h12
    omega
  refine vc_walk hX ck_X4_counts [] 60 hd ?_
  refine ⟨h1, by omega, fun z => ?_, fun z => ?_⟩
  · exact ⟨h1, h1, ⟨Nat.le_refl _, Nat.le_refl _⟩, rfl, rfl, Or.inl ⟨z, rfl, rfl⟩⟩
  · refine ⟨h1, ?_⟩
    rw [e6]
    refine ⟨h4, vc_k (cm_fails (d := d) h4 h12) ⟨Nat.le_refl _, Nat.le_refl _⟩ ?_⟩
    exact ⟨⟨x0, Nat.le_refl _, Nat.le_refl _⟩, rfl, rfl, Or.inr ⟨z, rfl, rfl⟩⟩
theorem cm_deeper {x : Int} (h : CPs Lw S pr o tp n a) (hc : 0 ≤ S pr 2 ∧ S pr 2 ≤ 10) : vc_M (d + 1) 0 0 108 [.inr (.inr pr), ii x] Lw S B (StP Lw S B o (S pr 2 = 10) (er 2 x) (vt_up S pr 2 (S pr 2 + 1))) := by
  refine vc_start rfl rfl (Nat.le_of_ble_eq_true rfl) (fun X hX hd => ?_)
  obtain ⟨h1, h2, h3, h4, -, -, -, -, -, h12⟩ := h
  have e6 : (S pr 6).toNat = o := by rw [h2, Int.toNat_natCast]
  have x0 : 0 < (S o 7).toNat := by
    obtain ⟨⟨q, hq, -⟩, -⟩ := h12
    omega
  refine vc_walk hX ck_X4_goesDeeper [] 60 hd ?_
  refine ⟨h1, by omega, fun z => ?_, fun z => ?_⟩
  · exact ⟨h1, h1, ⟨Nat.le_refl _, Nat.le_refl _⟩, rfl, rfl, Or.inl ⟨z, rfl, rfl⟩⟩
  · refine ⟨h1, ?_⟩
    rw [e6]
    refine ⟨h4, vc_k (cm_fails (d := d) h4 h12) ⟨Nat.le_refl _, Nat.le_refl _⟩ ?_⟩
    exact ⟨⟨x0, Nat.le_refl _, Nat.le_refl _⟩, rfl, rfl, Or.inr ⟨z, rfl, rfl⟩⟩
/-- whether a clause of a name begins -/
def BegP (Lw : List Nat) (S : SS) (B : SB) (pr o : Nat) (w bad : Prop) (b len : Int) : vc_Po := fun r Lw' S' B' => Lw = Lw' ∧ B = B' ∧ ((¬ w ∧ r = .inl (some (ii 0)) ∧ S' = vt_up S pr 1 b) ∨ (w ∧ bad ∧ r = .inr (S o 7).toNat ∧ S' = vt_up (vt_up S pr 1 b) (S o 7).toNat 6 (er 4 b)) ∨ (w ∧ ¬ bad ∧ r = .inl (some (ii 1)) ∧ S' = vt_up (vt_up S pr 4 (S pr 4 + 1)) pr 1 (b + len)))
theorem up_sw {S : SS} {r : Nat} {i j u v : Int} (h : i ≠ j) : vt_up (vt_up S r i u) r j v = vt_up (vt_up S r j v) r i u := by
  funext q k
  by_cases c1 : q = r ∧ k = i
  · obtain ⟨rfl, rfl⟩ := c1
    rw [vt_up_self, up_ne (Or.inr h), vt_up_self]
  · have c1 : q ≠ r ∨ k ≠ i := by
      by_cases z : q = r
      · exact Or.inr (fun y => c1 ⟨z, y⟩)
      · exact Or.inl z
    rw [up_ne c1]
    by_cases c2 : q = r ∧ k = j
    · obtain ⟨rfl, rfl⟩ := c2
      rw [vt_up_self, vt_up_self]
    · have c2 : q ≠ r ∨ k ≠ j := by
        by_cases z : q = r
        · exact Or.inr (fun y => c2 ⟨z, y⟩)
        · exact Or.inl z
      rw [up_ne c2, up_ne c2, up_ne c1]
theorem cm_beginsP {may : Int} (hm : may = 0 ∨ may = 1) (hi : i < 18) (hr : r = (S 0 (i : Int)).toNat) (h : CPs Lw S pr o tp n a) (ha : a ≤ n) (hc : 0 ≤ S pr 4 ∧ S pr 4 ≤ 1000) (hc5 : 0 ≤ S pr 5 ∧ S pr 5 ≤ 1000) : vc_M (d + 5) 0 0 89 [.inr (.inr pr), .inr (.inr r), ii may] Lw S B (BegP Lw S B pr o (wl tp n (sk tp n a) = wdL i) (S pr 4 = S pr 5 ∨ may = 0) (sk tp n a) (tlN i : Int)) := by
  refine vc_start rfl rfl (Nat.le_of_ble_eq_true rfl) (fun X hX hd => ?_)
  have hn := h.2.2.2.2.2.2.1
  have hsk := sk_spec (tp := tp) (n := n) a
  have hi0 := h.2.2.2.2.2.2.2.1
  have hskn := hsk.2.1 ha
  have hN := cm_isWord (B := B) (d := d) hi hr h ha
  generalize hb : sk tp n a = b at *
  have C : CPs Lw (vt_up S pr 1 b) pr o tp n b := h.at_ (by omega)
  have hr1 : r = ((vt_up S pr 1 b) 0 (i : Int)).toNat := by rw [up0 h.1]; exact hr
  have npo : pr ≠ o := ob_ne h.1 h.2.2.2.1 (by decide)
  have e7 : vt_up S pr 1 b o 7 = S o 7 := up_ne (Or.inl (fun z => npo z.symm))
  have h7n := tl_rg i hi
  have x4 : vt_up S pr 1 b pr 4 = S pr 4 := up_ne (Or.inr (by decide))
  have x5 : vt_up S pr 1 b pr 5 = S pr 5 := up_ne (Or.inr (by decide))
  have e6 : (vt_up S pr 1 b pr 6).toNat = o := by rw [C.2.1, Int.toNat_natCast]
  have x0 : 0 < (S o 7).toNat := by
    obtain ⟨⟨q, hq, -⟩, -⟩ := h.2.2.2.2.2.2.2.2.2
    omega
  have bad : (S pr 4 = S pr 5 ∨ may = 0) → wl tp n b = wdL i → vc_J 89 (BegP Lw S B pr o (wl tp n b = wdL i) (S pr 4 = S pr 5 ∨ may = 0) b (tlN i : Int)) X 25 [(0, .inr (.inr pr)), (1, .inr (.inr r))] [] Lw (vt_up S pr 1 b) B 0 0 := by
    intro hbad cw
    refine vc_walk hX ck_X4_begins [] 60 hd ?_
    refine ⟨C.1, C.1, ?_⟩
    rw [e6, C.2.2.1]
    refine ⟨C.2.2.2.1, vc_k (cm_fails (d := d + 4) C.2.2.2.1 C.2.2.2.2.2.2.2.2.2) ⟨Nat.le_refl _, Nat.le_refl _⟩ ?_⟩
    rw [e7]
    exact ⟨⟨x0, Nat.le_refl _, Nat.le_refl _⟩, rfl, rfl, Or.inr (Or.inl ⟨cw, hbad, rfl, rfl⟩)⟩
  by_cases cw : wl tp n b = wdL i
  · rw [decide_eq_true cw] at hN
    refine vc_walk hX ck_X4_begins [(25, [0, 1]), (54, [0, 1])] 60 hd ?_
    refine vc_kv h.1 hN ⟨Nat.le_refl _, Nat.le_refl _⟩ ?_
    refine ⟨by decide, fun _ => ?_, fun z => absurd z (by decide)⟩
    refine ⟨C.1, C.1, ?_⟩
    rw [x4, x5]
    refine ⟨by omega, fun z => bad (Or.inl z) cw, fun z => ?_⟩
    refine ⟨by omega, fun z2 => ?_, fun z2 => bad (Or.inr z2) cw⟩
    refine ⟨C.1, C.1, ?_⟩
    rw [x4]
    have C1 := ob_up (r' := pr) (i := 4) (v := S pr 4 + 1) C.1 (by decide)
    refine ⟨C1, ?_⟩
    rw [up_ne (S := vt_up S pr 1 b) (Or.inr (by decide)), C.2.2.1]
    have hr2 : r = ((vt_up (vt_up S pr 1 b) pr 4 (S pr 4 + 1)) 0 (i : Int)).toNat := by rw [up0 C.1]; exact hr1
    refine vc_x_callT (st := [ii b, .inr (.inr pr)]) (k := 150) hX hd (Nat.succ_pos _) (Nat.le_of_ble_eq_true rfl) [] hi hr2 dX4_begins_54 q519 q520 q521 q522 ⟨rfl, by decide, by decide, rfl⟩ (by decide) (cm_len (d := d + 3) hi hr2) ⟨Nat.le_refl _, Nat.le_refl _⟩ ?_
    refine vc_walk hX ck_X4_begins [] 60 hd ?_
    refine ⟨C1, ⟨Or.inr rfl, Nat.le_refl _, Nat.le_refl _⟩, rfl, rfl, Or.inr (Or.inr ⟨cw, fun q => q.elim z z2, rfl, ?_⟩)⟩
    rw [up_sw (i := 1) (j := 4) (by decide)]
    exact vt_up_up
  · rw [decide_eq_false cw] at hN
    refine vc_walk hX ck_X4_begins [] 60 hd ?_
    refine vc_kv h.1 hN ⟨Nat.le_refl _, Nat.le_refl _⟩ ?_
    refine ⟨by decide, fun z => absurd rfl z, fun _ => ?_⟩
    exact ⟨⟨Or.inl rfl, Nat.le_refl _, Nat.le_refl _⟩, rfl, rfl, Or.inl ⟨cw, rfl, rfl⟩⟩
end CPG
