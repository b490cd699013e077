/-! THE TWIN's methods: values, terms, sums, what is compared -/
set_option maxRecDepth 100000
def putS (S : SS) (tx L x : Int) : SS := vt_up (vt_up S 3 (400 * tx + L) x) 4 tx (L + 1)
section TPC
variable {S : SS} {B : SB} {n : Int}
theorem tm_isWord0 {b : Int} {w : Int64} {ws : List Int} (h : TPI S n) (ha : S 43 11 = b) (h0 : 0 ≤ b ∧ b ≤ n) (hk : sk (S 0) n b = b) (hw : w = Int64.ofInt (pkw ws)) (hl : (∀ x ∈ ws, 97 ≤ x ∧ x ≤ 122) ∧ 1 ≤ ws.length ∧ ws.length ≤ 7) : vt_M 8 [me, ll w] S B (vt_eq (some (ii (bI (decide (wl (S 0) n b = ws))))) S B) := by
  have := tm_isWord (B := B) h ha h0 hw hl
  rw [hk] at this
  have e : nx S b = S := by rw [← ha]; exact nx_self
  rw [e] at this
  exact this
theorem wIx_is {tp : Int → Int} {b k : Int} (hk : 0 ≤ k ∧ k < 12) (h : wl tp n b = nmW k) (hj : ∀ j, 0 ≤ j → j < k → wl tp n b ≠ nmW j) : wIx tp n b = k := by
  rcases wIx_spec (tp := tp) (n := n) (b := b) with ⟨-, z⟩ | ⟨z1, z2, z3, z4⟩
  · exact absurd h (z k hk.1 hk.2)
  · by_cases c : wIx tp n b < k
    · exact absurd z3 (hj _ z1 c)
    · by_cases c2 : k < wIx tp n b
      · exact absurd h (z4 k hk.1 c2)
      · omega
theorem tm_wordHere {a : Int} (h : TPI S n) (ha : S 43 11 = a) (h0 : 0 ≤ a ∧ a ≤ n) : vt_M 23 [me] S B (vt_eq (some (ii (wIx (S 0) n (sk (S 0) n a)))) (nx S (sk (S 0) n a)) B) := by
  refine vt_start rfl rfl (Nat.le_of_ble_eq_true rfl) (fun X hX => ?_)
  have hs := sk_spec (tp := S 0) (n := n) a
  have hsn := hs.2.1 h0.2
  have hkk := sk_sk (tp := S 0) (n := n) a
  refine vt_walk hX tk_wordHere [] 200 ?_
  refine vt_k (tm_isWord h ha h0 (ws := nmW 0) (by decide) (by decide)) ?_
  generalize sk (S 0) n a = b at *
  have hT : TPI (nx S b) n := h.nx
  have e1 : nx S b 43 11 = b := nx_11
  have e0 : nx S b 0 = S 0 := nx_k (by decide)
  have hk : sk (nx S b 0) n b = b := by rw [e0]; exact hkk
  by_cases c0 : wl (S 0) n b = nmW 0
  · rw [decide_eq_true c0]
    refine ⟨by decide, fun z => absurd z (by decide), fun _ => ?_⟩
    rw [wIx_is (k := 0) (by decide) c0 (fun j j0 j1 z => by
      omega)]
    exact ⟨rfl, rfl, rfl⟩
  rw [decide_eq_false c0]
  refine ⟨by decide, fun _ => ?_, fun z => absurd rfl z⟩
  refine vt_k (tm_isWord0 hT e1 (by omega) hk (ws := nmW 1) (by decide) (by decide)) ?_
  rw [e0]
  by_cases c1 : wl (S 0) n b = nmW 1
  · rw [decide_eq_true c1]
    refine ⟨by decide, fun z => absurd z (by decide), fun _ => ?_⟩
    rw [wIx_is (k := 1) (by decide) c1 (fun j j0 j1 z => by
      have e : j = 0 := by omega
      subst e; exact c0 z)]
    exact ⟨rfl, rfl, rfl⟩
  rw [decide_eq_false c1]
  refine ⟨by decide, fun _ => ?_, fun z => absurd rfl z⟩
  refine vt_k (tm_isWord0 hT e1 (by omega) hk (ws := nmW 2) (by decide) (by decide)) ?_
  rw [e0]
  by_cases c2 : wl (S 0) n b = nmW 2
  · rw [decide_eq_true c2]
    refine ⟨by decide, fun z => absurd z (by decide), fun _ => ?_⟩
    rw [wIx_is (k := 2) (by decide) c2 (fun j j0 j1 z => by
      have e : j = 0 ∨ j = 1 := by omega
      rcases e with rfl | rfl
      · exact c0 z
      · exact c1 z)]
    exact ⟨rfl, rfl, rfl⟩
  rw [decide_eq_false c2]
  refine ⟨by decide, fun _ => ?_, fun z => absurd rfl z⟩
  refine vt_k (tm_isWord0 hT e1 (by omega) hk (ws := nmW 3) (by decide) (by decide)) ?_
  rw [e0]
  by_cases c3 : wl (S 0) n b = nmW 3
  · rw [decide_eq_true c3]
    refine ⟨by decide, fun z => absurd z (by decide), fun _ => ?_⟩
    rw [wIx_is (k := 3) (by decide) c3 (fun j j0 j1 z => by
      have e : j = 0 ∨ j = 1 ∨ j = 2 := by omega
      rcases e with rfl | rfl | rfl
      · exact c0 z
      · exact c1 z
      · exact c2 z)]
    exact ⟨rfl, rfl, rfl⟩
  rw [decide_eq_false c3]
  refine ⟨by decide, fun _ => ?_, fun z => absurd rfl z⟩
  refine vt_k (tm_isWord0 hT e1 (by omega) hk (ws := nmW 4) (by decide) (by decide)) ?_
  rw [e0]
  by_cases c4 : wl (S 0) n b = nmW 4
  · rw [decide_eq_true c4]
    refine ⟨by decide, fun z => absurd z (by decide), fun _ => ?_⟩
    rw [wIx_is (k := 4) (by decide) c4 (fun j j0 j1 z => by
      have e : j = 0 ∨ j = 1 ∨ j = 2 ∨ j = 3 := by omega
      rcases e with rfl | rfl | rfl | rfl
      · exact c0 z
      · exact c1 z
      · exact c2 z
      · exact c3 z)]
    exact ⟨rfl, rfl, rfl⟩
  rw [decide_eq_false c4]
  refine ⟨by decide, fun _ => ?_, fun z => absurd rfl z⟩
  refine vt_k (tm_isWord0 hT e1 (by omega) hk (ws := nmW 5) (by decide) (by decide)) ?_
  rw [e0]
  by_cases c5 : wl (S 0) n b = nmW 5
  · rw [decide_eq_true c5]
    refine ⟨by decide, fun z => absurd z (by decide), fun _ => ?_⟩
    rw [wIx_is (k := 5) (by decide) c5 (fun j j0 j1 z => by
      have e : j = 0 ∨ j = 1 ∨ j = 2 ∨ j = 3 ∨ j = 4 := by omega
      rcases e with rfl | rfl | rfl | rfl | rfl
      · exact c0 z
      · exact c1 z
      · exact c2 z
      · exact c3 z
      · exact c4 z)]
    exact ⟨rfl, rfl, rfl⟩
  rw [decide_eq_false c5]
  refine ⟨by decide, fun _ => ?_, fun z => absurd rfl z⟩
  refine vt_k (tm_isWord0 hT e1 (by omega) hk (ws := nmW 6) (by decide) (by decide)) ?_
  rw [e0]
  by_cases c6 : wl (S 0) n b = nmW 6
  · rw [decide_eq_true c6]
    refine ⟨by decide, fun z => absurd z (by decide), fun _ => ?_⟩
    rw [wIx_is (k := 6) (by decide) c6 (fun j j0 j1 z => by
      have e : j = 0 ∨ j = 1 ∨ j = 2 ∨ j = 3 ∨ j = 4 ∨ j = 5 := by omega
      rcases e with rfl | rfl | rfl | rfl | rfl | rfl
      · exact c0 z
      · exact c1 z
      · exact c2 z
      · exact c3 z
      · exact c4 z
      · exact c5 z)]
    exact ⟨rfl, rfl, rfl⟩
  rw [decide_eq_false c6]
  refine ⟨by decide, fun _ => ?_, fun z => absurd rfl z⟩
  refine vt_k (tm_isWord0 hT e1 (by omega) hk (ws := nmW 7) (by decide) (by decide)) ?_
  rw [e0]
  by_cases c7 : wl (S 0) n b = nmW 7
  · rw [decide_eq_true c7]
    refine ⟨by decide, fun z => absurd z (by decide), fun _ => ?_⟩
    rw [wIx_is (k := 7) (by decide) c7 (fun j j0 j1 z => by
      have e : j = 0 ∨ j = 1 ∨ j = 2 ∨ j = 3 ∨ j = 4 ∨ j = 5 ∨ j = 6 := by omega
      rcases e with rfl | rfl | rfl | rfl | rfl | rfl | rfl
      · exact c0 z
      · exact c1 z
      · exact c2 z
      · exact c3 z
      · exact c4 z
      · exact c5 z
      · exact c6 z)]
    exact ⟨rfl, rfl, rfl⟩
  rw [decide_eq_false c7]
  refine ⟨by decide, fun _ => ?_, fun z => absurd rfl z⟩
  refine vt_k (tm_isWord0 hT e1 (by omega) hk (ws := nmW 8) (by decide) (by decide)) ?_
  rw [e0]
  by_cases c8 : wl (S 0) n b = nmW 8
  · rw [decide_eq_true c8]
    refine ⟨by decide, fun z => absurd z (by decide), fun _ => ?_⟩
    rw [wIx_is (k := 8) (by decide) c8 (fun j j0 j1 z => by
      have e : j = 0 ∨ j = 1 ∨ j = 2 ∨ j = 3 ∨ j = 4 ∨ j = 5 ∨ j = 6 ∨ j = 7 := by omega
      rcases e with rfl | rfl | rfl | rfl | rfl | rfl | rfl | rfl
      · exact c0 z
      · exact c1 z
      · exact c2 z
      · exact c3 z
      · exact c4 z
      · exact c5 z
      · exact c6 z
      · exact c7 z)]
    exact ⟨rfl, rfl, rfl⟩
  rw [decide_eq_false c8]
  refine ⟨by decide, fun _ => ?_, fun z => absurd rfl z⟩
  refine vt_k (tm_isWord0 hT e1 (by omega) hk (ws := nmW 9) (by decide) (by decide)) ?_
  rw [e0]
  by_cases c9 : wl (S 0) n b = nmW 9
  · rw [decide_eq_true c9]
    refine ⟨by decide, fun z => absurd z (by decide), fun _ => ?_⟩
    rw [wIx_is (k := 9) (by decide) c9 (fun j j0 j1 z => by
      have e : j = 0 ∨ j = 1 ∨ j = 2 ∨ j = 3 ∨ j = 4 ∨ j = 5 ∨ j = 6 ∨ j = 7 ∨ j = 8 := by omega
      rcases e with rfl | rfl | rfl | rfl | rfl | rfl | rfl | rfl | rfl
      · exact c0 z
      · exact c1 z
      · exact c2 z
      · exact c3 z
      · exact c4 z
      · exact c5 z
      · exact c6 z
      · exact c7 z
      · exact c8 z)]
    exact ⟨rfl, rfl, rfl⟩
  rw [decide_eq_false c9]
  refine ⟨by decide, fun _ => ?_, fun z => absurd rfl z⟩
  refine vt_k (tm_isWord0 hT e1 (by omega) hk (ws := nmW 10) (by decide) (by decide)) ?_
  rw [e0]
  by_cases c10 : wl (S 0) n b = nmW 10
  · rw [decide_eq_true c10]
    refine ⟨by decide, fun z => absurd z (by decide), fun _ => ?_⟩
    rw [wIx_is (k := 10) (by decide) c10 (fun j j0 j1 z => by
      have e : j = 0 ∨ j = 1 ∨ j = 2 ∨ j = 3 ∨ j = 4 ∨ j = 5 ∨ j = 6 ∨ j = 7 ∨ j = 8 ∨ j = 9 := by omega
      rcases e with rfl | rfl | rfl | rfl | rfl | rfl | rfl | rfl | rfl | rfl
      · exact c0 z
      · exact c1 z
      · exact c2 z
      · exact c3 z
      · exact c4 z
      · exact c5 z
      · exact c6 z
      · exact c7 z
      · exact c8 z
      · exact c9 z)]
    exact ⟨rfl, rfl, rfl⟩
  rw [decide_eq_false c10]
  refine ⟨by decide, fun _ => ?_, fun z => absurd rfl z⟩
  refine vt_k (tm_isWord0 hT e1 (by omega) hk (ws := nmW 11) (by decide) (by decide)) ?_
  rw [e0]
  by_cases c11 : wl (S 0) n b = nmW 11
  · rw [decide_eq_true c11]
    refine ⟨by decide, fun z => absurd z (by decide), fun _ => ?_⟩
    rw [wIx_is (k := 11) (by decide) c11 (fun j j0 j1 z => by
      have e : j = 0 ∨ j = 1 ∨ j = 2 ∨ j = 3 ∨ j = 4 ∨ j = 5 ∨ j = 6 ∨ j = 7 ∨ j = 8 ∨ j = 9 ∨ j = 10 := by omega
      rcases e with rfl | rfl | rfl | rfl | rfl | rfl | rfl | rfl | rfl | rfl | rfl
      · exact c0 z
      · exact c1 z
      · exact c2 z
      · exact c3 z
      · exact c4 z
      · exact c5 z
      · exact c6 z
      · exact c7 z
      · exact c8 z
      · exact c9 z
      · exact c10 z)]
    exact ⟨rfl, rfl, rfl⟩
  rw [decide_eq_false c11]
  refine ⟨by decide, fun _ => ?_, fun z => absurd rfl z⟩
  rcases wIx_spec (tp := S 0) (n := n) (b := b) with ⟨z, -⟩ | ⟨z1, z2, z3, -⟩
  · rw [z]; exact ⟨rfl, rfl, rfl⟩
  · exfalso
    generalize wIx (S 0) n b = j at *
    have e : j = 0 ∨ j = 1 ∨ j = 2 ∨ j = 3 ∨ j = 4 ∨ j = 5 ∨ j = 6 ∨ j = 7 ∨ j = 8 ∨ j = 9 ∨ j = 10 ∨ j = 11 := by omega
    rcases e with rfl | rfl | rfl | rfl | rfl | rfl | rfl | rfl | rfl | rfl | rfl | rfl
    · exact c0 z3
    · exact c1 z3
    · exact c2 z3
    · exact c3 z3
    · exact c4 z3
    · exact c5 z3
    · exact c6 z3
    · exact c7 z3
    · exact c8 z3
    · exact c9 z3
    · exact c10 z3
    · exact c11 z3
theorem tm_puts {tx L s v : Int} (h1 : S 43 14 = tx) (h2 : 0 ≤ tx ∧ tx ≤ 5) (h3 : S 4 tx = L) (h4 : 0 ≤ L ∧ L < 400) : vt_M 22 [me, ii s, ii v] S B (vt_eq none (putS S tx L (s + 16 * v)) B) := by
  refine vt_start rfl rfl (Nat.le_of_ble_eq_true rfl) (fun X hX => ?_)
  subst h1
  subst h3
  refine vt_walk hX tk_puts [] 60 ?_
  have e : vt_up S 3 (400 * S 43 14 + S 4 (S 43 14)) (s + 16 * v) 43 14 = S 43 14 := by rw [vt_up_ne (by decide)]
  refine ⟨by omega, by omega, by omega, by omega, rfl, ?_, rfl⟩
  rw [e, vt_up_ne (by decide)]
  rfl
theorem tm_makes0 {at_ : Int} (h : S 43 15 = 60) (hz : S 43 12 = 0) : vt_M 21 [me, ii at_] S B (vt_eq (some (ii 0)) (vt_up S 43 12 (er 3 at_)) B) := by
  refine vt_start rfl rfl (Nat.le_of_ble_eq_true rfl) (fun X hX => ?_)
  refine vt_walk hX tk_makes [] 60 ?_
  refine ⟨by omega, fun c => absurd h c, fun _ => ?_⟩
  refine vt_k (tm_fails (by omega)) ?_
  rw [if_pos hz]
  refine ⟨by omega, rfl, ?_, rfl⟩
  unfold er
  rw [show 1 + 8 * at_ + 3 = 1 + 8 * at_ + 3 from rfl]
theorem tm_makes1 {at_ cn : Int} (h : S 43 15 = cn) (hc : 0 ≤ cn ∧ cn < 60) : vt_M 21 [me, ii at_] S B (vt_eq (some (ii 1)) (vt_up S 43 15 (cn + 1)) B) := by
  refine vt_start rfl rfl (Nat.le_of_ble_eq_true rfl) (fun X hX => ?_)
  subst h
  refine vt_walk hX tk_makes [] 60 ?_
  refine ⟨by omega, fun c => ?_, fun c => absurd c (by omega)⟩
  exact ⟨by omega, rfl, rfl, rfl⟩
theorem putS_k {tx L x : Int} {k : Nat} (h3 : k ≠ 3) (h4 : k ≠ 4) : putS S tx L x k = S k := by
  unfold putS
  rw [vt_up_ne h4, vt_up_ne h3]
theorem putS_4 {tx L x : Int} : putS S tx L x 4 tx = L + 1 := vt_up_self
theorem putS_3 {tx L x i : Int} (h : i ≠ 400 * tx + L) : putS S tx L x 3 i = S 3 i := by
  unfold putS
  rw [vt_up_ne (by decide), vt_up_off h]
theorem putS_3s {tx L x : Int} : putS S tx L x 3 (400 * tx + L) = x := by
  unfold putS
  rw [vt_up_ne (by decide), vt_up_self]
theorem TPI.kp {T : SS} (h : TPI S n) (h0 : T 0 = S 0) (h1 : T 43 1 = S 43 1) : TPI T n := by
  obtain ⟨a, b, c⟩ := h
  exact ⟨h1.trans a, b, by rw [h0]; exact c⟩
variable {tp : Int → Int} {tx a cn L w b : Int} {vs : List WF}
theorem PX0.nx {a' w' : Int} (h : PX0 S tp n tx a cn L w) (ha : 0 ≤ a' ∧ a' ≤ n) (hw : 0 ≤ w' ∧ L + w' ≤ a') : PX0 (nx S a') tp n tx a' cn L w' := by
  obtain ⟨h1, h2, h3, h4, h5, h6, h7⟩ := h
  refine ⟨by rw [nx_k (by decide)]; exact h1, h2.nx, by rw [nx_i (by decide)]; exact h3, ⟨nx_11, ha⟩, by rw [nx_i (by decide)]; exact h5, by rw [nx_i (by decide)]; exact h6, ?_⟩
  rw [nx_k (by decide)]
  omega
theorem PX0.mk (h : PX0 S tp n tx a cn L w) (hc : cn < 60) : PX0 (vt_up S 43 15 (cn + 1)) tp n tx a (cn + 1) L w := by
  obtain ⟨h1, h2, h3, h4, h5, h6, h7⟩ := h
  refine ⟨by rw [vt_up_ne (by decide)]; exact h1, h2.kp (vt_up_ne (by decide)) (vt_up_off (by decide)), by rw [vt_up_off (by decide)]; exact h3, by rw [vt_up_off (by decide)]; exact h4, ⟨vt_up_self, by omega⟩, by rw [vt_up_off (by decide)]; exact h6, ?_⟩
  rw [vt_up_ne (by decide)]
  exact h7
theorem PX0.nb {S' : SS} {a' w' : Int} (h : PX0 S tp n tx a cn L w) (hb : vt_but [43] S S') (hf : ∀ i : Int, i ≠ 11 → i ≠ 12 → i ≠ 13 → S' 43 i = S 43 i) (e11 : S' 43 11 = a') (e12 : S' 43 12 = 0) (ha : 0 ≤ a' ∧ a' ≤ n) (hw : 0 ≤ w' ∧ L + w' ≤ a') : PX0 S' tp n tx a' cn L w' := by
  obtain ⟨h1, h2, h3, h4, h5, h6, h7⟩ := h
  have e0 : S' 0 = S 0 := hb 0 (by decide)
  have e4 : S' 4 = S 4 := hb 4 (by decide)
  refine ⟨by rw [e0]; exact h1, h2.kp e0 (hf 1 (by decide) (by decide) (by decide)), by rw [hf 14 (by decide) (by decide) (by decide)]; exact h3, ⟨e11, ha⟩, by rw [hf 15 (by decide) (by decide) (by decide)]; exact h5, e12, ?_⟩
  rw [e4]
  omega
theorem PX0.put {x : Int} (h : PX0 S tp n tx a cn L (w + 1)) (hw : 0 ≤ w) : PX0 (putS S tx L x) tp n tx a cn (L + 1) w := by
  obtain ⟨h1, h2, h3, h4, h5, h6, h7⟩ := h
  have e0 : putS S tx L x 0 = S 0 := putS_k (by decide) (by decide)
  have e43 : putS S tx L x 43 = S 43 := putS_k (by decide) (by decide)
  refine ⟨by rw [e0]; exact h1, h2.kp e0 (by rw [e43]), by rw [e43]; exact h3, by rw [e43]; exact h4, by rw [e43]; exact h5, by rw [e43]; exact h6, putS_4, ?_⟩
  omega
theorem pk.put {ks : List Nat} {fs : List Int} {L1 x : Int} {S1 : SS} (h : pk ks fs tx L S S1) (hL : L ≤ L1) (h3 : 3 ∈ ks) (h4 : 4 ∈ ks) : pk ks fs tx L S (putS S1 tx L1 x) := by
  refine ⟨(h.1.up h3).up h4, fun i hi => ?_, fun i hi => ?_⟩
  · rw [putS_k (by decide) (by decide)]; exact h.2.1 i hi
  · rw [putS_3 (by omega)]; exact h.2.2 i hi
theorem pk.nb {ks : List Nat} {fs : List Int} {S' S1 : SS} (h : pk ks fs tx L S S1) (hb : vt_but [43] S1 S') (hf : ∀ i : Int, i ≠ 11 → i ≠ 12 → i ≠ 13 → S' 43 i = S1 43 i) (h43 : 43 ∈ ks) (h11 : 11 ∈ fs) (h12 : 12 ∈ fs) (h13 : 13 ∈ fs) : pk ks fs tx L S S' := by
  refine ⟨fun j hj => (hb j (fun z => hj (by rw [List.mem_singleton.mp z]; exact h43))).trans (h.1 j hj), fun i hi => ?_, fun i hi => ?_⟩
  · rw [hf i (fun z => hi (by rw [z]; exact h11)) (fun z => hi (by rw [z]; exact h12)) (fun z => hi (by rw [z]; exact h13))]
    exact h.2.1 i hi
  · rw [hb 3 (by decide)]; exact h.2.2 i hi
/-- a sign is put on the segment -/
theorem SegL.ps {m m' x : Int} {vs' : List WF} (h : SegL (fun i => S 3 (400 * tx + i)) b L m vs) (hL : L < 400) (hv : (0 ≤ x ∧ x ≤ 2147483647) ∧ (x % 16 = 1 → x / 16 ≤ 11)) (hm : if x % 16 = 0 ∨ x % 16 = 1 then m + 1 ≤ m' else m ≤ m') (hr : ∀ wd, rst wd x (vs.map (fun F => F wd)) = some (vs'.map (fun F => F wd))) : SegL (fun i => putS S tx L x 3 (400 * tx + i)) b (L + 1) m' vs' := by
  refine SegL.put h (fun i i0 i1 => putS_3 (by omega)) hL ?_ ?_ ?_
  · show (0 ≤ putS S tx L x 3 (400 * tx + L) ∧ _) ∧ (putS S tx L x 3 (400 * tx + L) % 16 = 1 → _)
    rw [putS_3s]; exact hv
  · show if putS S tx L x 3 (400 * tx + L) % 16 = 0 ∨ putS S tx L x 3 (400 * tx + L) % 16 = 1 then _ else _
    rw [putS_3s]; exact hm
  · show ∀ wd, rst wd (putS S tx L x 3 (400 * tx + L)) _ = _
    rw [putS_3s]; exact hr
theorem tm_value (h : PX S tp n tx a cn L w b vs) : vt_M 20 [me] S B (PPo pkA pkB S B tp n tx L w b vs (pVal tp n a cn)) := by
  refine vt_start rfl rfl (Nat.le_of_ble_eq_true rfl) (fun X hX => ?_)
  obtain ⟨h0, hg⟩ := h
  obtain ⟨h1, h2, h3, h4, h5, h6, h7⟩ := id h0
  subst h1
  have hs := sk_spec (tp := S 0) (n := n) a
  have hsn := hs.2.1 h4.2.2
  have hkk := sk_sk (tp := S 0) (n := n) a
  have hn : 0 ≤ n ∧ n ≤ 400 := h2.2.1
  generalize hq : pVal (S 0) n a cn = q
  unfold pVal at hq
  refine vt_walk hX tk_value [] 100 ?_
  refine vt_k (tm_see h2 h4.1 h4.2) ?_
  generalize sk (S 0) n a = c at *
  have hT : TPI (nx S c) n := h2.nx
  have e1 : nx S c 43 11 = c := nx_11
  have e0 : nx S c 0 = S 0 := nx_k (by decide)
  have e12 : nx S c 43 12 = 0 := (nx_i (by decide)).trans h6
  have p0 : PX0 (nx S c) (S 0) n tx c cn L w := h0.nx (by omega) (by omega)
  have k0 : pk pkA pkB tx L S (nx S c) := pk.rf.nx (by decide) (by decide)
  refine vt_k (tm_isDigit hT (by omega)) ?_
  rw [e0, e1]
  cases hd : isDg (S 0) n c with
  | true =>
    rw [hd, if_pos rfl] at hq
    refine ⟨by decide, fun z => absurd z (by decide), fun _ => ?_⟩
    have hnum := tm_numberHere (B := B) (a := c) (lo := 0) (hi := 99999) hT e1 (by omega) e12 (by decide) (by decide)
    rw [e0] at hnum
    refine ⟨_, hnum, ?_⟩
    rintro r S1 B1 ⟨rfl, b1, b2, b3⟩
    have k1 : pk pkA pkB tx L S S1 := k0.nb b1 b2 (by decide) (by decide) (by decide) (by decide)
    cases hp : pNum (S 0) n c 0 99999 with
    | inl e =>
      rw [hp] at hq b3
      obtain ⟨rfl, b4⟩ := b3
      subst hq
      refine ⟨by decide, fun _ => ?_, fun z => absurd rfl z⟩
      exact ⟨by omega, rfl, k1, rfl, b4⟩
    | inr p =>
      have hpg := pNum_pg hp
      rw [hkk] at hpg
      rw [hp] at hq b3
      obtain ⟨rfl, b4, b5, b6⟩ := b3
      refine ⟨by decide, fun z => absurd z (by decide), fun _ => ?_⟩
      have p1 : PX0 S1 (S 0) n tx p.1 cn L (w + 1) := p0.nb b1 b2 b4 b5 (by omega) (by omega)
      have e15 : S1 43 15 = cn := p1.2.2.2.2.1.1
      have hq : (if cn = 60 then Sum.inl (er 3 c) else Sum.inr (p.1, cn + 1, fun _ => Int64.ofInt p.2)) = q := hq
      by_cases c6 : cn = 60
      · rw [if_pos c6] at hq
        subst hq
        refine vt_k (tm_makes0 (e15.trans c6) b5) ?_
        refine ⟨by decide, fun z => absurd rfl z, fun _ => ?_⟩
        exact ⟨by omega, rfl, k1.f (by decide) (by decide), rfl, vt_up_self, by unfold er; omega⟩
      · rw [if_neg c6] at hq
        subst hq
        refine vt_k (tm_makes1 e15 (by omega)) ?_
        refine ⟨by decide, fun _ => ?_, fun z => absurd z (by decide)⟩
        have p2 := p1.mk (by omega)
        have g13 : vt_up S1 43 15 (cn + 1) 43 13 = p.2 := by rw [vt_up_off (by decide)]; exact b6
        refine vt_k (tm_puts p2.2.2.1.1 (by omega) p2.2.2.2.2.2.2.1 (by omega)) ?_
        rw [g13]
        refine ⟨by omega, rfl, (k1.f (by decide) (by decide)).put (Int.le_refl _) (by decide) (by decide), rfl, L + 1, by omega, p2.put (by omega), ?_⟩
        refine SegL.ps (m := cn) (m' := cn + 1) ?_ (by omega) (by omega) (by rw [if_pos (by omega)]; omega) (fun wd => rst_n)
        rw [vt_up_ne (by decide), b1 3 (by decide), nx_k (by decide)]
        exact hg
  | false =>
    rw [hd, if_neg (by decide)] at hq
    refine ⟨by decide, fun _ => ?_, fun z => absurd rfl z⟩
    have hwd := tm_wordHere (B := B) hT e1 (by omega)
    rw [e0, hkk, nx_nx] at hwd
    refine vt_k hwd ?_
    rcases wIx_spec (tp := S 0) (n := n) (b := c) with ⟨z, -⟩ | ⟨z1, z2, z3, -⟩
    · rw [z] at hq ⊢
      rw [if_pos (by decide)] at hq
      subst hq
      refine ⟨by decide, fun z => absurd z (by decide), fun _ => ?_⟩
      refine vt_k (tm_fails (by omega)) ?_
      rw [if_pos e12]
      refine ⟨by omega, rfl, k0.f (by decide) (by decide), rfl, ?_, by unfold er; omega⟩
      rw [vt_up_self]
      unfold er; omega
    · rw [if_neg (by omega)] at hq
      have hwl := nms_len ⟨z1, z2⟩
      have hw3 := wl3 (by omega) z3
      refine ⟨by omega, fun _ => ?_, fun z => absurd z1 (by omega)⟩
      have e15 : nx S c 43 15 = cn := p0.2.2.2.2.1.1
      by_cases c6 : cn = 60
      · rw [if_pos c6] at hq
        subst hq
        refine vt_k (tm_makes0 (e15.trans c6) e12) ?_
        refine ⟨by decide, fun z => absurd rfl z, fun _ => ?_⟩
        exact ⟨by omega, rfl, k0.f (by decide) (by decide), rfl, vt_up_self, by unfold er; omega⟩
      · rw [if_neg c6] at hq
        subst hq
        refine vt_k (tm_makes1 e15 (by omega)) ?_
        refine ⟨by decide, fun _ => ?_, fun z => absurd z (by decide)⟩
        have p2 := p0.mk (by omega)
        have g0 : vt_up (nx S c) 43 15 (cn + 1) 0 = S 0 := by rw [vt_up_ne (by decide)]; exact e0
        refine vt_k (tm_passWord p2.2.1 p2.2.2.2.1.1 p2.2.2.2.1.2) ?_
        rw [g0, z3]
        have p3 := p2.nx (a' := c + ((nmW (wIx (S 0) n c)).length : Int)) (w' := w + 1) (by omega) (by omega)
        refine vt_k (tm_puts p3.2.2.1.1 (by omega) p3.2.2.2.2.2.2.1 (by omega)) ?_
        refine ⟨by omega, rfl, ((k0.f (by decide) (by decide)).nx (by decide) (by decide)).put (Int.le_refl _) (by decide) (by decide), rfl, L + 1, by omega, p3.put (by omega), ?_⟩
        refine SegL.ps (m := cn) (m' := cn + 1) ?_ (by omega) (by omega) (by rw [if_pos (by omega)]; omega) (fun wd => rst_w)
        rw [nx_k (by decide), vt_up_ne (by decide), nx_k (by decide)]
        exact hg
end TPC
