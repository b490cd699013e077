/-! THE TWIN's methods: signs that wait -/
set_option maxRecDepth 100000
/-- how many of them join two -/
def nbq : List Int → Nat
  | [] => 0
  | s :: st => nbq st + (if s = 12 ∨ s = 13 then 1 else 0)
def sOk (st : List Int) : Prop := ∀ x ∈ st, x = 11 ∨ x = 12 ∨ x = 13 ∨ x = 91
def OPS (S : SS) (st : List Int) : Prop := S 43 19 = st.length ∧ (∀ (j : Nat) (x : Int), st[j]? = some x → S 18 ((st.length : Int) - 1 - j) = x) ∧ S 43 16 = dpq st ∧ sOk st
def PT (S : SS) (tp : Int → Int) (n tx a cn L b : Int) (st : List Int) (vs : List WF) : Prop := PX S tp n tx a cn L st.length b vs ∧ OPS S st
/-- with e places more to spare -/
def PTe (S : SS) (tp : Int → Int) (n tx a cn L e b : Int) (st : List Int) (vs : List WF) : Prop := PX S tp n tx a cn L (st.length + e) b vs ∧ OPS S st
abbrev pkC : List Nat := [3, 4, 18, 43]
abbrev pkD : List Int := [11, 12, 13, 15, 16, 19]
section TPF
variable {S : SS} {B : SB} {n : Int}
variable {tp : Int → Int} {tx a cn L w b : Int} {vs : List WF} {st : List Int}
theorem sOk.tl {s : Int} (h : sOk (s :: st)) : sOk st := fun x hx => h x (List.mem_cons_of_mem _ hx)
theorem dpq_rg : ∀ (st : List Int), 0 ≤ dpq st ∧ dpq st ≤ st.length
  | [] => by decide
  | s :: st => by
    have := dpq_rg st
    rw [dpq, List.length_cons]
    split <;> omega
theorem apO_len {s : Int} {vs : List WF} (hs : s = 11 ∨ s = 12 ∨ s = 13) (h : nbq (s :: st) < vs.length) : nbq st < (apO s vs).length := by
  rw [nbq] at h
  unfold apO
  rcases hs with rfl | rfl | rfl
  · rw [if_neg (by decide)] at h
    rw [if_pos rfl]
    match vs, h with
    | [], h => exact absurd h (by rw [List.length_nil]; omega)
    | x :: r, h => rw [List.length_cons] at h ⊢; omega
  · rw [if_pos (.inl rfl)] at h
    rw [if_neg (by decide)]
    match vs, h with
    | [], h => exact absurd h (by rw [List.length_nil]; omega)
    | [_], h => exact absurd h (by rw [List.length_singleton]; omega)
    | x :: y :: r, h => rw [List.length_cons, List.length_cons] at h; rw [List.length_cons]; omega
  · rw [if_pos (.inr rfl)] at h
    rw [if_neg (by decide)]
    match vs, h with
    | [], h => exact absurd h (by rw [List.length_nil]; omega)
    | [_], h => exact absurd h (by rw [List.length_singleton]; omega)
    | x :: y :: r, h => rw [List.length_cons, List.length_cons] at h; rw [List.length_cons]; omega
theorem stw_ok {m : Int} (hm : 1 ≤ m) : ∀ (st : List Int) (vs : List WF), sOk st → nbq st < vs.length → sOk (stw m st vs).1 ∧ nbq (stw m st vs).1 < (stw m st vs).2.length
  | [], vs, h, h2 => ⟨h, h2⟩
  | s :: st, vs, h, h2 => by
    rw [stw]
    split
    · rename_i c
      exact stw_ok hm st _ h.tl (apO_len (strn_pos (by omega)) h2)
    · exact ⟨h, h2⟩
theorem stw_91 {m : Int} (h1 : m = 1) : ∀ (st : List Int) (vs : List WF), sOk st → 91 ∈ st → ∃ t, (stw m st vs).1 = 91 :: t
  | [], vs, h, h2 => by cases h2
  | s :: st, vs, h, h2 => by
    subst h1
    rw [stw]
    rcases h s List.mem_cons_self with rfl | rfl | rfl | rfl
    · rw [if_pos (by decide)]; exact stw_91 rfl st _ h.tl ((List.mem_cons.mp h2).resolve_left (by decide))
    · rw [if_pos (by decide)]; exact stw_91 rfl st _ h.tl ((List.mem_cons.mp h2).resolve_left (by decide))
    · rw [if_pos (by decide)]; exact stw_91 rfl st _ h.tl ((List.mem_cons.mp h2).resolve_left (by decide))
    · rw [if_neg (by decide)]; exact ⟨st, rfl⟩
theorem stw_nil {m : Int} (h1 : m = 1) : ∀ (st : List Int) (vs : List WF), sOk st → ¬ 91 ∈ st → (stw m st vs).1 = []
  | [], vs, h, h2 => rfl
  | s :: st, vs, h, h2 => by
    subst h1
    rw [stw]
    have h3 : ¬ 91 ∈ st := fun z => h2 (List.mem_cons_of_mem _ z)
    rcases h s List.mem_cons_self with rfl | rfl | rfl | rfl
    · rw [if_pos (by decide)]; exact stw_nil rfl st _ h.tl h3
    · rw [if_pos (by decide)]; exact stw_nil rfl st _ h.tl h3
    · rw [if_pos (by decide)]; exact stw_nil rfl st _ h.tl h3
    · exact absurd List.mem_cons_self h2
theorem mc_sk {k : Nat} : mc tp n k false a cn st vs = mc tp n k false (sk tp n a) cn st vs := by
  cases k with
  | zero => rfl
  | succ k => rw [mc, mc, sk_sk]
theorem PX0.f {i v : Int} (h : PX0 S tp n tx a cn L w) (h1 : i ≠ 1) (h11 : i ≠ 11) (h12 : i ≠ 12) (h14 : i ≠ 14) (h15 : i ≠ 15) : PX0 (vt_up S 43 i v) tp n tx a cn L w := by
  obtain ⟨g1, g2, g3, g4, g5, g6, g7⟩ := h
  refine ⟨by rw [vt_up_ne (by decide)]; exact g1, g2.kp (vt_up_ne (by decide)) (vt_up_off (Ne.symm h1)), by rw [vt_up_off (Ne.symm h14)]; exact g3, by rw [vt_up_off (Ne.symm h11)]; exact g4, by rw [vt_up_off (Ne.symm h15)]; exact g5, by rw [vt_up_off (Ne.symm h12)]; exact g6, ?_⟩
  rw [vt_up_ne (by decide)]
  exact g7
theorem PX0.wk {w' : Int} (h : PX0 S tp n tx a cn L w) (h0 : 0 ≤ w') (h1 : w' ≤ w) : PX0 S tp n tx a cn L w' := by
  obtain ⟨g1, g2, g3, g4, g5, g6, g7⟩ := h
  exact ⟨g1, g2, g3, g4, g5, g6, by omega⟩
theorem PX0.a18 {i v : Int} (h : PX0 S tp n tx a cn L w) : PX0 (vt_up S 18 i v) tp n tx a cn L w := by
  obtain ⟨g1, g2, g3, g4, g5, g6, g7⟩ := h
  refine ⟨by rw [vt_up_ne (by decide)]; exact g1, g2.kp (vt_up_ne (by decide)) (by rw [vt_up_ne (by decide)]), by rw [vt_up_ne (by decide)]; exact g3, by rw [vt_up_ne (by decide)]; exact g4, by rw [vt_up_ne (by decide)]; exact g5, by rw [vt_up_ne (by decide)]; exact g6, ?_⟩
  rw [vt_up_ne (by decide)]
  exact g7
theorem pk.a18 {ks : List Nat} {fs : List Int} {i v : Int} {S1 : SS} (h : pk ks fs tx L S S1) (h18 : 18 ∈ ks) : pk ks fs tx L S (vt_up S1 18 i v) := by
  refine ⟨h.1.up h18, fun j hj => ?_, fun j hj => ?_⟩
  · rw [vt_up_ne (by decide)]; exact h.2.1 j hj
  · rw [vt_up_ne (by decide)]; exact h.2.2 j hj
theorem pk.up {S1 : SS} (h : pk pkA pkB tx L S S1) : pk pkC pkD tx L S S1 := ⟨fun j hj => h.1 j (fun z => hj (by revert z; simp; omega)), fun i hi => h.2.1 i (fun z => hi (by revert z; simp; omega)), h.2.2⟩
theorem OPS.kp {T : SS} (h : OPS S st) (h18 : T 18 = S 18) (h19 : T 43 19 = S 43 19) (h16 : T 43 16 = S 43 16) : OPS T st := by
  obtain ⟨a, b, c, d⟩ := h
  exact ⟨h19.trans a, by rw [h18]; exact b, h16.trans c, d⟩
theorem OPS.pop {s d : Int} {T : SS} (h : OPS S (s :: st)) (h18 : T 18 = S 18) (h19 : T 43 19 = S 43 19 - 1) (h16 : T 43 16 = dpq st) : OPS T st := by
  obtain ⟨a, b, c, d⟩ := h
  rw [List.length_cons] at a b
  refine ⟨by omega, fun j x hj => ?_, h16, d.tl⟩
  have := b (j + 1) x hj
  rw [h18, show ((st.length : Int) - 1 - j) = ((st.length + 1 : Nat) : Int) - 1 - ((j + 1 : Nat) : Int) by omega]
  exact this
theorem OPS.top {s : Int} (h : OPS S (s :: st)) : S 18 (st.length : Int) = s := by
  have := h.2.1 0 s rfl
  rw [List.length_cons, show (((st.length + 1 : Nat) : Int) - 1 - ((0 : Nat) : Int)) = (st.length : Int) by omega] at this
  exact this
theorem OPS.push {s : Int} {T : SS} (h : OPS S st) (hs : s = 11 ∨ s = 12 ∨ s = 13 ∨ s = 91) (h18 : T 18 = fun i => if i = (st.length : Int) then s else S 18 i) (h19 : T 43 19 = S 43 19 + 1) (h16 : T 43 16 = dpq (s :: st)) : OPS T (s :: st) := by
  obtain ⟨a, b, c, d⟩ := h
  refine ⟨by rw [List.length_cons]; omega, fun j x hj => ?_, h16, fun x hx => ?_⟩
  · rw [h18, List.length_cons]
    show (if ((st.length + 1 : Nat) : Int) - 1 - j = (st.length : Int) then s else S 18 _) = x
    cases j with
    | zero =>
      rw [if_pos (by omega)]
      exact Option.some.inj hj
    | succ j =>
      have hj2 : j + 1 < (s :: st).length := (List.getElem?_eq_some_iff.mp hj).1
      rw [List.length_cons] at hj2
      rw [if_neg (by omega), show ((st.length + 1 : Nat) : Int) - 1 - ((j + 1 : Nat) : Int) = (st.length : Int) - 1 - j by omega]
      exact b j x hj
  · rcases List.mem_cons.mp hx with rfl | hx
    · exact hs
    · exact d x hx
theorem tm_strength {s : Int} (hs : 0 ≤ s ∧ s ≤ 1000) : vt_M 31 [ii s] S B (vt_eq (some (ii (strn s))) S B) := by
  refine vt_start rfl rfl (Nat.le_of_ble_eq_true rfl) (fun X hX => ?_)
  unfold strn
  refine vt_walk hX tk_strength [] 60 ?_
  refine ⟨by omega, fun c => ?_, fun c => ?_⟩
  · rw [if_neg c]
    refine ⟨by omega, fun c => ?_, fun c => ?_⟩
    · rw [if_neg c]
      refine ⟨by omega, fun c => ?_, fun c => ?_⟩
      · rw [if_neg c]; exact ⟨rfl, rfl, rfl⟩
      · rw [if_pos c]; exact ⟨rfl, rfl, rfl⟩
    · rw [if_pos c]; exact ⟨rfl, rfl, rfl⟩
  · rw [if_pos c]; exact ⟨rfl, rfl, rfl⟩
theorem tm_isInside (h : OPS S st) (hl : st.length ≤ 400) : vt_M 32 [me] S B (vt_eq (some (ii (bI (decide (91 ∈ st))))) S B) := by
  refine vt_start rfl rfl (Nat.le_of_ble_eq_true rfl) (fun X hX => ?_)
  obtain ⟨h1, h2, -, hok⟩ := h
  have loop : ∀ (m : Nat) (k : Nat), k + m = st.length → (∀ j : Nat, j < k → S 18 (j : Int) ≠ 91) → vt_J 32 (vt_eq (some (ii (bI (decide (91 ∈ st))))) S B) X 2 [(0, me), (1, ii (k : Int))] [] S B := by
    intro m
    induction m with
    | zero =>
      intro k hk hno
      refine vt_walk hX tk_isInside [(2, [0, 1])] 60 ?_
      refine ⟨by omega, fun _ => ?_, fun c => absurd c (by omega)⟩
      rw [decide_eq_false (fun z => by
        obtain ⟨j, hj⟩ := List.getElem?_of_mem z
        have hj2 : j < st.length := (List.getElem?_eq_some_iff.mp hj).1
        have := h2 j 91 hj
        have := hno (st.length - 1 - j) (by omega)
        rw [show ((st.length - 1 - j : Nat) : Int) = (st.length : Int) - 1 - j by omega] at this
        contradiction)]
      exact ⟨by omega, rfl, rfl, rfl⟩
    | succ m ih =>
      intro k hk hno
      have hj : st[st.length - 1 - k]? = some (st[st.length - 1 - k]) := List.getElem?_eq_getElem (by omega)
      have hv := h2 _ _ hj
      rw [show (st.length : Int) - 1 - ((st.length - 1 - k : Nat) : Int) = (k : Int) by omega] at hv
      have hmem : st[st.length - 1 - k] ∈ st := List.getElem_mem _
      have hok2 := hok _ hmem
      refine vt_walk hX tk_isInside [(2, [0, 1])] 60 ?_
      refine ⟨by omega, fun c => absurd c (by omega), fun _ => ?_⟩
      refine ⟨by omega, by omega, fun c => ?_, fun c => ?_⟩
      · have := ih (k + 1) (by omega) (fun j hj => by
          by_cases e : j = k
          · rw [e]; exact c
          · exact hno j (by omega))
        rw [show ((k + 1 : Nat) : Int) = (k : Int) + 1 by omega] at this
        exact this
      · rw [decide_eq_true (show 91 ∈ st by rw [← c, hv]; exact hmem)]
        exact ⟨by omega, rfl, rfl, rfl⟩
  refine vt_walk hX tk_isInside [(2, [0, 1])] 60 ?_
  exact loop st.length 0 (by omega) (fun j hj => by omega)
theorem tm_opens0 {s a : Int} (h : S 43 16 = 10) (hz : S 43 12 = 0) (ha : S 43 11 = a) : vt_M 27 [me, ii s] S B (vt_eq (some (ii 0)) (vt_up S 43 12 (er 2 a)) B) := by
  refine vt_start rfl rfl (Nat.le_of_ble_eq_true rfl) (fun X hX => ?_)
  subst ha
  refine vt_walk hX tk_opens [] 60 ?_
  refine ⟨by omega, fun c => absurd h c, fun _ => ?_⟩
  refine vt_k (tm_fails (by omega)) ?_
  rw [if_pos hz]
  refine ⟨by omega, rfl, ?_, rfl⟩
  unfold er
  rfl
def opS (S : SS) (d l s : Int) : SS := vt_up (vt_up (vt_up S 43 16 (d + 1)) 18 l s) 43 19 (l + 1)
theorem tm_opens1 {s d l : Int} (h : S 43 16 = d) (hd : 0 ≤ d ∧ d ≤ 400 ∧ d ≠ 10) (hl : S 43 19 = l) (hl2 : 0 ≤ l ∧ l < 400) : vt_M 27 [me, ii s] S B (vt_eq (some (ii 1)) (opS S d l s) B) := by
  refine vt_start rfl rfl (Nat.le_of_ble_eq_true rfl) (fun X hX => ?_)
  subst h
  subst hl
  have e : vt_up S 43 16 (S 43 16 + 1) 43 19 = S 43 19 := vt_up_off (by decide)
  refine vt_walk hX tk_opens [] 60 ?_
  refine ⟨by omega, fun _ => ?_, fun c => absurd c hd.2.2⟩
  refine ⟨by omega, by omega, rfl, ?_, rfl⟩
  rw [e, vt_up_ne (by decide), e]
  rfl
theorem tm_setE {m e : Int} (h : PTe S tp n tx a cn L e b st vs) (he0 : 0 ≤ e) (hv : nbq st < vs.length) (hm : 1 ≤ m ∧ m ≤ 3) : vt_M 30 [me, ii m] S B (fun rr S' B' => none = rr ∧ B = B' ∧ pk pkC pkD tx L S S' ∧ ∃ L', L ≤ L' ∧ PTe S' tp n tx a cn L' e b (stw m st vs).1 (stw m st vs).2) := by
  refine vt_start rfl rfl (Nat.le_of_ble_eq_true rfl) (fun X hX => ?_)
  generalize hP : (fun (rr : Option AV) (S' : SS) (B' : SB) => none = rr ∧ B = B' ∧ pk pkC pkD tx L S S' ∧ ∃ L', L ≤ L' ∧ PTe S' tp n tx a cn L' e b (stw m st vs).1 (stw m st vs).2) = Post
  have loop : ∀ (st1 : List Int) (vs1 : List WF) (L1 : Int) (S1 : SS), L ≤ L1 → pk pkC pkD tx L S S1 → PTe S1 tp n tx a cn L1 e b st1 vs1 → nbq st1 < vs1.length → stw m st1 vs1 = stw m st vs → vt_J 30 Post X 0 [(0, me), (1, ii m)] [] S1 B := by
    intro st1
    induction st1 with
    | nil =>
      intro vs1 L1 S1 hL hk hp hv1 he
      have e19 : S1 43 19 = 0 := hp.2.1
      refine vt_walk hX tk_settles [] 60 ?_
      refine ⟨by omega, fun _ => ?_, fun c => absurd c (by omega)⟩
      rw [← hP]
      refine ⟨rfl, rfl, hk, L1, hL, ?_⟩
      rw [← he]
      exact hp
    | cons s st1 ih =>
      intro vs1 L1 S1 hL hk hp hv1 he
      obtain ⟨⟨p0, hg⟩, ho⟩ := id hp
      have e19 : S1 43 19 = st1.length + 1 := by
        have := ho.1
        rw [List.length_cons] at this
        omega
      have hl := p0.2.2.2.2.2.2
      rw [List.length_cons] at hl
      have ha := p0.2.2.2.1
      have hx := p0.2.2.1
      have hn : 0 ≤ n ∧ n ≤ 400 := p0.2.1.2.1
      have htop := ho.top
      have hso := ho.2.2.2 s List.mem_cons_self
      have e18 : S1 18 (S1 43 19 - 1) = s := by rw [e19, show (st1.length : Int) + 1 - 1 = st1.length by omega]; exact htop
      have hd := dpq_rg st1
      refine vt_walk hX tk_settles [(0, [0, 1])] 60 ?_
      refine ⟨by omega, fun c => absurd c (by omega), fun _ => ?_⟩
      refine ⟨by omega, ?_⟩
      rw [e18]
      refine vt_k (tm_strength (by omega)) ?_
      have hsr : 0 ≤ strn s ∧ strn s ≤ 3 := by
        rcases hso with rfl | rfl | rfl | rfl <;> decide
      refine ⟨by omega, fun c => ?_, fun c => ?_⟩
      · rw [← hP]
        refine ⟨rfl, rfl, hk, L1, hL, ?_⟩
        rw [← he, stw, if_neg (by omega)]
        exact hp
      · have hs3 := strn_pos (s := s) (by omega)
        rw [stw, if_pos (by omega)] at he
        have f19 : vt_up S1 43 19 (S1 43 19 - 1) 43 19 = st1.length := by rw [vt_up_self]; omega
        have f18 : vt_up S1 43 19 (S1 43 19 - 1) 18 = S1 18 := vt_up_ne (by decide)
        have p1 : PX0 (vt_up S1 43 19 (S1 43 19 - 1)) tp n tx a cn L1 (st1.length + e + 1) := (p0.f (by decide) (by decide) (by decide) (by decide) (by decide)).wk (by omega) (by rw [List.length_cons]; omega)
        have g1 : SegL (fun i => vt_up S1 43 19 (S1 43 19 - 1) 3 (400 * tx + i)) b L1 cn vs1 := by
          rw [vt_up_ne (by decide)]; exact hg
        refine ⟨by omega, ?_⟩
        rw [f18, f19, htop]
        refine vt_k (tm_puts p1.2.2.1.1 (by omega) p1.2.2.2.2.2.2.1 (by omega)) ?_
        have q18 : putS (vt_up S1 43 19 (S1 43 19 - 1)) tx L1 (s + 16 * 0) 18 = S1 18 := by rw [putS_k (by decide) (by decide)]; exact f18
        have q43 : putS (vt_up S1 43 19 (S1 43 19 - 1)) tx L1 (s + 16 * 0) 43 = vt_up S1 43 19 (S1 43 19 - 1) 43 := putS_k (by decide) (by decide)
        have qt : putS (vt_up S1 43 19 (S1 43 19 - 1)) tx L1 (s + 16 * 0) 18 (putS (vt_up S1 43 19 (S1 43 19 - 1)) tx L1 (s + 16 * 0) 43 19) = s := by rw [q18, q43, f19]; exact htop
        have q19 : putS (vt_up S1 43 19 (S1 43 19 - 1)) tx L1 (s + 16 * 0) 43 19 = st1.length := by rw [q43]; exact f19
        have q16 : putS (vt_up S1 43 19 (S1 43 19 - 1)) tx L1 (s + 16 * 0) 43 16 = S1 43 16 := by rw [q43]; exact vt_up_off (by decide)
        have hd1 := ho.2.2.1
        rw [dpq] at hd1
        have p2 : PX0 (putS (vt_up S1 43 19 (S1 43 19 - 1)) tx L1 (s + 16 * 0)) tp n tx a cn (L1 + 1) (st1.length + e) := p1.put (by omega)
        have k2 : pk pkC pkD tx L S (putS (vt_up S1 43 19 (S1 43 19 - 1)) tx L1 (s + 16 * 0)) := (hk.f (by decide) (by decide)).put hL (by decide) (by decide)
        have g2 : SegL (fun i => putS (vt_up S1 43 19 (S1 43 19 - 1)) tx L1 (s + 16 * 0) 3 (400 * tx + i)) b (L1 + 1) cn (apO s vs1) := by
          refine SegL.ps (m := cn) (m' := cn) g1 (by omega) (by omega) (by rw [if_neg (by omega)]; exact Int.le_refl _) ?_
          rw [nbq] at hv1
          unfold apO
          rcases hs3 with rfl | rfl | rfl
          · rw [if_pos rfl]
            match vs1, hv1 with
            | [], hv1 => exact absurd hv1 (by rw [List.length_nil]; omega)
            | x :: r, hv1 => exact fun wd => rst_g
          · rw [if_neg (by decide)]
            rw [if_pos (.inl rfl)] at hv1
            match vs1, hv1 with
            | [], hv1 => exact absurd hv1 (by rw [List.length_nil]; omega)
            | [_], hv1 => exact absurd hv1 (by rw [List.length_singleton]; omega)
            | x :: y :: r, hv1 => exact fun wd => rst_o (by decide)
          · rw [if_neg (by decide)]
            rw [if_pos (.inr rfl)] at hv1
            match vs1, hv1 with
            | [], hv1 => exact absurd hv1 (by rw [List.length_nil]; omega)
            | [_], hv1 => exact absurd hv1 (by rw [List.length_singleton]; omega)
            | x :: y :: r, hv1 => exact fun wd => rst_o (by decide)
        generalize putS (vt_up S1 43 19 (S1 43 19 - 1)) tx L1 (s + 16 * 0) = T at *
        have ihh := ih (apO s vs1) (L1 + 1)
        refine ⟨by omega, by omega, fun c2 => ?_, fun c2 => ?_⟩
        · refine ihh T (by omega) k2 ⟨⟨p2, g2⟩, ho.pop (d := 0) q18 (by omega) ?_⟩ (apO_len hs3 hv1) he
          rw [if_neg (by omega)] at hd1
          omega
        · show vt_J _ _ _ _ _ _ _ _
          refine ihh _ (by omega) (k2.f (by decide) (by decide)) ⟨⟨p2.f (by decide) (by decide) (by decide) (by decide) (by decide), ?_⟩, ho.pop (d := 0) (by rw [vt_up_ne (by decide)]; exact q18) (by rw [vt_up_off (by decide)]; omega) ?_⟩ (apO_len hs3 hv1) he
          · rw [vt_up_ne (by decide)]; exact g2
          · rw [if_pos (by omega)] at hd1
            rw [vt_up_self]
            omega
  exact loop st vs L S (Int.le_refl _) pk.rf h hv rfl
theorem tm_setl {m : Int} (h : PT S tp n tx a cn L b st vs) (hv : nbq st < vs.length) (hm : 1 ≤ m ∧ m ≤ 3) : vt_M 30 [me, ii m] S B (fun rr S' B' => none = rr ∧ B = B' ∧ pk pkC pkD tx L S S' ∧ ∃ L', L ≤ L' ∧ PT S' tp n tx a cn L' b (stw m st vs).1 (stw m st vs).2) := by
  have h2 : PTe S tp n tx a cn L 0 b st vs := by
    refine ⟨?_, h.2⟩
    rw [Int.add_zero]; exact h.1
  have := tm_setE (B := B) h2 (Int.le_refl 0) hv hm
  simp only [PTe, Int.add_zero] at this
  exact this
theorem stw_len {m : Int} : ∀ (st : List Int) (vs : List WF), (stw m st vs).1.length ≤ st.length
  | [], vs => Nat.le_refl _
  | s :: st, vs => by
    rw [stw]
    split
    · have := stw_len (m := m) st (apO s vs)
      rw [List.length_cons]
      omega
    · exact Nat.le_refl _
end TPF
