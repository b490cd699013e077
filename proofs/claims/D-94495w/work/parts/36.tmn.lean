/-! THE TWIN's methods: begins, fewest, comes, closed -/
set_option maxRecDepth 100000
noncomputable def pB (p : Prop) : Bool := @decide p (Classical.propDecidable p)
theorem pB_t {p : Prop} : pB p = true ↔ p := @decide_eq_true_iff p (Classical.propDecidable p)
theorem pB_f {p : Prop} : pB p = false ↔ ¬ p := @decide_eq_false_iff_not p (Classical.propDecidable p)
/-- the row of states and where they stand agree: what searches leave for the next -/
def INVS (S : SS) : Prop := (0 ≤ S 43 29 ∧ S 43 29 ≤ 1048576) ∧ (∀ k, 0 ≤ k → k < S 43 29 → 0 ≤ S 26 k ∧ S 26 k < 1048576) ∧ ∀ s, 0 ≤ s → s < 1048576 → S 28 s = 0 ∨ ∃ k, 0 ≤ k ∧ k < S 43 29 ∧ S 26 k = s
theorem BFI.inv {S : SS} {P n s0 k m w : Int} {sc : Int → Int → Int → Int} {q : QS} (h : BFI 1048576 P n s0 sc k m w q) : INVS (vt_q S q) := by
  have hq : q.1 ≤ 1048576 := by
    have := (cntB_b (fun s => decide (0 < q.2.2.2 s)) (1048576 : Int).toNat).2
    rw [h.2.2.2.1] at this
    exact this
  have h1 := h.1.2.1
  unfold INVS
  rw [q_29, q_26, q_28]
  refine ⟨by omega, fun k k0 k1 => (h.2.1 k k0 k1).1, fun s a b => ?_⟩
  rcases h.2.2.1 s a b with x | ⟨x1, x2, x3⟩
  · exact Or.inl x
  · exact Or.inr ⟨q.2.2.2 s - 1, by omega, by omega, x3⟩
/-- what stays, when a search may have been -/
def vt_kq (S S' : SS) : Prop := (∀ j, j ∈ [0, 3, 5, 6, 23, 41, 42] → S' j = S j) ∧ (∀ i : Int, i ∈ [1, 2] → S' 43 i = S 43 i) ∧ INVS S'
theorem vt_kp.kq {S S' : SS} (h : vt_kp S S') (hI : INVS S) : vt_kq S S' := by
  refine ⟨fun j hj => h.1 j (by revert hj; simp only [List.mem_cons, List.not_mem_nil, or_false]; omega), fun i hi => h.2 i (by revert hi; simp only [List.mem_cons, List.not_mem_nil, or_false]; omega), ?_⟩
  unfold INVS
  rw [h.1 26 (by decide), h.1 28 (by decide), h.2 29 (by decide)]
  exact hI
section TMN
variable {S : SS} {B : SB} {K : Int}
theorem tm_begins {s : Int} (hs : 0 ≤ s ∧ s < 64) (h : LI K (S 23)) (hI : INVS S) : vt_M 58 [me, ii s] S B (fun r S' B' => none = r ∧ B = B' ∧ vt_but [28, 30, 32, 43] S S' ∧ (∀ i : Int, i ≠ 29 → i ≠ 31 → S' 43 i = S 43 i) ∧ S' 43 29 = 0 ∧ S' 43 31 = mvC (S 23) s ∧ (∀ i, 0 ≤ i → i < mvC (S 23) s → S' 30 i = mvG (S 23) s i) ∧ (∀ w, 0 ≤ w → w < S 23 0 → S' 32 w = bI (decide (0 < sOn (S 23) w))) ∧ ∀ t, 0 ≤ t → t < 1048576 → S' 28 t = 0) := by
  refine vt_start rfl rfl (Nat.le_of_ble_eq_true rfl) (fun X hX => ?_)
  have n0 := h.nW
  have n1 := h.nG
  obtain ⟨i1, i2, i3⟩ := hI
  generalize hPost : (fun (r : Option AV) (S' : SS) (B' : SB) => none = r ∧ B = B' ∧ vt_but [28, 30, 32, 43] S S' ∧ (∀ i : Int, i ≠ 29 → i ≠ 31 → S' 43 i = S 43 i) ∧ S' 43 29 = 0 ∧ S' 43 31 = mvC (S 23) s ∧ (∀ i, 0 ≤ i → i < mvC (S 23) s → S' 30 i = mvG (S 23) s i) ∧ (∀ w, 0 ≤ w → w < S 23 0 → S' 32 w = bI (decide (0 < sOn (S 23) w))) ∧ ∀ t, 0 ≤ t → t < 1048576 → S' 28 t = 0) = Post
  have l3 : ∀ (a : Nat) (w : Int) (T : SS), 0 ≤ w → w + a = S 23 0 → vt_but [28, 30, 32, 43] S T → (∀ i : Int, i ≠ 29 → i ≠ 31 → T 43 i = S 43 i) → T 43 29 = 0 → T 43 31 = mvC (S 23) s → (∀ i, 0 ≤ i → i < mvC (S 23) s → T 30 i = mvG (S 23) s i) → (∀ t, 0 ≤ t → t < 1048576 → T 28 t = 0) → (∀ v, 0 ≤ v → v < w → T 32 v = bI (decide (0 < sOn (S 23) v))) → vt_J 58 Post X 89 [(0, me), (1, ii s), (2, ii w)] [] T B := by
    intro a
    induction a with
    | zero =>
      intro w T w0 wa t1 t2 t3 t4 t5 t6 t7
      have e23 : T 23 = S 23 := t1 23 (by decide)
      refine vt_walk hX tk_begins [] 60 ?_
      refine ⟨by omega, by rw [e23]; omega, fun _ => ?_, fun z => absurd z (by rw [e23]; omega)⟩
      show Post _ _ _
      rw [← hPost]
      exact ⟨rfl, rfl, t1, t2, t3, t4, t5, fun v v0 v1 => t7 v v0 (by omega), t6⟩
    | succ a ih =>
      intro w T w0 wa t1 t2 t3 t4 t5 t6 t7
      have e23 : T 23 = S 23 := t1 23 (by decide)
      have ho := sOn_rg h w
      have go : vt_J 58 Post X 89 [(0, me), (1, ii s), (2, ii (w + 1))] [] (vt_up T 32 w (bI (decide (0 < sOn (S 23) w)))) B := by
        refine ih (w + 1) _ (by omega) (by omega) (t1.up (by decide)) (fun i hi hi2 => by rw [vt_up_ne (by decide)]; exact t2 i hi hi2) (by rw [vt_up_ne (by decide)]; exact t3) (by rw [vt_up_ne (by decide)]; exact t4) (by rw [vt_up_ne (by decide)]; exact t5) (by rw [vt_up_ne (by decide)]; exact t6) (fun v v0 v1 => ?_)
        by_cases e : v = w
        · subst e; exact vt_up_self
        · rw [vt_up_off e]; exact t7 v v0 (by omega)
      refine vt_walk hX tk_begins [(89, [0, 1, 2])] 60 ?_
      refine ⟨by omega, by rw [e23]; omega, fun z => absurd z (by rw [e23]; omega), fun _ => ?_⟩
      refine vt_k (tm_onWay (by omega) (by rw [e23]; exact h)) ?_
      rw [e23]
      refine ⟨by omega, fun c => ?_, fun c => ?_⟩
      · rw [decide_eq_false (by omega)] at go
        exact ⟨⟨by omega, Or.inl rfl⟩, go⟩
      · rw [decide_eq_true c] at go
        exact ⟨⟨by omega, Or.inr rfl⟩, go⟩
  have l2 : ∀ (a : Nat) (g : Int) (T : SS), 0 ≤ g → g + a = S 23 1 → vt_but [28, 30, 32, 43] S T → (∀ i : Int, i ≠ 29 → i ≠ 31 → T 43 i = S 43 i) → T 43 29 = 0 → T 43 31 = (mvF s g.toNat).1 → (∀ i, 0 ≤ i → i < (mvF s g.toNat).1 → T 30 i = (mvF s g.toNat).2 i) → (∀ t, 0 ≤ t → t < 1048576 → T 28 t = 0) → vt_J 58 Post X 40 [(0, me), (1, ii s), (2, ii g)] [] T B := by
    intro a
    induction a with
    | zero =>
      intro g T g0 ga t1 t2 t3 t4 t5 t6
      have e23 : T 23 = S 23 := t1 23 (by decide)
      have eg : g = S 23 1 := by omega
      refine vt_walk hX tk_begins [(89, [0, 1, 2])] 60 ?_
      refine ⟨by omega, by rw [e23]; omega, fun _ => ?_, fun z => absurd z (by rw [e23]; omega)⟩
      rw [eg] at t4 t5
      exact l3 (S 23 0).toNat 0 T (by omega) (by omega) t1 t2 t3 t4 t5 t6 (fun v v0 v1 => by omega)
    | succ a ih =>
      intro g T g0 ga t1 t2 t3 t4 t5 t6
      have e23 : T 23 = S 23 := t1 23 (by decide)
      have hbit := bt_bit (d := s) (w := g) (by omega)
      have hmr := (mvF_rg s g.toNat).1
      have hs2 := mvF_s (s := s) g0
      refine vt_walk hX tk_begins [(40, [0, 1, 2]), (71, [0, 1, 2])] 60 ?_
      refine ⟨by omega, by rw [e23]; omega, fun z => absurd z (by rw [e23]; omega), fun _ => ?_⟩
      refine ⟨by omega, by rw [hbit]; split <;> omega, fun c => ?_, fun c => ?_⟩ <;> rw [hbit] at c
      · have cb : sBit s g = true := by
          unfold sBit
          split at c
          · assumption
          · exact absurd rfl c
        rw [if_pos cb] at hs2
        refine ⟨by rw [t4]; omega, ?_⟩
        show vt_J _ _ _ _ _ _ _ _
        rw [t4]
        refine vt_walk hX tk_begins [(40, [0, 1, 2])] 60 ?_
        show vt_J _ _ _ _ _ _ _ _
        rw [vt_up_ne (by decide), t4]
        refine ih (g + 1) _ (by omega) (by omega) ((t1.up (by decide)).up (by decide)) (fun i hi hi2 => by rw [vt_up_off hi2, vt_up_ne (by decide)]; exact t2 i hi hi2) (by rw [vt_up_off (by decide), vt_up_ne (by decide)]; exact t3) (by rw [vt_up_self, hs2]) (fun i i0 i1 => ?_) (by rw [vt_up_ne (by decide), vt_up_ne (by decide)]; exact t6)
        rw [hs2] at i1 ⊢
        rw [vt_up_ne (by decide), vt_up_at]
        show (if i = _ then _ else _) = upF _ _ _ i
        have i1 : i < (mvF s g.toNat).1 + 1 := i1
        by_cases e : i = (mvF s g.toNat).1
        · rw [if_pos e, e, upF_self]
        · rw [if_neg e, upF_ne e]; exact t5 i i0 (by omega)
      · have cb : ¬ sBit s g = true := by
          unfold sBit
          split at c
          · cases c
          · assumption
        rw [if_neg cb] at hs2
        exact ih (g + 1) T (by omega) (by omega) t1 t2 t3 (by rw [hs2]; exact t4) (by rw [hs2]; exact t5) t6
  have l1 : ∀ (a : Nat) (k : Int) (T : SS), 0 ≤ k → k + a = S 43 29 → vt_but [28, 30, 32, 43] S T → T 43 = S 43 → (∀ i, 0 ≤ i → i < k → T 28 (S 26 i) = 0) → (∀ t, T 28 t = 0 ∨ T 28 t = S 28 t) → vt_J 58 Post X 2 [(0, me), (1, ii s), (2, ii k)] [] T B := by
    intro a
    induction a with
    | zero =>
      intro k T k0 ka t1 t2 t3 t4
      refine vt_walk hX tk_begins [(40, [0, 1, 2])] 60 ?_
      refine ⟨by rw [t2]; omega, fun _ => ?_, fun z => absurd z (by rw [t2]; omega)⟩
      refine l2 (S 23 1).toNat 0 _ (by omega) (by omega) ((t1.up (by decide)).up (by decide)) (fun i hi hi2 => by rw [vt_up_off hi2, vt_up_off hi, t2]) (by rw [vt_up_off (by decide), vt_up_self]) vt_up_self (fun i i0 i1 => by have i1 : i < 0 := i1; omega) (fun t a b => ?_)
      rw [vt_up_ne (by decide), vt_up_ne (by decide)]
      rcases i3 t a b with x | ⟨j, j0, j1, j2⟩
      · rcases t4 t with y | y
        · exact y
        · rw [y, x]
      · rw [← j2]; exact t3 j j0 (by omega)
    | succ a ih =>
      intro k T k0 ka t1 t2 t3 t4
      have hk := i2 k k0 (by omega)
      have e26 : T 26 = S 26 := t1 26 (by decide)
      refine vt_walk hX tk_begins [(2, [0, 1, 2])] 60 ?_
      refine ⟨by rw [t2]; omega, fun z => absurd z (by rw [t2]; omega), fun _ => ?_⟩
      refine ⟨by omega, by rw [e26]; omega, ?_⟩
      show vt_J _ _ _ _ _ _ _ _
      rw [e26]
      refine ih (k + 1) _ (by omega) (by omega) (t1.up (by decide)) (by rw [vt_up_ne (by decide)]; exact t2) (fun i i0 i1 => ?_) (fun t => ?_)
      · rw [vt_up_at]
        by_cases e : S 26 i = S 26 k
        · exact if_pos e
        · have : i ≠ k := fun z => e (by rw [z])
          simp only [e, if_false]
          exact t3 i i0 (by omega)
      · rw [vt_up_at]
        by_cases e : t = S 26 k
        · left; exact if_pos e
        · simp only [e, if_false]; exact t4 t
  refine vt_walk hX tk_begins [(2, [0, 1, 2])] 60 ?_
  exact l1 (S 43 29).toNat 0 S (by omega) (by omega) vt_but.rf rfl (fun i i0 i1 => by omega) (fun t => Or.inr rfl)
theorem sAre_spec {f : Int → Int} (h : LI K f) {s : Int} (hs : sAre f s = true) : (1 ≤ s ∧ s < 64 ∧ s < 2 ^ (f 1).toNat) ∧ (0 ≤ mvC f s ∧ mvC f s ≤ 6) ∧ f 0 + 3 * mvC f s ≤ 20 ∧ ∀ i, 0 ≤ i → i < mvC f s → (0 ≤ mvG f s i ∧ mvG f s i < f 1) ∧ sG f (mvG f s i) 3 = -1 := by
  have n1 := h.nG
  have hp := pow6 n1.2
  unfold sAre at hs
  simp only [Bool.and_eq_true, decide_eq_true_eq] at hs
  obtain ⟨⟨h1, h2⟩, h3⟩ := hs
  have hr := mvF_rg s (f 1).toNat
  have hc : mvC f s ≤ pc6 s := by
    unfold mvC pc6
    rw [mvF_cnt]
    have mono : ∀ (a b : Nat), a ≤ b → cntB (fun i => sBit s i) a ≤ cntB (fun i => sBit s i) b := by
      intro a b hab
      induction b with
      | zero => rw [show a = 0 by omega]; exact Int.le_refl _
      | succ b ih =>
        by_cases e : a = b + 1
        · rw [e]; exact Int.le_refl _
        · have := ih (by omega)
          show _ ≤ cntB _ b + _
          split <;> omega
    exact mono _ _ (by omega)
  have hp6 := pc6_rg s
  refine ⟨by omega, ⟨hr.1.1, by unfold mvC at *; omega⟩, by omega, fun i i0 i1 => ?_⟩
  have h4 := hr.2 i i0 i1
  have h5 := allB_iff.mp h3 (mvG f s i) h4.1 h4.2.1
  have h6 : sBit s (mvG f s i) = true := h4.2.2
  rw [h6] at h5
  unfold sStd at h5
  simp only [Bool.not_true, Bool.false_or, Bool.and_eq_true, beq_iff_eq] at h5
  exact ⟨of_decide_eq_true h5.1, h5.2⟩
/-- the state before a search, ready -/
theorem tm_ready {s : Int} (h : LI K (S 23)) (hI : INVS S) (hs : sAre (S 23) s = true) : vt_M 58 [me, ii s] S B (fun r S' B' => none = r ∧ B = B' ∧ S' 23 = S 23 ∧ Sch S' (mvC (S 23) s) (mvG (S 23) s) ∧ S' 43 29 = 0 ∧ (∀ t, 0 ≤ t → t < 1048576 → S' 28 t = 0) ∧ vt_but [28, 30, 32, 43] S S' ∧ ∀ i : Int, i ≠ 29 → i ≠ 31 → S' 43 i = S 43 i) := by
  obtain ⟨a1, a2, a3, a4⟩ := sAre_spec h hs
  refine (tm_begins (by omega) h hI).mono ?_
  rintro r S' B' ⟨rfl, rfl, t1, t2, t3, t4, t5, t6, t7⟩
  have e23 : S' 23 = S 23 := t1 23 (by decide)
  refine ⟨rfl, rfl, e23, ⟨t4, a2, by rw [e23]; exact a3, fun i i0 i1 => ?_, by rw [e23]; exact t6⟩, t3, t7, t1, t2⟩
  rw [e23]
  exact ⟨t5 i i0 i1, a4 i i0 i1⟩
theorem kq_of {S1 : SS} {q : QS} {P n s0 k m w : Int} {sc : Int → Int → Int → Int} (h : BFI 1048576 P n s0 sc k m w q) (t1 : vt_but [28, 30, 32, 43] S S1) (t2 : ∀ i : Int, i ≠ 29 → i ≠ 31 → S1 43 i = S 43 i) : vt_kq S (vt_q S1 q) := by
  refine ⟨fun j hj => ?_, fun i hi => ?_, h.inv⟩
  · rw [q_x (by rintro rfl; revert hj; decide) (by rintro rfl; revert hj; decide) (by rintro rfl; revert hj; decide) (by rintro rfl; revert hj; decide)]
    exact t1 j (by revert hj; simp only [List.mem_cons, List.not_mem_nil, or_false]; omega)
  · rw [q_43x (by rintro rfl; revert hi; decide)]
    exact t2 i (by rintro rfl; revert hi; decide) (by rintro rfl; revert hi; decide)
theorem vt_kq.rf (hI : INVS S) : vt_kq S S := ⟨fun _ _ => rfl, fun _ _ => rfl, hI⟩
/-- fewest -/
def sp_few (f : Int → Int) (s v : Int) : Prop := if sAre f s = true then (v = -2 ∧ ∀ l, ¬ hpt (mvC f s) (f 0) (scc f) (hmA f (mvC f s) (mvG f s)) l (sst f (mvC f s) (mvG f s))) ∨ ∃ l : Nat, v = l ∧ isD (mvC f s) (f 0) (scc f) (hmA f (mvC f s) (mvG f s)) (sst f (mvC f s) (mvG f s)) l else v = -1
theorem hmM_1 {f : Int → Int} {c : Int} {mv : Int → Int} : hmM f c mv 1 (-1) = hmA f c mv := by
  funext s
  unfold hmM
  rw [if_pos (by decide)]
  rfl
theorem tm_fewest {s : Int} (hs : -2147483648 ≤ s ∧ s ≤ 2147483647) (h : LI K (S 23)) (hI : INVS S) : vt_M 54 [me, ii s] S B (fun r S' B' => (∃ v, some (ii v) = r ∧ sp_few (S 23) s v) ∧ vt_kq S S') := by
  refine vt_start rfl rfl (Nat.le_of_ble_eq_true rfl) (fun X hX => ?_)
  have hb := bI_rg (sAre (S 23) s)
  refine vt_walk hX tk_fewest [] 60 ?_
  refine vt_k (tm_areGoers hs h) ?_
  unfold sp_few
  refine ⟨by omega, fun c => ?_, fun c => ?_⟩
  · have c1 := bI_n0.mp c
    obtain ⟨a1, a2, a3, a4⟩ := sAre_spec h c1
    simp only [c1, if_true]
    refine ⟨_, tm_ready h hI c1, ?_⟩
    rintro _ S1 _ ⟨rfl, rfl, e23, hS, h29, h28, t1, t2⟩
    have h1 : LI K (S1 23) := by rw [e23]; exact h
    refine ⟨_, tm_searches (st := 1) (o := -1) h1 hS h28 h29 (Or.inr rfl) (by omega), ?_⟩
    rintro _ _ _ ⟨rfl, q, k, rfl, hB, hcase⟩
    rw [e23, hmM_1] at hcase
    rw [e23] at hB
    have hsc := scc_rg20 h a3
    have hq0 := hB.1
    rcases hcase with ⟨rfl, hk, hno⟩ | ⟨rfl, hk, hno, hy⟩
    · refine ⟨by omega, fun z => absurd z (by decide), fun _ => ?_⟩
      exact ⟨⟨_, rfl, Or.inl ⟨rfl, fun l => bfs_none hB hsc hk hno l⟩⟩, kq_of hB t1 t2⟩
    · have hdr := dp_rg hB hq0.1 hk
      have hqq : q.1 ≤ 1048576 := by
        have := (BFI.inv (S := S1) hB).1.2
        rw [q_29] at this
        exact this
      refine ⟨by omega, fun _ => ?_, fun z => absurd z (by omega)⟩
      refine vt_k (tm_lengthTo hB (Int.le_refl _) hq0.1 hk) ?_
      exact ⟨⟨_, rfl, Or.inr ⟨(dp q k).toNat, by omega, bfs_found hB hsc hk hno hy⟩⟩, kq_of hB t1 t2⟩
  · rw [bI_0.mp c]
    exact ⟨⟨_, rfl, rfl⟩, vt_kq.rf hI⟩
end TMN
