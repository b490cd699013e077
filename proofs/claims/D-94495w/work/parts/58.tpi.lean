/-! THE TWIN's methods: a clause of a rule -/
set_option maxRecDepth 100000
/-- a clause stands in the twin's arrays, its signs below L -/
def ClT (S : SS) (t L c : Int) (cl : CL) : Prop := S 5 (60 * t + 5 * c) = cl.1 ∧ (cl.1 = 0 ∨ cl.1 = 1) ∧ (cl.1 = 0 → Seg (fun i => S 3 (400 * t + i)) (S 5 (60 * t + 5 * c + 1)) (S 5 (60 * t + 5 * c + 2)) cl.2.1 ∧ S 5 (60 * t + 5 * c + 2) ≤ L) ∧
  match cl.2.2 with
  | none => S 5 (60 * t + 5 * c + 3) = -1
  | some G => 0 ≤ S 5 (60 * t + 5 * c + 3) ∧ Seg (fun i => S 3 (400 * t + i)) (S 5 (60 * t + 5 * c + 3)) (S 5 (60 * t + 5 * c + 4)) G ∧ S 5 (60 * t + 5 * c + 4) ≤ L
def pc5 (tx nc : Int) (S S' : SS) : Prop := (∀ i, i < 60 * tx + 5 * nc → S' 5 i = S 5 i) ∧ ∀ i, i ≠ tx → S' 6 i = S 6 i
abbrev pkE : List Nat := [3, 4, 5, 6, 18, 43]
def CPo (S : SS) (B : SB) (tp : Int → Int) (n tx L nc : Int) (r : Int ⊕ (Int × Int × CL)) : vt_Po := fun rr S' B' => B' = B ∧ pk pkE pkD tx L S S' ∧ pc5 tx nc S S' ∧ match r with
  | .inl e => some (ii 0) = rr ∧ S' 43 12 = e ∧ 1 ≤ e ∧ e ≤ 4000
  | .inr p => some (ii 1) = rr ∧ ∃ L', L ≤ L' ∧ PX0 S' tp n tx p.1 p.2.1 L' 0 ∧ S' 6 tx = nc + 1 ∧ ClT S' tx L' nc p.2.2
section TPI
variable {S : SS} {B : SB} {n : Int}
variable {tp : Int → Int} {tx a cn L w b nc : Int} {vs : List WF} {st : List Int}
theorem Seg.cg {sg sg' : Int → Int} {b e : Int} {F : WF} (h : Seg sg b e F) (hs : ∀ i, b ≤ i → i < e → sg' i = sg i) : Seg sg' b e F := by
  have h1 : SegL sg b e 60 [F] := ⟨h.1, h.2.1, h.2.2.1, h.2.2.2⟩
  exact (h1.cg hs).seg (Int.le_refl _)
theorem ClT.kp {t c L' : Int} {cl : CL} {S' : SS} (h : ClT S t L c cl) (hL : L ≤ L') (h5 : ∀ i, 60 * t + 5 * c ≤ i → i < 60 * t + 5 * c + 5 → S' 5 i = S 5 i) (h3 : ∀ i, i < 400 * t + L → S' 3 i = S 3 i) : ClT S' t L' c cl := by
  obtain ⟨a1, a2, a3, a4⟩ := h
  refine ⟨by rw [h5 _ (by omega) (by omega)]; exact a1, a2, fun z => ?_, ?_⟩
  · obtain ⟨b1, b2⟩ := a3 z
    rw [h5 _ (by omega) (by omega), h5 _ (by omega) (by omega)]
    exact ⟨b1.cg (fun i i0 i1 => h3 _ (by omega)), by omega⟩
  · cases hq : cl.2.2 with
    | none =>
      rw [hq] at a4
      show S' 5 _ = -1
      rw [h5 _ (by omega) (by omega)]; exact a4
    | some G =>
      rw [hq] at a4
      obtain ⟨b1, b2, b3⟩ := a4
      show 0 ≤ S' 5 _ ∧ Seg _ (S' 5 _) (S' 5 _) _ ∧ S' 5 _ ≤ L'
      rw [h5 _ (by omega) (by omega), h5 _ (by omega) (by omega)]
      exact ⟨b1, b2.cg (fun i i0 i1 => h3 _ (by omega)), by omega⟩
theorem PX0.upk {k : Nat} {i v : Int} (h : PX0 S tp n tx a cn L w) (h0 : k ≠ 0) (h4 : k ≠ 4) (h43 : k ≠ 43) : PX0 (vt_up S k i v) tp n tx a cn L w := by
  obtain ⟨g1, g2, g3, g4, g5, g6, g7⟩ := h
  refine ⟨by rw [vt_up_ne (Ne.symm h0)]; exact g1, g2.kp (vt_up_ne (Ne.symm h0)) (by rw [vt_up_ne (Ne.symm h43)]), by rw [vt_up_ne (Ne.symm h43)]; exact g3, by rw [vt_up_ne (Ne.symm h43)]; exact g4, by rw [vt_up_ne (Ne.symm h43)]; exact g5, by rw [vt_up_ne (Ne.symm h43)]; exact g6, ?_⟩
  rw [vt_up_ne (Ne.symm h4)]
  exact g7
theorem pk.upk {ks : List Nat} {fs : List Int} {k : Nat} {i v : Int} {S1 : SS} (h : pk ks fs tx L S S1) (hk : k ∈ ks) (h3 : k ≠ 3) (h43 : k ≠ 43) : pk ks fs tx L S (vt_up S1 k i v) := by
  refine ⟨h.1.up hk, fun j hj => ?_, fun j hj => ?_⟩
  · rw [vt_up_ne (Ne.symm h43)]; exact h.2.1 j hj
  · rw [vt_up_ne (Ne.symm h3)]; exact h.2.2 j hj
theorem pk.uE {S1 : SS} (h : pk pkC pkD tx L S S1) : pk pkE pkD tx L S S1 := ⟨fun j hj => h.1 j (fun z => hj (by revert z; simp; omega)), h.2.1, h.2.2⟩
theorem cl_tail {X : vt_X} (hX : vt_F 17 X) {a1 c1 L1 : Int} {cl : CL} {S1 : SS} (hnc : 0 ≤ nc ∧ nc ≤ 11) (hL : L ≤ L1) (hk : pk pkE pkD tx L S S1) (h5 : pc5 tx nc S S1) (hp : PX0 S1 tp n tx a1 c1 L1 0) (h6 : S1 6 tx = nc)
    (hcl : ∀ S' : SS, S' 3 = S1 3 → (∀ i, i ≠ 60 * tx + 5 * nc + 4 → S' 5 i = S1 5 i) → S' 5 (60 * tx + 5 * nc + 4) = L1 → ClT S' tx L1 nc cl) : vt_J 17 (CPo S B tp n tx L nc (.inr (a1, c1, cl))) X 128 [(0, me), (2, ii (60 * tx + 5 * nc))] [] S1 B := by
  have e14 : S1 43 14 = tx := hp.2.2.1.1
  have htx := hp.2.2.1.2
  have e4 : S1 4 tx = L1 := hp.2.2.2.2.2.2.1
  have f14 : vt_up S1 5 (60 * tx + 5 * nc + 4) (S1 4 (S1 43 14)) 43 14 = tx := by rw [vt_up_ne (by decide)]; exact e14
  refine vt_walk hX tk_clauseOf [] 60 ?_
  refine ⟨by omega, by omega, by omega, by omega, by omega, rfl, ?_, ?_, rfl, L1, hL, ?_, ?_, ?_⟩
  · exact (hk.upk (by decide) (by decide) (by decide)).upk (by decide) (by decide) (by decide)
  · refine ⟨fun i hi => ?_, fun i hi => ?_⟩
    · rw [vt_up_ne (by decide), vt_up_off (by omega)]; exact h5.1 i hi
    · rw [f14, vt_up_off hi, vt_up_ne (by decide)]; exact h5.2 i hi
  · exact (hp.upk (by decide) (by decide) (by decide)).upk (by decide) (by decide) (by decide)
  · rw [f14, vt_up_self, vt_up_ne (by decide), h6]
  · refine hcl _ ?_ (fun i hi => ?_) ?_
    · rw [vt_up_ne (by decide), vt_up_ne (by decide)]
    · rw [vt_up_ne (by decide), vt_up_off hi]
    · rw [vt_up_ne (by decide), vt_up_self, e14, e4]
theorem cl_test {X : vt_X} (hX : vt_F 17 X) {k : Nat} {t : WF} {q : PRs} {a1 c1 L1 : Int} {mkc : WF → CL} {S1 : SS} (hnc : 0 ≤ nc ∧ nc ≤ 11) (hL : L ≤ L1) (hk : pk pkE pkD tx L S S1) (h5 : pc5 tx nc S S1) (hp : PX0 S1 tp n tx a1 c1 L1 0) (h6 : S1 6 tx = nc) (hq : rd tp n k 2 a1 c1 0 t = some q)
    (hcl : ∀ (G : WF) (S' : SS) (L' : Int), L1 ≤ L' → (∀ i, i < 400 * tx + L1 → S' 3 i = S1 3 i) → (∀ i, i ≠ 60 * tx + 5 * nc + 3 → i ≠ 60 * tx + 5 * nc + 4 → S' 5 i = S1 5 i) → S' 5 (60 * tx + 5 * nc + 3) = L1 → S' 5 (60 * tx + 5 * nc + 4) = L' → Seg (fun i => S' 3 (400 * tx + i)) L1 L' G → ClT S' tx L' nc (mkc G)) : vt_J 17 (CPo S B tp n tx L nc (match q with
      | .inl e => .inl e
      | .inr p => .inr (p.1, p.2.1, mkc p.2.2))) X 102 [(0, me), (2, ii (60 * tx + 5 * nc))] [] S1 B := by
  have e14 : S1 43 14 = tx := hp.2.2.1.1
  have htx := hp.2.2.1.2
  have e4 : S1 4 tx = L1 := hp.2.2.2.2.2.2.1
  have hL1 := hp.2.2.2.2.2.2.2
  have hn : 0 ≤ n ∧ n ≤ 400 := hp.2.1.2.1
  have ha := hp.2.2.2.1
  have hc1 := hp.2.2.2.2.1
  have p2 : PX (vt_up S1 5 (60 * tx + 5 * nc + 3) L1) tp n tx a1 c1 L1 0 L1 [] := ⟨hp.upk (by decide) (by decide) (by decide), SegL.nil (by omega) (by omega)⟩
  have k2 : pk pkE pkD tx L S (vt_up S1 5 (60 * tx + 5 * nc + 3) L1) := hk.upk (by decide) (by decide) (by decide)
  refine vt_walk hX tk_clauseOf [(128, [0, 2])] 60 ?_
  refine ⟨by omega, by omega, ?_⟩
  rw [e14, e4]
  refine ⟨_, tm_tested p2 hq, ?_⟩
  cases q with
  | inl e =>
    rintro rr S3 B3 ⟨rfl, k3, rfl, e3⟩
    refine ⟨by decide, fun z => absurd rfl z, fun _ => ?_⟩
    refine ⟨by omega, rfl, k2.t k3.uE hL, ⟨fun i hi => ?_, fun i hi => ?_⟩, rfl, e3⟩
    · rw [k3.1 5 (by decide), vt_up_off (by omega)]; exact h5.1 i hi
    · rw [k3.1 6 (by decide), vt_up_ne (by decide)]; exact h5.2 i hi
  | inr p =>
    rintro rr S3 B3 ⟨rfl, k3, rfl, L3, hL3, p3, g3⟩
    refine ⟨by decide, fun _ => ?_, fun z => absurd z (by decide)⟩
    have f5 : S3 5 = vt_up S1 5 (60 * tx + 5 * nc + 3) L1 5 := k3.1 5 (by decide)
    have f6 : S3 6 = S1 6 := by rw [k3.1 6 (by decide), vt_up_ne (by decide)]
    refine cl_tail hX hnc (by omega) (k2.t k3.uE hL) ⟨fun i hi => ?_, fun i hi => ?_⟩ p3 (by rw [f6]; exact h6) (fun S' s3 s5 s4 => ?_)
    · rw [f5, vt_up_off (by omega)]; exact h5.1 i hi
    · rw [f6]; exact h5.2 i hi
    · refine hcl p.2.2 S' L3 hL3 (fun i hi => ?_) (fun i i3 i4 => ?_) ?_ s4 ?_
      · rw [s3, k3.2.2 i hi, vt_up_ne (by decide)]
      · rw [s5 i i4, f5, vt_up_off i3]
      · rw [s5 _ (by omega), f5, vt_up_self]
      · rw [s3]
        exact g3.seg p3.2.2.2.2.1.2.2
theorem tm_clauseOf {k : Nat} {so : Int} {r : Int ⊕ (Int × Int × CL)} (h : PX0 S tp n tx a cn L 0) (hsk : sk tp n a = a) (hso : (so = 0 ∧ wl tp n a = wTake) ∨ (so = 1 ∧ wl tp n a = wWait)) (h6 : S 6 tx = nc) (hnc : 0 ≤ nc ∧ nc ≤ 11) (hq : clz tp n k a cn = some r) : vt_M 17 [me, ii so] S B (CPo S B tp n tx L nc r) := by
  refine vt_start rfl rfl (Nat.le_of_ble_eq_true rfl) (fun X hX => ?_)
  obtain ⟨h1, h2, h3, h4, h5, hz, h7⟩ := id h
  have hn : 0 ≤ n ∧ n ≤ 400 := h2.2.1
  have hw4 : a + 4 ≤ n ∧ (wl tp n a).length = 4 := by
    rcases hso with ⟨-, hw⟩ | ⟨-, hw⟩
    · exact ⟨wl3 h4.2.2 hw, by rw [hw]; rfl⟩
    · exact ⟨wl3 h4.2.2 hw, by rw [hw]; rfl⟩
  have s0 := tm_passWord (B := B) h2 h4.1 h4.2
  rw [h1, hw4.2, show ((4 : Nat) : Int) = 4 from rfl] at s0
  have p0 : PX0 (nx S (a + 4)) tp n tx (a + 4) cn L 0 := h.nx (by omega) (by omega)
  have e14 : nx S (a + 4) 43 14 = tx := p0.2.2.1.1
  have e6 : nx S (a + 4) 6 = S 6 := nx_k (by decide)
  have e4 : nx S (a + 4) 4 tx = L := p0.2.2.2.2.2.2.1
  have k0 : pk pkE pkD tx L S (nx S (a + 4)) := pk.rf.nx (by decide) (by decide)
  -- behind the first two cells
  have body : vt_J 17 (CPo S B tp n tx L nc r) X 48 [(0, me), (1, ii so), (2, ii (60 * tx + 5 * nc))] [] (vt_up (vt_up (nx S (a + 4)) 5 (60 * tx + 5 * nc) so) 5 (60 * tx + 5 * nc + 1) L) B := by
    generalize hT : vt_up (vt_up (nx S (a + 4)) 5 (60 * tx + 5 * nc) so) 5 (60 * tx + 5 * nc + 1) L = T
    have pT : PX0 T tp n tx (a + 4) cn L 0 := by
      rw [← hT]
      exact (p0.upk (by decide) (by decide) (by decide)).upk (by decide) (by decide) (by decide)
    have kT : pk pkE pkD tx L S T := by
      rw [← hT]
      exact (k0.upk (by decide) (by decide) (by decide)).upk (by decide) (by decide) (by decide)
    have c0 : T 5 (60 * tx + 5 * nc) = so := by rw [← hT, vt_up_off (by omega), vt_up_self]
    have c1 : T 5 (60 * tx + 5 * nc + 1) = L := by rw [← hT, vt_up_self]
    have T6 : T 6 = S 6 := by rw [← hT, vt_up_ne (by decide), vt_up_ne (by decide)]; exact e6
    have T5 : ∀ i, i < 60 * tx + 5 * nc → T 5 i = S 5 i := fun i hi => by
      rw [← hT, vt_up_off (by omega), vt_up_off (by omega), nx_k (by decide)]
    clear hT
    unfold clz at hq
    rw [hsk] at hq
    rcases hso with ⟨rfl, hw⟩ | ⟨rfl, hw⟩
    · rw [if_pos hw] at hq
      have pS : PX T tp n tx (a + 4) cn L 0 L [] := ⟨pT, SegL.nil (by omega) (by omega)⟩
      refine vt_walk hX tk_clauseOf [(61, [0, 1, 2])] 60 ?_
      refine ⟨by decide, fun z => absurd rfl z, fun _ => ?_⟩
      rcases gb_inv hq with ⟨e, l1, rfl⟩ | ⟨q, l1, l2⟩
      · refine ⟨_, tm_sum pS l1, ?_⟩
        rintro rr S3 B3 ⟨rfl, k3, rfl, e3⟩
        refine ⟨by decide, fun z => absurd rfl z, fun _ => ?_⟩
        refine ⟨by omega, rfl, kT.t k3.up.uE (Int.le_refl _), ⟨fun i hi => ?_, fun i hi => ?_⟩, rfl, e3⟩
        · rw [k3.1 5 (by decide)]; exact T5 i hi
        · rw [k3.1 6 (by decide), T6]
      · refine ⟨_, tm_sum pS l1, ?_⟩
        rintro rr S3 B3 ⟨rfl, k3, rfl, L3, hL3, p3, g3⟩
        refine ⟨by decide, fun _ => ?_, fun z => absurd z (by decide)⟩
        have p3 : PX0 S3 tp n tx q.1 q.2.1 L3 0 := p3
        have g3 : SegL (fun i => S3 3 (400 * tx + i)) L L3 q.2.1 [q.2.2] := g3
        obtain ⟨i1, i2, i3, i4, i5, i6, i7⟩ := id p3
        have f14 : S3 43 14 = tx := i3.1
        have f5 : S3 5 = T 5 := k3.1 5 (by decide)
        have f6 : S3 6 = S 6 := (k3.1 6 (by decide)).trans T6
        have hs := sk_spec (tp := tp) (n := n) q.1
        have hsn := hs.2.1 i4.2.2
        show vt_J _ _ _ _ _ _ _ _
        -- cells 2 and 3
        have mid : vt_J 17 (CPo S B3 tp n tx L nc r) X 87 [(0, me), (1, ii 0), (2, ii (60 * tx + 5 * nc))] [] (vt_up (vt_up S3 5 (60 * tx + 5 * nc + 2) L3) 5 (60 * tx + 5 * nc + 3) (-1)) B3 := by
          generalize hU : vt_up (vt_up S3 5 (60 * tx + 5 * nc + 2) L3) 5 (60 * tx + 5 * nc + 3) (-1) = U
          have pU : PX0 U tp n tx q.1 q.2.1 L3 0 := by
            rw [← hU]
            exact (p3.upk (by decide) (by decide) (by decide)).upk (by decide) (by decide) (by decide)
          have kU : pk pkE pkD tx L S U := by
            rw [← hU]
            exact ((kT.t k3.up.uE (Int.le_refl _)).upk (by decide) (by decide) (by decide)).upk (by decide) (by decide) (by decide)
          have U3 : U 3 = S3 3 := by rw [← hU, vt_up_ne (by decide), vt_up_ne (by decide)]
          have U6 : U 6 = S 6 := by rw [← hU, vt_up_ne (by decide), vt_up_ne (by decide)]; exact f6
          have u0 : U 5 (60 * tx + 5 * nc) = 0 := by rw [← hU, vt_up_off (by omega), vt_up_off (by omega), f5]; exact c0
          have u1 : U 5 (60 * tx + 5 * nc + 1) = L := by rw [← hU, vt_up_off (by omega), vt_up_off (by omega), f5]; exact c1
          have u2 : U 5 (60 * tx + 5 * nc + 2) = L3 := by rw [← hU, vt_up_off (by omega), vt_up_self]
          have u3 : U 5 (60 * tx + 5 * nc + 3) = -1 := by rw [← hU, vt_up_self]
          have U5 : ∀ i, i < 60 * tx + 5 * nc → U 5 i = S 5 i := fun i hi => by
            rw [← hU, vt_up_off (by omega), vt_up_off (by omega), f5]; exact T5 i hi
          clear hU
          have sg3 : Seg (fun i => U 3 (400 * tx + i)) L L3 q.2.2 := by
            rw [U3]
            exact g3.seg i5.2.2
          have sI := tm_takesWord (B := B3) (ws := wIf) (w := Int64.ofInt 26982) pU.2.1 pU.2.2.2.1.1 pU.2.2.2.1.2 (by decide) (by decide)
          rw [pU.1] at sI
          refine vt_walk hX tk_clauseOf [(102, [0, 2]), (128, [0, 2])] 60 ?_
          refine ⟨by decide, fun z => absurd z (by decide), fun _ => ?_⟩
          refine vt_k sI ?_
          by_cases cI : wl tp n (sk tp n q.1) = wIf
          · rw [if_pos cI] at l2 ⊢
            rw [decide_eq_true cI]
            have hw3 : sk tp n q.1 + 2 ≤ n := wl3 hsn cI
            refine ⟨by decide, fun z => absurd z (by decide), fun _ => ?_⟩
            have pV : PX0 (nx U (sk tp n q.1 + 2)) tp n tx (sk tp n q.1 + 2) q.2.1 L3 0 := pU.nx (by omega) (by omega)
            have main : ∀ q2, rd tp n k 2 (sk tp n q.1 + 2) q.2.1 0 q.2.2 = some q2 → vt_J 17 (CPo S B3 tp n tx L nc (match q2 with
                | .inl e => .inl e
                | .inr p => .inr (p.1, p.2.1, (0, q.2.2, some p.2.2)))) X 102 [(0, me), (2, ii (60 * tx + 5 * nc))] [] (nx U (sk tp n q.1 + 2)) B3 := by
              intro q2 hq2
              refine cl_test hX (mkc := fun G => (0, q.2.2, some G)) hnc hL3 (kU.nx (by decide) (by decide)) ⟨fun i hi => ?_, fun i hi => ?_⟩ pV (by rw [nx_k (by decide), U6]; exact h6) hq2 (fun G S' L' hL' s3 s5 s53 s54 sG => ?_)
              · rw [nx_k (by decide)]; exact U5 i hi
              · rw [nx_k (by decide), U6]
              · refine ⟨?_, .inl rfl, fun _ => ⟨?_, ?_⟩, ?_, ?_, ?_⟩
                · rw [s5 _ (by omega) (by omega), nx_k (by decide)]; exact u0
                · rw [s5 _ (by omega) (by omega), s5 _ (by omega) (by omega), nx_k (by decide), u1, u2]
                  exact sg3.cg (fun i i0 i1 => by rw [s3 _ (by omega), nx_k (by decide)])
                · rw [s5 _ (by omega) (by omega), nx_k (by decide), u2]; omega
                · rw [s53]; omega
                · rw [s53, s54]; exact sG
                · rw [s54]; exact Int.le_refl _
            rcases gb_inv l2 with ⟨e, m1, rfl⟩ | ⟨p, m1, m2⟩
            · exact main _ m1
            · cases m2
              exact main _ m1
          · rw [if_neg cI] at l2 ⊢
            rw [decide_eq_false cI]
            cases l2
            refine ⟨by decide, fun _ => ?_, fun z => absurd rfl z⟩
            refine cl_tail hX hnc hL3 (kU.nx (by decide) (by decide)) ⟨fun i hi => ?_, fun i hi => ?_⟩ (pU.nx (by omega) (by omega)) (by rw [nx_k (by decide), U6]; exact h6) (fun S' s3 s5 s54 => ?_)
            · rw [nx_k (by decide)]; exact U5 i hi
            · rw [nx_k (by decide), U6]
            · refine ⟨?_, .inl rfl, fun _ => ⟨?_, ?_⟩, ?_⟩
              · rw [s5 _ (by omega), nx_k (by decide)]; exact u0
              · rw [s5 _ (by omega), s5 _ (by omega), nx_k (by decide), u1, u2, s3, nx_k (by decide)]
                exact sg3
              · rw [s5 _ (by omega), nx_k (by decide), u2]; exact Int.le_refl _
              · show S' 5 _ = -1
                rw [s5 _ (by omega), nx_k (by decide)]; exact u3
        refine vt_walk hX tk_clauseOf [(87, [0, 1, 2])] 60 ?_
        refine ⟨by omega, by omega, by omega, ?_⟩
        rw [f14, i7.1]
        exact mid
    · rw [if_neg (by rw [hw]; decide)] at hq
      refine vt_walk hX tk_clauseOf [(61, [0, 1, 2])] 60 ?_
      refine ⟨by decide, fun _ => ?_, fun z => absurd z (by decide)⟩
      show vt_J _ _ _ _ _ _ _ _
      have f14 : T 43 14 = tx := pT.2.2.1.1
      have f4 : T 4 tx = L := pT.2.2.2.2.2.2.1
      have mid : vt_J 17 (CPo S B tp n tx L nc r) X 102 [(0, me), (2, ii (60 * tx + 5 * nc))] [] (vt_up (vt_up T 5 (60 * tx + 5 * nc + 2) L) 5 (60 * tx + 5 * nc + 3) (-1)) B := by
        have main : ∀ q2, rd tp n k 2 (a + 4) cn 0 (fun _ => 0) = some q2 → vt_J 17 (CPo S B tp n tx L nc (match q2 with
            | .inl e => .inl e
            | .inr p => .inr (p.1, p.2.1, (1, p.2.2, some p.2.2)))) X 102 [(0, me), (2, ii (60 * tx + 5 * nc))] [] (vt_up (vt_up T 5 (60 * tx + 5 * nc + 2) L) 5 (60 * tx + 5 * nc + 3) (-1)) B := by
          intro q2 hq2
          refine cl_test hX (mkc := fun G => (1, G, some G)) hnc (Int.le_refl _) ((kT.upk (by decide) (by decide) (by decide)).upk (by decide) (by decide) (by decide)) ⟨fun i hi => ?_, fun i hi => ?_⟩ ((pT.upk (by decide) (by decide) (by decide)).upk (by decide) (by decide) (by decide)) ?_ hq2 (fun G S' L' hL' s3 s5 s53 s54 sG => ?_)
          · rw [vt_up_off (by omega), vt_up_off (by omega)]; exact T5 i hi
          · rw [vt_up_ne (by decide), vt_up_ne (by decide), T6]
          · rw [vt_up_ne (by decide), vt_up_ne (by decide), T6]; exact h6
          · refine ⟨?_, .inr rfl, fun z => absurd (show (1 : Int) = 0 from z) (by decide), ?_, ?_, ?_⟩
            · rw [s5 _ (by omega) (by omega), vt_up_off (by omega), vt_up_off (by omega)]; exact c0
            · rw [s53]; omega
            · rw [s53, s54]; exact sG
            · rw [s54]; exact Int.le_refl _
        rcases gb_inv hq with ⟨e, m1, rfl⟩ | ⟨p, m1, m2⟩
        · exact main _ m1
        · cases m2
          exact main _ m1
      refine vt_walk hX tk_clauseOf [(102, [0, 2])] 60 ?_
      refine ⟨by omega, by omega, by omega, ?_⟩
      rw [f14, f4]
      refine ⟨by decide, fun _ => mid, fun z => absurd rfl z⟩
  refine vt_walk hX tk_clauseOf [(48, [0, 1, 2])] 60 ?_
  refine vt_k s0 ?_
  have e6b : nx S (a + 4) 6 (nx S (a + 4) 43 14) = nc := by rw [e14, e6]; exact h6
  have g14 : vt_up (nx S (a + 4)) 5 (60 * nx S (a + 4) 43 14 + 5 * nx S (a + 4) 6 (nx S (a + 4) 43 14)) so 43 14 = tx := by rw [vt_up_ne (by decide)]; exact e14
  refine ⟨by omega, by omega, by omega, by omega, ?_⟩
  show vt_J _ _ _ _ _ _ _ _
  rw [g14, vt_up_ne (by decide), e4, e6b, e14]
  exact body
end TPI
