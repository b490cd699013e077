/-! THE TWIN's methods: land -/
set_option maxRecDepth 100000
def dT3 : T3 := (0, 0, 0)
def t3 (t : T3) (k : Int) : Int := if k = 0 then t.1 else if k = 1 then t.2.1 else t.2.2
def gF (t : T3) (k : Int) : Int := if k < 3 then t3 t k else if k = 4 then 0 else if k = 5 then (if t.1 = t.2.1 then 0 else -1) else -1
/-- a land's state: x as it was, p ways and q goers of it -/
def lanF (x : Int) (ws gs : List T3) (p q : Int) (i : Int) : Int := if i = 0 then ws.length else if i = 1 then gs.length else if i = 7 then x else
  if 10 ≤ i ∧ i < 10 + 5 * p ∧ (i - 10) % 5 < 3 then t3 (ws.getD ((i - 10) / 5).toNat dT3) ((i - 10) % 5)
  else if 80 ≤ i ∧ i < 80 + 7 * q then gF (gs.getD ((i - 80) / 7).toNat dT3) ((i - 80) % 7) else 0
theorem lanF_w {x w q i : Int} {ws gs : List T3} (h0 : 0 ≤ w ∧ w < 14) : lanF x ws gs (w + 1) q i = if i = 10 + 5 * w then (ws.getD w.toNat dT3).1 else if i = 10 + 5 * w + 1 then (ws.getD w.toNat dT3).2.1 else if i = 10 + 5 * w + 2 then (ws.getD w.toNat dT3).2.2 else lanF x ws gs w q i := by
  unfold lanF
  by_cases e0 : i = 10 + 5 * w
  · rw [if_pos e0, if_neg (by omega), if_neg (by omega), if_neg (by omega), if_pos (by omega), show (i - 10) / 5 = w by omega, show (i - 10) % 5 = 0 by omega]
    rfl
  · rw [if_neg e0]
    by_cases e1 : i = 10 + 5 * w + 1
    · rw [if_pos e1, if_neg (by omega), if_neg (by omega), if_neg (by omega), if_pos (by omega), show (i - 10) / 5 = w by omega, show (i - 10) % 5 = 1 by omega]
      rfl
    · rw [if_neg e1]
      by_cases e2 : i = 10 + 5 * w + 2
      · rw [if_pos e2, if_neg (by omega), if_neg (by omega), if_neg (by omega), if_pos (by omega), show (i - 10) / 5 = w by omega, show (i - 10) % 5 = 2 by omega]
        rfl
      · rw [if_neg e2]
        by_cases c : 10 ≤ i ∧ i < 10 + 5 * w ∧ (i - 10) % 5 < 3
        · rw [if_pos c, if_pos (show 10 ≤ i ∧ i < 10 + 5 * (w + 1) ∧ (i - 10) % 5 < 3 by omega)]
        · rw [if_neg c, if_neg (show ¬ (10 ≤ i ∧ i < 10 + 5 * (w + 1) ∧ (i - 10) % 5 < 3) by omega)]
theorem lanF_g {x p g i : Int} {ws gs : List T3} (hp : p ≤ 14) (h0 : 0 ≤ g ∧ g < 6) : lanF x ws gs p (g + 1) i = if 80 + 7 * g ≤ i ∧ i < 80 + 7 * g + 7 then gF (gs.getD g.toNat dT3) (i - 80 - 7 * g) else lanF x ws gs p g i := by
  unfold lanF
  by_cases e0 : 80 + 7 * g ≤ i ∧ i < 80 + 7 * g + 7
  · rw [if_pos e0, if_neg (by omega), if_neg (by omega), if_neg (by omega), if_neg (by omega), if_pos (by omega), show (i - 80) / 7 = g by omega, show (i - 80) % 7 = i - 80 - 7 * g by omega]
  · rw [if_neg e0]
    by_cases c : 80 ≤ i ∧ i < 80 + 7 * g
    · rw [if_pos c, if_pos (show 80 ≤ i ∧ i < 80 + 7 * (g + 1) by omega)]
    · rw [if_neg c, if_neg (show ¬ (80 ≤ i ∧ i < 80 + 7 * (g + 1)) by omega)]
def w3 (t : T3) : Prop := (0 ≤ t.1 ∧ t.1 ≤ 7) ∧ (0 ≤ t.2.1 ∧ t.2.1 ≤ 7) ∧ t.1 ≠ t.2.1 ∧ 1 ≤ t.2.2 ∧ t.2.2 ≤ 60
def g3 (t : T3) : Prop := (0 ≤ t.1 ∧ t.1 ≤ 7) ∧ (0 ≤ t.2.1 ∧ t.2.1 ≤ 7) ∧ 0 ≤ t.2.2 ∧ t.2.2 ≤ 999
theorem lin_rg {tp : Int → Int} {n a : Int} {q : Int × T3} (h : lin tp n a = .inr q) : (wl tp n (sk tp n a) = wWay → w3 q.2) ∧ (wl tp n (sk tp n a) ≠ wWay → g3 q.2) := by
  unfold lin at h
  split at h
  · rename_i c
    refine ⟨fun _ => ?_, fun z => absurd c z⟩
    split at h
    · cases h
    · rename_i hx
      split at h
      · cases h
      · rename_i hy
        split at h
        · cases h
        · rename_i hne
          split at h
          · cases h
          · rename_i hz
            cases h
            have a1 := pNum_pg hx; have a2 := pNum_pg hy; have a3 := pNum_pg hz
            exact ⟨⟨a1.2.2.1, a1.2.2.2.1⟩, ⟨a2.2.2.1, a2.2.2.2.1⟩, fun z => hne z.symm, a3.2.2.1, a3.2.2.2.1⟩
  · rename_i c
    refine ⟨fun z => absurd z c, fun _ => ?_⟩
    split at h
    · cases h
    · rename_i hx
      split at h
      · cases h
      · rename_i hy
        split at h
        · cases h
        · rename_i hz
          cases h
          have a1 := pNum_pg hx; have a2 := pNum_pg hy; have a3 := pNum_pg hz
          exact ⟨⟨a1.2.2.1, a1.2.2.2.1⟩, ⟨a2.2.2.1, a2.2.2.2.1⟩, a3.2.2.1, a3.2.2.2.1⟩
theorem mem_snoc {α : Type} {P : α → Prop} {l : List α} {x : α} (h : ∀ t ∈ l, P t) (hx : P x) : ∀ t ∈ l ++ [x], P t := by
  intro t ht
  rcases List.mem_append.mp ht with z | z
  · exact h t z
  · rw [List.mem_singleton.mp z]; exact hx
theorem lan_ok {tp : Int → Int} {n : Int} : ∀ (k : Nat) (a ln : Int) (ws gs : List T3) (r : List T3 × List T3), (∀ t ∈ ws, w3 t) → (∀ t ∈ gs, g3 t) → lan tp n k a ln ws gs = some (.inr r) → (∀ t ∈ r.1, w3 t) ∧ ∀ t ∈ r.2, g3 t
  | 0, _, _, _, _, _, _, _, h => by cases h
  | k + 1, a, ln, ws, gs, r, hw, hg, h => by
    rw [lan_eq] at h
    rcases gb_inv h with ⟨e, -, z⟩ | ⟨q, m1, m2⟩
    · cases z
    · have hl : lin tp n a = .inr q := by
        have m1 := Option.some.inj m1
        unfold chl at m1
        split at m1
        · split at m1
          · cases m1
          · exact m1
        · cases m1
      obtain ⟨r1, r2⟩ := lin_rg hl
      have A : (∀ t ∈ (if wl tp n (sk tp n a) = wWay then ws ++ [q.2] else ws), w3 t) ∧ ∀ t ∈ (if wl tp n (sk tp n a) = wWay then gs else gs ++ [q.2]), g3 t := by
        by_cases c : wl tp n (sk tp n a) = wWay
        · rw [if_pos c, if_pos c]; exact ⟨mem_snoc hw (r1 c), hg⟩
        · rw [if_neg c, if_neg c]; exact ⟨hw, mem_snoc hg (r2 c)⟩
      split at m2
      · exact lan_ok k _ _ _ _ r A.1 A.2 m2
      · split at m2
        · cases m2; exact A
        · cases m2
theorem getD_mem {l : List T3} {i : Int} (h0 : 0 ≤ i) (h1 : i < l.length) : l.getD i.toNat dT3 ∈ l := by
  rw [List.getD_eq_getElem?_getD, List.getElem?_eq_getElem (by omega)]
  exact List.getElem_mem _
/-- a land that is read is a land -/
theorem LI.lan {x : Int} {ws gs : List T3} (hx : 0 ≤ x ∧ x ≤ 2147483647) (h1 : ws.length ≤ 14) (h2 : gs.length ≤ 6) (hw : ∀ t ∈ ws, w3 t) (hg : ∀ t ∈ gs, g3 t) : LI 0 (lanF x ws gs ws.length gs.length) := by
  have sw : ∀ w k : Int, 0 ≤ w → w < (ws.length : Int) → 0 ≤ k → k < 5 → sW (lanF x ws gs ws.length gs.length) w k = if k < 3 then t3 (ws.getD w.toNat dT3) k else 0 := by
    intro w k w0 w1 k0 k1
    show lanF x ws gs ws.length gs.length (10 + 5 * w + k) = _
    unfold lanF
    rw [if_neg (by omega), if_neg (by omega), if_neg (by omega)]
    by_cases c : k < 3
    · rw [if_pos c, if_pos (by omega), show (10 + 5 * w + k - 10) / 5 = w by omega, show (10 + 5 * w + k - 10) % 5 = k by omega]
    · rw [if_neg c, if_neg (by omega), if_neg (by omega)]
  have sg : ∀ g k : Int, 0 ≤ g → g < (gs.length : Int) → 0 ≤ k → k < 7 → sG (lanF x ws gs ws.length gs.length) g k = gF (gs.getD g.toNat dT3) k := by
    intro w k w0 w1 k0 k1
    show lanF x ws gs ws.length gs.length (80 + 7 * w + k) = _
    unfold lanF
    rw [if_neg (by omega), if_neg (by omega), if_neg (by omega), if_neg (by omega), if_pos (by omega), show (80 + 7 * w + k - 80) / 7 = w by omega, show (80 + 7 * w + k - 80) % 7 = k by omega]
  have z : ∀ i, i = 2 ∨ i = 3 ∨ i = 4 ∨ i = 5 ∨ i = 6 → lanF x ws gs ws.length gs.length i = 0 := by
    intro i hi
    unfold lanF
    rw [if_neg (by omega), if_neg (by omega), if_neg (by omega), if_neg (by omega), if_neg (by omega)]
  have f0 : lanF x ws gs ws.length gs.length 0 = ws.length := rfl
  have f1 : lanF x ws gs ws.length gs.length 1 = gs.length := rfl
  have f7 : lanF x ws gs ws.length gs.length 7 = x := rfl
  refine ⟨by rw [f0]; omega, by rw [f1]; omega, ?_, ?_, ?_, ?_, ?_, by rw [f7]; exact hx, fun w w0 w1 => ?_, fun g g0 g1 => ?_, fun k k0 k1 => ?_⟩
  · rw [z 2 (by omega)]
    exact ⟨Int.le_refl 0, Int.pow_pos (by decide)⟩
  · rw [z 3 (by omega), z 4 (by omega)]; omega
  · rw [z 4 (by omega)]; omega
  · rw [z 4 (by omega), z 5 (by omega)]; omega
  · rw [z 6 (by omega)]; omega
  · rw [f0] at w1
    have h := hw _ (getD_mem w0 w1)
    unfold WI
    rw [sw w 0 w0 w1 (by decide) (by decide), sw w 1 w0 w1 (by decide) (by decide), sw w 2 w0 w1 (by decide) (by decide), sw w 3 w0 w1 (by decide) (by decide), sw w 4 w0 w1 (by decide) (by decide), z 3 (by omega)]
    exact ⟨h.1, h.2.1, h.2.2.1, h.2.2.2, by rw [if_neg (by decide)]; decide, by rw [if_neg (by decide)]; decide⟩
  · rw [f1] at g1
    have h := hg _ (getD_mem g0 g1)
    unfold GI
    rw [sg g 0 g0 g1 (by decide) (by decide), sg g 1 g0 g1 (by decide) (by decide), sg g 2 g0 g1 (by decide) (by decide), sg g 3 g0 g1 (by decide) (by decide), sg g 4 g0 g1 (by decide) (by decide), sg g 5 g0 g1 (by decide) (by decide), sg g 6 g0 g1 (by decide) (by decide)]
    refine ⟨h.2.1, ⟨h.2.2.1, by have := h.2.2.2; show (gs.getD g.toNat dT3).2.2 ≤ _; omega⟩, ?_, .inl ⟨rfl, rfl, rfl, h.1⟩⟩
    show -1 ≤ (if (gs.getD g.toNat dT3).1 = (gs.getD g.toNat dT3).2.1 then (0 : Int) else -1) ∧ (if (gs.getD g.toNat dT3).1 = (gs.getD g.toNat dT3).2.1 then (0 : Int) else -1) ≤ _
    split <;> omega
  · rw [z 6 (by omega)] at k1; omega
abbrev kM : List Nat := [4, 9, 10, 23, 43]
def GPo (S : SS) (B : SB) (r : Int ⊕ (List T3 × List T3)) : vt_Po := fun rr S' B' => B' = B ∧ fr kM fL S S' ∧ S' 43 1 = 0 ∧ match r with
  | .inl e => some (ii (-2 - e)) = rr ∧ S' 23 = S 23
  | .inr p => some (ii p.1.length) = rr ∧ p.1.length ≤ 14 ∧ p.2.length ≤ 6 ∧ ∀ i, 0 ≤ i → i < 202 → S' 23 i = lanF (S 23 7) p.1 p.2 p.1.length p.2.length i
section TPM
variable {S : SS} {B : SB} {n : Int}
theorem A3.at {f : Int → Int} {l : List T3} {w : Int} (h : A3 f l) (h0 : 0 ≤ w) (h1 : w < l.length) : f (3 * w) = (l.getD w.toNat dT3).1 ∧ f (3 * w + 1) = (l.getD w.toNat dT3).2.1 ∧ f (3 * w + 2) = (l.getD w.toNat dT3).2.2 := by
  have := h w.toNat (l[w.toNat]'(by omega)) (List.getElem?_eq_getElem (by omega))
  rw [show ((w.toNat : Nat) : Int) = w by omega] at this
  rw [List.getD_eq_getElem?_getD, List.getElem?_eq_getElem (by omega)]
  exact this
theorem tm_land {k : Nat} {r : Int ⊕ (List T3 × List T3)} (h1 : TPI S n) (hq : lan (S 0) n k 0 0 [] [] = some r) (hrg : ∀ p, r = .inr p → (∀ t ∈ p.1, w3 t) ∧ ∀ t ∈ p.2, g3 t) : vt_M 33 [me] S B (GPo S B r) := by
  refine vt_start rfl rfl (Nat.le_of_ble_eq_true rfl) (fun X hX => ?_)
  refine vt_walk hX tk_land [(16, [0])] 60 ?_
  show vt_J _ _ _ _ _ _ _ _
  generalize hT : vt_up (vt_up (vt_up S 43 14 6) 43 7 0) 43 8 0 = T
  have t0 : T 0 = S 0 := by rw [← hT, vt_up_ne (by decide), vt_up_ne (by decide), vt_up_ne (by decide)]
  have t23 : T 23 = S 23 := by rw [← hT, vt_up_ne (by decide), vt_up_ne (by decide), vt_up_ne (by decide)]
  have t1 : T 43 1 = S 43 1 := by rw [← hT, vt_up_off (by decide), vt_up_off (by decide), vt_up_off (by decide)]
  have t14 : T 43 14 = 6 := by rw [← hT, vt_up_off (by decide), vt_up_off (by decide), vt_up_self]
  have t7 : T 43 7 = 0 := by rw [← hT, vt_up_off (by decide), vt_up_self]
  have t8 : T 43 8 = 0 := by rw [← hT, vt_up_self]
  have fT : fr kM fL S T := by
    rw [← hT]
    exact ((fr.rf.f (by decide) (by decide)).f (by decide) (by decide)).f (by decide) (by decide)
  clear hT
  refine vt_walk hX tk_land [(41, [0, 1, 2])] 60 ?_
  refine ⟨_, tm_readsAllL t0 (h1.kp t0 t1) t14 t7 t8 hq, ?_⟩
  rintro rr S1 B1 ⟨rfl, k1, k2, k3⟩
  have f1 : fr kM fL S S1 := fT.t k1 (by decide) (by decide)
  have e23 : S1 23 = S 23 := (k1.1 23 (by decide)).trans t23
  cases r with
  | inl e =>
    obtain ⟨rfl, k4⟩ := k3
    refine ⟨by decide, fun z => absurd rfl z, fun _ => ?_⟩
    exact ⟨rfl, f1, k2, by rw [k4.1], e23⟩
  | inr p =>
  obtain ⟨rfl, e7, l14, e8, l6, a9, a10⟩ := k3
  refine ⟨by decide, fun _ => ?_, fun z => absurd z (by decide)⟩
  refine ⟨by omega, ?_⟩
  show vt_J _ _ _ _ _ _ _ _
  rw [e23]
  obtain ⟨hrw, hrg⟩ := hrg p rfl
  -- what stays in the loops
  have keep : ∀ (T : SS), fr [23] [] S1 T → fr kM fL S T ∧ T 43 1 = 0 ∧ T 43 7 = p.1.length ∧ T 43 8 = p.2.length ∧ A3 (T 9) p.1 ∧ A3 (T 10) p.2 := by
    intro T hT
    have e43 : ∀ i, T 43 i = S1 43 i := fun i => hT.2 i (by simp)
    refine ⟨f1.t hT (by decide) (by simp), by rw [e43]; exact k2, by rw [e43]; exact e7, by rw [e43]; exact e8, a9.cg (hT.1 9 (by decide)), a10.cg (hT.1 10 (by decide))⟩
  -- goers
  have goers : ∀ (m : Nat) (g : Int) (T : SS), 0 ≤ g → g + m = p.2.length → fr [23] [] S1 T → (∀ i, 0 ≤ i → i < 202 → T 23 i = lanF (S 23 7) p.1 p.2 p.1.length g i) → vt_J 33 (GPo S B1 (.inr p)) X 143 [(0, me), (2, ii g)] [] T B1 := by
    intro m
    induction m with
    | zero =>
      intro g T g0 gm hT hI
      obtain ⟨u1, u2, u3, u4, u5, u6⟩ := keep T hT
      refine vt_walk hX tk_land [] 100 ?_
      refine ⟨by omega, fun _ => ?_, fun c => absurd c (by omega)⟩
      refine ⟨rfl, u1, u2, by rw [u3], l14, l6, fun i i0 i1 => ?_⟩
      rw [hI i i0 i1, show g = p.2.length by omega]
    | succ m ih =>
      intro g T g0 gm hT hI
      obtain ⟨u1, u2, u3, u4, u5, u6⟩ := keep T hT
      obtain ⟨v0, v1, v2⟩ := u6.at g0 (by omega)
      have hgr := hrg _ (getD_mem g0 (show g < (p.2.length : Int) by omega))
      generalize ht : p.2.getD g.toNat dT3 = t at *
      refine vt_walk hX tk_land [(162, [0, 2, 3, 4])] 100 ?_
      refine ⟨by omega, fun c => absurd c (by omega), fun _ => ?_⟩
      show vt_J _ _ _ _ _ _ _ _
      -- three numbers
      have stepk : ∀ (j : Int) (T : SS), 0 ≤ j → j < 3 → T 10 = S1 10 → vt_J 33 (GPo S B1 (.inr p)) X 162 [(0, me), (2, ii g), (3, ii (80 + 7 * g)), (4, ii (j + 1))] [] (vt_up T 23 (80 + 7 * g + j) (S1 10 (3 * g + j))) B1 → vt_J 33 (GPo S B1 (.inr p)) X 162 [(0, me), (2, ii g), (3, ii (80 + 7 * g)), (4, ii j)] [] T B1 := by
        intro j T j0 j1 e10 hJ
        refine vt_walk hX tk_land [(162, [0, 2, 3, 4])] 100 ?_
        refine ⟨by omega, fun c => absurd c (by omega), fun _ => ?_⟩
        refine ⟨by omega, by omega, ?_⟩
        show vt_J _ _ _ _ _ _ _ _
        rw [e10]
        exact hJ
      have e10 : T 10 = S1 10 := hT.1 10 (by decide)
      rw [e10] at v0 v1 v2
      refine stepk 0 _ (by decide) (by decide) e10 ?_
      refine stepk (0 + 1) _ (by decide) (by decide) (by rw [vt_up_ne (by decide)]; exact e10) ?_
      refine stepk (0 + 1 + 1) _ (by decide) (by decide) (by rw [vt_up_ne (by decide), vt_up_ne (by decide)]; exact e10) ?_
      rw [Int.add_zero, Int.add_zero, v0, show 3 * g + (0 + 1) = 3 * g + 1 by omega, v1, show 3 * g + (0 + 1 + 1) = 3 * g + 2 by omega, v2, show 80 + 7 * g + (0 + 1) = 80 + 7 * g + 1 by omega, show 80 + 7 * g + (0 + 1 + 1) = 80 + 7 * g + 2 by omega]
      generalize hU : vt_up (vt_up (vt_up T 23 (80 + 7 * g) t.1) 23 (80 + 7 * g + 1) t.2.1) 23 (80 + 7 * g + 2) t.2.2 = U
      have w0 : U 23 (80 + 7 * g) = t.1 := by rw [← hU, vt_up_off (by omega), vt_up_off (by omega), vt_up_self]
      have w1 : U 23 (80 + 7 * g + 1) = t.2.1 := by rw [← hU, vt_up_off (by omega), vt_up_self]
      have w2 : U 23 (80 + 7 * g + 2) = t.2.2 := by rw [← hU, vt_up_self]
      have wo : ∀ i, i ≠ 80 + 7 * g → i ≠ 80 + 7 * g + 1 → i ≠ 80 + 7 * g + 2 → U 23 i = T 23 i := fun i i0 i1 i2 => by rw [← hU, vt_up_off i2, vt_up_off i1, vt_up_off i0]
      have fU : fr [23] [] S1 U := by
        rw [← hU]
        exact ((hT.upk (by decide) (by decide)).upk (by decide) (by decide)).upk (by decide) (by decide)
      clear hU
      have fin : ∀ v, v = (if t.1 = t.2.1 then (0 : Int) else -1) → vt_J 33 (GPo S B1 (.inr p)) X 143 [(0, me), (2, ii (g + 1))] [] (vt_up (vt_up (vt_up U 23 (80 + 7 * g + 3) (-1)) 23 (80 + 7 * g + 5) v) 23 (80 + 7 * g + 6) (-1)) B1 := by
        intro v hv
        refine ih (g + 1) _ (by omega) (by omega) (((fU.upk (by decide) (by decide)).upk (by decide) (by decide)).upk (by decide) (by decide)) (fun i i0 i1 => ?_)
        rw [lanF_g (by omega) (by omega), ht]
        by_cases c : 80 + 7 * g ≤ i ∧ i < 80 + 7 * g + 7
        · rw [if_pos c]
          have e : i = 80 + 7 * g ∨ i = 80 + 7 * g + 1 ∨ i = 80 + 7 * g + 2 ∨ i = 80 + 7 * g + 3 ∨ i = 80 + 7 * g + 4 ∨ i = 80 + 7 * g + 5 ∨ i = 80 + 7 * g + 6 := by omega
          have zz : T 23 (80 + 7 * g + 4) = 0 := by
            rw [hI _ (by omega) (by omega)]
            unfold lanF
            rw [if_neg (by omega), if_neg (by omega), if_neg (by omega), if_neg (by omega), if_neg (by omega)]
          rcases e with rfl | rfl | rfl | rfl | rfl | rfl | rfl
          · rw [vt_up_off (by omega), vt_up_off (by omega), vt_up_off (by omega), w0, show 80 + 7 * g - 80 - 7 * g = 0 by omega]; rfl
          · rw [vt_up_off (by omega), vt_up_off (by omega), vt_up_off (by omega), w1, show 80 + 7 * g + 1 - 80 - 7 * g = 1 by omega]; rfl
          · rw [vt_up_off (by omega), vt_up_off (by omega), vt_up_off (by omega), w2, show 80 + 7 * g + 2 - 80 - 7 * g = 2 by omega]; rfl
          · rw [vt_up_off (by omega), vt_up_off (by omega), vt_up_self, show 80 + 7 * g + 3 - 80 - 7 * g = 3 by omega]; rfl
          · rw [vt_up_off (by omega), vt_up_off (by omega), vt_up_off (by omega), wo _ (by omega) (by omega) (by omega), zz, show 80 + 7 * g + 4 - 80 - 7 * g = 4 by omega]; rfl
          · rw [vt_up_off (by omega), vt_up_self, hv, show 80 + 7 * g + 5 - 80 - 7 * g = 5 by omega]; rfl
          · rw [vt_up_self, show 80 + 7 * g + 6 - 80 - 7 * g = 6 by omega]; rfl
        · rw [if_neg c, vt_up_off (by omega), vt_up_off (by omega), vt_up_off (by omega), wo _ (by omega) (by omega) (by omega)]
          exact hI i i0 i1
      have x0 : vt_up U 23 (80 + 7 * g + 3) (-1) 23 (80 + 7 * g) = t.1 := by rw [vt_up_off (by omega)]; exact w0
      have x1 : vt_up U 23 (80 + 7 * g + 3) (-1) 23 (80 + 7 * g + 1) = t.2.1 := by rw [vt_up_off (by omega)]; exact w1
      refine vt_walk hX tk_land [(143, [0, 2])] 100 ?_
      refine ⟨by decide, fun _ => ?_, fun c => absurd c (by decide)⟩
      refine ⟨by omega, by omega, by omega, ⟨?_, ?_⟩, fun c => ?_, fun c => ?_⟩
      · rw [x0]; exact ⟨by have := hgr.1; omega, by have := hgr.1; omega⟩
      · rw [x1]; exact ⟨by have := hgr.2.1; omega, by have := hgr.2.1; omega⟩
      · rw [x0, x1] at c
        refine ⟨by omega, by omega, ?_⟩
        exact fin (-1) (by rw [if_neg c])
      · rw [x0, x1] at c
        refine ⟨by omega, by omega, ?_⟩
        exact fin 0 (by rw [if_pos c])
  -- ways
  have ways : ∀ (m : Nat) (w : Int) (T : SS), 0 ≤ w → w + m = p.1.length → fr [23] [] S1 T → (∀ i, 0 ≤ i → i < 202 → T 23 i = lanF (S 23 7) p.1 p.2 w 0 i) → vt_J 33 (GPo S B1 (.inr p)) X 91 [(0, me), (2, ii w)] [] T B1 := by
    intro m
    induction m with
    | zero =>
      intro w T w0 wm hT hI
      obtain ⟨u1, u2, u3, u4, u5, u6⟩ := keep T hT
      refine vt_walk hX tk_land [(143, [0, 2])] 100 ?_
      refine ⟨by omega, fun _ => ?_, fun c => absurd c (by omega)⟩
      refine goers p.2.length 0 T (by decide) (by omega) hT (fun i i0 i1 => ?_)
      rw [hI i i0 i1, show w = p.1.length by omega]
    | succ m ih =>
      intro w T w0 wm hT hI
      obtain ⟨u1, u2, u3, u4, u5, u6⟩ := keep T hT
      obtain ⟨v0, v1, v2⟩ := u5.at w0 (by omega)
      generalize ht : p.1.getD w.toNat dT3 = t at *
      refine vt_walk hX tk_land [(101, [0, 2, 3])] 100 ?_
      refine ⟨by omega, fun c => absurd c (by omega), fun _ => ?_⟩
      show vt_J _ _ _ _ _ _ _ _
      have stepk : ∀ (j : Int) (T : SS), 0 ≤ j → j < 3 → T 9 = S1 9 → vt_J 33 (GPo S B1 (.inr p)) X 101 [(0, me), (2, ii w), (3, ii (j + 1))] [] (vt_up T 23 (10 + 5 * w + j) (S1 9 (3 * w + j))) B1 → vt_J 33 (GPo S B1 (.inr p)) X 101 [(0, me), (2, ii w), (3, ii j)] [] T B1 := by
        intro j T j0 j1 e10 hJ
        refine vt_walk hX tk_land [(101, [0, 2, 3])] 100 ?_
        refine ⟨by omega, fun c => absurd c (by omega), fun _ => ?_⟩
        refine ⟨by omega, by omega, ?_⟩
        show vt_J _ _ _ _ _ _ _ _
        rw [e10]
        exact hJ
      have e10 : T 9 = S1 9 := hT.1 9 (by decide)
      rw [e10] at v0 v1 v2
      refine stepk 0 _ (by decide) (by decide) e10 ?_
      refine stepk (0 + 1) _ (by decide) (by decide) (by rw [vt_up_ne (by decide)]; exact e10) ?_
      refine stepk (0 + 1 + 1) _ (by decide) (by decide) (by rw [vt_up_ne (by decide), vt_up_ne (by decide)]; exact e10) ?_
      rw [Int.add_zero, Int.add_zero, v0, show 3 * w + (0 + 1) = 3 * w + 1 by omega, v1, show 3 * w + (0 + 1 + 1) = 3 * w + 2 by omega, v2, show 10 + 5 * w + (0 + 1) = 10 + 5 * w + 1 by omega, show 10 + 5 * w + (0 + 1 + 1) = 10 + 5 * w + 2 by omega]
      refine vt_walk hX tk_land [(91, [0, 2])] 100 ?_
      refine ⟨by decide, fun _ => ?_, fun c => absurd c (by decide)⟩
      refine ih (w + 1) _ (by omega) (by omega) (((hT.upk (by decide) (by decide)).upk (by decide) (by decide)).upk (by decide) (by decide)) (fun i i0 i1 => ?_)
      rw [lanF_w (by omega), ht]
      by_cases c2 : i = 10 + 5 * w + 2
      · rw [c2, vt_up_self, if_neg (by omega), if_neg (by omega), if_pos rfl]
      · rw [vt_up_off c2]
        by_cases c1 : i = 10 + 5 * w + 1
        · rw [c1, vt_up_self, if_neg (by omega), if_pos rfl]
        · rw [vt_up_off c1]
          by_cases c0 : i = 10 + 5 * w
          · rw [c0, vt_up_self, if_pos rfl]
          · rw [vt_up_off c0, if_neg c0, if_neg c1, if_neg c2]
            exact hI i i0 i1
  -- all is emptied
  have empty : ∀ (m : Nat) (k : Int) (T : SS), 0 ≤ k → k + m = 202 → fr [23] [] S1 T → (∀ i, 0 ≤ i → i < k → T 23 i = 0) → vt_J 33 (GPo S B1 (.inr p)) X 41 [(0, me), (1, ii (S 23 7)), (2, ii k)] [] T B1 := by
    intro m
    induction m with
    | zero =>
      intro k T k0 km hT hI
      obtain ⟨u1, u2, u3, u4, u5, u6⟩ := keep T hT
      have g7 : vt_up T 23 7 (S 23 7) 43 7 = p.1.length := by rw [vt_up_ne (by decide)]; exact u3
      have g8 : vt_up (vt_up T 23 7 (S 23 7)) 23 0 p.1.length 43 8 = p.2.length := by rw [vt_up_ne (by decide), vt_up_ne (by decide)]; exact u4
      refine vt_walk hX tk_land [(91, [0, 2])] 100 ?_
      refine ⟨by omega, fun _ => ?_, fun c => absurd c (by omega)⟩
      refine ⟨by decide, by decide, by decide, ?_⟩
      show vt_J _ _ _ _ _ _ _ _
      rw [g7, g8]
      refine ways p.1.length 0 _ (by decide) (by omega) (((hT.upk (by decide) (by decide)).upk (by decide) (by decide)).upk (by decide) (by decide)) (fun i i0 i1 => ?_)
      unfold lanF
      by_cases c0 : i = 0
      · rw [c0, vt_up_off (by decide), vt_up_self, if_pos rfl]
      · rw [if_neg c0]
        by_cases c1 : i = 1
        · rw [c1, vt_up_self, if_pos rfl]
        · rw [if_neg c1, vt_up_off c1, vt_up_off c0]
          by_cases c7 : i = 7
          · rw [c7, vt_up_self, if_pos rfl]
          · rw [vt_up_off c7, if_neg c7, if_neg (by omega), if_neg (by omega)]
            exact hI i i0 (by omega)
    | succ m ih =>
      intro k T k0 km hT hI
      refine vt_walk hX tk_land [(41, [0, 1, 2])] 100 ?_
      refine ⟨by omega, fun c => absurd c (by omega), fun _ => ?_⟩
      refine ⟨by omega, ?_⟩
      refine ih (k + 1) _ (by omega) (by omega) (hT.upk (by decide) (by decide)) (fun i i0 i1 => ?_)
      by_cases c : i = k
      · rw [c, vt_up_self]
      · rw [vt_up_off c]; exact hI i i0 (by omega)
  exact empty 202 0 S1 (by decide) (by decide) fr.rf (fun i i0 i1 => by omega)
end TPM
