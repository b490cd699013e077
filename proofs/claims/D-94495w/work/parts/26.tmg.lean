/-! THE TWIN's methods: one who takes what was not taken for longest -/
set_option maxRecDepth 100000
/-- his place, the directions, the number of the last going, the lasts of ways -/
abbrev WS : Type := Int × Int × Int × (Int → Int)
def bst (f : Int → Int) (a : WS) : Nat → Int
  | 0 => -1
  | n + 1 => if sE f a.2.1 (n : Int) 0 = a.1 ∧ (bst f a n < 0 ∨ a.2.2.2 (n : Int) < a.2.2.2 (bst f a n)) then (n : Int) else bst f a n
theorem bst_s {f : Int → Int} {a : WS} {w : Int} (h : 0 ≤ w) : bst f a (w + 1).toNat = if sE f a.2.1 w 0 = a.1 ∧ (bst f a w.toNat < 0 ∨ a.2.2.2 w < a.2.2.2 (bst f a w.toNat)) then w else bst f a w.toNat := by
  obtain ⟨n, rfl⟩ := Int.eq_ofNat_of_zero_le h
  rw [show ((n : Int) + 1).toNat = n + 1 by omega, Int.toNat_natCast]
  rfl
theorem bst_rg (f : Int → Int) (a : WS) : ∀ n : Nat, -1 ≤ bst f a n ∧ bst f a n < n
  | 0 => by show -1 ≤ (-1 : Int) ∧ (-1 : Int) < 0; decide
  | n + 1 => by
    have := bst_rg f a n
    unfold bst
    split <;> omega
/-- one step of his; none: no way leads away -/
def wst (f : Int → Int) (a : WS) : Option WS := if bst f a (f 0).toNat < 0 then none else some (sE f a.2.1 (bst f a (f 0).toNat) 1, xr a.2.1 (bst f a (f 0).toNat), a.2.2.1 + 1, upF a.2.2.2 (bst f a (f 0).toNat) (a.2.2.1 + 1))
def ws0 (f : Int → Int) (g : Int) : WS := (sG f g 0, f 2, f 3, fun w => sW f w 4)
def wsE (n : Int) (a b : WS) : Prop := a.1 = b.1 ∧ a.2.1 = b.2.1 ∧ a.2.2.1 = b.2.2.1 ∧ ∀ w, 0 ≤ w → w < n → a.2.2.2 w = b.2.2.2 w
/-- M: how many goings there may be -/
def wsVd (f : Int → Int) (M : Int) (a : WS) : Prop := (0 ≤ a.1 ∧ a.1 ≤ 8) ∧ (0 ≤ a.2.1 ∧ a.2.1 < 2 ^ (f 0).toNat) ∧ (0 ≤ a.2.2.1 ∧ a.2.2.1 ≤ M) ∧ ∀ w, 0 ≤ w → w < f 0 → 0 ≤ a.2.2.2 w ∧ a.2.2.2 w ≤ a.2.2.1
def wgo (f : Int → Int) : Nat → Int → WS → Int × WS
  | 0, k, a => (k, a)
  | n + 1, k, a => match wst f a with
    | some b => wgo f n (k + 1) b
    | none => (k, a)
section WSS
variable {K : Int} {f : Int → Int}
theorem bst_congr {a b : WS} (h : wsE (f 0) a b) : ∀ n : Nat, (n : Int) ≤ f 0 → bst f a n = bst f b n
  | 0, _ => rfl
  | n + 1, hn => by
    have ih := bst_congr h n (by omega)
    have hr := bst_rg f b n
    unfold bst
    rw [ih, h.1, h.2.1]
    by_cases c : bst f b n < 0
    · have e1 : (sE f b.2.1 n 0 = b.1 ∧ (bst f b n < 0 ∨ a.2.2.2 n < a.2.2.2 (bst f b n))) ↔ (sE f b.2.1 n 0 = b.1 ∧ (bst f b n < 0 ∨ b.2.2.2 n < b.2.2.2 (bst f b n))) := by simp [c]
      simp only [e1]
    · rw [h.2.2.2 n (by omega) (by omega), h.2.2.2 (bst f b n) (by omega) (by omega)]
theorem wst_congr (h0 : 0 ≤ f 0) {a b : WS} (h : wsE (f 0) a b) : (wst f a = none ∧ wst f b = none) ∨ ∃ a' b', wst f a = some a' ∧ wst f b = some b' ∧ wsE (f 0) a' b' := by
  have e := bst_congr h (f 0).toNat (by omega)
  unfold wst
  rw [e]
  by_cases c : bst f b (f 0).toNat < 0
  · rw [if_pos c, if_pos c]; exact Or.inl ⟨rfl, rfl⟩
  · rw [if_neg c, if_neg c]
    refine Or.inr ⟨_, _, rfl, rfl, by rw [h.2.1], by rw [h.2.1], by rw [h.2.2.1], fun w w0 w1 => ?_⟩
    show upF _ _ _ w = upF _ _ _ w
    by_cases e2 : w = bst f b (f 0).toNat
    · rw [e2, upF_self, upF_self, h.2.2.1]
    · rw [upF_ne e2, upF_ne e2]
      exact h.2.2.2 w w0 w1
theorem wst_V (h : LI K f) {M : Int} {a b : WS} (hV : wsVd f M a) (e : wst f a = some b) : wsVd f (M + 1) b ∧ b.1 ≤ 7 := by
  have n0 := h.nW
  have hr := bst_rg f a (f 0).toNat
  unfold wst at e
  split at e
  · cases e
  · rename_i c
    cases e
    have he := (h.w (w := bst f a (f 0).toNat) (by omega) (by omega)).end (d := a.2.1) (Or.inr rfl)
    refine ⟨⟨⟨he.1, by show sE _ _ _ _ ≤ 8; omega⟩, xr_rg n0.2 hV.2.1 (by omega), ?_, fun w w0 w1 => ?_⟩, he.2⟩
    · have := hV.2.2.1
      show 0 ≤ a.2.2.1 + 1 ∧ a.2.2.1 + 1 ≤ M + 1
      omega
    · have := hV.2.2.1
      have := hV.2.2.2 w w0 w1
      show 0 ≤ upF _ _ _ w ∧ upF _ _ _ w ≤ a.2.2.1 + 1
      by_cases e2 : w = bst f a (f 0).toNat
      · rw [e2, upF_self]; omega
      · rw [upF_ne e2]; omega
theorem ws0_V (h : LI K f) {g : Int} (h0 : 0 ≤ g) (h1 : g < f 1) : wsVd f (f 3) (ws0 f g) := by
  refine ⟨(h.g h0 h1).place, h.dirs, ⟨h.goings.1, Int.le_refl _⟩, fun w w0 w1 => (h.w w0 w1).2.2.2.2.2⟩
theorem wsV_of {M : Int} {a b : WS} (h : wsE (f 0) a b) (hb : wsVd f M b) : wsVd f M a := ⟨by rw [h.1]; exact hb.1, by rw [h.2.1]; exact hb.2.1, by rw [h.2.2.1]; exact hb.2.2.1, fun w w0 w1 => by rw [h.2.2.2 w w0 w1, h.2.2.1]; exact hb.2.2.2 w w0 w1⟩
end WSS
def vt_lg (S : SS) (a : WS) : SS := vt_st (vt_st S 36 a.2.2.2) 43 (upF (upF (upF (S 43) 33 a.1) 34 a.2.1) 35 a.2.2.1)
section LGS
variable {S : SS} {a b : WS}
theorem lg_33 : vt_lg S a 43 33 = a.1 := by unfold vt_lg; rw [vt_st_at, upF_ne (by decide), upF_ne (by decide), upF_self]
theorem lg_34 : vt_lg S a 43 34 = a.2.1 := by unfold vt_lg; rw [vt_st_at, upF_ne (by decide), upF_self]
theorem lg_35 : vt_lg S a 43 35 = a.2.2.1 := by unfold vt_lg; rw [vt_st_at, upF_self]
theorem lg_36 : vt_lg S a 36 = a.2.2.2 := by unfold vt_lg; rw [vt_st_ne (by decide), vt_st_at]
theorem lg_x {j : Nat} (h1 : j ≠ 36) (h2 : j ≠ 43) : vt_lg S a j = S j := by unfold vt_lg; rw [vt_st_ne h2, vt_st_ne h1]
theorem lg_23 : vt_lg S a 23 = S 23 := lg_x (by decide) (by decide)
theorem lg_43x {i : Int} (h1 : i ≠ 33) (h2 : i ≠ 34) (h3 : i ≠ 35) : vt_lg S a 43 i = S 43 i := by unfold vt_lg; rw [vt_st_at, upF_ne h3, upF_ne h2, upF_ne h1]
theorem lg_ext {T : SS} (h36 : T 36 = a.2.2.2) (h33 : T 43 33 = a.1) (h34 : T 43 34 = a.2.1) (h35 : T 43 35 = a.2.2.1) (hx : ∀ j, j ≠ 36 → j ≠ 43 → T j = S j) (h43 : ∀ i, i ≠ 33 → i ≠ 34 → i ≠ 35 → T 43 i = S 43 i) : T = vt_lg S a := by
  funext j
  by_cases e1 : j = 36
  · subst e1; rw [lg_36, h36]
  by_cases e2 : j = 43
  · subst e2
    funext i
    by_cases i1 : i = 33
    · subst i1; rw [lg_33, h33]
    by_cases i2 : i = 34
    · subst i2; rw [lg_34, h34]
    by_cases i3 : i = 35
    · subst i3; rw [lg_35, h35]
    rw [lg_43x i1 i2 i3, h43 i i1 i2 i3]
  rw [lg_x e1 e2, hx j e1 e2]
theorem lg_lg : vt_lg (vt_lg S a) b = vt_lg S b := lg_ext lg_36 lg_33 lg_34 lg_35 (fun j h1 h2 => by rw [lg_x h1 h2, lg_x h1 h2]) (fun i h1 h2 h3 => by rw [lg_43x h1 h2 h3, lg_43x h1 h2 h3])
theorem lg_self : vt_lg S (S 43 33, S 43 34, S 43 35, S 36) = S := (lg_ext rfl rfl rfl rfl (fun _ _ _ => rfl) (fun _ _ _ _ => rfl)).symm
theorem lg_u33 {v : Int} : vt_up (vt_lg S a) 43 33 v = vt_lg S (v, a.2) := lg_ext (by rw [vt_up_ne (by decide), lg_36]) vt_up_self (by rw [vt_up_off (by decide), lg_34]) (by rw [vt_up_off (by decide), lg_35]) (fun j h1 h2 => by rw [vt_up_ne h2, lg_x h1 h2]) (fun i h1 h2 h3 => by rw [vt_up_off h1, lg_43x h1 h2 h3])
theorem lg_u34 {v : Int} : vt_up (vt_lg S a) 43 34 v = vt_lg S (a.1, v, a.2.2) := lg_ext (by rw [vt_up_ne (by decide), lg_36]) (by rw [vt_up_off (by decide), lg_33]) vt_up_self (by rw [vt_up_off (by decide), lg_35]) (fun j h1 h2 => by rw [vt_up_ne h2, lg_x h1 h2]) (fun i h1 h2 h3 => by rw [vt_up_off h2, lg_43x h1 h2 h3])
theorem lg_u35 {v : Int} : vt_up (vt_lg S a) 43 35 v = vt_lg S (a.1, a.2.1, v, a.2.2.2) := lg_ext (by rw [vt_up_ne (by decide), lg_36]) (by rw [vt_up_off (by decide), lg_33]) (by rw [vt_up_off (by decide), lg_34]) vt_up_self (fun j h1 h2 => by rw [vt_up_ne h2, lg_x h1 h2]) (fun i h1 h2 h3 => by rw [vt_up_off h3, lg_43x h1 h2 h3])
theorem lg_u36 {i v : Int} : vt_up (vt_lg S a) 36 i v = vt_lg S (a.1, a.2.1, a.2.2.1, upF a.2.2.2 i v) := lg_ext (by rw [vt_up_at, lg_36]; rfl) (by rw [vt_up_ne (by decide), lg_33]) (by rw [vt_up_ne (by decide), lg_34]) (by rw [vt_up_ne (by decide), lg_35]) (fun j h1 h2 => by rw [vt_up_ne h1, lg_x h1 h2]) (fun i h1 h2 h3 => by rw [vt_up_ne (by decide), lg_43x h1 h2 h3])
end LGS
section TMG
variable {S : SS} {B : SB} {K : Int}
def sCanT (f : Int → Int) (g : Int) : Bool := sStd f g && !sAny f
theorem sCanT_g {f : Int → Int} {g : Int} (h : sCanT f g = true) : 0 ≤ g ∧ g < f 1 := by
  unfold sCanT sStd at h
  simp only [Bool.and_eq_true] at h
  exact of_decide_eq_true h.1.1
theorem tm_canTake {g : Int} (hg : -2147483648 ≤ g ∧ g ≤ 2147483647) (h : LI K (S 23)) : vt_M 73 [me, ii g] S B (vt_eq (some (ii (bI (sCanT (S 23) g)))) S B) := by
  refine vt_start rfl rfl (Nat.le_of_ble_eq_true rfl) (fun X hX => ?_)
  refine vt_walk hX tk_canTake [] 60 ?_
  have hb := bI_rg (sStd (S 23) g)
  have hb2 := bI_rg (sAny (S 23))
  refine vt_k (tm_stands hg h) ?_
  unfold sCanT
  refine ⟨by omega, fun c => ?_, fun c => ?_⟩
  · rw [bI_0.mp c]
    exact ⟨Or.inl rfl, rfl, rfl, rfl⟩
  refine vt_k (tm_isAnyOnWay h) ?_
  refine ⟨by omega, fun d => ?_, fun d => ?_⟩
  · rw [bI_n0.mp c, bI_n0.mp d]
    exact ⟨Or.inl rfl, rfl, rfl, rfl⟩
  · rw [bI_n0.mp c, bI_0.mp d]
    exact ⟨Or.inr rfl, rfl, rfl, rfl⟩
theorem tm_takesBegin {g : Int} (hg : 0 ≤ g ∧ g < S 23 1) (h : LI K (S 23)) : vt_M 74 [me, ii g] S B (fun r S' B' => none = r ∧ B = B' ∧ ∃ a, S' = vt_lg S a ∧ wsE (S 23 0) a (ws0 (S 23) g)) := by
  refine vt_start rfl rfl (Nat.le_of_ble_eq_true rfl) (fun X hX => ?_)
  have n0 := h.nW
  have n1 := h.nG
  have loop : ∀ (n : Nat) (w : Int) (la : Int → Int), 0 ≤ w → w + n = S 23 0 → (∀ i, 0 ≤ i → i < w → la i = sW (S 23) i 4) → vt_J 74 (fun r S' B' => none = r ∧ B = B' ∧ ∃ a, S' = vt_lg S a ∧ wsE (S 23 0) a (ws0 (S 23) g)) X 32 [(0, me), (1, ii g), (2, ii w)] [] (vt_lg S (sG (S 23) g 0, S 23 2, S 23 3, la)) B := by
    intro n
    induction n with
    | zero =>
      intro w la hw hn hp
      refine vt_walk hX tk_takesBegin [(32, [0, 1, 2])] 60 ?_
      refine ⟨by omega, by rw [lg_23]; omega, fun _ => ?_, fun z => absurd z (by rw [lg_23]; omega)⟩
      exact ⟨rfl, rfl, _, rfl, rfl, rfl, rfl, fun i i0 i1 => hp i i0 (by omega)⟩
    | succ n ih =>
      intro w la hw hn hp
      refine vt_walk hX tk_takesBegin [(32, [0, 1, 2])] 60 ?_
      refine ⟨by omega, by rw [lg_23]; omega, fun z => absurd z (by rw [lg_23]; omega), fun _ => ?_⟩
      refine vt_k (tm_wayOf (by omega)) ?_
      refine ⟨by omega, ?_⟩
      rw [lg_u36]
      refine ih (w + 1) _ (by omega) (by omega) (fun i i0 i1 => ?_)
      by_cases e : i = w
      · subst e; rw [upF_self, lg_23]
      · rw [upF_ne e]; exact hp i i0 (by omega)
  have h1 := loop (S 23 0).toNat 0 (S 36) (by omega) (by omega) (fun i i0 i1 => by omega)
  have e : vt_lg S (sG (S 23) g 0, S 23 2, S 23 3, S 36) = vt_up (vt_up (vt_up S 43 33 (sG (S 23) g 0)) 43 34 (S 23 2)) 43 35 (S 23 3) := by
    have : S = vt_lg S (S 43 33, S 43 34, S 43 35, S 36) := lg_self.symm
    conv => rhs; rw [this]
    simp only [lg_u33, lg_u34, lg_u35, lg_23]
  rw [e] at h1
  refine vt_walk hX tk_takesBegin [(32, [0, 1, 2])] 60 ?_
  refine vt_k (tm_goerOf (by omega)) ?_
  exact ⟨by omega, by omega, h1⟩
theorem tm_stepsOn {a : WS} {M : Int} (hM : M ≤ 2000000000) (h : LI K (S 23)) (hV : wsVd (S 23) M a) : vt_M 75 [me] (vt_lg S a) B (vt_eq (some (ii (bI (wst (S 23) a).isSome))) (vt_lg S ((wst (S 23) a).getD a)) B) := by
  refine vt_start rfl rfl (Nat.le_of_ble_eq_true rfl) (fun X hX => ?_)
  have n0 := h.nW
  have h14 := pow14 n0.2
  have hd := hV.2.1
  have hp := hV.1
  have hgo := hV.2.2.1
  have loop : ∀ (n : Nat) (w : Int), 0 ≤ w → w + n = S 23 0 → vt_J 75 (vt_eq (some (ii (bI (wst (S 23) a).isSome))) (vt_lg S ((wst (S 23) a).getD a)) B) X 4 [(0, me), (1, ii (bst (S 23) a w.toNat)), (2, ii w)] [] (vt_lg S a) B := by
    intro n
    induction n with
    | zero =>
      intro w hw hn
      have hr := bst_rg (S 23) a w.toNat
      have ew : w = S 23 0 := by omega
      refine vt_walk hX tk_stepsOn [(64, [0, 1])] 60 ?_
      refine ⟨by omega, by rw [lg_23]; omega, fun _ => ?_, fun z => absurd z (by rw [lg_23]; omega)⟩
      refine ⟨by omega, fun c => ?_, fun c => ?_⟩
      · rw [ew] at c hr ⊢
        have e : wst (S 23) a = some (sE (S 23) a.2.1 (bst (S 23) a (S 23 0).toNat) 1, xr a.2.1 (bst (S 23) a (S 23 0).toNat), a.2.2.1 + 1, upF a.2.2.2 (bst (S 23) a (S 23 0).toNat) (a.2.2.1 + 1)) := if_neg (by omega)
        rw [e]
        refine vt_walk hX tk_stepsOn [(78, [0, 1])] 60 ?_
        refine vt_k (tm_endOf (by rw [lg_34]; omega) (by omega) (Or.inr rfl)) ?_
        show vt_J _ _ _ _ _ _ _ _
        rw [lg_34, lg_23, lg_u33]
        refine vt_walk hX tk_stepsOn [(90, [0, 1])] 60 ?_
        refine ⟨by omega, ?_⟩
        show vt_J _ _ _ _ _ _ _ _
        rw [lg_34, lg_u34]
        dsimp only
        rw [xorp (by omega) (by omega)]
        refine vt_walk hX tk_stepsOn [(100, [0, 1])] 60 ?_
        show vt_J _ _ _ _ _ _ _ _
        rw [lg_35, lg_u35]
        refine vt_walk hX tk_stepsOn [] 60 ?_
        refine ⟨by omega, Or.inr rfl, rfl, ?_, rfl⟩
        rw [lg_35, lg_u36]
        rfl
      · rw [ew] at c
        have e : wst (S 23) a = none := if_pos c
        rw [e]
        exact ⟨Or.inl rfl, rfl, rfl, rfl⟩
    | succ n ih =>
      intro w hw hn
      have hr := bst_rg (S 23) a w.toNat
      have hi := ih (w + 1) (by omega) (by omega)
      rw [bst_s hw] at hi
      have he := (h.w hw (by omega)).end (d := a.2.1) (Or.inl rfl)
      have hl := hV.2.2.2 w hw (by omega)
      refine vt_walk hX tk_stepsOn [(4, [0, 1, 2])] 60 ?_
      refine ⟨by omega, by rw [lg_23]; omega, fun z => absurd z (by rw [lg_23]; omega), fun _ => ?_⟩
      refine vt_k (tm_endOf (by rw [lg_34]; omega) (by omega) (Or.inl rfl)) ?_
      rw [lg_34, lg_23]
      refine ⟨by rw [lg_33]; omega, fun c => ?_, fun c => ?_⟩ <;> rw [lg_33] at c
      · rw [if_neg (fun z => c z.1)] at hi
        exact hi
      · refine ⟨by omega, fun c2 => ?_, fun c2 => ?_⟩
        · rw [if_pos ⟨c, Or.inl c2⟩] at hi
          exact hi
        · have hl2 := hV.2.2.2 (bst (S 23) a w.toNat) (by omega) (by omega)
          refine ⟨by omega, by omega, by rw [lg_36]; omega, fun c3 => ?_, fun c3 => ?_⟩ <;> rw [lg_36] at c3
          · rw [if_neg (fun z => by omega)] at hi
            exact hi
          · rw [if_pos ⟨c, Or.inr c3⟩] at hi
            exact hi
  refine vt_walk hX tk_stepsOn [(4, [0, 1, 2])] 60 ?_
  exact loop (S 23 0).toNat 0 (by omega) (by omega)
def sp_long (f : Int → Int) (g n k : Int) : Int := if sCanT f g = true ∧ sIn n 0 2000 = true ∧ sIn k 0 2 = true then (if k = 0 then (wgo f n.toNat 0 (ws0 f g)).2.1 else if k = 1 then (wgo f n.toNat 0 (ws0 f g)).2.2.1 else (wgo f n.toNat 0 (ws0 f g)).1) else -1
theorem wst_E {f : Int → Int} (h0 : 0 ≤ f 0) {a b : WS} (h : wsE (f 0) a b) : (wst f a).isSome = (wst f b).isSome ∧ wsE (f 0) ((wst f a).getD a) ((wst f b).getD b) := by
  rcases wst_congr h0 h with ⟨e1, e2⟩ | ⟨a', b', e1, e2, e3⟩
  · rw [e1, e2]; exact ⟨rfl, h⟩
  · rw [e1, e2]; exact ⟨rfl, e3⟩
theorem tm_longest {g n k : Int} (hg : -2147483648 ≤ g ∧ g ≤ 2147483647) (hn : -2147483648 ≤ n ∧ n ≤ 2147483647) (hk : -2147483648 ≤ k ∧ k ≤ 2147483647) (h : LI K (S 23)) : vt_M 72 [me, ii g, ii n, ii k] S B (fun r S' B' => some (ii (sp_long (S 23) g n k)) = r ∧ B = B' ∧ ∃ a, S' = vt_lg S a) := by
  refine vt_start rfl rfl (Nat.le_of_ble_eq_true rfl) (fun X hX => ?_)
  have n0 := h.nW
  have h3 := h.goings
  have h4 := h.clock
  have hb := bI_rg (sCanT (S 23) g)
  have hb2 := bI_rg (sIn n 0 2000)
  have hb3 := bI_rg (sIn k 0 2)
  refine vt_walk hX tk_longest [(42, [0, 1, 2, 3, 4])] 60 ?_
  unfold sp_long
  refine vt_k (tm_canTake hg h) ?_
  refine ⟨by omega, fun c => ?_, fun c => ?_⟩
  · rw [if_neg (by rw [bI_0.mp c]; simp)]
    exact ⟨rfl, rfl, _, lg_self.symm⟩
  refine ⟨by omega, vt_k (tm_in (by omega) (by omega) (by omega)) ?_⟩
  refine ⟨by omega, fun c2 => ?_, fun c2 => ?_⟩
  · rw [if_neg (by rw [bI_0.mp c2]; simp)]
    exact ⟨rfl, rfl, _, lg_self.symm⟩
  refine ⟨by omega, vt_k (tm_in (by omega) (by omega) (by omega)) ?_⟩
  refine ⟨by omega, fun c3 => ?_, fun c3 => ?_⟩
  · have cc : sCanT (S 23) g = true ∧ sIn n 0 2000 = true ∧ sIn k 0 2 = true := ⟨bI_n0.mp c, bI_n0.mp c2, bI_n0.mp c3⟩
    have cg := sCanT_g cc.1
    have cn : 0 ≤ n ∧ n ≤ 2000 := of_decide_eq_true cc.2.1
    have ck : 0 ≤ k ∧ k ≤ 2 := of_decide_eq_true cc.2.2
    rw [if_pos cc]
    refine ⟨_, tm_takesBegin cg h, ?_⟩
    rintro _ _ _ ⟨rfl, rfl, a, rfl, hE⟩
    have fin : ∀ (t : Int) (a b : WS), 0 ≤ t → t ≤ 2000 → wsE (S 23 0) a b → wgo (S 23) n.toNat 0 (ws0 (S 23) g) = (t, b) → vt_J 72 (fun r S' B' => some (ii (if k = 0 then (wgo (S 23) n.toNat 0 (ws0 (S 23) g)).2.1 else if k = 1 then (wgo (S 23) n.toNat 0 (ws0 (S 23) g)).2.2.1 else (wgo (S 23) n.toNat 0 (ws0 (S 23) g)).1)) = r ∧ B = B' ∧ ∃ a, S' = vt_lg S a) X 61 [(0, me), (1, ii g), (2, ii n), (3, ii k), (4, ii t)] [] (vt_lg S a) B := by
      intro t a b t0 t1 hE he
      rw [he]
      refine vt_walk hX tk_longest [] 60 ?_
      refine ⟨by omega, fun d => ?_, fun d => ?_⟩
      · rw [if_neg d]
        refine ⟨by omega, fun d2 => ?_, fun d2 => ?_⟩
        · rw [if_neg d2]
          exact ⟨rfl, rfl, _, rfl⟩
        · rw [if_pos d2]
          exact ⟨by rw [lg_34, hE.2.1], rfl, _, rfl⟩
      · rw [if_pos d]
        exact ⟨by rw [lg_33, hE.1], rfl, _, rfl⟩
    have loop : ∀ (m : Nat) (t M : Int) (a b : WS), 0 ≤ t → t + m = n → M ≤ 1000000000 + t → wsE (S 23 0) a b → wsVd (S 23) M a → wgo (S 23) n.toNat 0 (ws0 (S 23) g) = wgo (S 23) m t b → vt_J 72 (fun r S' B' => some (ii (if k = 0 then (wgo (S 23) n.toNat 0 (ws0 (S 23) g)).2.1 else if k = 1 then (wgo (S 23) n.toNat 0 (ws0 (S 23) g)).2.2.1 else (wgo (S 23) n.toNat 0 (ws0 (S 23) g)).1)) = r ∧ B = B' ∧ ∃ a, S' = vt_lg S a) X 42 [(0, me), (1, ii g), (2, ii n), (3, ii k), (4, ii t)] [] (vt_lg S a) B := by
      intro m
      induction m with
      | zero =>
        intro t M a b t0 tm hM hE hV he
        refine vt_walk hX tk_longest [(61, [0, 1, 2, 3, 4])] 60 ?_
        refine ⟨by omega, fun _ => ?_, fun z => absurd z (by omega)⟩
        exact fin t a b t0 (by omega) hE he
      | succ m ih =>
        intro t M a b t0 tm hM hE hV he
        have hbs := bI_rg (wst (S 23) a).isSome
        refine vt_walk hX tk_longest [(61, [0, 1, 2, 3, 4]), (42, [0, 1, 2, 3, 4])] 60 ?_
        refine ⟨by omega, fun z => absurd z (by omega), fun _ => ?_⟩
        refine vt_k (tm_stepsOn (by omega) h hV) ?_
        refine ⟨by omega, fun d => ?_, fun d => ?_⟩
        · rcases wst_congr n0.1 hE with ⟨e1, e2⟩ | ⟨a', b', e1, e2, e3⟩
          · have : wgo (S 23) (m + 1) t b = (t, b) := by unfold wgo; rw [e2]
            rw [e1]
            exact fin t a b t0 (by omega) hE (by rw [he, this])
          · rw [e1] at d; cases d
        · rcases wst_congr n0.1 hE with ⟨e1, e2⟩ | ⟨a', b', e1, e2, e3⟩
          · rw [e1] at d; exact absurd rfl d
          · have : wgo (S 23) (m + 1) t b = wgo (S 23) m (t + 1) b' := by show (match wst (S 23) b with | some b => wgo (S 23) m (t + 1) b | none => (t, b)) = _; rw [e2]
            rw [e1]
            exact ih (t + 1) (M + 1) a' b' (by omega) (by omega) (by omega) e3 (wst_V h hV e1).1 (by rw [he, this])
    exact loop n.toNat 0 (S 23 3) a (ws0 (S 23) g) (by omega) (by omega) (by omega) hE (wsV_of hE (ws0_V h cg.1 cg.2)) rfl
  · rw [if_neg (by rw [bI_0.mp c3]; simp)]
    exact ⟨rfl, rfl, _, lg_self.symm⟩
def sBeen (f : Int → Int) (a : WS) : Bool := allB (fun w => decide (f 3 < a.2.2.2 w)) (f 0).toNat
theorem tm_haveAllBeen {a : WS} {M : Int} (hM : M ≤ 2000000000) (h : LI K (S 23)) (hV : wsVd (S 23) M a) : vt_M 77 [me] (vt_lg S a) B (vt_eq (some (ii (bI (sBeen (S 23) a)))) (vt_lg S a) B) := by
  refine vt_start rfl rfl (Nat.le_of_ble_eq_true rfl) (fun X hX => ?_)
  have n0 := h.nW
  have h3 := h.goings
  have h4 := h.clock
  have loop : ∀ (n : Nat) (w : Int), 0 ≤ w → w + n = S 23 0 → (∀ i, 0 ≤ i → i < w → S 23 3 < a.2.2.2 i) → vt_J 77 (vt_eq (some (ii (bI (sBeen (S 23) a)))) (vt_lg S a) B) X 2 [(0, me), (1, ii w)] [] (vt_lg S a) B := by
    intro n
    induction n with
    | zero =>
      intro w hw hn hp
      refine vt_walk hX tk_haveAllBeen [(2, [0, 1])] 60 ?_
      refine ⟨by omega, by rw [lg_23]; omega, fun _ => ?_, fun z => absurd z (by rw [lg_23]; omega)⟩
      have : sBeen (S 23) a = true := allB_iff.mpr (fun i i0 i1 => decide_eq_true (hp i i0 (by omega)))
      rw [this]
      exact ⟨Or.inr rfl, rfl, rfl, rfl⟩
    | succ n ih =>
      intro w hw hn hp
      have hl := hV.2.2.2 w hw (by omega)
      have hgo := hV.2.2.1
      refine vt_walk hX tk_haveAllBeen [(2, [0, 1])] 60 ?_
      refine ⟨by omega, by rw [lg_23]; omega, fun z => absurd z (by rw [lg_23]; omega), fun _ => ?_⟩
      refine ⟨by omega, by omega, by rw [lg_36, lg_23]; omega, fun c => ?_, fun c => ?_⟩ <;> rw [lg_36, lg_23] at c
      · refine ih (w + 1) (by omega) (by omega) (fun i i0 i1 => ?_)
        by_cases e : i = w
        · subst e; exact c
        · exact hp i i0 (by omega)
      · have : sBeen (S 23) a = false := by
          cases hq : sBeen (S 23) a
          · rfl
          · have := of_decide_eq_true (allB_iff.mp hq w hw (by omega))
            omega
        rw [this]
        exact ⟨Or.inl rfl, rfl, rfl, rfl⟩
  refine vt_walk hX tk_haveAllBeen [(2, [0, 1])] 60 ?_
  exact loop (S 23 0).toNat 0 (by omega) (by omega) (fun i i0 i1 => by omega)
def cov (f : Int → Int) : Nat → Int → WS → Int
  | 0, _, _ => -2
  | n + 1, k, a => if sBeen f a = true then k else match wst f a with
    | some b => cov f n (k + 1) b
    | none => -2
def sp_cov (f : Int → Int) (g : Int) : Int := if sCanT f g = true then cov f 2001 0 (ws0 f g) else -1
theorem sBeen_E {f : Int → Int} (h0 : 0 ≤ f 0) {a b : WS} (h : wsE (f 0) a b) : sBeen f a = sBeen f b := by
  unfold sBeen
  cases hb : allB (fun w => decide (f 3 < b.2.2.2 w)) (f 0).toNat
  · cases ha : allB (fun w => decide (f 3 < a.2.2.2 w)) (f 0).toNat
    · rfl
    · rw [allB_iff.mpr (fun i i0 i1 => by rw [← h.2.2.2 i i0 (by omega)]; exact allB_iff.mp ha i i0 i1)] at hb; cases hb
  · exact allB_iff.mpr (fun i i0 i1 => by rw [h.2.2.2 i i0 (by omega)]; exact allB_iff.mp hb i i0 i1)
theorem tm_covers {g : Int} (hg : -2147483648 ≤ g ∧ g ≤ 2147483647) (h : LI K (S 23)) : vt_M 76 [me, ii g] S B (fun r S' B' => some (ii (sp_cov (S 23) g)) = r ∧ B = B' ∧ ∃ a, S' = vt_lg S a) := by
  refine vt_start rfl rfl (Nat.le_of_ble_eq_true rfl) (fun X hX => ?_)
  have n0 := h.nW
  have h3 := h.goings
  have h4 := h.clock
  have hb := bI_rg (sCanT (S 23) g)
  refine vt_walk hX tk_covers [(17, [0, 1, 2])] 60 ?_
  unfold sp_cov
  refine vt_k (tm_canTake hg h) ?_
  refine ⟨by omega, fun c => ?_, fun c => ?_⟩
  · have cc := bI_n0.mp c
    have cg := sCanT_g cc
    rw [if_pos cc]
    refine ⟨_, tm_takesBegin cg h, ?_⟩
    rintro _ _ _ ⟨rfl, rfl, a, rfl, hE⟩
    have loop : ∀ (m : Nat) (t M : Int) (a b : WS), 0 ≤ t → t + m = 2001 → M ≤ 1000000000 + t → wsE (S 23 0) a b → wsVd (S 23) M a → cov (S 23) 2001 0 (ws0 (S 23) g) = cov (S 23) m t b → vt_J 76 (fun r S' B' => some (ii (cov (S 23) 2001 0 (ws0 (S 23) g))) = r ∧ B = B' ∧ ∃ a, S' = vt_lg S a) X 17 [(0, me), (1, ii g), (2, ii t)] [] (vt_lg S a) B := by
      intro m
      induction m with
      | zero =>
        intro t M a b t0 tm hM hE hV he
        refine vt_walk hX tk_covers [(17, [0, 1, 2])] 60 ?_
        refine ⟨by omega, fun _ => ?_, fun z => absurd z (by omega)⟩
        rw [he]
        exact ⟨rfl, rfl, _, rfl⟩
      | succ m ih =>
        intro t M a b t0 tm hM hE hV he
        have hbb := bI_rg (sBeen (S 23) a)
        have hbs := bI_rg (wst (S 23) a).isSome
        have eb := sBeen_E n0.1 hE
        refine vt_walk hX tk_covers [(17, [0, 1, 2])] 60 ?_
        refine ⟨by omega, fun z => absurd z (by omega), fun _ => ?_⟩
        refine vt_k (tm_haveAllBeen (by omega) h hV) ?_
        refine ⟨by omega, fun d => ?_, fun d => ?_⟩
        · have db := bI_0.mp d
          rw [eb] at db
          refine vt_k (tm_stepsOn (by omega) h hV) ?_
          refine ⟨by omega, fun d2 => ?_, fun d2 => ?_⟩
          · rcases wst_congr n0.1 hE with ⟨e1, e2⟩ | ⟨a', b', e1, e2, e3⟩
            · rw [e1] at d2; exact absurd rfl d2
            · have : cov (S 23) (m + 1) t b = cov (S 23) m (t + 1) b' := by
                show (if sBeen (S 23) b = true then t else match wst (S 23) b with | some b => cov (S 23) m (t + 1) b | none => -2) = _
                rw [db, e2]; rfl
              rw [e1]
              exact ih (t + 1) (M + 1) a' b' (by omega) (by omega) (by omega) e3 (wst_V h hV e1).1 (by rw [he, this])
          · rcases wst_congr n0.1 hE with ⟨e1, e2⟩ | ⟨a', b', e1, e2, e3⟩
            · have : cov (S 23) (m + 1) t b = -2 := by
                show (if sBeen (S 23) b = true then t else match wst (S 23) b with | some b => cov (S 23) m (t + 1) b | none => -2) = _
                rw [db, e2]; rfl
              rw [he, this]
              exact ⟨rfl, rfl, _, rfl⟩
            · rw [e1] at d2; cases d2
        · have db := bI_n0.mp d
          rw [eb] at db
          have : cov (S 23) (m + 1) t b = t := by
            show (if sBeen (S 23) b = true then t else match wst (S 23) b with | some b => cov (S 23) m (t + 1) b | none => -2) = _
            rw [if_pos db]
          rw [he, this]
          exact ⟨rfl, rfl, _, rfl⟩
    exact loop 2001 0 (S 23 3) a (ws0 (S 23) g) (by omega) (by omega) (by omega) hE (wsV_of hE (ws0_V h cg.1 cg.2)) rfl
  · rw [if_neg (by rw [bI_0.mp c]; simp)]
    exact ⟨rfl, rfl, _, lg_self.symm⟩
end TMG
