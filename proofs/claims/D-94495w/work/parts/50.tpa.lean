/-! THE TWIN's methods: signs, words and numbers of texts -/
set_option maxRecDepth 100000
theorem l_shl8 {v x : Int} (hv : 0 ≤ v ∧ v < 36028797018963968) (hx : 0 ≤ x ∧ x < 256) : (Int64.ofInt v <<< ((Int32.ofInt 8).toInt64 &&& 63)) ||| Int64.ofInt x = Int64.ofInt (256 * v + x) := by
  obtain ⟨V, rfl⟩ := Int.eq_ofNat_of_zero_le hv.1
  obtain ⟨Y, rfl⟩ := Int.eq_ofNat_of_zero_le hx.1
  have hV : V < 36028797018963968 := by omega
  have hY : Y < 256 := by omega
  have e8 : ((Int32.ofInt 8).toInt64 &&& 63) = (8 : Int64) := by decide
  have h : ∀ k : Nat, k < 9223372036854775808 → (Int64.ofInt (k : Int)).toBitVec.toNat = k := by
    intro k hk
    rw [Int64.ofInt_eq_ofNat]
    show (BitVec.ofNat 64 k).toNat = k
    rw [BitVec.toNat_ofNat, Nat.mod_eq_of_lt (by omega)]
  rw [e8]
  apply Int64.toBitVec.inj
  apply BitVec.eq_of_toNat_eq
  rw [show (256 * (V : Int) + (Y : Int)) = ((256 * V + Y : Nat) : Int) by omega, h _ (by omega)]
  rw [Int64.toBitVec_or, BitVec.toNat_or, h _ (by omega), Int64.toBitVec_shiftLeft]
  rw [show ((8 : Int64).toBitVec.smod 64) = (8 : BitVec 64) by decide]
  rw [show ((Int64.ofInt (V : Int)).toBitVec <<< (8 : BitVec 64)).toNat = V <<< 8 by
    rw [BitVec.shiftLeft_eq', BitVec.toNat_shiftLeft, h _ (by omega)]
    show V <<< 8 % 2 ^ 64 = _
    rw [Nat.mod_eq_of_lt]
    rw [Nat.shiftLeft_eq]; omega]
  rw [← Nat.shiftLeft_add_eq_or_of_lt (by omega : Y < 2 ^ 8) V, Nat.shiftLeft_eq]
  omega
def pkq : List Int → Int
  | [] => 0
  | x :: r => 256 * pkq r + x
def pkw (l : List Int) : Int := pkq l.reverse
theorem pkw_snoc {l : List Int} {x : Int} : pkw (l ++ [x]) = 256 * pkw l + x := by
  unfold pkw
  rw [List.reverse_append]
  rfl
theorem pkq_nn : ∀ (l : List Int), (∀ x ∈ l, 0 < x ∧ x < 256) → 0 ≤ pkq l ∧ pkq l < 256 ^ l.length
  | [], _ => by decide
  | x :: r, h => by
    have h1 := pkq_nn r (fun y hy => h y (List.mem_cons_of_mem _ hy))
    have h2 := h x List.mem_cons_self
    rw [List.length_cons, Int.pow_succ, pkq]
    omega
theorem pkq_inj : ∀ (l l' : List Int), (∀ x ∈ l, 0 < x ∧ x < 256) → (∀ x ∈ l', 0 < x ∧ x < 256) → pkq l = pkq l' → l = l'
  | [], [], _, _, _ => rfl
  | [], x :: r, _, h', e => by
    have h1 := pkq_nn r (fun y hy => h' y (List.mem_cons_of_mem _ hy))
    have h2 := h' x List.mem_cons_self
    rw [pkq, pkq] at e
    omega
  | x :: r, [], h, _, e => by
    have h1 := pkq_nn r (fun y hy => h y (List.mem_cons_of_mem _ hy))
    have h2 := h x List.mem_cons_self
    rw [pkq, pkq] at e
    omega
  | x :: r, y :: r', h, h', e => by
    have h2 := h x List.mem_cons_self
    have h3 := h' y List.mem_cons_self
    rw [pkq, pkq] at e
    have e1 : x = y := by omega
    have e2 : pkq r = pkq r' := by omega
    rw [e1, pkq_inj r r' (fun z hz => h z (List.mem_cons_of_mem _ hz)) (fun z hz => h' z (List.mem_cons_of_mem _ hz)) e2]
theorem pkw_inj {l l' : List Int} (h : ∀ x ∈ l, 0 < x ∧ x < 256) (h' : ∀ x ∈ l', 0 < x ∧ x < 256) (e : pkw l = pkw l') : l = l' := by
  have := pkq_inj l.reverse l'.reverse (fun x hx => h x (List.mem_reverse.mp hx)) (fun x hx => h' x (List.mem_reverse.mp hx)) e
  exact List.reverse_inj.mp this
theorem pkw_rg {l : List Int} (h : ∀ x ∈ l, 0 < x ∧ x < 256) : 0 ≤ pkw l ∧ pkw l < 256 ^ l.length := by
  have := pkq_nn l.reverse (fun x hx => h x (List.mem_reverse.mp hx))
  rw [List.length_reverse] at this
  exact this
theorem pkw_7 {l : List Int} (h : ∀ x ∈ l, 0 < x ∧ x < 256) (h7 : l.length ≤ 7) : 0 ≤ pkw l ∧ pkw l < 72057594037927936 := by
  have h1 := pkw_rg h
  have h2 := Int.ofNat_le.mpr (Nat.pow_le_pow_right (n := 256) (by decide) h7)
  rw [show ((256 ^ l.length : Nat) : Int) = (256 : Int) ^ l.length from by rw [Int.natCast_pow]; rfl, show ((256 ^ 7 : Nat) : Int) = 72057594037927936 from rfl] at h2
  omega
theorem pkw_6 {l : List Int} (h : ∀ x ∈ l, 0 < x ∧ x < 256) (h6 : l.length ≤ 6) : 0 ≤ pkw l ∧ pkw l < 281474976710656 := by
  have h1 := pkw_rg h
  have h2 := Int.ofNat_le.mpr (Nat.pow_le_pow_right (n := 256) (by decide) h6)
  rw [show ((256 ^ l.length : Nat) : Int) = (256 : Int) ^ l.length from by rw [Int.natCast_pow]; rfl, show ((256 ^ 6 : Nat) : Int) = 281474976710656 from rfl] at h2
  omega
def TPI (S : SS) (n : Int) : Prop := S 43 1 = n ∧ (0 ≤ n ∧ n ≤ 400) ∧ ∀ i : Int, 0 ≤ i → i < n → -128 ≤ S 0 i ∧ S 0 i ≤ 127
/-- the next place -/
def nx (S : SS) (a : Int) : SS := vt_up S 43 11 a
section TPA
variable {S : SS} {B : SB} {n : Int}
theorem nx_k {a : Int} {k : Nat} (h : k ≠ 43) : nx S a k = S k := vt_up_ne h
theorem nx_11 {a : Int} : nx S a 43 11 = a := vt_up_self
theorem nx_i {a i : Int} (h : i ≠ 11) : nx S a 43 i = S 43 i := vt_up_off h
theorem nx_nx {a b : Int} : nx (nx S a) b = nx S b := by
  unfold nx
  funext k
  by_cases e : k = 43
  · subst e
    funext i
    by_cases ei : i = 11
    · subst ei; rw [vt_up_self, vt_up_self]
    · rw [vt_up_off ei, vt_up_off ei, vt_up_off ei]
  · rw [vt_up_ne e, vt_up_ne e, vt_up_ne e]
theorem nx_self : nx S (S 43 11) = S := by
  unfold nx
  funext k
  by_cases e : k = 43
  · subst e
    funext i
    by_cases ei : i = 11
    · subst ei; rw [vt_up_self]
    · rw [vt_up_off ei]
  · rw [vt_up_ne e]
theorem TPI.nx {a : Int} (h : TPI S n) : TPI (nx S a) n := by
  obtain ⟨h1, h2, h3⟩ := h
  refine ⟨?_, h2, ?_⟩
  · rw [nx_i (by decide)]; exact h1
  · rw [nx_k (by decide)]; exact h3
theorem and255 {x : Int} (hx : -128 ≤ x ∧ x ≤ 127) : vt_and x 255 = x % 256 := by
  have key : ∀ k : Nat, k < 256 → vt_and ((k : Int) - 128) 255 = ((k : Int) - 128) % 256 := by decide
  have := key (x + 128).toNat (by omega)
  rw [show (((x + 128).toNat : Nat) : Int) - 128 = x by omega] at this
  exact this
theorem tm_fails {k a : Int} (h0 : 0 ≤ S 43 12 ∧ S 43 12 ≤ 100000) : vt_M 10 [me, ii k, ii a] S B (vt_eq (some (ii 0)) (if S 43 12 = 0 then vt_up S 43 12 (1 + 8 * a + k) else S) B) := by
  refine vt_start rfl rfl (Nat.le_of_ble_eq_true rfl) (fun X hX => ?_)
  refine vt_walk hX tk_fails [] 40 ?_
  refine ⟨by omega, fun c => ?_, fun c => ?_⟩
  · rw [if_neg c]
    exact ⟨by omega, rfl, rfl, rfl⟩
  · rw [if_pos c]
    exact ⟨by omega, rfl, rfl, rfl⟩
theorem tm_see {a : Int} (h : TPI S n) (ha : S 43 11 = a) (h0 : 0 ≤ a ∧ a ≤ n) : vt_M 7 [me] S B (vt_eq (some (ii (sg (S 0) n (sk (S 0) n a)))) (nx S (sk (S 0) n a)) B) := by
  refine vt_start rfl rfl (Nat.le_of_ble_eq_true rfl) (fun X hX => ?_)
  obtain ⟨h1, h2, h3⟩ := h
  have loop : ∀ (m : Nat) (a : Int), 0 ≤ a → a + m = n → vt_J 7 (vt_eq (some (ii (sg (S 0) n (sk (S 0) n a)))) (nx S (sk (S 0) n a)) B) X 0 [(0, me)] [] (nx S a) B := by
    intro m
    induction m with
    | zero =>
      intro a a0 an
      have ek : sk (S 0) n a = a := rn_f (by
        cases hq : isSp (S 0) n a with
        | false => rfl
        | true => have := isSp_lt hq; omega)
      have e1 : nx S a 43 11 = a := nx_11
      have e2 : nx S a 43 1 = n := (nx_i (by decide)).trans h1
      rw [ek]
      refine vt_walk hX tk_see [(0, [0])] 60 ?_
      refine ⟨by omega, fun _ => ?_, fun c => absurd c (by omega)⟩
      refine ⟨by omega, fun _ => ?_, fun c => absurd c (by omega)⟩
      refine ⟨?_, rfl, rfl⟩
      unfold sg
      rw [if_neg (by omega)]
    | succ m ih =>
      intro a a0 an
      have e1 : nx S a 43 11 = a := nx_11
      have e2 : nx S a 43 1 = n := (nx_i (by decide)).trans h1
      have e0 : nx S a 0 = S 0 := nx_k (by decide)
      have hb := h3 a a0 (by omega)
      have last : sk (S 0) n a = a → vt_J 7 (vt_eq (some (ii (sg (S 0) n a))) (nx S a) B) X 38 [(0, me)] [] (nx S a) B := by
        intro ek
        refine vt_walk hX tk_see [] 60 ?_
        refine ⟨by omega, fun c => absurd c (by omega), fun _ => ?_⟩
        refine ⟨by omega, ?_, rfl, rfl⟩
        unfold sg
        rw [if_pos (by omega), e1, e0, and255 hb]
      refine vt_walk hX tk_see [(38, [0]), (0, [0])] 60 ?_
      have hb2 : -128 ≤ nx S a 0 (nx S a 43 11) ∧ nx S a 0 (nx S a 43 11) ≤ 127 := by rw [e0, e1]; exact hb
      refine ⟨by omega, fun c => absurd c (by omega), fun _ => ?_⟩
      refine ⟨by omega, by omega, fun c => ?_, fun c => ?_⟩
      · rw [e0, e1] at c
        have ek : sk (S 0) n a = a := rn_f (by
          unfold isSp
          rw [show (S 0 a == 32) = false from beq_false_of_ne c, Bool.and_false])
        rw [ek]
        exact last ek
      · rw [e0, e1] at c
        have ek : sk (S 0) n a = sk (S 0) n (a + 1) := rn_t (by
          unfold isSp
          rw [c, decide_eq_true (show a < n by omega)]
          rfl) (by omega)
        rw [ek]
        show vt_J _ _ _ _ _ _ (vt_up (nx S a) 43 11 (nx S a 43 11 + 1)) _
        have := ih (a + 1) (by omega) (by omega)
        rw [← nx_nx (a := a) (b := a + 1)] at this
        rw [e1]
        exact this
  have := loop (n - a).toNat a h0.1 (by omega)
  rw [← ha, nx_self] at this
  rw [← ha]
  exact this
theorem tm_isDigit {i : Int} (h : TPI S n) (hi : 0 ≤ i ∧ i ≤ 2000) : vt_M 14 [me, ii i] S B (vt_eq (some (ii (bI (isDg (S 0) n i)))) S B) := by
  refine vt_start rfl rfl (Nat.le_of_ble_eq_true rfl) (fun X hX => ?_)
  obtain ⟨h1, h2, h3⟩ := h
  unfold isDg
  refine vt_walk hX tk_isDigit [] 60 ?_
  refine ⟨by omega, fun c => ?_, fun c => ?_⟩
  · rw [decide_eq_false (show ¬ i < n by omega)]
    exact ⟨by omega, rfl, rfl, rfl⟩
  · have hb := h3 i hi.1 (by omega)
    rw [decide_eq_true (show i < n by omega)]
    refine ⟨by omega, by omega, fun c1 => ?_, fun c1 => ?_⟩
    · rw [decide_eq_false (show ¬ (48 ≤ S 0 i ∧ S 0 i ≤ 57) by omega)]
      exact ⟨by omega, rfl, rfl, rfl⟩
    · refine ⟨by omega, by omega, fun c2 => ?_, fun c2 => ?_⟩
      · rw [decide_eq_false (show ¬ (48 ≤ S 0 i ∧ S 0 i ≤ 57) by omega)]
        exact ⟨by omega, rfl, rfl, rfl⟩
      · rw [decide_eq_true (show 48 ≤ S 0 i ∧ S 0 i ≤ 57 by omega)]
        exact ⟨by omega, rfl, rfl, rfl⟩
theorem tm_isLetter {i : Int} (h : TPI S n) (hi : 0 ≤ i ∧ i ≤ 2000) : vt_M 9 [me, ii i] S B (vt_eq (some (ii (bI (isLt (S 0) n i)))) S B) := by
  refine vt_start rfl rfl (Nat.le_of_ble_eq_true rfl) (fun X hX => ?_)
  obtain ⟨h1, h2, h3⟩ := h
  unfold isLt
  refine vt_walk hX tk_isLetter [] 60 ?_
  refine ⟨by omega, fun c => ?_, fun c => ?_⟩
  · rw [decide_eq_false (show ¬ i < n by omega)]
    exact ⟨by omega, rfl, rfl, rfl⟩
  · have hb := h3 i hi.1 (by omega)
    rw [decide_eq_true (show i < n by omega)]
    refine ⟨by omega, by omega, fun c1 => ?_, fun c1 => ?_⟩
    · rw [decide_eq_false (show ¬ (97 ≤ S 0 i ∧ S 0 i ≤ 122) by omega)]
      exact ⟨by omega, rfl, rfl, rfl⟩
    · refine ⟨by omega, by omega, fun c2 => ?_, fun c2 => ?_⟩
      · rw [decide_eq_false (show ¬ (97 ≤ S 0 i ∧ S 0 i ≤ 122) by omega)]
        exact ⟨by omega, rfl, rfl, rfl⟩
      · rw [decide_eq_true (show 97 ≤ S 0 i ∧ S 0 i ≤ 122 by omega)]
        exact ⟨by omega, rfl, rfl, rfl⟩
theorem wl_mem {tp : Int → Int} {b x : Int} (h : x ∈ wl tp n b) : 97 ≤ x ∧ x ≤ 122 := by
  obtain ⟨j, hj⟩ := List.getElem?_of_mem h
  obtain ⟨h1, h2⟩ := wl_at hj
  rw [← h2]
  exact isLt_rg h1
theorem wl_nx {tp : Int → Int} {b : Int} {j : Nat} (hj : j ≤ (wl tp n b).length) : wl tp n (b + j) = (wl tp n b).drop j := by
  induction j with
  | zero => rw [show b + ((0 : Nat) : Int) = b by omega]; rfl
  | succ j ih =>
    have h1 := ih (by omega)
    have h2 : (wl tp n b)[j]? = some ((wl tp n b)[j]) := List.getElem?_eq_getElem (by omega)
    have h3 := (wl_at h2).1
    rw [wl_t h3] at h1
    rw [show b + ((j + 1 : Nat) : Int) = b + j + 1 by omega, ← List.drop_drop, ← h1]
    rfl
/-- the letters run from b to b + their number -/
theorem wl_end {tp : Int → Int} {b : Int} : isLt tp n (b + (wl tp n b).length) = false := by
  cases h : isLt tp n (b + (wl tp n b).length) with
  | false => rfl
  | true =>
    have h1 := wl_nx (tp := tp) (n := n) (b := b) (Nat.le_refl _)
    rw [List.drop_length, wl_t h] at h1
    cases h1
theorem tm_isWord {a : Int} {w : Int64} {ws : List Int} (h : TPI S n) (ha : S 43 11 = a) (h0 : 0 ≤ a ∧ a ≤ n) (hw : w = Int64.ofInt (pkw ws)) (hl : (∀ x ∈ ws, 97 ≤ x ∧ x ≤ 122) ∧ 1 ≤ ws.length ∧ ws.length ≤ 7) : vt_M 8 [me, ll w] S B (vt_eq (some (ii (bI (decide (wl (S 0) n (sk (S 0) n a) = ws))))) (nx S (sk (S 0) n a)) B) := by
  refine vt_start rfl rfl (Nat.le_of_ble_eq_true rfl) (fun X hX => ?_)
  have hs := sk_spec (tp := S 0) (n := n) a
  have hsn := hs.2.1 h0.2
  have hn : 0 ≤ n ∧ n ≤ 400 := h.2.1
  refine vt_walk hX tk_isWord [(10, [0, 1, 3, 5])] 60 ?_
  refine vt_k (tm_see h ha h0) ?_
  generalize sk (S 0) n a = b at *
  have b0 : 0 ≤ b := by omega
  have hT : TPI (nx S b) n := h.nx
  have e1 : nx S b 43 11 = b := nx_11
  have e0 : nx S b 0 = S 0 := nx_k (by decide)
  generalize hW : wl (S 0) n b = W
  have hWm : ∀ x ∈ W, 97 ≤ x ∧ x ≤ 122 := fun x hx => wl_mem (hW ▸ hx)
  have hWl : b + W.length ≤ n := by rw [← hW]; exact wl_len hsn
  have loop : ∀ (m j : Nat) (v : Int64), j + m = W.length → (j ≤ 7 → v = Int64.ofInt (pkw (W.take j))) → vt_J 8 (vt_eq (some (ii (bI (decide (W = ws))))) (nx S b) B) X 10 [(0, me), (1, ll w), (3, ll v), (5, ii (j : Int))] [] (nx S b) B := by
    intro m
    induction m with
    | zero =>
      intro j v hj hv
      have hend : isLt (S 0) n (b + (j : Int)) = false := by
        have := wl_end (tp := S 0) (n := n) (b := b)
        rw [hW] at this
        rw [show j = W.length by omega]
        exact this
      refine vt_walk hX tk_isWord [] 60 ?_
      refine vt_k (tm_isLetter hT (by omega)) ?_
      rw [e0, e1, hend]
      refine ⟨by decide, fun _ => ?_, fun c => absurd rfl c⟩
      have hj2 : W.take j = W := List.take_of_length_le (by omega)
      rw [hj2] at hv
      refine ⟨by omega, fun c => ?_, fun c => ?_⟩
      · rw [decide_eq_false (fun z => by rw [← z] at hl; omega)]
        exact ⟨by omega, rfl, rfl, rfl⟩
      · refine ⟨by omega, fun c1 => ?_, fun c1 => ?_⟩
        · rw [decide_eq_false (fun z => by rw [← z] at hl; omega)]
          exact ⟨by omega, rfl, rfl, rfl⟩
        · have r1 := cmp_rg v w
          have e4 := cmp_eq0 (x := v) (y := w)
          have hv2 := hv (by omega)
          have p1 := pkw_7 (l := W) (fun x hx => by have := hWm x hx; omega) (by omega)
          have p2 := pkw_7 (l := ws) (fun x hx => by have := hl.1 x hx; omega) hl.2.2
          have hiff : v = w ↔ W = ws := by
            rw [hv2, hw]
            constructor
            · intro z
              have z2 := congrArg Int64.toInt z
              rw [Int64.toInt_ofInt_of_le (by omega) (by omega), Int64.toInt_ofInt_of_le (by omega) (by omega)] at z2
              exact pkw_inj (fun x hx => by have := hWm x hx; omega) (fun x hx => by have := hl.1 x hx; omega) z2
            · intro z; rw [z]
          refine ⟨by omega, fun c2 => ?_, fun c2 => ?_⟩
          · rw [decide_eq_false (fun z => c2 (e4.mpr (hiff.mpr z)))]
            exact ⟨by omega, rfl, rfl, rfl⟩
          · rw [decide_eq_true (hiff.mp (e4.mp c2))]
            exact ⟨by omega, rfl, rfl, rfl⟩
    | succ m ih =>
      intro j v hj hv
      have hjl : j < W.length := by omega
      have hx : W[j]? = some (W[j]) := List.getElem?_eq_getElem hjl
      obtain ⟨x1, x2⟩ := wl_at (tp := S 0) (n := n) (i := b) (j := j) (x := W[j]) (by rw [hW]; exact hx)
      have x3 := isLt_rg x1
      have x4 := isLt_lt x1
      refine vt_walk hX tk_isWord [(10, [0, 1, 3, 5])] 60 ?_
      refine vt_k (tm_isLetter hT (by omega)) ?_
      rw [e0, e1, x1]
      refine ⟨by decide, fun c => absurd c (by decide), fun _ => ?_⟩
      refine ⟨by omega, fun c => ?_, fun c => ?_⟩
      · have := ih (j + 1) v (by omega) (fun z => by omega)
        rw [show ((j + 1 : Nat) : Int) = (j : Int) + 1 by omega] at this
        exact this
      · refine ⟨by omega, by rw [e0, e1]; omega, ?_⟩
        rw [e0, e1]
        have hv2 := hv (by omega)
        have p1 : j ≤ 6 → 0 ≤ pkw (W.take j) ∧ pkw (W.take j) < 281474976710656 := fun z => pkw_6 (fun x hx => by have := hWm x (List.mem_of_mem_take hx); omega) (by rw [List.length_take]; omega)
        have := ih (j + 1) ((v <<< ((Int32.ofInt 8).toInt64 &&& 63)) ||| Int64.ofInt (S 0 (b + j))) (by omega) (fun z => by
          have p2 := p1 (by omega)
          rw [hv2, l_shl8 (by omega) (by omega), List.take_succ, hx, x2]
          show _ = Int64.ofInt (pkw (W.take j ++ [W[j]]))
          rw [pkw_snoc])
        rw [show ((j + 1 : Nat) : Int) = (j : Int) + 1 by omega] at this
        exact this
  exact loop W.length 0 (Int64.ofInt 0) (by omega) (fun _ => rfl)
theorem tm_passWord {a : Int} (h : TPI S n) (ha : S 43 11 = a) (h0 : 0 ≤ a ∧ a ≤ n) : vt_M 12 [me] S B (vt_eq none (nx S (a + (wl (S 0) n a).length)) B) := by
  refine vt_start rfl rfl (Nat.le_of_ble_eq_true rfl) (fun X hX => ?_)
  have hn : 0 ≤ n ∧ n ≤ 400 := h.2.1
  have loop : ∀ (m : Nat) (a : Int), 0 ≤ a → a ≤ n → (wl (S 0) n a).length = m → vt_J 12 (vt_eq none (nx S (a + m)) B) X 0 [(0, me)] [] (nx S a) B := by
    intro m
    induction m with
    | zero =>
      intro a a0 an hm
      have e1 : nx S a 43 11 = a := nx_11
      have e0 : nx S a 0 = S 0 := nx_k (by decide)
      have he : isLt (S 0) n a = false := by
        have := wl_end (tp := S 0) (n := n) (b := a)
        rw [hm, show a + ((0 : Nat) : Int) = a by omega] at this
        exact this
      refine vt_walk hX tk_passWord [] 60 ?_
      refine vt_k (tm_isLetter h.nx (by omega)) ?_
      rw [e0, e1, he]
      refine ⟨by decide, fun _ => ?_, fun c => absurd rfl c⟩
      rw [show a + ((0 : Nat) : Int) = a by omega]
      exact ⟨rfl, rfl, rfl⟩
    | succ m ih =>
      intro a a0 an hm
      have e1 : nx S a 43 11 = a := nx_11
      have e0 : nx S a 0 = S 0 := nx_k (by decide)
      have he : isLt (S 0) n a = true := by
        cases hq : isLt (S 0) n a with
        | true => rfl
        | false => rw [wl_f hq] at hm; cases hm
      have hlt := isLt_lt he
      rw [wl_t he, List.length_cons] at hm
      refine vt_walk hX tk_passWord [(0, [0])] 60 ?_
      refine vt_k (tm_isLetter h.nx (by omega)) ?_
      rw [e0, e1, he]
      refine ⟨by decide, fun c => absurd c (by decide), fun _ => ?_⟩
      show vt_J _ _ _ _ _ _ (vt_up (nx S a) 43 11 (nx S a 43 11 + 1)) _
      have := ih (a + 1) (by omega) (by omega) (by omega)
      rw [← nx_nx (a := a) (b := a + 1), show a + 1 + (m : Int) = a + ((m + 1 : Nat) : Int) by omega] at this
      rw [e1]
      exact this
  have := loop _ a h0.1 h0.2 rfl
  rw [← ha, nx_self] at this
  rw [← ha]
  exact this
theorem tm_takesWord {a : Int} {w : Int64} {ws : List Int} (h : TPI S n) (ha : S 43 11 = a) (h0 : 0 ≤ a ∧ a ≤ n) (hw : w = Int64.ofInt (pkw ws)) (hl : (∀ x ∈ ws, 97 ≤ x ∧ x ≤ 122) ∧ 1 ≤ ws.length ∧ ws.length ≤ 7) : vt_M 24 [me, ll w] S B (vt_eq (some (ii (bI (decide (wl (S 0) n (sk (S 0) n a) = ws))))) (nx S (if wl (S 0) n (sk (S 0) n a) = ws then sk (S 0) n a + ws.length else sk (S 0) n a)) B) := by
  refine vt_start rfl rfl (Nat.le_of_ble_eq_true rfl) (fun X hX => ?_)
  have hs := sk_spec (tp := S 0) (n := n) a
  have hsn := hs.2.1 h0.2
  refine vt_walk hX tk_takesWord [] 60 ?_
  refine vt_k (tm_isWord h ha h0 hw hl) ?_
  by_cases c : wl (S 0) n (sk (S 0) n a) = ws
  · rw [decide_eq_true c, if_pos c]
    refine ⟨by decide, fun _ => ?_, fun z => absurd z (by decide)⟩
    refine vt_k (tm_passWord h.nx nx_11 (by omega)) ?_
    rw [nx_nx, nx_k (by decide), c]
    exact ⟨by omega, rfl, rfl, rfl⟩
  · rw [decide_eq_false c, if_neg c]
    refine ⟨by decide, fun z => absurd rfl z, fun _ => ?_⟩
    exact ⟨by omega, rfl, rfl, rfl⟩
end TPA
