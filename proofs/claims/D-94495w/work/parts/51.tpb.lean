/-! THE TWIN's methods: values, terms, sums, what is compared -/
set_option maxRecDepth 100000
/-- the signs from b to e leave vs on the stack -/
def SegL (sg : Int → Int) (b e m : Int) (vs : List WF) : Prop := (0 ≤ b ∧ b ≤ e ∧ e ≤ 400) ∧ psh sg b (e - b).toNat ≤ m ∧ (∀ i, b ≤ i → i < e → (0 ≤ sg i ∧ sg i ≤ 2147483647) ∧ (sg i % 16 = 1 → sg i / 16 ≤ 11)) ∧ ∀ wd, rrun sg wd (e - b).toNat b [] = some (vs.map (fun F => F wd))
theorem rrun_snoc {sg : Int → Int} {wd : Int → Int64} : ∀ (n : Nat) (i : Int) (st : List Int64), rrun sg wd (n + 1) i st = (match rrun sg wd n i st with
    | some s => rst wd (sg (i + n)) s
    | none => none)
  | 0, i, st => by
    show rrun sg wd (0 + 1) i st = rst wd (sg (i + ((0 : Nat) : Int))) st
    rw [show i + ((0 : Nat) : Int) = i by omega, rrun]
    cases rst wd (sg i) st <;> rfl
  | n + 1, i, st => by
    rw [rrun]
    conv => rhs; rw [rrun]
    cases h : rst wd (sg i) st with
    | none => rfl
    | some s =>
      show rrun sg wd (n + 1) (i + 1) s = _
      rw [rrun_snoc n (i + 1) s, show i + 1 + (n : Int) = i + ((n + 1 : Nat) : Int) by omega]
theorem rrun_sg {sg sg' : Int → Int} {wd : Int → Int64} : ∀ (n : Nat) (i : Int) (st : List Int64), (∀ j, i ≤ j → j < i + n → sg' j = sg j) → rrun sg' wd n i st = rrun sg wd n i st
  | 0, _, _, _ => rfl
  | n + 1, i, st, h => by
    rw [rrun, rrun, h i (by omega) (by omega)]
    cases rst wd (sg i) st with
    | none => rfl
    | some s => exact rrun_sg n (i + 1) s (fun j a b => h j (by omega) (by omega))
theorem SegL.nil {sg : Int → Int} {b m : Int} (hb : 0 ≤ b ∧ b ≤ 400) (hm : 0 ≤ m) : SegL sg b b m [] := by
  refine ⟨by omega, ?_, fun i a c => by omega, fun wd => ?_⟩
  · rw [show (b - b).toNat = 0 by omega]; exact hm
  · rw [show (b - b).toNat = 0 by omega]; rfl
theorem SegL.cg {sg sg' : Int → Int} {b e m : Int} {vs : List WF} (h : SegL sg b e m vs) (hs : ∀ i, b ≤ i → i < e → sg' i = sg i) : SegL sg' b e m vs := by
  obtain ⟨h1, h2, h3, h4⟩ := h
  refine ⟨h1, ?_, fun i a c => by rw [hs i a c]; exact h3 i a c, fun wd => ?_⟩
  · unfold psh at h2 ⊢
    rw [cntB_congr (q := fun j => decide (sg (b + j) % 16 = 0 ∨ sg (b + j) % 16 = 1)) _ (fun j j0 j1 => by rw [hs (b + j) (by omega) (by omega)])]
    exact h2
  · rw [rrun_sg _ _ _ (fun j a c => hs j a (by omega))]
    exact h4 wd
theorem SegL.mo {sg : Int → Int} {b e m m' : Int} {vs : List WF} (h : SegL sg b e m vs) (hm : m ≤ m') : SegL sg b e m' vs := by
  obtain ⟨h1, h2, h3, h4⟩ := h
  exact ⟨h1, by omega, h3, h4⟩
theorem SegL.put {sg sg' : Int → Int} {b e m m' : Int} {vs vs' : List WF} (h : SegL sg b e m vs) (hs : ∀ i, b ≤ i → i < e → sg' i = sg i) (he : e < 400) (hv : (0 ≤ sg' e ∧ sg' e ≤ 2147483647) ∧ (sg' e % 16 = 1 → sg' e / 16 ≤ 11)) (hm : if sg' e % 16 = 0 ∨ sg' e % 16 = 1 then m + 1 ≤ m' else m ≤ m') (hr : ∀ wd, rst wd (sg' e) (vs.map (fun F => F wd)) = some (vs'.map (fun F => F wd))) : SegL sg' b (e + 1) m' vs' := by
  obtain ⟨h1, h2, h3, h4⟩ := h.cg hs
  refine ⟨by omega, ?_, fun i a c => ?_, fun wd => ?_⟩
  · unfold psh at h2 ⊢
    rw [show (e + 1 - b).toNat = ((e - b) + 1).toNat by omega, cntB_s (by omega), show b + (e - b) = e by omega]
    by_cases c : sg' e % 16 = 0 ∨ sg' e % 16 = 1
    · rw [if_pos c] at hm
      rw [if_pos (decide_eq_true c)]
      omega
    · rw [if_neg c] at hm
      rw [if_neg (by simpa using c)]
      omega
  · by_cases z : i = e
    · rw [z]; exact hv
    · exact h3 i a (by omega)
  · rw [show (e + 1 - b).toNat = (e - b).toNat + 1 by omega, rrun_snoc, h4 wd]
    show rst wd (sg' (b + ((e - b).toNat : Int))) _ = _
    rw [show b + ((e - b).toNat : Int) = e by omega]
    exact hr wd
theorem rst_n {wd : Int → Int64} {v : Int} {st : List Int64} : rst wd (0 + 16 * v) st = some (Int64.ofInt v :: st) := by
  unfold rst
  rw [if_pos (by omega), show (0 + 16 * v) / 16 = v by omega]
theorem rst_w {wd : Int → Int64} {v : Int} {st : List Int64} : rst wd (1 + 16 * v) st = some (wd v :: st) := by
  unfold rst
  rw [if_neg (by omega), if_pos (by omega), show (1 + 16 * v) / 16 = v by omega]
theorem rst_o {wd : Int → Int64} {s : Int} {F G : WF} {vs : List WF} (hs : 2 ≤ s ∧ s ≤ 15 ∧ s ≠ 11) : rst wd (s + 16 * 0) ((G :: F :: vs).map (fun F => F wd)) = some ((jn s F G :: vs).map (fun F => F wd)) := by
  unfold rst
  rw [show s + 16 * 0 = s by omega, show s % 16 = s by omega, if_neg (by omega), if_neg (by omega), if_neg (by omega)]
  rfl
theorem rst_g {wd : Int → Int64} {G : WF} {vs : List WF} : rst wd (11 + 16 * 0) ((G :: vs).map (fun F => F wd)) = some ((ngW G :: vs).map (fun F => F wd)) := rfl
theorem SegL.seg {sg : Int → Int} {b e m : Int} {F : WF} (h : SegL sg b e m [F]) (hm : m ≤ 60) : Seg sg b e F := by
  obtain ⟨h1, h2, h3, h4⟩ := h
  exact ⟨h1, by omega, h3, h4⟩
/-- what stays but for some fields and what is new of the signs -/
def pk (ks : List Nat) (fs : List Int) (tx L : Int) (S S' : SS) : Prop := vt_but ks S S' ∧ (∀ i : Int, i ∉ fs → S' 43 i = S 43 i) ∧ ∀ i : Int, i < 400 * tx + L → S' 3 i = S 3 i
/-- in the midst of a text: at a, cn made, L signs, room w; from b on the signs leave vs -/
def PX0 (S : SS) (tp : Int → Int) (n tx a cn L w : Int) : Prop := S 0 = tp ∧ TPI S n ∧ (S 43 14 = tx ∧ 0 ≤ tx ∧ tx ≤ 5) ∧ (S 43 11 = a ∧ 0 ≤ a ∧ a ≤ n) ∧ (S 43 15 = cn ∧ 0 ≤ cn ∧ cn ≤ 60) ∧ S 43 12 = 0 ∧ (S 4 tx = L ∧ 0 ≤ L ∧ 0 ≤ w ∧ L + w ≤ a)
def PX (S : SS) (tp : Int → Int) (n tx a cn L w b : Int) (vs : List WF) : Prop := PX0 S tp n tx a cn L w ∧ SegL (fun i => S 3 (400 * tx + i)) b L cn vs
def PPo (ks : List Nat) (fs : List Int) (S : SS) (B : SB) (tp : Int → Int) (n tx L w b : Int) (vs : List WF) (q : PRs) : vt_Po := fun rr S' B' => B' = B ∧ pk ks fs tx L S S' ∧ match q with
  | .inl e => some (ii 0) = rr ∧ S' 43 12 = e ∧ 1 ≤ e ∧ e ≤ 4000
  | .inr p => some (ii 1) = rr ∧ ∃ L', L ≤ L' ∧ PX S' tp n tx p.1 p.2.1 L' w b (p.2.2 :: vs)
def NPo (S : SS) (B : SB) (q : Int ⊕ (Int × Int)) : vt_Po := fun rr S' B' => B' = B ∧ vt_but [43] S S' ∧ (∀ i : Int, i ≠ 11 → i ≠ 12 → i ≠ 13 → S' 43 i = S 43 i) ∧ match q with
  | .inl e => some (ii 0) = rr ∧ S' 43 12 = e ∧ 1 ≤ e ∧ e ≤ 4000
  | .inr q => some (ii 1) = rr ∧ S' 43 11 = q.1 ∧ S' 43 12 = 0 ∧ S' 43 13 = q.2
abbrev pkA : List Nat := [3, 4, 43]
abbrev pkB : List Int := [11, 12, 13, 15]
section TPB
variable {S : SS} {B : SB} {n : Int}
theorem pk.rf {ks : List Nat} {fs : List Int} {tx L : Int} : pk ks fs tx L S S := ⟨vt_but.rf, fun _ _ => rfl, fun _ _ => rfl⟩
theorem pk.tr {ks ls : List Nat} {fs gs : List Int} {tx L L1 : Int} {S1 S2 : SS} (h : pk ks fs tx L S S1) (h2 : pk ls gs tx L1 S1 S2) (hL : L ≤ L1) (hk : ∀ k ∈ ks, k ∈ ls) (hf : ∀ k ∈ fs, k ∈ gs) : pk ls gs tx L S S2 := by
  refine ⟨h.1.tr h2.1 hk, fun i hi => ?_, fun i hi => ?_⟩
  · rw [h2.2.1 i hi, h.2.1 i (fun z => hi (hf i z))]
  · rw [h2.2.2 i (by omega), h.2.2 i hi]
theorem pk.t {ks : List Nat} {fs : List Int} {tx L L1 : Int} {S1 S2 : SS} (h : pk ks fs tx L S S1) (h2 : pk ks fs tx L1 S1 S2) (hL : L ≤ L1) : pk ks fs tx L S S2 := h.tr h2 hL (fun _ h => h) (fun _ h => h)
theorem pk.f {ks : List Nat} {fs : List Int} {tx L i v : Int} {S1 : SS} (h : pk ks fs tx L S S1) (h43 : 43 ∈ ks) (hi : i ∈ fs) : pk ks fs tx L S (vt_up S1 43 i v) := by
  refine ⟨h.1.up h43, fun j hj => ?_, fun j hj => ?_⟩
  · rw [vt_up_off (fun (z : j = i) => hj (by rw [z]; exact hi))]; exact h.2.1 j hj
  · rw [vt_up_ne (by decide)]; exact h.2.2 j hj
theorem pk.nx {ks : List Nat} {fs : List Int} {tx L a : Int} {S1 : SS} (h : pk ks fs tx L S S1) (h43 : 43 ∈ ks) (hi : 11 ∈ fs) : pk ks fs tx L S (nx S1 a) := h.f h43 hi
theorem tm_numberHere {a lo hi : Int} (h : TPI S n) (ha : S 43 11 = a) (h0 : 0 ≤ a ∧ a ≤ n) (hz : S 43 12 = 0) (hlo : 0 ≤ lo ∧ lo ≤ 100000) (hhi : 0 ≤ hi ∧ hi ≤ 100000) : vt_M 13 [me, ii lo, ii hi] S B (NPo S B (pNum (S 0) n a lo hi)) := by
  refine vt_start rfl rfl (Nat.le_of_ble_eq_true rfl) (fun X hX => ?_)
  have hs := sk_spec (tp := S 0) (n := n) a
  have hsn := hs.2.1 h0.2
  have hn : 0 ≤ n ∧ n ≤ 400 := h.2.1
  generalize hq : pNum (S 0) n a lo hi = q
  refine vt_walk hX tk_numberHere [(34, [0, 1, 2, 3, 4])] 60 ?_
  refine vt_k (tm_see h ha h0) ?_
  unfold pNum at hq
  generalize sk (S 0) n a = b at *
  have hT : TPI (nx S b) n := h.nx
  have e1 : nx S b 43 11 = b := nx_11
  have e0 : nx S b 0 = S 0 := nx_k (by decide)
  have e12 : nx S b 43 12 = 0 := (nx_i (by decide)).trans hz
  refine vt_k (tm_isDigit hT (by omega)) ?_
  rw [e0, e1]
  cases hd : isDg (S 0) n b with
  | false =>
    refine ⟨by decide, fun c => absurd rfl c, fun _ => ?_⟩
    refine vt_k (tm_fails (by omega)) ?_
    rw [if_pos e12]
    rw [hd] at hq
    subst hq
    refine ⟨by omega, rfl, ?_, ?_, rfl, ?_, by unfold er; omega⟩
    · exact (vt_but.rf.up (by decide)).up (by decide)
    · intro i i1 i2 i3
      rw [vt_up_off i2, nx_i i1]
    · rw [vt_up_self]
      show _ = er 0 b
      unfold er; omega
  | true =>
    rw [hd, if_pos rfl] at hq
    refine ⟨by decide, fun _ => ?_, fun c => absurd c (by decide)⟩
    show vt_J _ _ _ _ _ _ _ _
    have hdE := rn_dg hd
    have hsp := rn_spec (p := isDg (S 0) n) (n := n) (fun j => isDg_lt) b
    have hdd : dgE (S 0) n b = rn (isDg (S 0) n) n b := rfl
    have nvr : ∀ k : Nat, (b + k ≤ dgE (S 0) n b) → 0 ≤ nvF (S 0) b k ∧ nvF (S 0) b k ≤ 10 ^ (min k 5) - 1 := by
      intro k
      induction k with
      | zero => intro _; exact ⟨Int.le_refl 0, by show (0 : Int) ≤ _; decide⟩
      | succ k ih =>
        intro hk
        have h1 := ih (by omega)
        have h2 := isDg_rg (hsp.2.2.2 (b + k) (by omega) (by omega))
        rw [nvF]
        by_cases c : k < 5
        · rw [if_pos c]
          rw [show min k 5 = k by omega] at h1
          rw [show min (k + 1) 5 = k + 1 by omega, Int.pow_succ]
          omega
        · rw [if_neg c]
          rw [show min k 5 = 5 by omega] at h1
          rw [show min (k + 1) 5 = 5 by omega]
          exact h1
    have nvr5 : ∀ k : Nat, (b + k ≤ dgE (S 0) n b) → 0 ≤ nvF (S 0) b k ∧ nvF (S 0) b k ≤ 99999 := by
      intro k hk
      have h1 := nvr k hk
      have h2 : (10 : Int) ^ (min k 5) ≤ 100000 := by
        have : min k 5 = 0 ∨ min k 5 = 1 ∨ min k 5 = 2 ∨ min k 5 = 3 ∨ min k 5 = 4 ∨ min k 5 = 5 := by omega
        rcases this with e | e | e | e | e | e <;> (rw [e]; decide)
      omega
    generalize dgE (S 0) n b = dE at *
    have loop : ∀ (m j : Nat), b + j + m = dE → vt_J 13 (NPo S B q) X 34 [(0, me), (1, ii lo), (2, ii hi), (3, ii b), (4, ii (nvF (S 0) b j))] [] (nx S (b + j)) B := by
      intro m
      induction m with
      | zero =>
        intro j hj
        have f1 : nx S (b + j) 43 11 = b + j := nx_11
        have f0 : nx S (b + j) 0 = S 0 := nx_k (by decide)
        have f12 : nx S (b + j) 43 12 = 0 := (nx_i (by decide)).trans hz
        have hend : isDg (S 0) n (b + j) = false := by
          rw [show b + (j : Int) = rn (isDg (S 0) n) n b by omega]
          exact hsp.2.2.1
        have hv := nvr5 j (by omega)
        refine vt_walk hX tk_numberHere [(34, [0, 1, 2, 3, 4])] 80 ?_
        refine vt_k (tm_isDigit h.nx (by omega)) ?_
        rw [f0, f1, hend]
        refine ⟨by decide, fun _ => ?_, fun c => absurd rfl c⟩
        have g1 : vt_up (nx S (b + j)) 43 13 (nvF (S 0) b j) 43 11 = b + j := by rw [vt_up_off (by decide)]; exact f1
        have g12 : vt_up (nx S (b + j)) 43 13 (nvF (S 0) b j) 43 12 = 0 := by rw [vt_up_off (by decide)]; exact f12
        have bad : ¬ (dE - b ≤ 5 ∧ lo ≤ nvF (S 0) b (dE - b).toNat ∧ nvF (S 0) b (dE - b).toNat ≤ hi) → (∃ P' : vt_Po, vt_M 10 [me, ii 1, ii b] (vt_up (nx S (b + j)) 43 13 (nvF (S 0) b j)) B P' ∧ ∀ r S' B', P' r S' B' → r = some (ii 0) ∧ NPo S B q (some (ii 0)) S' B') := by
          intro hb
          refine ⟨_, tm_fails (by omega), ?_⟩
          rintro _ _ _ ⟨rfl, rfl, rfl⟩
          rw [if_pos g12]
          rw [if_neg hb] at hq
          subst hq
          refine ⟨rfl, rfl, ?_, ?_, rfl, ?_, by unfold er; omega⟩
          · exact ((vt_but.rf.up (by decide)).up (by decide)).up (by decide)
          · intro i i1 i2 i3
            rw [vt_up_off i2, vt_up_off i3, nx_i i1]
          · show vt_up _ 43 12 _ 43 12 = er 1 b
            rw [vt_up_self]
            unfold er; omega
        have en : (dE - b).toNat = j := by omega
        rw [en] at bad hq
        refine ⟨by omega, fun c => ?_, fun c => ?_⟩
        · obtain ⟨P', hP, hP2⟩ := bad (by omega)
          refine ⟨P', hP, ?_⟩
          intro r S' B' hp
          obtain ⟨rfl, h2⟩ := hP2 r S' B' hp
          refine ⟨by decide, fun _ => ?_, fun z => absurd rfl z⟩
          exact ⟨by omega, h2⟩
        · refine ⟨by omega, by omega, by omega, ?_⟩
          refine vt_k (tm_in (by omega) (by omega) (by omega)) ?_
          cases hin : sIn (nvF (S 0) b j) lo hi with
          | true =>
            refine ⟨by decide, fun _ => ?_, fun z => absurd z (by decide)⟩
            have hin := of_decide_eq_true hin
            rw [if_pos ⟨by omega, hin.1, hin.2⟩] at hq
            subst hq
            refine ⟨by omega, rfl, ?_, ?_, rfl, ?_, g12, vt_up_self⟩
            · exact (vt_but.rf.up (by decide)).up (by decide)
            · intro i i1 i2 i3
              rw [vt_up_off i3, nx_i i1]
            · show _ = dE
              omega
          | false =>
            have hin := of_decide_eq_false hin
            refine ⟨by decide, fun z => absurd rfl z, fun _ => ?_⟩
            obtain ⟨P', hP, hP2⟩ := bad (fun z => hin z.2)
            refine ⟨P', hP, ?_⟩
            intro r S' B' hp
            obtain ⟨rfl, h2⟩ := hP2 r S' B' hp
            refine ⟨by decide, fun _ => ?_, fun z => absurd rfl z⟩
            exact ⟨by omega, h2⟩
      | succ m ih =>
        intro j hj
        have f1 : nx S (b + j) 43 11 = b + j := nx_11
        have f0 : nx S (b + j) 0 = S 0 := nx_k (by decide)
        have hdg : isDg (S 0) n (b + j) = true := hsp.2.2.2 (b + j) (by omega) (by omega)
        have hr := isDg_rg hdg
        have hl := isDg_lt hdg
        have hv := nvr5 j (by omega)
        have nxt : ∀ v, v = nvF (S 0) b (j + 1) → vt_J 13 (NPo S B q) X 34 [(0, me), (1, ii lo), (2, ii hi), (3, ii b), (4, ii v)] [] (vt_up (nx S (b + j)) 43 11 (b + j + 1)) B := by
          intro v hv
          subst hv
          have := ih (j + 1) (by omega)
          rw [← nx_nx (a := b + j), show b + ((j + 1 : Nat) : Int) = b + j + 1 by omega] at this
          exact this
        refine vt_walk hX tk_numberHere [(34, [0, 1, 2, 3, 4])] 80 ?_
        refine vt_k (tm_isDigit h.nx (by omega)) ?_
        rw [f0, f1, hdg]
        refine ⟨by decide, fun c => absurd c (by decide), fun _ => ?_⟩
        refine ⟨by omega, fun c => ?_, fun c => ?_⟩
        · have := nxt (nvF (S 0) b j) (by rw [nvF, if_neg (by omega)])
          exact this
        · refine ⟨by omega, ?_⟩
          have := nxt (10 * nvF (S 0) b j + S 0 (b + j) - 48) (by rw [nvF, if_pos (by omega)])
          exact this
    have := loop (dE - b).toNat 0 (by omega)
    rw [show b + ((0 : Nat) : Int) = b by omega] at this
    exact this
end TPB
