/-! THE TWIN's methods: reckoning -/
set_option maxRecDepth 100000
def opr (s : Int) (x y : Int64) : Int64 := if s = 2 then x + y else if s = 3 then x - y else if s = 4 then x * y else if s = 5 then (if y = Int64.ofInt 0 then Int64.ofInt 0 else x / y) else if s = 6 then Int64.ofInt (bI (decide (x < y))) else if s = 7 then Int64.ofInt (bI (decide (x ≤ y))) else if s = 8 then Int64.ofInt (bI (decide (x = y))) else if s = 9 then Int64.ofInt (bI (decide (y ≤ x))) else if s = 10 then Int64.ofInt (bI (decide (y < x))) else if s = 12 then x &&& y else x ||| y
/-- one sign x on a stack, with the words wd -/
def rst (wd : Int → Int64) (x : Int) (st : List Int64) : Option (List Int64) := if x % 16 = 0 then some (Int64.ofInt (x / 16) :: st) else if x % 16 = 1 then some (wd (x / 16) :: st) else if x % 16 = 11 then (match st with
  | a :: r => some ((Int64.ofInt 1 - a) :: r)
  | [] => none) else match st with
  | b :: a :: r => some (opr (x % 16) a b :: r)
  | _ => none
def rrun (sg : Int → Int) (wd : Int → Int64) : Nat → Int → List Int64 → Option (List Int64)
  | 0, _, st => some st
  | n + 1, i, st => match rst wd (sg i) st with
    | some st' => rrun sg wd n (i + 1) st'
    | none => none
/-- how deep the stack may be: pushes up to n -/
def psh (sg : Int → Int) (b : Int) (n : Nat) : Int := cntB (fun j => decide (sg (b + j) % 16 = 0 ∨ sg (b + j) % 16 = 1)) n
/-- the signs from b to e stand for F -/
def Seg (sg : Int → Int) (b e : Int) (F : (Int → Int64) → Int64) : Prop := (0 ≤ b ∧ b ≤ e ∧ e ≤ 400) ∧ psh sg b (e - b).toNat ≤ 60 ∧ (∀ i, b ≤ i → i < e → (0 ≤ sg i ∧ sg i ≤ 2147483647) ∧ (sg i % 16 = 1 → sg i / 16 ≤ 11)) ∧ ∀ wd, rrun sg wd (e - b).toNat b [] = some [F wd]
section TMS
variable {S : SS} {B : SB} {K : Int}
theorem tm_one {s : Int} {x y : Int64} (hs : -2147483648 ≤ s ∧ s ≤ 2147483647) : vt_M 98 [ii s, ll x, ll y] S B (vt_eq (some (ll (opr s x y))) S B) := by
  refine vt_start rfl rfl (Nat.le_of_ble_eq_true rfl) (fun X hX => ?_)
  have r1 := cmp_rg x y
  have r2 := cmp_rg y (Int64.ofInt 0)
  have e1 := cmp_lt0 (x := x) (y := y)
  have e2 := cmp_gt0 (x := x) (y := y)
  have e3 := cmp_eq0 (x := x) (y := y)
  have e4 := cmp_eq0 (x := y) (y := Int64.ofInt 0)
  have z0 : (Int64.ofInt 0 : Int64) = 0 := by decide
  unfold opr
  refine vt_walk hX tk_one [] 40 ?_
  refine ⟨hs, fun c => ?_, fun c => ?_, fun c => ?_, fun c => ?_, fun c => ?_, fun c => ?_, fun c => ?_, fun c => ?_, fun c => ?_, fun c => ?_, fun c => ?_, fun c => ?_, trivial⟩
  · rw [if_neg (by omega), if_neg (by omega), if_neg (by omega), if_neg (by omega), if_neg (by omega), if_neg (by omega), if_neg (by omega), if_neg (by omega), if_neg (by omega), if_neg (by omega)]
    exact ⟨rfl, rfl, rfl⟩
  · subst c; exact ⟨rfl, rfl, rfl⟩
  · subst c; exact ⟨rfl, rfl, rfl⟩
  · subst c; exact ⟨rfl, rfl, rfl⟩
  · subst c
    refine ⟨by omega, fun d => ?_, fun d => ?_⟩
    · have hy : ¬ y = Int64.ofInt 0 := fun q => d (e4.mpr q)
      simp only [show ((5 : Int) = 2) = False by decide, show ((5 : Int) = 3) = False by decide, show ((5 : Int) = 4) = False by decide, if_false, if_true, hy]
      exact ⟨fun q => hy (by rw [q, z0]), rfl, rfl, rfl⟩
    · have hy := e4.mp d
      simp only [show ((5 : Int) = 2) = False by decide, show ((5 : Int) = 3) = False by decide, show ((5 : Int) = 4) = False by decide, if_false, if_true, hy]
      exact ⟨rfl, rfl, rfl⟩
  · subst c
    refine ⟨by omega, fun d => ?_, fun d => ?_⟩
    · rw [show decide (x < y) = false from decide_eq_false (fun q => by have := e1.mpr q; omega)]
      exact ⟨rfl, rfl, rfl⟩
    · rw [show decide (x < y) = true from decide_eq_true (e1.mp d)]
      exact ⟨rfl, rfl, rfl⟩
  · subst c
    refine ⟨by omega, fun d => ?_, fun d => ?_⟩
    · rw [show decide (x ≤ y) = false from decide_eq_false (fun q => Int64.not_le.mpr (e2.mp d) q)]
      exact ⟨rfl, rfl, rfl⟩
    · rw [show decide (x ≤ y) = true from decide_eq_true (Int64.not_lt.mp (fun q => by have := e2.mpr q; omega))]
      exact ⟨rfl, rfl, rfl⟩
  · subst c
    refine ⟨by omega, fun d => ?_, fun d => ?_⟩
    · rw [show decide (x = y) = false from decide_eq_false (fun q => d (e3.mpr q))]
      exact ⟨rfl, rfl, rfl⟩
    · rw [show decide (x = y) = true from decide_eq_true (e3.mp d)]
      exact ⟨rfl, rfl, rfl⟩
  · subst c
    refine ⟨by omega, fun d => ?_, fun d => ?_⟩
    · rw [show decide (y ≤ x) = false from decide_eq_false (fun q => Int64.not_le.mpr (e1.mp d) q)]
      exact ⟨rfl, rfl, rfl⟩
    · rw [show decide (y ≤ x) = true from decide_eq_true (Int64.not_lt.mp (fun q => by have := e1.mpr q; omega))]
      exact ⟨rfl, rfl, rfl⟩
  · subst c
    refine ⟨by omega, fun d => ?_, fun d => ?_⟩
    · rw [show decide (y < x) = false from decide_eq_false (fun q => by have := e2.mpr q; omega)]
      exact ⟨rfl, rfl, rfl⟩
    · rw [show decide (y < x) = true from decide_eq_true (e2.mp d)]
      exact ⟨rfl, rfl, rfl⟩
  · subst c; exact ⟨rfl, rfl, rfl⟩
  · subst c; exact ⟨rfl, rfl, rfl⟩
theorem tm_push {v : Int64} (ht : 0 ≤ S 43 21 ∧ S 43 21 < 64) : vt_M 96 [me, ll v] S B (vt_eq none (vt_up S 43 21 (S 43 21 + 1)) (vt_ub B 20 (S 43 21) v)) := by
  refine vt_start rfl rfl (Nat.le_of_ble_eq_true rfl) (fun X hX => ?_)
  refine vt_walk hX tk_push [] 40 ?_
  exact ⟨ht, rfl, rfl, rfl⟩
theorem tm_pop (ht : 1 ≤ S 43 21 ∧ S 43 21 ≤ 64) : vt_M 97 [me] S B (vt_eq (some (ll (B 20 (S 43 21 - 1)))) (vt_up S 43 21 (S 43 21 - 1)) B) := by
  refine vt_start rfl rfl (Nat.le_of_ble_eq_true rfl) (fun X hX => ?_)
  refine vt_walk hX tk_pop [] 40 ?_
  refine ⟨by rw [vt_up_self]; omega, ?_, rfl, rfl⟩
  rw [vt_up_self]
/-- the twin's stack holds st (its head on top) -/
def stk (t : Int) (B : SB) (st : List Int64) : Prop := t = st.length ∧ ∀ (j : Nat) (x : Int64), st[j]? = some x → B 20 (t - 1 - j) = x
theorem stk.push {t : Int} {st : List Int64} (h : stk t B st) (v : Int64) : stk (t + 1) (vt_ub B 20 t v) (v :: st) := by
  refine ⟨by rw [h.1]; simp, fun j x hj => ?_⟩
  rw [vt_ub_at]
  cases j with
  | zero =>
    rw [List.getElem?_cons_zero] at hj
    cases hj
    exact if_pos (by omega)
  | succ j =>
    rw [List.getElem?_cons_succ] at hj
    have := h.2 j x hj
    rw [← this]
    show (if t + 1 - 1 - ((j + 1 : Nat) : Int) = t then _ else _) = _
    rw [if_neg (by omega)]
    congr 1
    omega
theorem stk.pop {t : Int} {st : List Int64} {v : Int64} (h : stk t B (v :: st)) : B 20 (t - 1) = v ∧ stk (t - 1) B st ∧ 1 ≤ t := by
  have h1 := h.1
  rw [List.length_cons] at h1
  refine ⟨by have := h.2 0 v rfl; rw [← this]; congr 1; omega, ⟨by omega, fun j x hj => ?_⟩, by omega⟩
  have := h.2 (j + 1) x (by rw [List.getElem?_cons_succ]; exact hj)
  rw [← this]
  congr 1
  omega
theorem and15 {x : Int} (hx : 0 ≤ x ∧ x ≤ 2147483647) : vt_and x 15 = x % 16 := by
  obtain ⟨n, rfl⟩ := Int.eq_ofNat_of_zero_le hx.1
  rw [bt_and hx (by decide), Int.toNat_natCast]
  show ((n &&& (2 ^ 4 - 1) : Nat) : Int) = _
  rw [Nat.and_two_pow_sub_one_eq_mod]
  rfl
theorem tm_reckons {t b e : Int} {F : (Int → Int64) → Int64} (ht : 0 ≤ t ∧ t ≤ 5) (hseg : Seg (fun i => S 3 (400 * t + i)) b e F) : vt_M 95 [me, ii t, ii b, ii e] S B (fun r S' B' => some (ll (F (B 22))) = r ∧ vt_but [43] S S' ∧ (∀ i : Int, i ≠ 21 → S' 43 i = S 43 i) ∧ ∀ k, k ≠ 20 → B' k = B k) := by
  refine vt_start rfl rfl (Nat.le_of_ble_eq_true rfl) (fun X hX => ?_)
  obtain ⟨hbe, hp60, hsg, hrun⟩ := hseg
  generalize hPost : (fun (r : Option AV) (S' : SS) (B' : SB) => some (ll (F (B 22))) = r ∧ vt_but [43] S S' ∧ (∀ i : Int, i ≠ 21 → S' 43 i = S 43 i) ∧ ∀ k, k ≠ 20 → B' k = B k) = Post
  have loop : ∀ (a : Nat) (i : Int) (st : List Int64) (T : SS) (BB : SB), b ≤ i → i + a = e → vt_but [43] S T → (∀ i : Int, i ≠ 21 → T 43 i = S 43 i) → (∀ k, k ≠ 20 → BB k = B k) → stk (T 43 21) BB st → (st.length : Int) ≤ psh (fun i => S 3 (400 * t + i)) b (i - b).toNat → rrun (fun i => S 3 (400 * t + i)) (B 22) a i st = some [F (B 22)] → vt_J 95 Post X 8 [(0, me), (1, ii t), (3, ii e), (4, ii i)] [] T BB := by
    intro a
    induction a with
    | zero =>
      intro i st T BB bi ia t1 t2 t3 hst hl hr
      have hr : some st = some [F (B 22)] := hr
      cases hr
      obtain ⟨p1, -, p3⟩ := hst.pop
      have hlen := hst.1
      refine vt_walk hX tk_reckons [] 80 ?_
      refine ⟨by omega, fun _ => ?_, fun z => absurd z (by omega)⟩
      refine vt_k (tm_pop (by rw [hlen]; simp)) ?_
      show Post _ _ _
      rw [← hPost]
      exact ⟨by rw [p1], t1.up (by decide), fun j hj => by rw [vt_up_off hj]; exact t2 j hj, t3⟩
    | succ a ih =>
      intro i st T BB bi ia t1 t2 t3 hst hl hr
      have e3 : T 3 = S 3 := t1 3 (by decide)
      obtain ⟨hx, hx1⟩ := hsg i bi (by omega)
      have hx : 0 ≤ S 3 (400 * t + i) ∧ S 3 (400 * t + i) ≤ 2147483647 := hx
      have hx1 : S 3 (400 * t + i) % 16 = 1 → S 3 (400 * t + i) / 16 ≤ 11 := hx1
      have hps : psh (fun i => S 3 (400 * t + i)) b (i + 1 - b).toNat = psh (fun i => S 3 (400 * t + i)) b (i - b).toNat + (if decide (S 3 (400 * t + i) % 16 = 0 ∨ S 3 (400 * t + i) % 16 = 1) = true then 1 else 0) := by
        unfold psh
        rw [show i + 1 - b = (i - b) + 1 by omega, cntB_s (by omega)]
        simp only [show b + (i - b) = i by omega]
      have hmono : psh (fun i => S 3 (400 * t + i)) b (i + 1 - b).toNat ≤ 60 := by
        refine Int.le_trans ?_ hp60
        unfold psh
        have mono : ∀ (p : Int → Bool) (c d : Nat), c ≤ d → cntB p c ≤ cntB p d := by
          intro p c d hcd
          induction d with
          | zero => rw [show c = 0 by omega]; exact Int.le_refl _
          | succ d ihd =>
            by_cases ee : c = d + 1
            · rw [ee]; exact Int.le_refl _
            · have := ihd (by omega)
              show _ ≤ cntB _ d + _
              split <;> omega
        exact mono _ _ _ (by omega)
      have hlen := hst.1
      have hlen0 : 0 ≤ (st.length : Int) := Int.natCast_nonneg _
      have e22 : BB 22 = B 22 := t3 22 (by decide)
      have hrr : rrun (fun i => S 3 (400 * t + i)) (B 22) (a + 1) i st = match rst (B 22) (S 3 (400 * t + i)) st with | some st' => rrun (fun i => S 3 (400 * t + i)) (B 22) a (i + 1) st' | none => none := rfl
      rw [hrr] at hr
      unfold rst at hr
      have ub : ∀ (BB : SB), (∀ k, k ≠ 20 → BB k = B k) → ∀ (j : Int) (v : Int64), ∀ k, k ≠ 20 → vt_ub BB 20 j v k = B k := fun BB h j v k hk => by rw [vt_ub_ne hk]; exact h k hk
      have hm := Int.emod_nonneg (S 3 (400 * t + i)) (show (16 : Int) ≠ 0 by decide)
      have hm2 := Int.emod_lt_of_pos (S 3 (400 * t + i)) (show (0 : Int) < 16 by decide)
      refine vt_walk hX tk_reckons [(8, [0, 1, 3, 4]), (49, [0, 1, 3, 4, 5, 6])] 80 ?_
      refine ⟨by omega, fun z => absurd z (by omega), fun _ => ?_⟩
      refine ⟨by omega, by omega, by rw [e3]; omega, ?_⟩
      show vt_J _ _ _ _ _ _ _ _
      rw [e3, and15 hx, show S 3 (400 * t + i) / 2 ^ (4 : Int).toNat = S 3 (400 * t + i) / 16 from rfl]
      generalize hxe : S 3 (400 * t + i) = x at *
      refine vt_walk hX tk_reckons [(8, [0, 1, 3, 4])] 80 ?_
      refine ⟨by omega, fun c => ?_, fun c => ?_⟩
      · rw [if_neg c] at hr
        refine ⟨by omega, fun c1 => ?_, fun c1 => ?_⟩
        · rw [if_neg c1] at hr
          rw [if_neg (by simp [c, c1])] at hps
          refine ⟨by omega, fun c11 => ?_, fun c11 => ?_⟩
          · rw [if_neg c11] at hr
            match st, hst, hlen, hl, hr with
            | y :: z :: r, hst, hlen, hl, hr =>
              obtain ⟨p1, p2, p3⟩ := hst.pop
              obtain ⟨q1, q2, q3⟩ := p2.pop
              rw [List.length_cons, List.length_cons] at hlen hl
              refine vt_k (tm_pop (by omega)) ?_
              refine vt_k (tm_pop (by rw [vt_up_self]; omega)) ?_
              rw [vt_up_self, p1, q1]
              refine vt_k (tm_one (by omega)) ?_
              refine vt_k (tm_push (by rw [vt_up_self]; omega)) ?_
              rw [vt_up_self]
              show vt_J _ _ _ _ _ _ _ _
              refine ih (i + 1) (opr (x % 16) z y :: r) _ _ (by omega) (by omega) (((t1.up (by decide)).up (by decide)).up (by decide)) (fun j hj => by rw [vt_up_off hj, vt_up_off hj, vt_up_off hj]; exact t2 j hj) (ub BB t3 _ _) (by rw [vt_up_self]; exact q2.push _) (by rw [hps, List.length_cons]; omega) hr
            | [y], hst, hlen, hl, hr => cases hr
            | [], hst, hlen, hl, hr => cases hr
          · rw [if_pos c11] at hr
            match st, hst, hlen, hl, hr with
            | y :: r, hst, hlen, hl, hr =>
              obtain ⟨p1, p2, p3⟩ := hst.pop
              rw [List.length_cons] at hlen hl
              refine vt_k (tm_pop (by omega)) ?_
              rw [p1]
              refine vt_k (tm_push (by rw [vt_up_self]; omega)) ?_
              rw [vt_up_self]
              show vt_J _ _ _ _ _ _ _ _
              refine ih (i + 1) ((Int64.ofInt 1 - y) :: r) _ _ (by omega) (by omega) ((t1.up (by decide)).up (by decide)) (fun j hj => by rw [vt_up_off hj, vt_up_off hj]; exact t2 j hj) (ub BB t3 _ _) (by rw [vt_up_self]; exact p2.push _) (by rw [hps, List.length_cons]; omega) hr
            | [], hst, hlen, hl, hr => cases hr
        · rw [if_pos c1] at hr
          rw [if_pos (by simp [c1])] at hps
          have hx1 := hx1 c1
          refine ⟨by omega, ?_⟩
          rw [e22]
          refine vt_k (tm_push (by omega)) ?_
          show vt_J _ _ _ _ _ _ _ _
          exact ih (i + 1) (B 22 (x / 16) :: st) _ _ (by omega) (by omega) (t1.up (by decide)) (fun j hj => by rw [vt_up_off hj]; exact t2 j hj) (ub BB t3 _ _) (by rw [vt_up_self]; exact hst.push _) (by rw [hps, List.length_cons]; omega) hr
      · rw [if_pos c] at hr
        rw [if_pos (by simp [c])] at hps
        refine ⟨by omega, vt_k (tm_push (by omega)) ?_⟩
        show vt_J _ _ _ _ _ _ _ _
        exact ih (i + 1) (Int64.ofInt (x / 16) :: st) _ _ (by omega) (by omega) (t1.up (by decide)) (fun j hj => by rw [vt_up_off hj]; exact t2 j hj) (ub BB t3 _ _) (by rw [vt_up_self]; exact hst.push _) (by rw [hps, List.length_cons]; omega) hr
  refine vt_walk hX tk_reckons [(8, [0, 1, 3, 4])] 80 ?_
  exact loop (e - b).toNat b [] _ B (Int.le_refl _) (by omega) (vt_but.rf.up (by decide)) (fun j hj => vt_up_off hj) (fun _ _ => rfl) ⟨vt_up_self, fun j x hj => by simp at hj⟩ (by rw [show (b - b).toNat = 0 by omega]; exact Int.le_refl _) (hrun (B 22))
end TMS
