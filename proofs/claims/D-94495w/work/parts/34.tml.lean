/-! THE TWIN's methods: the search -/
set_option maxRecDepth 100000
def nxt (f : Int → Int) (s m w : Int) : Int := ((((s.toNat ^^^ 2 ^ w.toNat) ^^^ ((s.toNat ^^^ 2 ^ w.toNat) &&& (7 * 2 ^ (f 0 + 3 * m).toNat))) ||| (sE f s w 1).toNat * 2 ^ (f 0 + 3 * m).toNat : Nat) : Int)
def scc (f : Int → Int) (s m w : Int) : Int := if sOn f w = 0 ∧ sE f s w 0 = plc (f 0) s m then nxt f s m w else -1
/-- the row of states laid -/
def vt_q (S : SS) (q : QS) : SS := vt_st (vt_st (vt_st (vt_st S 26 q.2.1) 27 q.2.2.1) 28 q.2.2.2) 43 (upF (S 43) 29 q.1)
section VQS
variable {S : SS} {q q' : QS}
theorem q_26 : vt_q S q 26 = q.2.1 := by unfold vt_q; rw [vt_st_ne (by decide), vt_st_ne (by decide), vt_st_ne (by decide), vt_st_at]
theorem q_27 : vt_q S q 27 = q.2.2.1 := by unfold vt_q; rw [vt_st_ne (by decide), vt_st_ne (by decide), vt_st_at]
theorem q_28 : vt_q S q 28 = q.2.2.2 := by unfold vt_q; rw [vt_st_ne (by decide), vt_st_at]
theorem q_29 : vt_q S q 43 29 = q.1 := by unfold vt_q; rw [vt_st_at, upF_self]
theorem q_x {j : Nat} (h1 : j ≠ 26) (h2 : j ≠ 27) (h3 : j ≠ 28) (h4 : j ≠ 43) : vt_q S q j = S j := by unfold vt_q; rw [vt_st_ne h4, vt_st_ne h3, vt_st_ne h2, vt_st_ne h1]
theorem q_43x {i : Int} (h : i ≠ 29) : vt_q S q 43 i = S 43 i := by unfold vt_q; rw [vt_st_at, upF_ne h]
theorem q_23 : vt_q S q 23 = S 23 := q_x (by decide) (by decide) (by decide) (by decide)
theorem q_30 : vt_q S q 30 = S 30 := q_x (by decide) (by decide) (by decide) (by decide)
theorem q_32 : vt_q S q 32 = S 32 := q_x (by decide) (by decide) (by decide) (by decide)
theorem q_31 : vt_q S q 43 31 = S 43 31 := q_43x (by decide)
theorem q_ext {T : SS} (h26 : T 26 = q.2.1) (h27 : T 27 = q.2.2.1) (h28 : T 28 = q.2.2.2) (h29 : T 43 29 = q.1) (hx : ∀ j, j ≠ 26 → j ≠ 27 → j ≠ 28 → j ≠ 43 → T j = S j) (h43 : ∀ i, i ≠ 29 → T 43 i = S 43 i) : T = vt_q S q := by
  funext j
  by_cases e1 : j = 26
  · subst e1; rw [q_26, h26]
  by_cases e2 : j = 27
  · subst e2; rw [q_27, h27]
  by_cases e3 : j = 28
  · subst e3; rw [q_28, h28]
  by_cases e4 : j = 43
  · subst e4
    funext i
    by_cases i1 : i = 29
    · subst i1; rw [q_29, h29]
    rw [q_43x i1, h43 i i1]
  rw [q_x e1 e2 e3 e4, hx j e1 e2 e3 e4]
theorem q_self : vt_q S (S 43 29, S 26, S 27, S 28) = S := (q_ext rfl rfl rfl rfl (fun _ _ _ _ _ => rfl) (fun _ _ => rfl)).symm
end VQS
/-- what a search rests on: how many move, which, what is barred -/
def Sch (S : SS) (c : Int) (mv : Int → Int) : Prop := S 43 31 = c ∧ (0 ≤ c ∧ c ≤ 6) ∧ S 23 0 + 3 * c ≤ 20 ∧ (∀ i, 0 ≤ i → i < c → S 30 i = mv i ∧ (0 ≤ mv i ∧ mv i < S 23 1) ∧ sG (S 23) (mv i) 3 = -1) ∧ ∀ w, 0 ≤ w → w < S 23 0 → S 32 w = bI (decide (0 < sOn (S 23) w))
theorem Sch.q {S : SS} {c : Int} {mv : Int → Int} {q : QS} (h : Sch S c mv) : Sch (vt_q S q) c mv := by
  unfold Sch
  rw [q_31, q_23, q_30, q_32]
  exact h
def bgS (n d : Nat) (pl : Int → Int) : Nat → Nat
  | 0 => d
  | k + 1 => bgS n d pl k ||| (pl (k : Int)).toNat * 2 ^ (n + 3 * k)
theorem bgS_lt {n d : Nat} {pl : Int → Int} (hd : d < 2 ^ n) : ∀ k : Nat, (∀ i : Int, 0 ≤ i → i < k → 0 ≤ pl i ∧ pl i ≤ 7) → bgS n d pl k < 2 ^ (n + 3 * k)
  | 0, _ => hd
  | k + 1, h => by
    have h1 := bgS_lt hd k (fun i a b => h i a (by omega))
    have h2 := h k (by omega) (by omega)
    have e : 2 ^ (n + 3 * (k + 1)) = 2 ^ (n + 3 * k) * 8 := by rw [show n + 3 * (k + 1) = n + 3 * k + 3 by omega, Nat.pow_add]
    show bgS n d pl k ||| _ < _
    apply Nat.or_lt_two_pow
    · rw [e]; omega
    · rw [e, Nat.mul_comm]
      exact Nat.mul_lt_mul_of_pos_left (by omega) (Nat.two_pow_pos _)
/-- the state at first -/
def sst (f : Int → Int) (c : Int) (mv : Int → Int) : Int := ((bgS (f 0).toNat (f 2).toNat (fun k => sG f (mv k) 0) c.toNat : Nat) : Int)
def hmA (f : Int → Int) (c : Int) (mv : Int → Int) (s : Int) : Bool := allB (fun k => plc (f 0) s k == sG f (mv k) 1) c.toNat
def hmO (f : Int → Int) (mv : Int → Int) (o s : Int) : Bool := plc (f 0) s o == sG f (mv o) 1
theorem pwN {n : Int} (h0 : 0 ≤ n) (h : n ≤ 20) : (2 : Nat) ^ n.toNat ≤ 1048576 := Nat.pow_le_pow_right (n := 2) (by decide) (show n.toNat ≤ 20 by omega)
theorem nxt_rg {K : Int} {f : Int → Int} (h : LI K f) {s m w c : Int} (hc : f 0 + 3 * c ≤ 20) (hs : 0 ≤ s ∧ s < ((2 ^ (f 0 + 3 * c).toNat : Nat) : Int)) (hm : 0 ≤ m ∧ m < c) (hw : 0 ≤ w ∧ w < f 0) : 0 ≤ nxt f s m w ∧ nxt f s m w < ((2 ^ (f 0 + 3 * c).toNat : Nat) : Int) := by
  have n0 := h.nW
  have he := (h.w hw.1 hw.2).end (d := s) (Or.inr rfl)
  unfold nxt
  refine ⟨Int.natCast_nonneg _, Int.ofNat_lt.mpr ?_⟩
  have h1 : s.toNat ^^^ 2 ^ w.toNat < 2 ^ (f 0 + 3 * c).toNat := xor_lt (by omega) (by omega)
  have h2 : (s.toNat ^^^ 2 ^ w.toNat) &&& (7 * 2 ^ (f 0 + 3 * m).toNat) < 2 ^ (f 0 + 3 * c).toNat := Nat.lt_of_le_of_lt Nat.and_le_left h1
  have h3 : (sE f s w 1).toNat * 2 ^ (f 0 + 3 * m).toNat < 2 ^ (f 0 + 3 * c).toNat := by
    have e : 2 ^ (f 0 + 3 * c).toNat = 2 ^ (f 0 + 3 * m).toNat * 2 ^ (3 * (c - m)).toNat := by rw [← Nat.pow_add]; congr 1; omega
    have e8 : 2 ^ 3 ≤ 2 ^ (3 * (c - m)).toNat := Nat.pow_le_pow_right (by decide) (by omega)
    rw [e, Nat.mul_comm]
    exact Nat.mul_lt_mul_of_pos_left (by omega) (Nat.two_pow_pos _)
  exact Nat.or_lt_two_pow (Nat.xor_lt_two_pow h1 h2) h3
theorem scc_rg {K : Int} {f : Int → Int} (h : LI K f) {c : Int} (hc : f 0 + 3 * c ≤ 20) : ∀ s m w, (0 ≤ s ∧ s < ((2 ^ (f 0 + 3 * c).toNat : Nat) : Int)) → (0 ≤ m ∧ m < c) → (0 ≤ w ∧ w < f 0) → scc f s m w = -1 ∨ (0 ≤ scc f s m w ∧ scc f s m w < ((2 ^ (f 0 + 3 * c).toNat : Nat) : Int)) := by
  intro s m w hs hm hw
  unfold scc
  split
  · exact Or.inr (nxt_rg h hc hs hm hw)
  · exact Or.inl rfl
section TML
variable {S : SS} {B : SB} {K : Int}
theorem tm_meets {q : QS} {s b : Int} (hs : 0 ≤ s ∧ s < 1048576) (hc : 0 ≤ q.1 ∧ q.1 ≤ 1048576) (hm : 0 ≤ q.2.2.2 s ∧ q.2.2.2 s ≤ 1048576) (hl : ¬ 0 < q.2.2.2 s → q.1 < 1048576) : vt_M 61 [me, ii s, ii b] (vt_q S q) B (vt_eq none (vt_q S (qmeet q s b)) B) := by
  refine vt_start rfl rfl (Nat.le_of_ble_eq_true rfl) (fun X hX => ?_)
  refine vt_walk hX tk_meets [(40, [0, 1])] 60 ?_
  refine ⟨by omega, by rw [q_28]; omega, fun c => ?_, fun c => ?_⟩ <;> rw [q_28] at c
  · have hl := hl (by omega)
    have e : qmeet q s b = (q.1 + 1, upF q.2.1 q.1 s, upF q.2.2.1 q.1 b, upF q.2.2.2 s (q.1 + 1)) := if_neg (by omega)
    rw [e]
    refine ⟨by rw [q_29]; omega, by rw [vt_up_ne (by decide), q_29]; omega, ?_⟩
    show vt_J _ _ _ _ _ _ _ _
    rw [q_29]
    simp (disch := decide) only [vt_up_ne]
    rw [q_29]
    refine vt_walk hX tk_meets [] 60 ?_
    refine ⟨by omega, rfl, ?_, rfl⟩
    symm
    rw [vt_up_self]
    refine q_ext ?_ ?_ ?_ ?_ (fun j h1 h2 h3 h4 => ?_) (fun i hi => ?_)
    · rw [vt_up_ne (by decide), vt_up_ne (by decide), vt_up_ne (by decide), vt_up_at, q_26]; rfl
    · rw [vt_up_ne (by decide), vt_up_ne (by decide), vt_up_at, vt_up_ne (by decide), q_27]; rfl
    · rw [vt_up_at, vt_up_ne (by decide), vt_up_ne (by decide), vt_up_ne (by decide), q_28]; rfl
    · rw [vt_up_ne (by decide), vt_up_self]
    · rw [vt_up_ne h3, vt_up_ne h4, vt_up_ne h2, vt_up_ne h1, q_x h1 h2 h3 h4]
    · rw [vt_up_ne (by decide), vt_up_off hi, vt_up_ne (by decide), vt_up_ne (by decide), q_43x hi]
  · have e : qmeet q s b = q := if_pos c
    rw [e]
    exact ⟨rfl, rfl, rfl⟩
theorem tm_begun {c : Int} {mv : Int → Int} (h : LI K (S 23)) (hS : Sch S c mv) : vt_M 60 [me] S B (vt_eq (some (ii (sst (S 23) c mv))) S B) := by
  refine vt_start rfl rfl (Nat.le_of_ble_eq_true rfl) (fun X hX => ?_)
  have n0 := h.nW
  have n1 := h.nG
  have hd := h.dir
  have hdd := h.dirs
  obtain ⟨e31, hc, h20, hmv, -⟩ := hS
  have hpl : ∀ i : Int, 0 ≤ i → i < c → 0 ≤ sG (S 23) (mv i) 0 ∧ sG (S 23) (mv i) 0 ≤ 7 := by
    intro i i0 i1
    obtain ⟨-, a2, a3⟩ := hmv i i0 i1
    obtain ⟨-, -, -, q | q⟩ := h.g a2.1 a2.2 <;> omega
  have hd2 : (S 23 2).toNat < 2 ^ (S 23 0).toNat := by
    have e : ((2 ^ (S 23 0).toNat : Nat) : Int) = (2 : Int) ^ (S 23 0).toNat := by simp
    rw [← e] at hdd
    omega
  have loop : ∀ (m : Nat) (k : Int), 0 ≤ k → k + m = c → vt_J 60 (vt_eq (some (ii (sst (S 23) c mv))) S B) X 9 [(0, me), (1, ii ((bgS (S 23 0).toNat (S 23 2).toNat (fun k => sG (S 23) (mv k) 0) k.toNat : Nat) : Int)), (2, ii k)] [] S B := by
    intro m
    induction m with
    | zero =>
      intro k k0 km
      refine vt_walk hX tk_begun [(9, [0, 1, 2])] 60 ?_
      refine ⟨by rw [e31]; omega, fun _ => ?_, fun z => absurd z (by rw [e31]; omega)⟩
      rw [show k = c by omega]
      exact ⟨rfl, rfl, rfl⟩
    | succ m ih =>
      intro k k0 km
      obtain ⟨a1, a2, a3⟩ := hmv k k0 (by omega)
      have hp := hpl k k0 (by omega)
      have hi := ih (k + 1) (by omega) (by omega)
      rw [show (k + 1).toNat = k.toNat + 1 by omega] at hi
      have hlt := bgS_lt hd2 k.toNat (pl := fun k => sG (S 23) (mv k) 0) (fun i i0 i1 => hpl i i0 (by omega))
      have hlt2 := bgS_lt hd2 (k.toNat + 1) (pl := fun k => sG (S 23) (mv k) 0) (fun i i0 i1 => hpl i i0 (by omega))
      have e20 : 2 ^ ((S 23 0).toNat + 3 * (k.toNat + 1)) ≤ 2 ^ 20 := Nat.pow_le_pow_right (by decide) (by omega)
      have e20' : 2 ^ ((S 23 0).toNat + 3 * k.toNat) ≤ 2 ^ 20 := Nat.pow_le_pow_right (by decide) (by omega)
      have ek : (S 23 0 + 3 * k).toNat = (S 23 0).toNat + 3 * k.toNat := by omega
      have em : sG (S 23) (mv k) 0 * 2 ^ (S 23 0 + 3 * k).toNat = (((sG (S 23) (mv k) 0).toNat * 2 ^ ((S 23 0).toNat + 3 * k.toNat) : Nat) : Int) := by
        rw [ek]
        have : ((sG (S 23) (mv k) 0).toNat : Int) = sG (S 23) (mv k) 0 := by omega
        simp [this]
      have hml : (sG (S 23) (mv k) 0).toNat * 2 ^ ((S 23 0).toNat + 3 * k.toNat) ≤ 7 * 2 ^ 20 := Nat.mul_le_mul (by omega) e20'
      rw [show bgS (S 23 0).toNat (S 23 2).toNat (fun k => sG (S 23) (mv k) 0) (k.toNat + 1) = (bgS (S 23 0).toNat (S 23 2).toNat (fun k => sG (S 23) (mv k) 0) k.toNat ||| (sG (S 23) (mv ((k.toNat : Nat) : Int)) 0).toNat * 2 ^ ((S 23 0).toNat + 3 * k.toNat)) from rfl, show ((k.toNat : Nat) : Int) = k by omega] at hi
      refine vt_walk hX tk_begun [(9, [0, 1, 2])] 60 ?_
      refine ⟨by rw [e31]; omega, fun z => absurd z (by rw [e31]; omega), fun _ => ?_⟩
      refine ⟨by omega, vt_k (tm_goerOf (by rw [a1]; omega)) ?_⟩
      rw [a1]
      refine ⟨by omega, by omega, ?_⟩
      show vt_J _ _ _ _ _ _ _ _
      rw [em, bt_or ⟨Int.natCast_nonneg _, by omega⟩ ⟨Int.natCast_nonneg _, by omega⟩, Int.toNat_natCast, Int.toNat_natCast]
      exact hi
  refine vt_walk hX tk_begun [(9, [0, 1, 2])] 60 ?_
  refine ⟨by omega, ?_⟩
  have h1 := loop c.toNat 0 (by omega) (by omega)
  rw [show ((bgS (S 23 0).toNat (S 23 2).toNat (fun k => sG (S 23) (mv k) 0) (0 : Int).toNat : Nat) : Int) = S 23 2 by show (((S 23 2).toNat : Nat) : Int) = S 23 2; omega] at h1
  exact h1
theorem tm_areHome {c s : Int} {mv : Int → Int} (hs : 0 ≤ s ∧ s ≤ 2147483647) (h : LI K (S 23)) (hS : Sch S c mv) : vt_M 62 [me, ii s, ii c] S B (vt_eq (some (ii (bI (hmA (S 23) c mv s)))) S B) := by
  refine vt_start rfl rfl (Nat.le_of_ble_eq_true rfl) (fun X hX => ?_)
  have n0 := h.nW
  have n1 := h.nG
  obtain ⟨e31, hc, h20, hmv, -⟩ := hS
  have loop : ∀ (m : Nat) (k : Int), 0 ≤ k → k + m = c → (∀ i, 0 ≤ i → i < k → (plc (S 23 0) s i == sG (S 23) (mv i) 1) = true) → vt_J 62 (vt_eq (some (ii (bI (hmA (S 23) c mv s)))) S B) X 2 [(0, me), (1, ii s), (2, ii c), (3, ii k)] [] S B := by
    intro m
    induction m with
    | zero =>
      intro k k0 km hp
      refine vt_walk hX tk_areHome [] 60 ?_
      refine ⟨by omega, fun _ => ?_, fun z => absurd z (by omega)⟩
      have : hmA (S 23) c mv s = true := allB_iff.mpr (fun i i0 i1 => hp i i0 (by omega))
      rw [this]
      exact ⟨Or.inr rfl, rfl, rfl, rfl⟩
    | succ m ih =>
      intro k k0 km hp
      obtain ⟨a1, a2, a3⟩ := hmv k k0 (by omega)
      have hG := (h.g a2.1 a2.2).1
      have hr := plc_rg (S 23 0) s k
      refine vt_walk hX tk_areHome [(2, [0, 1, 2, 3])] 60 ?_
      refine ⟨by omega, fun z => absurd z (by omega), fun _ => ?_⟩
      refine vt_k (tm_placeIn hs (by omega) h) ?_
      refine ⟨by omega, vt_k (tm_goerOf (by rw [a1]; omega)) ?_⟩
      rw [a1]
      refine ⟨by omega, fun e => ?_, fun e => ?_⟩
      · refine ih (k + 1) (by omega) (by omega) (fun i i0 i1 => ?_)
        by_cases ei : i = k
        · subst ei; simpa using e
        · exact hp i i0 (by omega)
      · have : hmA (S 23) c mv s = false := by
          cases hq : hmA (S 23) c mv s
          · rfl
          · have := allB_iff.mp hq k k0 (by omega)
            exact absurd (by simpa using this) e
        rw [this]
        exact ⟨Or.inl rfl, rfl, rfl, rfl⟩
  refine vt_walk hX tk_areHome [(2, [0, 1, 2, 3])] 60 ?_
  exact loop c.toNat 0 (by omega) (by omega) (fun i i0 i1 => by omega)
end TML
