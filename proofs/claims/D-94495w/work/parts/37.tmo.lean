/-! THE TWIN's methods: comes, closed; the bits of a state -/
set_option maxRecDepth 100000
theorem bgS_bit {n d : Nat} {pl : Int → Int} (i : Nat) : ∀ k : Nat, (bgS n d pl k).testBit i = (d.testBit i || (bgS n 0 pl k).testBit i)
  | 0 => by show d.testBit i = (d.testBit i || (0 : Nat).testBit i); rw [Nat.zero_testBit, Bool.or_false]
  | k + 1 => by
    show (bgS n d pl k ||| _).testBit i = (_ || (bgS n 0 pl k ||| _).testBit i)
    rw [Nat.testBit_or, Nat.testBit_or, bgS_bit i k, Bool.or_assoc]
theorem bgS_low {n : Nat} {pl : Int → Int} {i : Nat} (hi : i < n) : ∀ k : Nat, (bgS n 0 pl k).testBit i = false
  | 0 => Nat.zero_testBit i
  | k + 1 => by
    show (bgS n 0 pl k ||| _).testBit i = false
    rw [Nat.testBit_or, bgS_low hi k, Nat.testBit_mul_two_pow, Bool.false_or, decide_eq_false (by omega), Bool.false_and]
theorem bit_hi {d n i : Nat} (hd : d < 2 ^ n) (hi : n ≤ i) : d.testBit i = false := Nat.testBit_lt_two_pow (Nat.lt_of_lt_of_le hd (Nat.pow_le_pow_right (by decide) hi))
theorem bgS_xor {n d d' : Nat} {pl : Int → Int} (hd : d < 2 ^ n) (hd' : d' < 2 ^ n) (k : Nat) : (bgS n d pl k ^^^ d) ^^^ d' = bgS n d' pl k := by
  apply Nat.eq_of_testBit_eq
  intro i
  rw [Nat.testBit_xor, Nat.testBit_xor, bgS_bit i k, bgS_bit (d := d') i k]
  by_cases hi : i < n
  · rw [bgS_low hi k]
    cases d.testBit i <;> cases d'.testBit i <;> rfl
  · rw [bit_hi hd (by omega), bit_hi hd' (by omega)]
    cases (bgS n 0 pl k).testBit i <;> rfl
theorem bgS_or {n d d' : Nat} {pl : Int → Int} (hd : d < 2 ^ n) (hd' : d' < 2 ^ n) (k : Nat) : (bgS n d pl k ^^^ d) ||| d' = bgS n d' pl k := by
  apply Nat.eq_of_testBit_eq
  intro i
  rw [Nat.testBit_or, Nat.testBit_xor, bgS_bit i k, bgS_bit (d := d') i k]
  by_cases hi : i < n
  · rw [bgS_low hi k]
    cases d.testBit i <;> cases d'.testBit i <;> rfl
  · rw [bit_hi hd (by omega), bit_hi hd' (by omega)]
    cases (bgS n 0 pl k).testBit i <;> rfl
/-- the state with the directions d, all at their places -/
def tgt (f : Int → Int) (c : Int) (mv : Int → Int) (d : Int) : Int := ((bgS (f 0).toNat d.toNat (fun k => sG f (mv k) 0) c.toNat : Nat) : Int)
noncomputable def rcB (f : Int → Int) (s d : Int) : Bool := pB (∃ l, hpt (mvC f s) (f 0) (scc f) (fun t => t == tgt f (mvC f s) (mvG f s) d) l (sst f (mvC f s) (mvG f s)))
noncomputable def sp_com (f : Int → Int) (s d : Int) : Int := if sAre f s = true ∧ 0 ≤ d ∧ d < 2 ^ (f 0).toNat then bI (rcB f s d) else -1
theorem hmM_0 {f : Int → Int} {c o : Int} {mv : Int → Int} (s : Int) : hmM f c mv 0 o s = false := rfl
theorem met_iff {P n s0 k : Int} {sc : Int → Int → Int → Int} {q : QS} (h : BFI 1048576 P n s0 sc k 0 0 q) (hsc : ∀ s m w, (0 ≤ s ∧ s < 1048576) → (0 ≤ m ∧ m < P) → (0 ≤ w ∧ w < n) → sc s m w = -1 ∨ (0 ≤ sc s m w ∧ sc s m w < 1048576)) (hk : q.1 ≤ k) {t : Int} (t0 : 0 ≤ t) (t1 : t < 1048576) : 0 < q.2.2.2 t ↔ ∃ l, hpt P n sc (fun x => x == t) l s0 := by
  constructor
  · intro hp
    rcases h.2.2.1 t t0 t1 with x | ⟨x1, x2, x3⟩
    · omega
    · exact ⟨_, hpt_up (hm := fun x => x == t) h (q.2.2.2 t).toNat (q.2.2.2 t - 1) 0 (by omega) (by omega) (by omega) (by show (q.2.1 _ == t) = true; rw [x3]; simp)⟩
  · rintro ⟨l, hl⟩
    by_cases c : 0 < q.2.2.2 t
    · exact c
    · refine absurd hl (bfs_none h hsc hk (fun i i0 i1 => ?_) l)
      have := (h.2.1 i i0 i1).2
      cases hq : (q.2.1 i == t)
      · rfl
      · have e : q.2.1 i = t := by simpa using hq
        rw [e] at this
        omega
section TMO
variable {S : SS} {B : SB} {K : Int}
theorem sst_rg {f : Int → Int} (h : LI K f) {c : Int} {mv : Int → Int} (hc : (0 ≤ c ∧ c ≤ 6) ∧ f 0 + 3 * c ≤ 20) (hmv : ∀ i, 0 ≤ i → i < c → (0 ≤ mv i ∧ mv i < f 1) ∧ sG f (mv i) 3 = -1) {d : Int} (hd : 0 ≤ d ∧ d < 2 ^ (f 0).toNat) : d.toNat < 2 ^ (f 0).toNat ∧ bgS (f 0).toNat d.toNat (fun k => sG f (mv k) 0) c.toNat < 1048576 := by
  have n0 := h.nW
  have hd2 : d.toNat < 2 ^ (f 0).toNat := by
    have e : ((2 ^ (f 0).toNat : Nat) : Int) = (2 : Int) ^ (f 0).toNat := by simp
    rw [← e] at hd
    omega
  refine ⟨hd2, ?_⟩
  have := bgS_lt hd2 c.toNat (pl := fun k => sG f (mv k) 0) (fun i i0 i1 => by
    obtain ⟨a2, a3⟩ := hmv i i0 (by omega)
    obtain ⟨-, -, -, q | q⟩ := h.g a2.1 a2.2 <;> omega)
  have e20 : 2 ^ ((f 0).toNat + 3 * c.toNat) ≤ 2 ^ 20 := Nat.pow_le_pow_right (by decide) (by omega)
  exact Nat.lt_of_lt_of_le this e20
theorem tm_comes {s d : Int} (hs : -2147483648 ≤ s ∧ s ≤ 2147483647) (hd : -2147483648 ≤ d ∧ d ≤ 2147483647) (h : LI K (S 23)) (hI : INVS S) : vt_M 66 [me, ii s, ii d] S B (fun r S' B' => some (ii (sp_com (S 23) s d)) = r ∧ vt_kq S S') := by
  refine vt_start rfl rfl (Nat.le_of_ble_eq_true rfl) (fun X hX => ?_)
  have n0 := h.nW
  have h14 := pow14 n0.2
  have hp0 : (0 : Int) < 2 ^ (S 23 0).toNat := Int.pow_pos (by decide)
  have hb := bI_rg (sAre (S 23) s)
  refine vt_walk hX tk_comes [] 80 ?_
  refine vt_k (tm_areGoers hs h) ?_
  unfold sp_com
  refine ⟨by omega, fun c => ?_, fun c => ?_⟩
  · rw [if_neg (by rw [bI_0.mp c]; simp)]
    exact ⟨rfl, vt_kq.rf hI⟩
  have c1 := bI_n0.mp c
  refine ⟨by omega, fun c2 => ?_, fun c2 => ?_⟩
  · rw [if_neg (by omega)]
    exact ⟨rfl, vt_kq.rf hI⟩
  refine ⟨by omega, by omega, by omega, fun c3 => ?_, fun c3 => ?_⟩
  · rw [if_pos ⟨c1, c2, by omega⟩]
    obtain ⟨a1, a2, a3, a4⟩ := sAre_spec h c1
    obtain ⟨d1, d2⟩ := sst_rg h ⟨a2, a3⟩ a4 (d := d) ⟨c2, by omega⟩
    obtain ⟨g1, g2⟩ := sst_rg h ⟨a2, a3⟩ a4 (d := S 23 2) h.dirs
    have hdir := h.dir
    refine ⟨_, tm_ready h hI c1, ?_⟩
    rintro _ S1 _ ⟨rfl, rfl, e23, hS, h29, h28, t1, t2⟩
    have h1 : LI K (S1 23) := by rw [e23]; exact h
    refine ⟨_, tm_searches (st := 0) (o := -1) h1 hS h28 h29 (Or.inl rfl) (by omega), ?_⟩
    rintro rr _ _ ⟨rfl, q, k, rfl, hB, hcase⟩
    rw [e23] at hB
    have hsc := scc_rg20 h a3
    have hdone : some (ii (-1)) = rr ∧ q.1 ≤ k := by
      rcases hcase with ⟨e, hk, -⟩ | ⟨-, -, -, hy⟩
      · exact ⟨e, hk⟩
      · rw [hmM_0] at hy; cases hy
    obtain ⟨rfl, hk⟩ := hdone
    have h2 : LI K (vt_q S1 q 23) := by rw [q_23, e23]; exact h
    refine vt_k (tm_begun h2 hS.q) ?_
    have ex : vt_xor (vt_xor (sst (S 23) (mvC (S 23) s) (mvG (S 23) s)) (S 23 2)) d = tgt (S 23) (mvC (S 23) s) (mvG (S 23) s) d := by
      unfold sst tgt
      have hx : bgS (S 23 0).toNat (S 23 2).toNat (fun k => sG (S 23) (mvG (S 23) s k) 0) (mvC (S 23) s).toNat ^^^ (S 23 2).toNat < 2 ^ 20 := Nat.xor_lt_two_pow g2 (by omega)
      rw [bt_xor ⟨Int.natCast_nonneg _, by omega⟩ (by omega), Int.toNat_natCast, bt_xor ⟨Int.natCast_nonneg _, by omega⟩ (by omega), Int.toNat_natCast, bgS_xor g1 d1]
    have ht : 0 ≤ tgt (S 23) (mvC (S 23) s) (mvG (S 23) s) d ∧ tgt (S 23) (mvC (S 23) s) (mvG (S 23) s) d < 1048576 := ⟨Int.natCast_nonneg _, Int.ofNat_lt.mpr d2⟩
    have hmi := met_iff hB hsc hk ht.1 ht.2
    have hmr : 0 ≤ q.2.2.2 (tgt (S 23) (mvC (S 23) s) (mvG (S 23) s) d) ∧ q.2.2.2 (tgt (S 23) (mvC (S 23) s) (mvG (S 23) s) d) ≤ 1048576 := by
      have hqq := (BFI.inv (S := S1) hB).1
      rw [q_29] at hqq
      rcases hB.2.2.1 _ ht.1 ht.2 with x | x <;> omega
    refine ⟨by omega, ?_⟩
    rw [q_23, e23]
    refine ⟨by rw [ex]; omega, ?_⟩
    rw [ex, q_28]
    refine ⟨by omega, fun e => ?_, fun e => ?_⟩
    · have : rcB (S 23) s d = false := pB_f.mpr (fun z => by have := hmi.mpr z; omega)
      rw [this]
      exact ⟨rfl, kq_of hB t1 t2⟩
    · have : rcB (S 23) s d = true := pB_t.mpr (hmi.mp e)
      rw [this]
      exact ⟨rfl, kq_of hB t1 t2⟩
  · rw [if_neg (by omega)]
    exact ⟨rfl, vt_kq.rf hI⟩
noncomputable def sp_clo (f : Int → Int) (s k : Int) : Int := if sAre f s = true ∧ sIn k 0 1 = true then (if k = 1 then bI (sp_sums f s) else cntB (rcB f s) (2 ^ (f 0).toNat)) else -1
theorem tm_closed {s k : Int} (hs : -2147483648 ≤ s ∧ s ≤ 2147483647) (hk : -2147483648 ≤ k ∧ k ≤ 2147483647) (h : LI K (S 23)) (hI : INVS S) : vt_M 67 [me, ii s, ii k] S B (fun r S' B' => some (ii (sp_clo (S 23) s k)) = r ∧ vt_kq S S') := by
  refine vt_start rfl rfl (Nat.le_of_ble_eq_true rfl) (fun X hX => ?_)
  have n0 := h.nW
  have h14 := pow14 n0.2
  have hp0 : (0 : Int) < 2 ^ (S 23 0).toNat := Int.pow_pos (by decide)
  have ep : ((2 ^ (S 23 0).toNat : Nat) : Int) = (2 : Int) ^ (S 23 0).toNat := by simp
  have hb := bI_rg (sAre (S 23) s)
  have hb2 := bI_rg (sIn k 0 1)
  refine vt_walk hX tk_closed [(69, [0, 3, 4, 5])] 80 ?_
  refine vt_k (tm_areGoers hs h) ?_
  unfold sp_clo
  refine ⟨by omega, fun c => ?_, fun c => ?_⟩
  · rw [if_neg (by rw [bI_0.mp c]; simp)]
    exact ⟨rfl, vt_kq.rf hI⟩
  have c1 := bI_n0.mp c
  obtain ⟨a1, a2, a3, a4⟩ := sAre_spec h c1
  refine ⟨by omega, vt_k (tm_in (by omega) (by omega) (by omega)) ?_⟩
  refine ⟨by omega, fun c2 => ?_, fun c2 => ?_⟩
  · rw [if_pos ⟨c1, bI_n0.mp c2⟩]
    refine ⟨by omega, fun c3 => ?_, fun c3 => ?_⟩
    · rw [if_neg c3]
      obtain ⟨g1, g2⟩ := sst_rg h ⟨a2, a3⟩ a4 (d := S 23 2) h.dirs
      have hdir := h.dir
      refine ⟨_, tm_ready h hI c1, ?_⟩
      rintro _ S1 _ ⟨rfl, rfl, e23, hS, h29, h28, t1, t2⟩
      have h1 : LI K (S1 23) := by rw [e23]; exact h
      refine ⟨_, tm_searches (st := 0) (o := -1) h1 hS h28 h29 (Or.inl rfl) (by omega), ?_⟩
      rintro rr _ _ ⟨rfl, q, kk, rfl, hB, hcase⟩
      rw [e23] at hB
      have hsc := scc_rg20 h a3
      have hdone : some (ii (-1)) = rr ∧ q.1 ≤ kk := by
        rcases hcase with ⟨e, hk, -⟩ | ⟨-, -, -, hy⟩
        · exact ⟨e, hk⟩
        · rw [hmM_0] at hy; cases hy
      obtain ⟨rfl, hk⟩ := hdone
      have h2 : LI K (vt_q S1 q 23) := by rw [q_23, e23]; exact h
      have hx : bgS (S 23 0).toNat (S 23 2).toNat (fun k => sG (S 23) (mvG (S 23) s k) 0) (mvC (S 23) s).toNat ^^^ (S 23 2).toNat < 2 ^ 20 := Nat.xor_lt_two_pow g2 (by omega)
      have ex1 : vt_xor (sst (S 23) (mvC (S 23) s) (mvG (S 23) s)) (S 23 2) = ((bgS (S 23 0).toNat (S 23 2).toNat (fun k => sG (S 23) (mvG (S 23) s k) 0) (mvC (S 23) s).toNat ^^^ (S 23 2).toNat : Nat) : Int) := by
        unfold sst
        rw [bt_xor ⟨Int.natCast_nonneg _, by omega⟩ (by omega), Int.toNat_natCast]
      have loop : ∀ (a : Nat) (d : Int), 0 ≤ d → d + a = 2 ^ (S 23 0).toNat → vt_J 67 (fun r S' B' => some (ii (cntB (rcB (S 23) s) (2 ^ (S 23 0).toNat))) = r ∧ vt_kq S S') X 69 [(0, me), (3, ii (cntB (rcB (S 23) s) d.toNat)), (4, ii (vt_xor (sst (S 23) (mvC (S 23) s) (mvG (S 23) s)) (S 23 2))), (5, ii d)] [] (vt_q S1 q) B := by
        intro a
        induction a with
        | zero =>
          intro d d0 da
          have e230 : vt_q S1 q 23 0 = S 23 0 := by rw [q_23, e23]
          refine vt_walk hX tk_closed [] 80 ?_
          refine ⟨by omega, by omega, by rw [e230]; omega, fun _ => ?_, fun z => absurd z (by rw [e230]; omega)⟩
          refine ⟨?_, kq_of hB t1 t2⟩
          rw [show 2 ^ (S 23 0).toNat = d.toNat by omega]
        | succ a ih =>
          intro d d0 da
          have e230 : vt_q S1 q 23 0 = S 23 0 := by rw [q_23, e23]
          obtain ⟨d1, d2⟩ := sst_rg h ⟨a2, a3⟩ a4 (d := d) ⟨d0, by omega⟩
          have ex : vt_or (vt_xor (sst (S 23) (mvC (S 23) s) (mvG (S 23) s)) (S 23 2)) d = tgt (S 23) (mvC (S 23) s) (mvG (S 23) s) d := by
            rw [ex1, bt_or ⟨Int.natCast_nonneg _, by omega⟩ (by omega), Int.toNat_natCast, bgS_or g1 d1]
            rfl
          have ht : 0 ≤ tgt (S 23) (mvC (S 23) s) (mvG (S 23) s) d ∧ tgt (S 23) (mvC (S 23) s) (mvG (S 23) s) d < 1048576 := ⟨Int.natCast_nonneg _, Int.ofNat_lt.mpr d2⟩
          have hmi := met_iff hB hsc hk ht.1 ht.2
          have hmr : 0 ≤ q.2.2.2 (tgt (S 23) (mvC (S 23) s) (mvG (S 23) s) d) ∧ q.2.2.2 (tgt (S 23) (mvC (S 23) s) (mvG (S 23) s) d) ≤ 1048576 := by
            have hqq := (BFI.inv (S := S1) hB).1
            rw [q_29] at hqq
            rcases hB.2.2.1 _ ht.1 ht.2 with x | x <;> omega
          have hi := ih (d + 1) (by omega) (by omega)
          rw [cntB_s d0] at hi
          refine vt_walk hX tk_closed [(69, [0, 3, 4, 5])] 80 ?_
          refine ⟨by omega, by omega, by rw [e230]; omega, fun z => absurd z (by rw [e230]; omega), fun _ => ?_⟩
          refine ⟨by rw [ex]; omega, ?_⟩
          rw [q_28]
          refine ⟨by rw [ex]; omega, fun e => ?_, fun e => ?_⟩ <;> rw [ex] at e
          · have : rcB (S 23) s d = false := pB_f.mpr (fun z => by have := hmi.mpr z; omega)
            rw [if_neg (by rw [this]; decide)] at hi
            exact hi
          · have : rcB (S 23) s d = true := pB_t.mpr (hmi.mp e)
            rw [if_pos this] at hi
            exact hi
      refine vt_k (tm_begun h2 hS.q) ?_
      refine ⟨by omega, ?_⟩
      rw [q_23, e23]
      exact loop (2 ^ (S 23 0).toNat) 0 (by omega) (by omega)
    · rw [if_pos c3]
      have hb3 := bI_rg (sp_sums (S 23) s)
      refine vt_k (tm_hasSums (by omega) h) ?_
      refine ⟨by omega, fun e => ?_, fun e => ?_⟩
      · rw [bI_0.mp e]
        exact ⟨rfl, vt_kq.rf hI⟩
      · rw [bI_n0.mp e]
        exact ⟨rfl, vt_kq.rf hI⟩
  · rw [if_neg (by rw [bI_0.mp c2]; simp)]
    exact ⟨rfl, vt_kq.rf hI⟩
end TMO
