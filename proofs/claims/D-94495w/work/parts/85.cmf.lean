/-! THE COMPONENT's methods: how far -/
set_option maxRecDepth 100000
theorem cntB_strict {p q : Int → Bool} {j : Int} (j0 : 0 ≤ j) (hp : p j = false) (hq : q j = true) : ∀ (n : Nat), j < n → (∀ i : Int, 0 ≤ i → i < n → p i = true → q i = true) → cntB p n + 1 ≤ cntB q n
  | 0, h, _ => by omega
  | n + 1, h, hm => by
    show cntB p n + _ + 1 ≤ cntB q n + _
    have hn := hm n (by omega) (by omega)
    by_cases e : j = n
    · subst e
      rw [hp, hq]
      have := cntB_mono (p := p) (q := q) n (fun i h1 h2 => hm i h1 (by omega))
      simp
      omega
    · have := cntB_strict j0 hp hq n (by omega) (fun i h1 h2 => hm i h1 (by omega))
      by_cases c : p n = true
      · rw [if_pos c, if_pos (hn c)]; omega
      · rw [if_neg c]; split <;> omega
section RCH
variable {f : Int → Int} {p q : Int}
theorem isDist_ex (f : Int → Int) (p q : Int) : isDist f p q (dst f p q) := by
  have key : ∀ n, rch f p n q = true → ∃ m, rch f p m q = true ∧ ∀ k, k < m → rch f p k q = false := by
    intro n
    induction n using Nat.strongRecOn with
    | ind n ih =>
      intro h
      by_cases c : ∃ k, k < n ∧ rch f p k q = true
      · obtain ⟨k, k1, k2⟩ := c
        exact ih k k1 k2
      · exact ⟨n, h, fun k hk => Bool.eq_false_iff.mpr (fun z => c ⟨k, hk, z⟩)⟩
  have : ∃ v, isDist f p q v := by
    by_cases c : ∃ n, rch f p n q = true
    · obtain ⟨n, hn⟩ := c
      obtain ⟨m, h1, h2⟩ := key n hn
      exact ⟨(m : Int), Or.inr ⟨by omega, by rw [Int.toNat_natCast]; exact h1, fun k hk => h2 k (by omega)⟩⟩
    · exact ⟨-1, Or.inl ⟨rfl, fun n => Bool.eq_false_iff.mpr (fun z => c ⟨n, z⟩)⟩⟩
  exact Classical.epsilon_spec this
/-- the set that n ways come to, as a number -/
def rcS (f : Int → Int) (p : Int) (n : Nat) : Nat := bset (fun q => rch f p n q) 8
theorem rcS_lt (n : Nat) : rcS f p n < 256 := bset_lt _ 8
theorem rcS_bit {n : Nat} (h : 0 ≤ q ∧ q ≤ 7) : (rcS f p n).testBit q.toNat = rch f p n q := by
  unfold rcS
  rw [bset_bit, decide_eq_true (by omega), show ((q.toNat : Nat) : Int) = q by omega]
  rfl
theorem rch_up {n : Nat} (h : rch f p n q = true) : rch f p (n + 1) q = true := by
  show (_ || _) = true
  rw [h]
  rfl
theorem rcS_eq {n m : Nat} : rcS f p n = rcS f p m ↔ ∀ q, 0 ≤ q → q ≤ 7 → rch f p n q = rch f p m q := by
  constructor
  · intro h q q0 q7
    rw [← rcS_bit ⟨q0, q7⟩, ← rcS_bit ⟨q0, q7⟩, h]
  · intro h
    apply Nat.eq_of_testBit_eq
    intro i
    unfold rcS
    rw [bset_bit, bset_bit]
    by_cases c : i < 8
    · rw [h i (by omega) (by omega)]
    · rw [decide_eq_false c]; rfl
theorem rcS_0 (hp : 0 ≤ p ∧ p ≤ 7) : rcS f p 0 = 2 ^ p.toNat := by
  apply Nat.eq_of_testBit_eq
  intro i
  unfold rcS
  rw [bset_bit, Nat.testBit_two_pow]
  show (decide (i < 8) && (p == (i : Int))) = _
  by_cases c : p.toNat = i
  · rw [decide_eq_true c, decide_eq_true (by omega), beq_iff_eq.mpr (by omega)]; rfl
  · rw [decide_eq_false c, beq_false_of_ne (by omega), Bool.and_false]
theorem rcS_grow {n : Nat} (h : rcS f p n ≠ rcS f p (n + 1)) : cntB (fun q => rch f p n q) 8 + 1 ≤ cntB (fun q => rch f p (n + 1) q) 8 := by
  have : ∃ q, (0 ≤ q ∧ q ≤ 7) ∧ rch f p n q ≠ rch f p (n + 1) q := by
    apply Classical.byContradiction
    intro c
    apply h
    apply rcS_eq.mpr
    intro q q0 q7
    apply Classical.byContradiction
    intro z
    exact c ⟨q, ⟨q0, q7⟩, z⟩
  obtain ⟨q, hq, hne⟩ := this
  have h1 : rch f p n q = false := by
    cases e : rch f p n q with
    | false => rfl
    | true => rw [e, rch_up e] at hne; exact absurd rfl hne
  have h2 : rch f p (n + 1) q = true := by
    cases e : rch f p (n + 1) q with
    | true => rfl
    | false => rw [e, h1] at hne; exact absurd rfl hne
  exact cntB_strict (p := fun q => rch f p n q) (q := fun q => rch f p (n + 1) q) hq.1 h1 h2 8 (by omega) (fun i _ _ => rch_up)
/-- where one more way comes to nothing new, nothing new is come to any more -/
theorem rch_stay {K : Int} (hl : LI K f) {n : Nat} (h : rcS f p n = rcS f p (n + 1)) : ∀ m q, 0 ≤ q → q ≤ 7 → rch f p (n + m) q = true → rch f p n q = true := by
  intro m
  have key : ∀ m, rcS f p (n + m) = rcS f p n := by
    intro m
    induction m with
    | zero => rfl
    | succ m ih =>
      rw [h]
      apply rcS_eq.mpr
      intro q q0 q7
      have ih' := rcS_eq.mp ih
      show (rch f p (n + m) q || anyB (fun w => sE f (f 2) w 1 == q && rch f p (n + m) (sE f (f 2) w 0)) (f 0).toNat) = (rch f p n q || anyB (fun w => sE f (f 2) w 1 == q && rch f p n (sE f (f 2) w 0)) (f 0).toNat)
      rw [ih' q q0 q7]
      congr 1
      apply Bool.eq_iff_iff.mpr
      rw [anyB_iff, anyB_iff]
      have hn := hl.nW
      constructor
      · rintro ⟨w, w0, w1, hw⟩
        have := (hl.w w0 (by omega)).end (d := f 2) (Or.inl rfl)
        rw [ih' _ this.1 this.2] at hw
        exact ⟨w, w0, w1, hw⟩
      · rintro ⟨w, w0, w1, hw⟩
        have := (hl.w w0 (by omega)).end (d := f 2) (Or.inl rfl)
        rw [← ih' _ this.1 this.2] at hw
        exact ⟨w, w0, w1, hw⟩
  intro q q0 q7 hq
  rw [← rcS_eq.mp (key m) q q0 q7]
  exact hq
theorem rch_mono {n m : Nat} (h : n ≤ m) (hq : rch f p n q = true) : rch f p m q = true := by
  obtain ⟨k, rfl⟩ := Nat.exists_eq_add_of_le h
  clear h
  induction k with
  | zero => exact hq
  | succ k ih => exact rch_up ih
theorem rch_dst {K : Int} (hl : LI K f) {n : Nat} (h : rcS f p n = rcS f p (n + 1)) (hq : 0 ≤ q ∧ q ≤ 7) : rch f p n q = decide (0 ≤ dst f p q) := by
  rcases isDist_ex f p q with ⟨h1, h2⟩ | ⟨h1, h2, h3⟩
  · rw [h1, h2 n]; rfl
  · rw [decide_eq_true h1]
    by_cases c : (dst f p q).toNat ≤ n
    · exact rch_mono c h2
    · exact rch_stay hl h ((dst f p q).toNat - n) q hq.1 hq.2 (by rw [show n + ((dst f p q).toNat - n) = (dst f p q).toNat by omega]; exact h2)
/-- what next makes of a set, up to way k -/
def nxB (f : Int → Int) (s : Nat) : Nat → Nat
  | 0 => s
  | k + 1 => nxB f s k ||| (if s.testBit (sE f (f 2) k 0).toNat = true then 2 ^ (sE f (f 2) k 1).toNat else 0)
theorem nxB_s {s k : Nat} : nxB f s (k + 1) = nxB f s k ||| (if s.testBit (sE f (f 2) k 0).toNat = true then 2 ^ (sE f (f 2) k 1).toNat else 0) := rfl
theorem nxB_lt {K : Int} (hl : LI K f) {s : Nat} (hs : s < 256) : ∀ k : Nat, (k : Int) ≤ f 0 → nxB f s k < 256
  | 0, _ => hs
  | k + 1, h => by
    have ih := nxB_lt hl hs k (by omega)
    have he := (hl.w (w := (k : Int)) (by omega) (by omega)).end (d := f 2) (Or.inr rfl)
    show nxB f s k ||| _ < 2 ^ 8
    apply Nat.or_lt_two_pow
    · exact ih
    · split
      · exact Nat.pow_lt_pow_right (by decide) (by omega)
      · decide
theorem nxB_bit {K : Int} (hl : LI K f) {s : Nat} (hq : 0 ≤ q) : ∀ k : Nat, (k : Int) ≤ f 0 → (nxB f s k).testBit q.toNat = (s.testBit q.toNat || anyB (fun w => sE f (f 2) w 1 == q && s.testBit (sE f (f 2) w 0).toNat) k)
  | 0, _ => (Bool.or_false _).symm
  | k + 1, h => by
    have ih := nxB_bit hl (s := s) hq k (by omega)
    have he := (hl.w (w := (k : Int)) (by omega) (by omega)).end (d := f 2) (Or.inr rfl)
    show (nxB f s k ||| _).testBit q.toNat = (_ || (anyB _ k || _))
    rw [Nat.testBit_or, ih, ← Bool.or_assoc]
    congr 1
    show _ = (sE f (f 2) k 1 == q && s.testBit (sE f (f 2) k 0).toNat)
    cases c : s.testBit (sE f (f 2) k 0).toNat with
    | false => simp
    | true =>
      rw [if_pos rfl, Nat.testBit_two_pow, Bool.and_true]
      by_cases e : sE f (f 2) k 1 = q
      · rw [decide_eq_true (by rw [e]), beq_iff_eq.mpr e]
      · rw [decide_eq_false (by omega), beq_false_of_ne e]
theorem nxB_rcS {K : Int} (hl : LI K f) {n : Nat} : nxB f (rcS f p n) (f 0).toNat = rcS f p (n + 1) := by
  have hn := hl.nW
  apply Nat.eq_of_testBit_eq
  intro i
  by_cases c : i < 8
  · have h1 := nxB_bit hl (s := rcS f p n) (q := (i : Int)) (by omega) (f 0).toNat (by omega)
    rw [Int.toNat_natCast] at h1
    have h2 : ∀ m, (rcS f p m).testBit i = rch f p m i := fun m => by
      have := rcS_bit (f := f) (p := p) (n := m) (q := (i : Int)) ⟨by omega, by omega⟩
      rw [Int.toNat_natCast] at this
      exact this
    rw [h1, h2, h2]
    show _ = (rch f p n i || anyB (fun w => sE f (f 2) w 1 == i && rch f p n (sE f (f 2) w 0)) (f 0).toNat)
    congr 1
    apply Bool.eq_iff_iff.mpr
    rw [anyB_iff, anyB_iff]
    constructor
    · rintro ⟨w, w0, w1, hw⟩
      have he := (hl.w w0 (by omega)).end (d := f 2) (Or.inl rfl)
      rw [rcS_bit he] at hw
      exact ⟨w, w0, w1, hw⟩
    · rintro ⟨w, w0, w1, hw⟩
      have he := (hl.w w0 (by omega)).end (d := f 2) (Or.inl rfl)
      rw [← rcS_bit he] at hw
      exact ⟨w, w0, w1, hw⟩
  · rw [Nat.testBit_lt_two_pow (Nat.lt_of_lt_of_le (nxB_lt hl (rcS_lt n) (f 0).toNat (by omega)) (by show 2 ^ 8 ≤ 2 ^ i; exact Nat.pow_le_pow_right (by decide) (by omega))), Nat.testBit_lt_two_pow (Nat.lt_of_lt_of_le (rcS_lt (n + 1)) (by show 2 ^ 8 ≤ 2 ^ i; exact Nat.pow_le_pow_right (by decide) (by omega)))]
end RCH
section CMF
variable {Lw : List Nat} {S : SS} {B : SB} {d o : Nat} {f : Int → Int} {wr gr : Int → Nat} {lt : Int → Int} {K : Int}
theorem cm_next {s : Nat} (hs : s < 256) (h : CLd Lw S o f wr gr lt) (hl : LI K f) : vc_M (d + 3) 0 0 19 [.inr (.inr o), ii (s : Int)] Lw S B (vc_eq (some (ii ((nxB f s (f 0).toNat : Nat) : Int))) Lw S B) := by
  refine vc_start rfl rfl (Nat.le_of_ble_eq_true rfl) (fun X hX hd => ?_)
  obtain ⟨h1, h2, -, h3, -⟩ := h
  have hn := hl.nW
  have e2 := h2.2.1
  have loop : ∀ (m : Nat) (k : Nat), (k : Int) + m = f 0 → vc_J 19 (vc_eq (some (ii ((nxB f s (f 0).toNat : Nat) : Int))) Lw S B) X 4 [(0, .inr (.inr o)), (1, ii (s : Int)), (2, ii ((nxB f s k : Nat) : Int)), (3, ii (k : Int))] [] Lw S B 0 0 := by
    intro m
    induction m with
    | zero =>
      intro k km
      refine vc_walk hX ck_X0_next [] 60 hd ?_
      refine ⟨h1, ?_⟩
      refine vc_kv h2.1 (cm_size (d := d + 2) h2.1) ⟨Nat.le_refl _, Nat.le_refl _⟩ ?_
      refine ⟨by omega, fun _ => ?_, fun c => absurd c (by omega)⟩
      refine ⟨⟨Nat.le_refl _, Nat.le_refl _⟩, ?_, rfl, rfl, rfl⟩
      rw [show (f 0).toNat = k by omega]
    | succ m ih =>
      intro k km
      have hW := h3 k (by omega) (by omega)
      have e0 := (hl.w (w := (k : Int)) (by omega) (by omega)).end (d := f 2) (Or.inl rfl)
      have e1 := (hl.w (w := (k : Int)) (by omega) (by omega)).end (d := f 2) (Or.inr rfl)
      have ih' := ih (k + 1) (by omega)
      have hk := nxB_lt hl hs k (by omega)
      rw [show ((k + 1 : Nat) : Int) = (k : Int) + 1 by omega] at ih'
      rw [nxB_s] at ih'
      refine vc_walk hX ck_X0_next [(4, [0, 1, 2, 3])] 60 hd ?_
      refine ⟨h1, ?_⟩
      refine vc_kv h2.1 (cm_size (d := d + 2) h2.1) ⟨Nat.le_refl _, Nat.le_refl _⟩ ?_
      refine ⟨by omega, fun c => absurd c (by omega), fun _ => ?_⟩
      refine ⟨h1, ?_⟩
      refine vc_kv h2.1 (cm_get (d := d) h2 (i := (k : Int)) ⟨by omega, by omega⟩) ⟨Nat.le_refl _, Nat.le_refl _⟩ ?_
      refine ⟨Or.inr hW.1, ?_⟩
      refine vc_kv hW.1 (cm_from (d := d + 2) hW.1 hW.b) ⟨Nat.le_refl _, Nat.le_refl _⟩ ?_
      rw [hW.from]
      refine vc_k (cm_has (d := d + 2) (by omega) (by omega)) ⟨Nat.le_refl _, Nat.le_refl _⟩ ?_
      rw [Int.toNat_natCast]
      have hb2 := bI_rg (s.testBit (sE f (f 2) (k : Int) 0).toNat)
      refine ⟨by omega, fun c => ?_, fun c => ?_⟩
      · rw [bI_0.mp c, if_neg (by decide), Nat.or_zero] at ih'
        exact ih'
      · rw [bI_n0.mp c, if_pos rfl] at ih'
        refine ⟨h1, ?_⟩
        refine vc_kv h2.1 (cm_get (d := d) h2 (i := (k : Int)) ⟨by omega, by omega⟩) ⟨Nat.le_refl _, Nat.le_refl _⟩ ?_
        refine ⟨Or.inr hW.1, ?_⟩
        refine vc_kv hW.1 (cm_to (d := d + 2) hW.1 hW.b) ⟨Nat.le_refl _, Nat.le_refl _⟩ ?_
        rw [hW.to]
        refine ⟨by omega, ?_⟩
        show vc_J _ _ _ _ _ _ _ _ _ _ _
        have hp : (2 : Nat) ^ (sE f (f 2) (k : Int) 1).toNat ≤ 2 ^ 7 := Nat.pow_le_pow_right (by decide) (by omega)
        have ep : (1 : Int) * 2 ^ (sE f (f 2) (k : Int) 1).toNat = ((2 ^ (sE f (f 2) (k : Int) 1).toNat : Nat) : Int) := by simp
        rw [ep, bt_or (by omega) ⟨Int.natCast_nonneg _, by omega⟩, Int.toNat_natCast, Int.toNat_natCast]
        exact ih'
  refine vc_walk hX ck_X0_next [(4, [0, 1, 2, 3])] 60 hd ?_
  exact loop (f 0).toNat 0 (by omega)
theorem pw7 {p : Int} (hp : 0 ≤ p ∧ p ≤ 7) : (1 : Int) * 2 ^ p.toNat = ((2 ^ p.toNat : Nat) : Int) := by simp
theorem cm_reach {p : Int} (hp : 0 ≤ p ∧ p ≤ 7) (h : CLd Lw S o f wr gr lt) (hl : LI K f) : vc_M (d + 4) 0 0 18 [.inr (.inr o), ii p] Lw S B (vc_eq (some (ii ((bset (fun q => decide (0 ≤ dst f p q)) 8 : Nat) : Int))) Lw S B) := by
  refine vc_start rfl rfl (Nat.le_of_ble_eq_true rfl) (fun X hX hd => ?_)
  have loop : ∀ (m n : Nat), 9 ≤ m + cntB (fun q => rch f p n q) 8 → vc_J 18 (vc_eq (some (ii ((bset (fun q => decide (0 ≤ dst f p q)) 8 : Nat) : Int))) Lw S B) X 4 [(0, .inr (.inr o)), (2, ii ((rcS f p n : Nat) : Int))] [] Lw S B 0 0 := by
    intro m
    induction m with
    | zero =>
      intro n hm
      have := (cntB_b (fun q => rch f p n q) 8).2
      omega
    | succ m ih =>
      intro n hm
      have a1 := rcS_lt (f := f) (p := p) n
      have a2 := rcS_lt (f := f) (p := p) (n + 1)
      refine vc_walk hX ck_X0_reach [(4, [0, 2])] 60 hd ?_
      refine vc_kv h.1 (cm_next (d := d) a1 h hl) ⟨Nat.le_refl _, Nat.le_refl _⟩ ?_
      rw [nxB_rcS hl]
      refine ⟨by omega, fun c => ?_, fun c => ?_⟩
      · refine ⟨⟨Nat.le_refl _, Nat.le_refl _⟩, ?_, rfl, rfl, rfl⟩
        congr 4
        apply Nat.eq_of_testBit_eq
        intro i
        unfold rcS
        rw [bset_bit, bset_bit]
        by_cases l : i < 8
        · rw [rch_dst hl (by omega) ⟨by omega, by omega⟩]
        · rw [decide_eq_false l]; rfl
      · refine vc_kv h.1 (cm_next (d := d) a1 h hl) ⟨Nat.le_refl _, Nat.le_refl _⟩ ?_
        have g := rcS_grow (f := f) (p := p) (n := n) (by omega)
        have := ih (n + 1) (by omega)
        rw [← nxB_rcS hl] at this
        exact this
  refine vc_walk hX ck_X0_reach [(4, [0, 2])] 60 hd ?_
  refine ⟨by omega, ?_⟩
  show vc_J _ _ _ _ _ _ _ _ _ _ _
  rw [pw7 hp, ← rcS_0 (f := f) hp]
  have := (cntB_b (fun q => rch f p 0 q) 8).1
  exact loop 9 0 (by omega)
theorem cm_farOf {p q : Int} (hp : 0 ≤ p ∧ p ≤ 7) (hq : 0 ≤ q ∧ q ≤ 7) (h : CLd Lw S o f wr gr lt) (hl : LI K f) : vc_M (d + 4) 0 0 22 [.inr (.inr o), ii p, ii q] Lw S B (vc_eq (some (ii (if dst f p q < 0 then 99 else dst f p q))) Lw S B) := by
  refine vc_start rfl rfl (Nat.le_of_ble_eq_true rfl) (fun X hX hd => ?_)
  have loop : ∀ (m n : Nat), 9 ≤ m + cntB (fun q => rch f p n q) 8 → (∀ k, k < n → rch f p k q = false) → vc_J 22 (vc_eq (some (ii (if dst f p q < 0 then 99 else dst f p q))) Lw S B) X 7 [(0, .inr (.inr o)), (2, ii q), (3, ii ((rcS f p n : Nat) : Int)), (4, ii (n : Int))] [] Lw S B 0 0 := by
    intro m
    induction m with
    | zero =>
      intro n hm
      have := (cntB_b (fun q => rch f p n q) 8).2
      omega
    | succ m ih =>
      intro n hm hk
      have a1 := rcS_lt (f := f) (p := p) n
      have a2 := rcS_lt (f := f) (p := p) (n + 1)
      refine vc_walk hX ck_X0_farOf [(7, [0, 2, 3, 4])] 60 hd ?_
      refine vc_k (cm_has (d := d + 3) (by omega) (by omega)) ⟨Nat.le_refl _, Nat.le_refl _⟩ ?_
      rw [Int.toNat_natCast, rcS_bit hq]
      have hb2 := bI_rg (rch f p n q)
      refine ⟨by omega, fun c => ?_, fun c => ?_⟩
      · have c1 := bI_n0.mp c
        have : (n : Int) = dst f p q := dst_eq (Or.inr ⟨by omega, by rw [Int.toNat_natCast]; exact c1, fun k z => hk k (by omega)⟩)
        refine ⟨⟨Nat.le_refl _, Nat.le_refl _⟩, ?_, rfl, rfl, rfl⟩
        rw [if_neg (by omega), this]
      · have c1 : rch f p n q = false := (bI_0 (b := rch f p n q)).mp (by omega)
        refine vc_kv h.1 (cm_next (d := d) a1 h hl) ⟨Nat.le_refl _, Nat.le_refl _⟩ ?_
        rw [nxB_rcS hl]
        refine ⟨by omega, fun c2 => ?_, fun c2 => ?_⟩
        · have g := rcS_grow (f := f) (p := p) (n := n) (by omega)
          refine ih (n + 1) (by omega) (fun k z => ?_)
          by_cases e : k = n
          · rw [e]; exact c1
          · exact hk k (by omega)
        · refine ⟨⟨Nat.le_refl _, Nat.le_refl _⟩, ?_, rfl, rfl, rfl⟩
          have hs := rch_dst hl (p := p) (n := n) (by omega) hq
          rw [c1] at hs
          have := of_decide_eq_false hs.symm
          rw [if_pos (by omega)]
  refine vc_walk hX ck_X0_farOf [(7, [0, 2, 3, 4])] 60 hd ?_
  refine ⟨by omega, ?_⟩
  show vc_J _ _ _ _ _ _ _ _ _ _ _
  rw [pw7 hp, ← rcS_0 (f := f) hp]
  have := (cntB_b (fun q => rch f p 0 q) 8).1
  exact loop 9 0 (by omega) (fun k z => absurd z (Nat.not_lt_zero _))
theorem dst_le {K : Int} (hl : LI K f) {p q : Int} (hp : 0 ≤ p ∧ p ≤ 7) (hq : 0 ≤ q ∧ q ≤ 7) : -1 ≤ dst f p q ∧ dst f p q ≤ 7 := by
  have key : ∀ n : Nat, (∀ k, k < n → rch f p k q = false) → (∃ m, rch f p m q = true) → (n : Int) + 1 ≤ cntB (fun q => rch f p n q) 8 := by
    intro n
    induction n with
    | zero =>
      intro _ _
      have := cntB_pos (p := fun q => rch f p 0 q) hp.1 (by simp [rch]) 8 (by omega)
      omega
    | succ n ih =>
      intro h1 h2
      have ih' := ih (fun k z => h1 k (by omega)) h2
      obtain ⟨m, hm⟩ := h2
      have g := rcS_grow (f := f) (p := p) (n := n) (fun z => by
        have hd := rch_dst hl z hq
        rw [h1 n (by omega)] at hd
        have := of_decide_eq_false hd.symm
        rcases isDist_ex f p q with ⟨g1, g2⟩ | ⟨g1, g2, g3⟩
        · rw [g2 m] at hm; cases hm
        · omega)
      omega
  rcases isDist_ex f p q with ⟨h1, h2⟩ | ⟨h1, h2, h3⟩
  · omega
  · have := key _ h3 ⟨_, h2⟩
    have := (cntB_b (fun q' => rch f p (dst f p q).toNat q') 8).2
    omega
theorem cm_far {p q : Int} (hp : -2147483648 ≤ p ∧ p ≤ 2147483647) (hq : -2147483648 ≤ q ∧ q ≤ 2147483647) (h : CLd Lw S o f wr gr lt) (hl : LI K f) : vc_M (d + 5) 0 0 21 [.inr (.inr o), ii p, ii q] Lw S B (fun r Lw' S' B' => (∃ v, r = .inl (some (ii v)) ∧ sp_far f p q v) ∧ Lw' = Lw ∧ S' = S ∧ B' = B) := by
  refine vc_start rfl rfl (Nat.le_of_ble_eq_true rfl) (fun X hX hd => ?_)
  refine vc_walk hX ck_X0_far [] 60 hd ?_
  refine vc_k (cm_isPlace (d := d + 3) hp) ⟨Nat.le_refl _, Nat.le_refl _⟩ ?_
  have hb := bI_rg (sIsP p)
  refine ⟨by omega, fun c => ?_, fun c => ?_⟩
  · refine ⟨⟨Nat.le_refl _, Nat.le_refl _⟩, ⟨_, rfl, ?_⟩, rfl, rfl, rfl⟩
    unfold sp_far
    rw [if_neg (by rw [bI_0.mp c]; simp)]
  have c1 := of_decide_eq_true (bI_n0.mp c)
  refine vc_k (cm_isPlace (d := d + 3) hq) ⟨Nat.le_refl _, Nat.le_refl _⟩ ?_
  have hb2 := bI_rg (sIsP q)
  refine ⟨by omega, fun c2 => ?_, fun c2 => ?_⟩
  · have c3 := of_decide_eq_true (bI_n0.mp c2)
    refine vc_kv h.1 (cm_farOf (d := d) (p := p) (q := q) (by omega) (by omega) h hl) ⟨Nat.le_refl _, Nat.le_refl _⟩ ?_
    have hd := dst_le hl (p := p) (q := q) (by omega) (by omega)
    by_cases e : dst f p q < 0
    · rw [if_pos e]
      refine ⟨by decide, fun z => absurd rfl z, fun _ => ?_⟩
      refine ⟨⟨Nat.le_refl _, Nat.le_refl _⟩, ⟨_, rfl, ?_⟩, rfl, rfl, rfl⟩
      unfold sp_far
      rw [if_pos ⟨bI_n0.mp c, bI_n0.mp c2⟩, if_pos e]
    · rw [if_neg e]
      refine ⟨by omega, fun _ => ?_, fun z => absurd z (by omega)⟩
      refine ⟨⟨Nat.le_refl _, Nat.le_refl _⟩, ⟨_, rfl, ?_⟩, rfl, rfl, rfl⟩
      unfold sp_far
      rw [if_pos ⟨bI_n0.mp c, bI_n0.mp c2⟩, if_neg e]
  · refine ⟨⟨Nat.le_refl _, Nat.le_refl _⟩, ⟨_, rfl, ?_⟩, rfl, rfl, rfl⟩
    unfold sp_far
    rw [if_neg (by rw [(bI_0 (b := sIsP q)).mp (by omega)]; simp)]
theorem cm_place {p k : Int} (hp : -2147483648 ≤ p ∧ p ≤ 2147483647) (hk : -2147483648 ≤ k ∧ k ≤ 2147483647) (h : CLd Lw S o f wr gr lt) (hl : LI K f) : vc_M (d + 5) 0 0 13 [.inr (.inr o), ii p, ii k] Lw S B (fun r Lw' S' B' => (∃ v, r = .inl (some (ii v)) ∧ sp_place f p k v) ∧ Lw' = Lw ∧ S' = S ∧ B' = B) := by
  refine vc_start rfl rfl (Nat.le_of_ble_eq_true rfl) (fun X hX hd => ?_)
  refine vc_walk hX ck_X0_place [] 60 hd ?_
  refine vc_k (cm_isPlace (d := d + 3) hp) ⟨Nat.le_refl _, Nat.le_refl _⟩ ?_
  have hb := bI_rg (sIsP p)
  refine ⟨by omega, fun c => ?_, fun c => ?_⟩
  · have c1 := of_decide_eq_true (bI_n0.mp c)
    have c0 := bI_n0.mp c
    refine ⟨hk, fun z => ?_, fun z => ?_, fun z => ?_, fun z => ?_, fun z => ?_, fun z => ?_, trivial⟩
    · refine ⟨⟨Nat.le_refl _, Nat.le_refl _⟩, ⟨_, rfl, ?_⟩, rfl, rfl, rfl⟩
      unfold sp_place
      rw [if_neg (fun q => by have := of_decide_eq_true q.2; omega)]
    · subst z
      refine vc_kv h.1 (cm_out (d := d + 1) hp h hl) ⟨Nat.le_refl _, Nat.le_refl _⟩ ?_
      refine ⟨⟨Nat.le_refl _, Nat.le_refl _⟩, ⟨_, rfl, ?_⟩, rfl, rfl, rfl⟩
      unfold sp_place
      rw [if_pos ⟨c0, rfl⟩, if_pos (by decide)]
    · subst z
      refine vc_kv h.1 (cm_into (d := d + 1) hp h hl) ⟨Nat.le_refl _, Nat.le_refl _⟩ ?_
      refine ⟨⟨Nat.le_refl _, Nat.le_refl _⟩, ⟨_, rfl, ?_⟩, rfl, rfl, rfl⟩
      unfold sp_place
      rw [if_pos ⟨c0, rfl⟩, if_pos (by decide)]
      rfl
    · subst z
      refine vc_kv h.1 (cm_standing (d := d + 1) (by omega) h hl) ⟨Nat.le_refl _, Nat.le_refl _⟩ ?_
      refine ⟨⟨Nat.le_refl _, Nat.le_refl _⟩, ⟨_, rfl, ?_⟩, rfl, rfl, rfl⟩
      unfold sp_place
      rw [if_pos ⟨c0, rfl⟩, if_neg (by decide), if_pos (by decide)]
    · subst z
      refine vc_kv h.1 (cm_out (d := d + 1) hp h hl) ⟨Nat.le_refl _, Nat.le_refl _⟩ ?_
      refine vc_kv h.1 (cm_standing (d := d + 1) (by omega) h hl) ⟨Nat.le_refl _, Nat.le_refl _⟩ ?_
      refine ⟨⟨Nat.le_refl _, Nat.le_refl _⟩, ⟨_, rfl, ?_⟩, rfl, rfl, rfl⟩
      unfold sp_place
      rw [if_pos ⟨c0, rfl⟩, if_neg (by decide), if_neg (by decide), if_pos (by decide)]
    · subst z
      refine vc_kv h.1 (cm_reach (d := d) (p := p) (by omega) h hl) ⟨Nat.le_refl _, Nat.le_refl _⟩ ?_
      refine ⟨⟨Nat.le_refl _, Nat.le_refl _⟩, ⟨_, rfl, ?_⟩, rfl, rfl, rfl⟩
      unfold sp_place
      rw [if_pos ⟨c0, rfl⟩, if_neg (by decide), if_neg (by decide), if_neg (by decide)]
  · refine ⟨⟨Nat.le_refl _, Nat.le_refl _⟩, ⟨_, rfl, ?_⟩, rfl, rfl, rfl⟩
    unfold sp_place
    rw [if_neg (by rw [(bI_0 (b := sIsP p)).mp (by omega)]; simp)]
end CMF
