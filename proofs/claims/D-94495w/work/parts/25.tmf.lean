/-! THE TWIN's methods: free; one who takes what was not taken for longest -/
set_option maxRecDepth 100000
def allB (p : Int → Bool) (n : Nat) : Bool := !(anyB (fun i => !p i) n)
theorem allB_iff {p : Int → Bool} {n : Nat} : allB p n = true ↔ ∀ i : Int, 0 ≤ i → i < n → p i = true := by
  unfold allB
  rw [Bool.not_eq_true']
  constructor
  · intro h i h0 h1
    cases hp : p i
    · have : anyB (fun i => !p i) n = true := anyB_iff.mpr ⟨i, h0, h1, by rw [hp]; rfl⟩
      rw [h] at this; cases this
    · rfl
  · intro h
    cases hc : anyB (fun i => !p i) n
    · rfl
    · obtain ⟨i, h0, h1, h2⟩ := anyB_iff.mp hc
      rw [h i h0 h1] at h2; cases h2
def stEB (n : Int) (a b : RS) : Bool := (a.1 == b.1) && allB (fun g => a.2 g == b.2 g) n.toNat
theorem stEB_iff {n : Int} {a b : RS} : stEB n a b = true ↔ stE n a b := by
  unfold stEB stE
  rw [Bool.and_eq_true, allB_iff, beq_iff_eq]
  constructor
  · rintro ⟨h1, h2⟩
    exact ⟨h1, fun g g0 g1 => by simpa using h2 g g0 (by omega)⟩
  · rintro ⟨h1, h2⟩
    exact ⟨h1, fun g g0 g1 => by simpa using h2 g g0 (by omega)⟩
theorem stE.tr {n : Int} {a b c : RS} (h : stE n a b) (h2 : stE n b c) : stE n a c := ⟨h.1.trans h2.1, fun g g0 g1 => (h.2 g g0 g1).trans (h2.2 g g0 g1)⟩
theorem stE.sy {n : Int} {a b : RS} (h : stE n a b) : stE n b a := ⟨h.1.symm, fun g g0 g1 => (h.2 g g0 g1).symm⟩
/-- two goings, one behind the other -/
def rg2 (f : Int → Int) (a b : Int) (st : RS) : Option RS := (rg f a st).bind (rg f b)
def frB (f : Int → Int) (k : Int) : Bool := !decide ((rgo f k.toNat 0 (rs0 f)).1 < k) && (match rg2 f k (k + 1) (rgo f k.toNat 0 (rs0 f)).2, rg2 f (k + 1) k (rgo f k.toNat 0 (rs0 f)).2 with
  | some a, some b => stEB (f 1) a b
  | _, _ => false)
def sp_free (f : Int → Int) (k : Int) : Int := if sIn k 0 (f 6 - 2) = true then bI (frB f k) else -1
section TMF
variable {S : SS} {B : SB} {K : Int}
theorem tm_free {k : Int} (hk : -2147483648 ≤ k ∧ k ≤ 2147483647) (h : LI K (S 23)) : vt_M 85 [me, ii k] S B (fun r S' B' => some (ii (sp_free (S 23) k)) = r ∧ B = B' ∧ ∃ st, S' = vt_rw S st) := by
  refine vt_start rfl rfl (Nat.le_of_ble_eq_true rfl) (fun X hX => ?_)
  have n0 := h.nW
  have n1 := h.nG
  have n6 := h.rows
  have h14 := pow14 n0.2
  have hb := bI_rg (sIn k 0 (S 23 6 - 2))
  refine vt_walk hX tk_free [] 80 ?_
  refine ⟨by omega, by omega, by omega, vt_k (tm_in (by omega) (by omega) (by omega)) ?_⟩
  unfold sp_free
  refine ⟨by omega, fun c => ?_, fun c => ?_⟩
  · have c1 := bI_n0.mp c
    have c2 := of_decide_eq_true c1
    have hr1 := h.r (k := k) (by omega) (by omega)
    have hr2 := h.r (k := k + 1) (by omega) (by omega)
    rw [if_pos c1]
    refine ⟨_, tm_goesTo h (by omega), ?_⟩
    rintro _ _ _ ⟨rfl, rfl, st, rfl, hE, hV⟩
    have hrng : ∀ (n : Nat) (k : Int) (st : RS), 0 ≤ k → 0 ≤ (rgo (S 23) n k st).1 ∧ (rgo (S 23) n k st).1 ≤ k + n := by
      intro n
      induction n with
      | zero => intro k st hk; show 0 ≤ k ∧ k ≤ k + 0; omega
      | succ n ih =>
        intro k st hk
        unfold rgo
        split
        · have := ih (k + 1) (by assumption) (by omega); omega
        · show 0 ≤ k ∧ k ≤ _; omega
    have hr := hrng k.toNat 0 (rs0 (S 23)) (by omega)
    generalize hG : rgo (S 23) k.toNat 0 (rs0 (S 23)) = G0 at *
    refine ⟨by omega, fun d => ?_, fun d => ?_⟩
    · have e : frB (S 23) k = false := by unfold frB; rw [hG, decide_eq_true d]; rfl
      rw [e]
      exact ⟨rfl, rfl, st, rfl⟩
    have ed : (!decide (G0.1 < k)) = true := by rw [decide_eq_false (by omega)]; rfl
    have q1 := rg_E hr1 hE
    have hb1 := bI_rg (rg (S 23) k st).isSome
    refine vt_k (tm_rowGoes h (by omega) hV) ?_
    refine ⟨by omega, fun d1 => ?_, fun d1 => ?_⟩
    · have e : frB (S 23) k = false := by
        unfold frB rg2
        rw [hG, ed]
        rw [bI_0.mp d1] at q1
        rw [Option.isSome_eq_false_iff.mp q1.1.symm |> Option.isNone_iff_eq_none.mp]; rfl
      rw [e]
      exact ⟨rfl, rfl, _, rfl⟩
    have V1 := rg_Vd h hr1 hV
    obtain ⟨a1, ha1⟩ := Option.isSome_iff_exists.mp (bI_n0.mp d1)
    obtain ⟨b1, hb1'⟩ := Option.isSome_iff_exists.mp (q1.1 ▸ bI_n0.mp d1)
    rw [ha1, hb1'] at q1
    rw [ha1] at V1 ⊢
    simp only [Option.getD_some] at V1 ⊢
    have hE1 : stE (S 23 1) a1 b1 := q1.2
    have q2 := rg_E hr2 hE1
    have hb2 := bI_rg (rg (S 23) (k + 1) a1).isSome
    refine vt_k (tm_rowGoes h (by omega) V1) ?_
    refine ⟨by omega, fun d2 => ?_, fun d2 => ?_⟩
    rotate_left
    · have e : frB (S 23) k = false := by
        unfold frB rg2
        rw [hG, ed, hb1']
        rw [bI_0.mp d2] at q2
        show (true && match rg (S 23) (k + 1) b1, _ with | some a, some b => stEB (S 23 1) a b | _, _ => false) = false
        rw [Option.isSome_eq_false_iff.mp q2.1.symm |> Option.isNone_iff_eq_none.mp]; rfl
      rw [e]
      exact ⟨rfl, rfl, _, rfl⟩
    have V2 := rg_Vd h hr2 V1
    obtain ⟨a2, ha2⟩ := Option.isSome_iff_exists.mp (bI_n0.mp d2)
    obtain ⟨b2, hb2'⟩ := Option.isSome_iff_exists.mp (q2.1 ▸ bI_n0.mp d2)
    change stV (S 23) ((rg (S 23) (k + 1) a1).getD a1) at V2
    rw [ha2, hb2'] at q2
    rw [ha2] at V2
    simp only [Option.getD_some] at V2
    have hE2 : stE (S 23 1) a2 b2 := q2.2
    rw [ha2]
    simp only [Option.getD_some]
    refine vt_k (tm_rowState h V2) ?_
    have h2 : LI K (vt_rw S a2 23) := by rw [rw_23]; exact h
    refine ⟨_, tm_goesTo (S := vt_rw S a2) (m := k) h2 (by rw [rw_23]; omega), ?_⟩
    rintro _ _ _ ⟨rfl, rfl, st', rfl, hE', hV'⟩
    rw [rw_23] at hE' hV'
    rw [hG] at hE'
    rw [rw_rw]
    have p1 := rg_E hr2 hE'
    have pb1 := bI_rg (rg (S 23) (k + 1) st').isSome
    refine vt_k (tm_rowGoes h (by omega) hV') ?_
    refine ⟨by omega, fun d3 => ?_, fun d3 => ?_⟩
    · have e : frB (S 23) k = false := by
        unfold frB rg2
        rw [hG, ed, hb1']
        rw [bI_0.mp d3] at p1
        show (true && match rg (S 23) (k + 1) b1, (rg (S 23) (k + 1) G0.2).bind _ with | some a, some b => stEB (S 23 1) a b | _, _ => false) = false
        rw [Option.isSome_eq_false_iff.mp p1.1.symm |> Option.isNone_iff_eq_none.mp, hb2']; rfl
      rw [e]
      exact ⟨rfl, rfl, _, rfl⟩
    have W1 := rg_Vd h hr2 hV'
    obtain ⟨c1', hc1⟩ := Option.isSome_iff_exists.mp (bI_n0.mp d3)
    obtain ⟨e1, he1⟩ := Option.isSome_iff_exists.mp (p1.1 ▸ bI_n0.mp d3)
    rw [hc1, he1] at p1
    rw [hc1] at W1 ⊢
    simp only [Option.getD_some] at W1 ⊢
    have hE3 : stE (S 23 1) c1' e1 := p1.2
    have p2 := rg_E hr1 hE3
    have pb2 := bI_rg (rg (S 23) k c1').isSome
    refine vt_k (tm_rowGoes h (by omega) W1) ?_
    refine ⟨by omega, fun d4 => ?_, fun d4 => ?_⟩
    · have e : frB (S 23) k = false := by
        unfold frB rg2
        rw [hG, ed, hb1', he1]
        rw [bI_0.mp d4] at p2
        show (true && match rg (S 23) (k + 1) b1, rg (S 23) k e1 with | some a, some b => stEB (S 23 1) a b | _, _ => false) = false
        rw [Option.isSome_eq_false_iff.mp p2.1.symm |> Option.isNone_iff_eq_none.mp, hb2']; rfl
      rw [e]
      exact ⟨rfl, rfl, _, rfl⟩
    have W2 := rg_Vd h hr1 W1
    obtain ⟨c2', hc2⟩ := Option.isSome_iff_exists.mp (bI_n0.mp d4)
    obtain ⟨e2, he2⟩ := Option.isSome_iff_exists.mp (p2.1 ▸ bI_n0.mp d4)
    change stV (S 23) ((rg (S 23) k c1').getD c1') at W2
    rw [hc2, he2] at p2
    rw [hc2] at W2
    simp only [Option.getD_some] at W2
    have hE4 : stE (S 23 1) c2' e2 := p2.2
    rw [hc2]
    simp only [Option.getD_some]
    refine vt_k (tm_rowState h W2) ?_
    have ef : frB (S 23) k = stEB (S 23 1) b2 e2 := by
      unfold frB rg2
      rw [hG, ed, hb1', he1]
      show (true && match rg (S 23) (k + 1) b1, rg (S 23) k e1 with | some a, some b => stEB (S 23 1) a b | _, _ => false) = _
      rw [hb2', he2]; rfl
    have enat : (((S 23 1).toNat : Nat) : Int) = S 23 1 := by omega
    have r1 := encI_rg (st := a2) ⟨V2.1.1, by have := V2.1.2; omega⟩ (S 23 1).toNat (fun g g0 g1 => V2.2 g g0 (by omega))
    have r2 := encI_rg (st := c2') ⟨W2.1.1, by have := W2.1.2; omega⟩ (S 23 1).toNat (fun g g0 g1 => W2.2 g g0 (by omega))
    have hp6 : (16 : Int) ^ (S 23 1).toNat ≤ 16 ^ 6 := by
      have : (16 : Nat) ^ (S 23 1).toNat ≤ 16 ^ 6 := Nat.pow_le_pow_right (by decide) (by omega)
      have e : ((16 ^ (S 23 1).toNat : Nat) : Int) = (16 : Int) ^ (S 23 1).toNat := by simp
      rw [← e]
      exact Int.le_trans (Int.ofNat_le.mpr this) (by decide)
    have hinj := encI_inj (a := c2') (b := a2) (S 23 1).toNat (fun g g0 g1 => W2.2 g g0 (by omega)) (fun g g0 g1 => V2.2 g g0 (by omega))
    rw [enat] at hinj
    have hiff : vt_cmp (Int64.ofInt (encI c2' (S 23 1).toNat)) (Int64.ofInt (encI a2 (S 23 1).toNat)) = 0 ↔ stE (S 23 1) b2 e2 := by
      rw [cmp_eq0, ← Int64.toInt_inj, Int64.toInt_ofInt_of_le (by omega) (by omega), Int64.toInt_ofInt_of_le (by omega) (by omega), hinj]
      exact ⟨fun z => hE2.sy.tr (z.sy.tr hE4), fun z => hE4.tr (z.sy.tr hE2.sy)⟩
    have hcr := cmp_rg (Int64.ofInt (encI c2' (S 23 1).toNat)) (Int64.ofInt (encI a2 (S 23 1).toNat))
    refine ⟨by omega, fun d5 => ?_, fun d5 => ?_⟩
    · have : stEB (S 23 1) b2 e2 = false := by
        cases hq : stEB (S 23 1) b2 e2
        · rfl
        · exact absurd (hiff.mpr (stEB_iff.mp hq)) d5
      rw [ef, this]
      exact ⟨rfl, rfl, _, rfl⟩
    · rw [ef, stEB_iff.mpr (hiff.mp d5)]
      exact ⟨rfl, rfl, _, rfl⟩
  · rw [bI_0.mp c]
    exact ⟨rfl, rfl, (S 43 40, S 39), rw_self.symm⟩
end TMF
