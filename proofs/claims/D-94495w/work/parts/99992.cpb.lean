/-! THE COMPONENT's parser: numbers -/
set_option maxRecDepth 100000
/-- what a reading answers: the place behind it and what it is, or the number of what is wrong -/
def NuP (Lw : List Nat) (S : SS) (B : SB) (pr o : Nat) (q : Int ⊕ (Int × Int)) : vc_Po := fun r Lw' S' B' => Lw = Lw' ∧ B = B' ∧ ((∃ x, q = .inr x ∧ r = .inl (some (ii x.2)) ∧ S' = vt_up S pr 1 x.1) ∨ ∃ e j, q = .inl e ∧ (0 ≤ j ∧ j ≤ 500) ∧ r = .inr (S o 7).toNat ∧ S' = vt_up (vt_up S pr 1 j) (S o 7).toNat 6 e)
section CPB
variable {Lw Lw' : List Nat} {S0 S : SS} {B : SB} {d o pr : Nat} {τ τ' : Nat → Nat} {tp : Int → Int} {n i lo hi : Int}
theorem cm_number (hlo : 0 ≤ lo ∧ lo ≤ 100000) (hhi : 0 ≤ hi ∧ hi ≤ 100000) (h : CPs Lw S pr o tp n i) (hi' : i ≤ n) : vc_M (d + 2) 0 0 93 [.inr (.inr pr), ii lo, ii hi] Lw S B (NuP Lw S B pr o (pNum tp n i lo hi)) := by
  refine vc_start rfl rfl (Nat.le_of_ble_eq_true rfl) (fun X hX hd => ?_)
  have hn := h.2.2.2.2.2.2.1
  have hsk := sk_spec (tp := tp) (n := n) i
  have hi0 := h.2.2.2.2.2.2.2.1
  have hskn := hsk.2.1 hi'
  generalize hb : sk tp n i = b at *
  have Cb : CPs Lw (vt_up S pr 1 b) pr o tp n b := h.at_ (by omega)
  have npo : pr ≠ o := ob_ne h.1 h.2.2.2.1 (by decide)
  have e7 : ∀ j, vt_up S pr 1 j o 7 = S o 7 := fun j => up_ne (Or.inl (fun z => npo z.symm))
  have e6 : ∀ j, (vt_up S pr 1 j pr 6).toNat = o := fun j => by rw [up_ne (Or.inr (by decide)), h.2.1, Int.toNat_natCast]
  have h7 := h.2.2.2.2.2.2.2.2.2
  have x0 : 0 < (S o 7).toNat := by
    obtain ⟨x, hx, -⟩ := h7.1
    omega
  have hq : pNum tp n i lo hi = if isDg tp n b = true then (if dgE tp n b - b ≤ 5 ∧ lo ≤ nvF tp b (dgE tp n b - b).toNat ∧ nvF tp b (dgE tp n b - b).toNat ≤ hi then .inr (dgE tp n b, nvF tp b (dgE tp n b - b).toNat) else .inl (er 1 b)) else .inl (er 0 b) := by
    unfold pNum
    rw [hb]
  generalize pNum tp n i lo hi = q at *
  have hbs := bI_rg (isDg tp n b)
  refine vc_walk hX ck_X4_number [(33, [0, 1, 2, 3, 4])] 60 hd ?_
  refine vc_kv h.1 (cm_nextS (d := d) h) ⟨Nat.le_refl _, Nat.le_refl _⟩ ?_
  rw [hb]
  refine vc_kv Cb.1 (cm_isDigit (d := d) Cb) ⟨Nat.le_refl _, Nat.le_refl _⟩ ?_
  refine ⟨by omega, fun z => ?_, fun z => ?_⟩
  rotate_left
  · have z := bI_0.mp z
    rw [z, if_neg (by decide)] at hq
    refine ⟨Cb.1, Cb.1, ?_⟩
    rw [e6, Cb.2.2.1]
    refine ⟨Cb.2.2.2.1, vc_k (cm_fails (d := d + 1) Cb.2.2.2.1 Cb.2.2.2.2.2.2.2.2.2) ⟨Nat.le_refl _, Nat.le_refl _⟩ ?_⟩
    rw [e7]
    exact ⟨⟨x0, Nat.le_refl _, Nat.le_refl _⟩, rfl, rfl, Or.inr ⟨_, b, hq, by omega, rfl, rfl⟩⟩
  have z := bI_n0.mp z
  rw [z, if_pos rfl] at hq
  have hdE := rn_dg z
  have hsp := rn_spec (p := isDg tp n) (n := n) (fun j => isDg_lt) b
  have hdd : dgE tp n b = rn (isDg tp n) n b := rfl
  have nvr : ∀ k : Nat, (b + k ≤ dgE tp n b) → 0 ≤ nvF tp b k ∧ nvF tp b k ≤ 10 ^ (min k 5) - 1 := by
    intro k
    induction k with
    | zero => intro _; exact ⟨Int.le_refl 0, by show (0 : Int) ≤ _; decide⟩
    | succ k ih =>
      intro hk
      have h1 := ih (by omega)
      have h2 := isDg_rg (hsp.2.2.2 (b + k) (by omega) (by omega))
      rw [nvF]
      by_cases c : k < 5
      · rw [if_pos c]
        rw [show min k 5 = k by omega] at h1
        rw [show min (k + 1) 5 = k + 1 by omega, Int.pow_succ]
        omega
      · rw [if_neg c]
        rw [show min k 5 = 5 by omega] at h1
        rw [show min (k + 1) 5 = 5 by omega]
        exact h1
  have nvr5 : ∀ k : Nat, (b + k ≤ dgE tp n b) → 0 ≤ nvF tp b k ∧ nvF tp b k ≤ 99999 := by
    intro k hk
    have h1 := nvr k hk
    have h2 : (10 : Int) ^ (min k 5) ≤ 100000 := by
      have : min k 5 = 0 ∨ min k 5 = 1 ∨ min k 5 = 2 ∨ min k 5 = 3 ∨ min k 5 = 4 ∨ min k 5 = 5 := by omega
      rcases this with e | e | e | e | e | e <;> (rw [e]; decide)
    omega
  generalize dgE tp n b = dE at *
  have loop : ∀ (m j : Nat), b + j + m = dE → vc_J 93 (NuP Lw S B pr o q) X 33 [(0, .inr (.inr pr)), (1, ii lo), (2, ii hi), (3, ii b), (4, ii (nvF tp b j))] [] Lw (vt_up S pr 1 (b + j)) B 0 0 := by
    intro m
    induction m with
    | zero =>
      intro j jm
      have ejj : ((j : Nat) : Int) = dE - b := by omega
      have C : CPs Lw (vt_up S pr 1 (b + j)) pr o tp n (b + j) := h.at_ (by omega)
      have hno : isDg tp n (b + j) = false := by rw [show b + j = dE by omega, hdd]; exact hsp.2.2.1
      have hv := nvr5 j (by omega)
      have hbs := bI_rg (sIn (nvF tp b j) lo hi)
      have ejt : (dE - b).toNat = j := by omega
      rw [ejt] at hq
      refine vc_walk hX ck_X4_number [] 60 hd ?_
      refine vc_kv C.1 (cm_isDigit (d := d) C) ⟨Nat.le_refl _, Nat.le_refl _⟩ ?_
      rw [hno]
      refine ⟨by decide, fun _ => ?_, fun z => absurd rfl z⟩
      refine ⟨C.1, ?_⟩
      rw [C.2.2.1]
      have bad : ¬ (dE - b ≤ 5 ∧ lo ≤ nvF tp b j ∧ nvF tp b j ≤ hi) → q = .inl (er 1 b) := fun c => by rw [hq, if_neg c]
      refine ⟨by omega, fun c => ?_, fun c => ?_⟩
      · refine ⟨C.1, ?_⟩
        rw [e6]
        refine ⟨C.2.2.2.1, vc_k (cm_fails (d := d + 1) C.2.2.2.1 C.2.2.2.2.2.2.2.2.2) ⟨Nat.le_refl _, Nat.le_refl _⟩ ?_⟩
        rw [e7]
        exact ⟨⟨x0, Nat.le_refl _, Nat.le_refl _⟩, rfl, rfl, Or.inr ⟨_, b + j, bad (by omega), by omega, rfl, rfl⟩⟩
      · refine ⟨by omega, by omega, by omega, vc_k (cm_in (by omega) (by omega) (by omega)) ⟨Nat.le_refl _, Nat.le_refl _⟩ ?_⟩
        refine ⟨by omega, fun c2 => ?_, fun c2 => ?_⟩
        · have c2 := of_decide_eq_true (bI_n0.mp c2)
          refine ⟨⟨Nat.le_refl _, Nat.le_refl _⟩, rfl, rfl, Or.inl ⟨(dE, nvF tp b j), ?_, rfl, ?_⟩⟩
          · rw [hq, if_pos ⟨by omega, c2⟩]
          · rw [show b + j = dE by omega]
        · have c2 := of_decide_eq_false (bI_0.mp c2)
          refine ⟨C.1, ?_⟩
          rw [e6]
          refine ⟨C.2.2.2.1, vc_k (cm_fails (d := d + 1) C.2.2.2.1 C.2.2.2.2.2.2.2.2.2) ⟨Nat.le_refl _, Nat.le_refl _⟩ ?_⟩
          rw [e7]
          exact ⟨⟨x0, Nat.le_refl _, Nat.le_refl _⟩, rfl, rfl, Or.inr ⟨_, b + j, bad (fun y => c2 y.2), by omega, rfl, rfl⟩⟩
    | succ m ih =>
      intro j jm
      have C : CPs Lw (vt_up S pr 1 (b + j)) pr o tp n (b + j) := h.at_ (by omega)
      have hyes : isDg tp n (b + j) = true := hsp.2.2.2 (b + j) (by omega) (by omega)
      have hrg := isDg_rg hyes
      have hlt := isDg_lt hyes
      have hv := nvr5 j (by omega)
      have hsg : sg tp n (b + j) = tp (b + j) := by
        unfold sg
        rw [if_pos hlt]
        omega
      have K := ih (j + 1) (by omega)
      have nxt : ∀ v, v = nvF tp b (j + 1) → vc_J 93 (NuP Lw S B pr o q) X 68 [(0, .inr (.inr pr)), (1, ii lo), (2, ii hi), (3, ii b)] [ii v] Lw (vt_up S pr 1 (b + j)) B 0 0 := by
        intro v hv
        refine vc_walk hX ck_X4_number [(33, [0, 1, 2, 3, 4])] 60 hd ?_
        refine ⟨C.1, C.1, ?_⟩
        rw [C.2.2.1, vt_up_up, hv, show b + (j : Int) + 1 = b + ((j + 1 : Nat) : Int) by omega]
        exact K
      refine vc_walk hX ck_X4_number [(68, [0, 1, 2, 3])] 60 hd ?_
      refine vc_kv C.1 (cm_isDigit (d := d) C) ⟨Nat.le_refl _, Nat.le_refl _⟩ ?_
      rw [hyes]
      refine ⟨by decide, fun z => absurd z (by decide), fun _ => ?_⟩
      refine ⟨C.1, ?_⟩
      rw [C.2.2.1]
      refine ⟨by omega, fun c => ?_, fun c => ?_⟩
      · exact nxt _ (by rw [nvF, if_neg (by omega)])
      · refine vc_kv C.1 (cm_sign (d := d + 1) C) ⟨Nat.le_refl _, Nat.le_refl _⟩ ?_
        rw [hsg]
        exact nxt _ (by rw [nvF, if_pos (by omega)])
  refine ⟨Cb.1, ?_⟩
  rw [Cb.2.2.1]
  have K := loop (dE - b).toNat 0 (by omega)
  rw [show b + ((0 : Nat) : Int) = b by omega] at K
  exact K
end CPB
