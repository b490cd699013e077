/-! THE TWIN's methods: spreads, place, far -/
set_option maxRecDepth 100000
section TMB
variable {S : SS} {B : SB} {K : Int}
/-- only the arrays ks may differ -/
def vt_but (ks : List Nat) (S S' : SS) : Prop := ∀ j, j ∉ ks → S' j = S j
theorem vt_but.rf {ks : List Nat} : vt_but ks S S := fun _ _ => rfl
theorem vt_but.up {ks : List Nat} {T : SS} (h : vt_but ks S T) {k : Nat} {i v : Int} (hk : k ∈ ks) : vt_but ks S (vt_up T k i v) := fun j hj => by
  rw [vt_up_ne (fun e => hj (by rw [e]; exact hk))]
  exact h j hj
theorem vt_but.tr {ks ls : List Nat} {T U : SS} (h : vt_but ks S T) (h2 : vt_but ls T U) (hs : ∀ k ∈ ks, k ∈ ls) : vt_but ls S U := fun j hj => by
  rw [h2 j hj, h j (fun z => hj (hs j z))]
theorem tm_spreads {p : Int} (hp : 0 ≤ p ∧ p ≤ 7) (h : LI K (S 23)) : vt_M 46 [me, ii p] S B (fun r S' B' => none = r ∧ vt_but [25] S S' ∧ B = B' ∧ ∀ q, 0 ≤ q → q ≤ 7 → S' 25 q = dst (S 23) p q ∧ -1 ≤ dst (S 23) p q ∧ dst (S 23) p q ≤ 7) := by
  refine vt_start rfl rfl (Nat.le_of_ble_eq_true rfl) (fun X hX => ?_)
  have h0 := h.nW
  have hd := h.dir
  have outer : ∀ (M : Nat) (T : SS) (z : Int), vt_but [25] S T → Fvd (S 23) p (T 25) → (z = 0 ∧ (∀ w, 0 ≤ w → w < S 23 0 → Fcl (S 23) (T 25) w)) ∨ (z = 1 ∧ Fmu (T 25) < M) → vt_J 46 (fun r S' B' => none = r ∧ vt_but [25] S S' ∧ B = B' ∧ ∀ q, 0 ≤ q → q ≤ 7 → S' 25 q = dst (S 23) p q ∧ -1 ≤ dst (S 23) p q ∧ dst (S 23) p q ≤ 7) X 30 [(0, me), (1, ii p), (2, ii z)] [] T B := by
    intro M
    induction M with
    | zero =>
      intro T z hT hF hz
      rcases hz with ⟨rfl, hz⟩ | ⟨_, hz⟩
      · refine vt_walk hX tk_spreads [] 10 ?_
        refine ⟨by omega, fun _ => ?_, fun c => absurd rfl c⟩
        exact ⟨rfl, hT, rfl, fun q q0 q7 => ⟨hF.done h hz q0 q7, by rw [← hF.done h hz q0 q7]; exact hF.le q0 q7⟩⟩
      · omega
    | succ M ihM =>
      intro T z hT hF hz
      rcases hz with ⟨rfl, hz⟩ | ⟨rfl, hz⟩
      · refine vt_walk hX tk_spreads [] 10 ?_
        refine ⟨by omega, fun _ => ?_, fun c => absurd rfl c⟩
        exact ⟨rfl, hT, rfl, fun q q0 q7 => ⟨hF.done h hz q0 q7, by rw [← hF.done h hz q0 q7]; exact hF.le q0 q7⟩⟩
      · have inner : ∀ (n : Nat) (w : Int) (T : SS) (z : Int), 0 ≤ w → w + n = S 23 0 → vt_but [25] S T → Fvd (S 23) p (T 25) → Fmu (T 25) ≤ M → (z = 0 ∧ (∀ v, 0 ≤ v → v < w → Fcl (S 23) (T 25) v)) ∨ (z = 1 ∧ Fmu (T 25) < M) →
            vt_J 46 (fun r S' B' => none = r ∧ vt_but [25] S S' ∧ B = B' ∧ ∀ q, 0 ≤ q → q ≤ 7 → S' 25 q = dst (S 23) p q ∧ -1 ≤ dst (S 23) p q ∧ dst (S 23) p q ≤ 7) X 38 [(0, me), (1, ii p), (2, ii z), (3, ii w)] [] T B := by
          intro n
          induction n with
          | zero =>
            intro w T z hw hn hT hF hM hz
            have e23 : T 23 = S 23 := hT 23 (by decide)
            refine vt_walk hX tk_spreads [(38, [0, 1, 2, 3]), (30, [0, 1, 2])] 60 ?_
            rw [← e23] at hn h0
            refine ⟨by omega, by omega, fun _ => ?_, fun c => absurd c (by omega)⟩
            rw [e23] at hn
            refine ihM T z hT hF ?_
            rcases hz with ⟨rfl, hz⟩ | ⟨rfl, hz⟩
            · exact Or.inl ⟨rfl, fun v v0 v1 => hz v v0 (by omega)⟩
            · exact Or.inr ⟨rfl, hz⟩
          | succ n ih =>
            intro w T z hw hn hT hF hM hz
            have e23 : T 23 = S 23 := hT 23 (by decide)
            have hWI := h.w hw (by omega)
            have ea := hWI.end (d := S 23 2) (Or.inl rfl)
            have eb := hWI.end (d := S 23 2) (Or.inr rfl)
            have la := hF.le ea.1 ea.2
            have lb := hF.le eb.1 eb.2
            refine vt_walk hX tk_spreads [(38, [0, 1, 2, 3]), (30, [0, 1, 2])] 80 ?_
            refine ⟨by omega, by rw [e23]; omega, fun c => absurd c (by rw [e23]; omega), fun _ => ?_⟩
            refine ⟨by omega, vt_k (tm_endOf (by rw [e23]; omega) (by omega) (Or.inl rfl)) ?_⟩
            refine ⟨by omega, vt_k (tm_endOf (by rw [e23]; omega) (by omega) (Or.inr rfl)) ?_⟩
            rw [e23]
            refine ⟨by omega, by omega, fun c => ?_, fun c => ?_⟩
            · refine ih (w + 1) T z (by omega) (by omega) hT hF hM ?_
              rcases hz with ⟨rfl, hz⟩ | ⟨rfl, hz⟩
              · refine Or.inl ⟨rfl, fun v v0 v1 => ?_⟩
                by_cases e : v = w
                · subst e; exact Or.inl c
                · exact hz v v0 (by omega)
              · exact Or.inr ⟨rfl, hz⟩
            · have upd : (T 25 (sE (S 23) (S 23 2) w 1) < 0 ∨ T 25 (sE (S 23) (S 23 2) w 0) + 1 < T 25 (sE (S 23) (S 23 2) w 1)) → vt_J 46 (fun r S' B' => none = r ∧ vt_but [25] S S' ∧ B = B' ∧ ∀ q, 0 ≤ q → q ≤ 7 → S' 25 q = dst (S 23) p q ∧ -1 ≤ dst (S 23) p q ∧ dst (S 23) p q ≤ 7) X 38 [(0, me), (1, ii p), (2, ii 1), (3, ii (w + 1))] [] (vt_up T 25 (sE (S 23) (S 23 2) w 1) (T 25 (sE (S 23) (S 23 2) w 0) + 1)) B := by
                intro hb
                obtain ⟨u1, u2⟩ := hF.up hw (by omega) hWI c hb
                exact ih (w + 1) _ 1 (by omega) (by omega) (hT.up (by decide)) (by rw [vt_up_at]; exact u1) (by rw [vt_up_at]; omega) (Or.inr ⟨rfl, by rw [vt_up_at]; omega⟩)
              refine ⟨by omega, by omega, fun c2 => ?_, fun c2 => ?_⟩
              · exact ⟨by omega, by omega, upd (Or.inl c2)⟩
              · refine ⟨by omega, by omega, by omega, fun c3 => ?_, fun c3 => ?_⟩
                · exact ⟨by omega, by omega, upd (Or.inr c3)⟩
                · refine ih (w + 1) T z (by omega) (by omega) hT hF hM ?_
                  rcases hz with ⟨rfl, hz⟩ | ⟨rfl, hz⟩
                  · refine Or.inl ⟨rfl, fun v v0 v1 => ?_⟩
                    by_cases e : v = w
                    · subst e; exact Or.inr ⟨c2, c3⟩
                    · exact hz v v0 (by omega)
                  · exact Or.inr ⟨rfl, hz⟩
        refine vt_walk hX tk_spreads [(38, [0, 1, 2, 3])] 20 ?_
        refine ⟨by omega, fun c => absurd c (by decide), fun _ => ?_⟩
        exact inner (S 23 0).toNat 0 T 0 (by omega) (by omega) hT hF (by omega) (Or.inl ⟨rfl, fun v v0 v1 => by omega⟩)
  have first : ∀ (n : Nat) (q : Int) (T : SS), 0 ≤ q → q + n = 8 → vt_but [25] S T → (∀ i, 0 ≤ i → i < q → T 25 i = -1) → vt_J 46 (fun r S' B' => none = r ∧ vt_but [25] S S' ∧ B = B' ∧ ∀ q, 0 ≤ q → q ≤ 7 → S' 25 q = dst (S 23) p q ∧ -1 ≤ dst (S 23) p q ∧ dst (S 23) p q ≤ 7) X 2 [(0, me), (1, ii p), (2, ii q)] [] T B := by
    intro n
    induction n with
    | zero =>
      intro q T hq hn hT hF
      refine vt_walk hX tk_spreads [(2, [0, 1, 2]), (30, [0, 1, 2])] 30 ?_
      refine ⟨by omega, fun _ => ?_, fun c => absurd c (by omega)⟩
      refine ⟨by omega, ?_⟩
      refine outer (Fmu (vt_up T 25 p 0 25) + 1) _ 1 (hT.up (by decide)) (Fvd.start hp vt_up_self (fun i i0 i7 hi => ?_)) (Or.inr ⟨rfl, by omega⟩)
      rw [vt_up_off hi]
      exact hF i i0 (by omega)
    | succ n ih =>
      intro q T hq hn hT hF
      refine vt_walk hX tk_spreads [(2, [0, 1, 2]), (30, [0, 1, 2])] 30 ?_
      refine ⟨by omega, fun c => absurd c (by omega), fun _ => ?_⟩
      refine ⟨by omega, ?_⟩
      refine ih (q + 1) _ (by omega) (by omega) (hT.up (by decide)) (fun i i0 i1 => ?_)
      by_cases e : i = q
      · subst e; exact vt_up_self
      · rw [vt_up_off e]; exact hF i i0 (by omega)
  refine vt_walk hX tk_spreads [(2, [0, 1, 2])] 10 ?_
  exact first 8 0 S (by omega) (by omega) vt_but.rf (fun i i0 i1 => by omega)
def sp_far (f : Int → Int) (p q v : Int) : Prop := v = if sIsP p = true ∧ sIsP q = true then (if dst f p q < 0 then -2 else dst f p q) else -1
theorem tm_far {p q : Int} (hp : -2147483648 ≤ p ∧ p ≤ 2147483647) (hq : -2147483648 ≤ q ∧ q ≤ 2147483647) (h : LI K (S 23)) : vt_M 47 [me, ii p, ii q] S B (fun r S' B' => (∃ v, some (ii v) = r ∧ sp_far (S 23) p q v) ∧ vt_but [25] S S' ∧ B = B') := by
  refine vt_start rfl rfl (Nat.le_of_ble_eq_true rfl) (fun X hX => ?_)
  refine vt_walk hX tk_far [] 60 ?_
  refine vt_k (tm_isPlace hp) ?_
  have hb := bI_rg (sIsP p)
  refine ⟨by omega, fun c => ?_, fun c => ?_⟩
  · refine ⟨⟨_, rfl, ?_⟩, vt_but.rf, rfl⟩
    unfold sp_far
    rw [bI_0.mp c, if_neg (by simp)]
  have c1 := bI_n0.mp c
  have c2 := of_decide_eq_true c1
  refine vt_k (tm_isPlace hq) ?_
  have hb2 := bI_rg (sIsP q)
  refine ⟨by omega, fun d => ?_, fun d => ?_⟩
  · have d1 := bI_n0.mp d
    have d2 := of_decide_eq_true d1
    refine ⟨_, tm_spreads (by omega) h, ?_⟩
    rintro _ T _ ⟨rfl, hT, rfl, hD⟩
    obtain ⟨e1, e2, e3⟩ := hD q (by omega) (by omega)
    refine ⟨by omega, by omega, fun c3 => ?_, fun c3 => ?_⟩
    · refine ⟨by omega, ⟨_, rfl, ?_⟩, hT, rfl⟩
      unfold sp_far
      rw [if_pos ⟨c1, d1⟩, if_neg (by omega), e1]
    · refine ⟨⟨_, rfl, ?_⟩, hT, rfl⟩
      unfold sp_far
      rw [if_pos ⟨c1, d1⟩, if_pos (by omega)]
  · refine ⟨⟨_, rfl, ?_⟩, vt_but.rf, rfl⟩
    unfold sp_far
    rw [bI_0.mp d, if_neg (by simp)]
theorem bset_s {p : Int → Bool} {q : Int} (h : 0 ≤ q) : bset p (q + 1).toNat = (bset p q.toNat ||| (if p q = true then 2 ^ q.toNat else 0)) := by
  obtain ⟨n, rfl⟩ := Int.eq_ofNat_of_zero_le h
  rw [show ((n : Int) + 1).toNat = n + 1 by omega, Int.toNat_natCast]
  rfl
def sp_place (f : Int → Int) (p k v : Int) : Prop := v = if sIsP p = true ∧ sIn k 0 4 = true then (if k < 2 then sLd f (f 2) p k else if k = 2 then sSt f p else if k = 3 then sLd f (f 2) p 0 - sSt f p else ((bset (fun q => decide (0 ≤ dst f p q)) 8 : Nat) : Int)) else -100
theorem tm_place {p k : Int} (hp : -2147483648 ≤ p ∧ p ≤ 2147483647) (hk : -2147483648 ≤ k ∧ k ≤ 2147483647) (h : LI K (S 23)) : vt_M 42 [me, ii p, ii k] S B (fun r S' B' => (∃ v, some (ii v) = r ∧ sp_place (S 23) p k v) ∧ vt_but [25] S S' ∧ B = B') := by
  refine vt_start rfl rfl (Nat.le_of_ble_eq_true rfl) (fun X hX => ?_)
  have h0 := h.nW
  have hd := h.dir
  refine vt_walk hX tk_place [(85, [0, 1, 2, 3, 4])] 60 ?_
  refine vt_k (tm_isPlace hp) ?_
  have hb := bI_rg (sIsP p)
  refine ⟨by omega, fun c => ?_, fun c => ?_⟩
  · refine ⟨⟨_, rfl, ?_⟩, vt_but.rf, rfl⟩
    unfold sp_place
    rw [bI_0.mp c, if_neg (by simp)]
  have c1 := bI_n0.mp c
  have c2 := of_decide_eq_true c1
  refine ⟨hk, vt_k (tm_in (by omega) (by omega) (by omega)) ?_⟩
  have hb2 := bI_rg (sIn k 0 4)
  refine ⟨by omega, fun d => ?_, fun d => ?_⟩
  · have d1 := bI_n0.mp d
    have d2 := of_decide_eq_true d1
    refine ⟨by omega, fun e => ?_, fun e => ?_⟩
    · refine ⟨by omega, fun e2 => ?_, fun e2 => ?_⟩
      · refine ⟨by omega, fun e3 => ?_, fun e3 => ?_⟩
        · have hk4 : k = 4 := by omega
          refine ⟨_, tm_spreads (by omega) h, ?_⟩
          rintro _ T _ ⟨rfl, hT, rfl, hD⟩
          have loop : ∀ (n : Nat) (q : Int), 0 ≤ q → q + n = 8 → vt_J 42 (fun r S' B' => (∃ v, some (ii v) = r ∧ sp_place (S 23) p k v) ∧ vt_but [25] S S' ∧ B = B') X 85 [(0, me), (1, ii p), (2, ii k), (3, ii ((bset (fun q => decide (0 ≤ dst (S 23) p q)) q.toNat : Nat) : Int)), (4, ii q)] [] T B := by
            intro n
            induction n with
            | zero =>
              intro q hq hn
              refine vt_walk hX tk_place [(85, [0, 1, 2, 3, 4])] 60 ?_
              refine ⟨by omega, fun _ => ?_, fun z => absurd z (by omega)⟩
              refine ⟨⟨_, rfl, ?_⟩, hT, rfl⟩
              unfold sp_place
              rw [if_pos ⟨c1, d1⟩, if_neg (by omega), if_neg (by omega), if_neg (by omega), show q = 8 by omega]
              rfl
            | succ n ih =>
              intro q hq hn
              obtain ⟨e1, e2, e3⟩ := hD q (by omega) (by omega)
              have hl := bset_lt (fun q => decide (0 ≤ dst (S 23) p q)) q.toNat
              have hl2 : (2 : Nat) ^ q.toNat ≤ 2 ^ 7 := Nat.pow_le_pow_right (by decide) (by omega)
              have hi := ih (q + 1) (by omega) (by omega)
              rw [bset_s hq] at hi
              refine vt_walk hX tk_place [(85, [0, 1, 2, 3, 4])] 60 ?_
              refine ⟨by omega, fun z => absurd z (by omega), fun _ => ?_⟩
              refine ⟨by omega, by omega, fun c3 => ?_, fun c3 => ?_⟩
              · rw [if_neg (by simp; omega)] at hi
                rw [show (((bset (fun q => decide (0 ≤ dst (S 23) p q)) q.toNat ||| 0 : Nat)) : Int) = vt_or ((bset (fun q => decide (0 ≤ dst (S 23) p q)) q.toNat : Nat) : Int) 0 by rw [bt_or (by omega) (by decide)]; rfl] at hi
                exact hi
              · rw [if_pos (by simp; omega)] at hi
                have e : (1 : Int) * 2 ^ q.toNat = ((2 ^ q.toNat : Nat) : Int) := by simp
                rw [show (((bset (fun q => decide (0 ≤ dst (S 23) p q)) q.toNat ||| 2 ^ q.toNat : Nat)) : Int) = vt_or ((bset (fun q => decide (0 ≤ dst (S 23) p q)) q.toNat : Nat) : Int) (1 * 2 ^ q.toNat) by rw [e, bt_or (by omega) (by omega)]; rfl] at hi
                exact ⟨by omega, hi⟩
          exact loop 8 0 (by omega) (by omega)
        · refine ⟨by omega, vt_k (tm_leading (by omega) hp (Or.inl rfl) h) ?_⟩
          refine vt_k (tm_standing hp h) ?_
          refine ⟨⟨_, rfl, ?_⟩, vt_but.rf, rfl⟩
          unfold sp_place
          rw [if_pos ⟨c1, d1⟩, if_neg (by omega), if_neg (by omega), if_pos e3]
      · refine vt_k (tm_standing hp h) ?_
        refine ⟨⟨_, rfl, ?_⟩, vt_but.rf, rfl⟩
        unfold sp_place
        rw [if_pos ⟨c1, d1⟩, if_neg (by omega), if_pos e2]
    · refine ⟨by omega, vt_k (tm_leading (by omega) hp (by omega) h) ?_⟩
      refine ⟨⟨_, rfl, ?_⟩, vt_but.rf, rfl⟩
      unfold sp_place
      rw [if_pos ⟨c1, d1⟩, if_pos (by omega)]
  · refine ⟨⟨_, rfl, ?_⟩, vt_but.rf, rfl⟩
    unfold sp_place
    rw [bI_0.mp d, if_neg (by simp)]
end TMB
