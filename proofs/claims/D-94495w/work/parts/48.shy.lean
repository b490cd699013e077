/-! SPEC: tests by a stack of signs that wait -/
set_option maxRecDepth 100000
def strn (s : Int) : Int := if s = 13 then 1 else if s = 12 then 2 else if s = 11 then 3 else 0
def apO (s : Int) (vs : List WF) : List WF := if s = 11 then (match vs with
  | a :: r => ngW a :: r
  | [] => []) else match vs with
  | b :: a :: r => jn s a b :: r
  | _ => []
/-- signs of strength m and more are settled -/
def stw (m : Int) : List Int → List WF → List Int × List WF
  | [], vs => ([], vs)
  | s :: st, vs => if m ≤ strn s then stw m st (apO s vs) else (s :: st, vs)
def dpq : List Int → Int
  | [] => 0
  | s :: st => dpq st + (if s = 11 ∨ s = 91 then 1 else 0)
abbrev MR : Type := Int ⊕ (Int × Int × List WF)
/-- true: before a fact; false: behind one -/
def mc (tp : Int → Int) (n : Int) : Nat → Bool → Int → Int → List Int → List WF → Option MR
  | 0, _, _, _, _, _ => none
  | k + 1, true, a, cn, st, vs => if wl tp n (sk tp n a) = wNot then (if dpq st = 10 then some (.inl (er 2 (sk tp n a))) else mc tp n k true (sk tp n a + 3) cn (11 :: st) vs)
      else if sg tp n (sk tp n a) = 91 then (if dpq st = 10 then some (.inl (er 2 (sk tp n a))) else mc tp n k true (sk tp n a + 1) cn (91 :: st) vs)
      else match pCmp tp n k (sk tp n a) cn with
        | none => none
        | some (.inl e) => some (.inl e)
        | some (.inr q) => mc tp n k false q.1 q.2.1 (stw 3 st (q.2.2 :: vs)).1 (stw 3 st (q.2.2 :: vs)).2
  | k + 1, false, a, cn, st, vs => if sg tp n (sk tp n a) = 93 ∧ 91 ∈ st then mc tp n k false (sk tp n a + 1) cn (stw 3 (stw 1 st vs).1.tail (stw 1 st vs).2).1 (stw 3 (stw 1 st vs).1.tail (stw 1 st vs).2).2
      else if wl tp n (sk tp n a) = wAnd then mc tp n k true (sk tp n a + 3) cn (12 :: (stw 2 st vs).1) (stw 2 st vs).2
      else if wl tp n (sk tp n a) = wOr then mc tp n k true (sk tp n a + 2) cn (13 :: (stw 1 st vs).1) (stw 1 st vs).2
      else if 91 ∈ st then some (.inl (er 0 (sk tp n a))) else some (.inr (sk tp n a, cn, (stw 1 st vs).2))
theorem pb_mono {x x' : Option PRs} {f f' : Int → Int → WF → Option PRs} {r : PRs} (h : pb x f = some r) (hx : ∀ q, x = some q → x' = some q) (hf : ∀ a c G q, f a c G = some q → f' a c G = some q) : pb x' f' = some r := by
  cases x with
  | none => cases h
  | some q =>
    rw [hx q rfl]
    cases q with
    | inl e => exact h
    | inr q => exact hf _ _ _ _ h
theorem pb_inv {x : Option PRs} {f : Int → Int → WF → Option PRs} {q : PRs} (h : pb x f = some q) : (∃ e, x = some (.inl e) ∧ q = .inl e) ∨ ∃ a c G, x = some (.inr (a, c, G)) ∧ f a c G = some q := by
  cases x with
  | none => cases h
  | some y =>
    cases y with
    | inl e => exact .inl ⟨e, rfl, (Option.some.inj h).symm⟩
    | inr y => exact .inr ⟨y.1, y.2.1, y.2.2, rfl, h⟩
section SHY
variable {tp : Int → Int} {n : Int}
theorem pTmL_mono : ∀ (k : Nat) (a cn : Int) (F : WF) (r : PRs), pTmL tp n k a cn F = some r → pTmL tp n (k + 1) a cn F = some r
  | 0, _, _, _, _, h => by cases h
  | k + 1, a, cn, F, r, h => by
    rw [pTmL] at h ⊢
    split at h
    · rename_i c
      rw [if_pos c]
      exact pb_mono h (fun _ e => e) (fun a c G q e => pTmL_mono k _ _ _ _ e)
    · rename_i c
      rw [if_neg c]
      exact h
theorem pTm_mono {k : Nat} {a cn : Int} {r : PRs} (h : pTm tp n k a cn = some r) : pTm tp n (k + 1) a cn = some r := pb_mono h (fun _ e => e) (fun _ _ _ _ e => pTmL_mono k _ _ _ _ e)
theorem pSmL_mono : ∀ (k : Nat) (a cn : Int) (F : WF) (r : PRs), pSmL tp n k a cn F = some r → pSmL tp n (k + 1) a cn F = some r
  | 0, _, _, _, _, h => by cases h
  | k + 1, a, cn, F, r, h => by
    rw [pSmL] at h ⊢
    split at h
    · rename_i c
      rw [if_pos c]
      exact pb_mono h (fun _ e => pTm_mono e) (fun a c G q e => pSmL_mono k _ _ _ _ e)
    · rename_i c
      rw [if_neg c]
      exact h
theorem pSm_mono {k : Nat} {a cn : Int} {r : PRs} (h : pSm tp n k a cn = some r) : pSm tp n (k + 1) a cn = some r := pb_mono h (fun _ e => pTm_mono e) (fun _ _ _ _ e => pSmL_mono k _ _ _ _ e)
theorem pCmp_mono {k : Nat} {a cn : Int} {r : PRs} (h : pCmp tp n k a cn = some r) : pCmp tp n (k + 1) a cn = some r := by
  refine pb_mono h (fun _ e => pSm_mono e) (fun a c G q e => ?_)
  split at e
  · rename_i c1
    rw [if_pos c1]
    split at e
    · rename_i c2
      rw [if_pos c2]
      exact e
    · rename_i c2
      rw [if_neg c2]
      exact pb_mono e (fun _ e => pSm_mono e) (fun _ _ _ _ e => e)
  · rename_i c1
    rw [if_neg c1]
    exact e
theorem pCmp_le {k k' : Nat} {a cn : Int} {r : PRs} (h : pCmp tp n k a cn = some r) (hk : k ≤ k') : pCmp tp n k' a cn = some r := by
  induction hk with
  | refl => exact h
  | step _ ih => exact pCmp_mono ih
theorem mc_mono : ∀ (k : Nat) (md : Bool) (a cn : Int) (st : List Int) (vs : List WF) (r : MR), mc tp n k md a cn st vs = some r → mc tp n (k + 1) md a cn st vs = some r
  | 0, _, _, _, _, _, _, h => by cases h
  | k + 1, true, a, cn, st, vs, r, h => by
    rw [mc] at h ⊢
    split at h
    · rename_i c; rw [if_pos c]
      split at h
      · rename_i c; rw [if_pos c]; exact h
      · rename_i c; rw [if_neg c]; exact mc_mono k _ _ _ _ _ _ h
    · rename_i c; rw [if_neg c]
      split at h
      · rename_i c; rw [if_pos c]
        split at h
        · rename_i c; rw [if_pos c]; exact h
        · rename_i c; rw [if_neg c]; exact mc_mono k _ _ _ _ _ _ h
      · rename_i c; rw [if_neg c]
        cases hq : pCmp tp n k (sk tp n a) cn with
        | none => rw [hq] at h; cases h
        | some q =>
          rw [hq] at h
          rw [pCmp_mono hq]
          cases q with
          | inl e => exact h
          | inr q => exact mc_mono k _ _ _ _ _ _ h
  | k + 1, false, a, cn, st, vs, r, h => by
    rw [mc] at h ⊢
    split at h
    · rename_i c; rw [if_pos c]; exact mc_mono k _ _ _ _ _ _ h
    · rename_i c; rw [if_neg c]
      split at h
      · rename_i c; rw [if_pos c]; exact mc_mono k _ _ _ _ _ _ h
      · rename_i c; rw [if_neg c]
        split at h
        · rename_i c; rw [if_pos c]; exact mc_mono k _ _ _ _ _ _ h
        · rename_i c; rw [if_neg c]; exact h
theorem mc_le {k k' : Nat} {md : Bool} {a cn : Int} {st : List Int} {vs : List WF} {r : MR} (h : mc tp n k md a cn st vs = some r) (hk : k ≤ k') : mc tp n k' md a cn st vs = some r := by
  induction hk with
  | refl => exact h
  | step _ ih => exact mc_mono _ _ _ _ _ _ _ ih
def mR (tp : Int → Int) (n : Int) (md : Bool) (a cn : Int) (st : List Int) (vs : List WF) (r : MR) : Prop := ∃ k, mc tp n k md a cn st vs = some r
def nst (m : Int) (st : List Int) : Prop := ∀ s st', st = s :: st' → strn s < m
theorem stw_n {m : Int} {st : List Int} {vs : List WF} (h : nst m st) : stw m st vs = (st, vs) := by
  cases st with
  | nil => rfl
  | cons s st => rw [stw, if_neg (by have := h s st rfl; omega)]
theorem stw_nst {m : Int} : ∀ (st : List Int) (vs : List WF), nst m (stw m st vs).1
  | [], vs => fun s st' e => by cases e
  | s :: st, vs => by
    rw [stw]
    split
    · exact stw_nst st _
    · rename_i c
      intro s' st' e
      cases e
      omega
theorem stw_stw {m m' : Int} (h : m ≤ m') : ∀ (st : List Int) (vs : List WF), stw m (stw m' st vs).1 (stw m' st vs).2 = stw m st vs
  | [], vs => rfl
  | s :: st, vs => by
    by_cases c : m' ≤ strn s
    · have e : stw m' (s :: st) vs = stw m' st (apO s vs) := by rw [stw, if_pos c]
      rw [e, stw_stw h st (apO s vs)]
      rw [stw, if_pos (by omega)]
    · have e : stw m' (s :: st) vs = (s :: st, vs) := by rw [stw, if_neg c]
      rw [e]
theorem strn_pos {s : Int} (h : 1 ≤ strn s) : s = 11 ∨ s = 12 ∨ s = 13 := by
  unfold strn at h
  split at h
  · omega
  · split at h
    · omega
    · split at h <;> omega
theorem stw_mem {m : Int} (h : 1 ≤ m) : ∀ (st : List Int) (vs : List WF), 91 ∈ (stw m st vs).1 ↔ 91 ∈ st
  | [], vs => Iff.rfl
  | s :: st, vs => by
    rw [stw]
    split
    · rename_i c
      rw [stw_mem h st _, List.mem_cons]
      have := strn_pos (s := s) (by omega)
      exact ⟨.inr, fun z => z.resolve_left (by omega)⟩
    · exact Iff.rfl
theorem wl_sg {b : Int} {x : Int} {w : List Int} (h : wl tp n b = x :: w) (hx : 0 ≤ x ∧ x < 256) : sg tp n b = x := by
  have h1 := wl_pos h (by intro z; cases z)
  have h2 := wl_t h1
  rw [h] at h2
  have h3 := (List.cons.inj h2).1
  unfold sg
  rw [if_pos (isLt_lt h1), ← h3]
  omega
theorem mR_sk {a cn : Int} {st : List Int} {vs : List WF} {r : MR} (h : mR tp n false (sk tp n a) cn st vs r) : mR tp n false a cn st vs r := by
  obtain ⟨k, h⟩ := h
  cases k with
  | zero => cases h
  | succ k =>
    refine ⟨k + 1, ?_⟩
    rw [mc] at h ⊢
    rw [sk_sk] at h
    exact h
/-- the descent and the stack agree -/
theorem shy : ∀ (k : Nat),
  (∀ (a cn d : Int) (t : WF) (st : List Int) (vs : List WF) (q : PRs), d = dpq st → rd tp n k 0 a cn d t = some q → (∀ e, q = .inl e → mR tp n true a cn st vs (.inl e)) ∧ ∀ a' c' G, q = .inr (a', c', G) → ∀ r, mR tp n false a' c' (stw 3 st (G :: vs)).1 (stw 3 st (G :: vs)).2 r → mR tp n true a cn st vs r) ∧
  (∀ (a cn d : Int) (t : WF) (st : List Int) (vs : List WF) (q : PRs), d = dpq st → nst 2 st → rd tp n k 1 a cn d t = some q → (∀ e, q = .inl e → mR tp n true a cn st vs (.inl e)) ∧ ∀ a' c' G, q = .inr (a', c', G) → ∃ stx vsx, stw 2 stx vsx = (st, G :: vs) ∧ wl tp n a' ≠ wAnd ∧ sk tp n a' = a' ∧ ∀ r, mR tp n false a' c' stx vsx r → mR tp n true a cn st vs r) ∧
  (∀ (a cn d : Int) (t : WF) (st : List Int) (vs : List WF) (q : PRs), d = dpq st → nst 1 st → rd tp n k 2 a cn d t = some q → (∀ e, q = .inl e → mR tp n true a cn st vs (.inl e)) ∧ ∀ a' c' G, q = .inr (a', c', G) → ∃ stx vsx, stw 1 stx vsx = (st, G :: vs) ∧ wl tp n a' ≠ wAnd ∧ wl tp n a' ≠ wOr ∧ sk tp n a' = a' ∧ ∀ r, mR tp n false a' c' stx vsx r → mR tp n true a cn st vs r) ∧
  (∀ (a cn d : Int) (t : WF) (st stx : List Int) (vs vsx : List WF) (q : PRs), d = dpq st → nst 2 st → stw 2 stx vsx = (st, t :: vs) → rd tp n k 3 a cn d t = some q → (∀ e, q = .inl e → mR tp n false a cn stx vsx (.inl e)) ∧ ∀ a' c' G, q = .inr (a', c', G) → ∃ stx' vsx', stw 2 stx' vsx' = (st, G :: vs) ∧ wl tp n a' ≠ wAnd ∧ sk tp n a' = a' ∧ ∀ r, mR tp n false a' c' stx' vsx' r → mR tp n false a cn stx vsx r) ∧
  (∀ (a cn d : Int) (t : WF) (st stx : List Int) (vs vsx : List WF) (q : PRs), d = dpq st → nst 1 st → wl tp n (sk tp n a) ≠ wAnd → stw 1 stx vsx = (st, t :: vs) → rd tp n k 4 a cn d t = some q → (∀ e, q = .inl e → mR tp n false a cn stx vsx (.inl e)) ∧ ∀ a' c' G, q = .inr (a', c', G) → ∃ stx' vsx', stw 1 stx' vsx' = (st, G :: vs) ∧ wl tp n a' ≠ wAnd ∧ wl tp n a' ≠ wOr ∧ sk tp n a' = a' ∧ ∀ r, mR tp n false a' c' stx' vsx' r → mR tp n false a cn stx vsx r) := by
  intro k
  induction k with
  | zero => refine ⟨?_, ?_, ?_, ?_, ?_⟩ <;> (intros; rename_i h; cases h)
  | succ k ih =>
  obtain ⟨ih0, ih1, ih2, ih3, ih4⟩ := ih
  refine ⟨?_, ?_, ?_, ?_, ?_⟩
  · intro a cn d t st vs q hd h
    rw [rd] at h
    by_cases c : wl tp n (sk tp n a) = wNot
    · rw [if_pos c] at h
      by_cases c2 : d = 10
      · rw [if_pos c2] at h
        cases h
        refine ⟨fun e he => ?_, fun _ _ _ he => by cases he⟩
        cases he
        exact ⟨1, by rw [mc, if_pos c, if_pos (by omega)]⟩
      · rw [if_neg c2] at h
        have A : ∀ r, mR tp n true (sk tp n a + 3) cn (11 :: st) vs r → mR tp n true a cn st vs r := by
          rintro r ⟨k, hk⟩
          exact ⟨k + 1, by rw [mc, if_pos c, if_neg (by omega)]; exact hk⟩
        have hd2 : d + 1 = dpq (11 :: st) := by rw [dpq, if_pos (.inl rfl)]; omega
        rcases pb_inv h with ⟨e, h1, rfl⟩ | ⟨a1, c1, G, h1, h2⟩
        · refine ⟨fun e he => ?_, fun _ _ _ he => by cases he⟩
          cases he
          exact A _ ((ih0 _ _ _ _ _ _ _ hd2 h1).1 e rfl)
        · cases h2
          refine ⟨fun e he => (by cases he), fun _ _ _ he => ?_⟩
          cases he
          intro r hr
          refine A _ ((ih0 _ _ _ _ _ _ _ hd2 h1).2 _ _ _ rfl r ?_)
          rw [show stw 3 (11 :: st) (G :: vs) = stw 3 st (ngW G :: vs) from by rw [stw, if_pos (by decide)]; rfl]
          exact hr
    · rw [if_neg c] at h
      by_cases c1 : sg tp n (sk tp n a) = 91
      · rw [if_pos c1] at h
        by_cases c2 : d = 10
        · rw [if_pos c2] at h
          cases h
          refine ⟨fun e he => ?_, fun _ _ _ he => by cases he⟩
          cases he
          exact ⟨1, by rw [mc, if_neg c, if_pos c1, if_pos (by omega)]⟩
        · rw [if_neg c2] at h
          have A : ∀ r, mR tp n true (sk tp n a + 1) cn (91 :: st) vs r → mR tp n true a cn st vs r := by
            rintro r ⟨k, hk⟩
            exact ⟨k + 1, by rw [mc, if_neg c, if_pos c1, if_neg (by omega)]; exact hk⟩
          have hd2 : d + 1 = dpq (91 :: st) := by rw [dpq, if_pos (.inr rfl)]; omega
          have hn : nst 1 (91 :: st) := fun s st' e => by cases e; decide
          rcases pb_inv h with ⟨e, h1, rfl⟩ | ⟨a1, c1, G, h1, h2⟩
          · refine ⟨fun e he => ?_, fun _ _ _ he => by cases he⟩
            cases he
            exact A _ ((ih2 _ _ _ _ _ _ _ hd2 hn h1).1 e rfl)
          · obtain ⟨stx, vsx, g1, g2, g3, g4, g5⟩ := (ih2 _ _ _ _ _ vs _ hd2 hn h1).2 _ _ _ rfl
            have hm : 91 ∈ stx := (stw_mem (Int.le_refl 1) stx vsx).mp (by rw [g1]; exact List.mem_cons_self)
            rw [g4] at h2
            by_cases c3 : sg tp n a1 = 93
            · rw [if_pos c3] at h2
              cases h2
              refine ⟨fun e he => (by cases he), fun _ _ _ he => ?_⟩
              cases he
              rintro r ⟨k, hk⟩
              refine A _ (g5 r ⟨k + 1, ?_⟩)
              rw [mc, g4, if_pos ⟨c3, hm⟩, g1]
              exact hk
            · rw [if_neg c3] at h2
              cases h2
              refine ⟨fun e he => ?_, fun _ _ _ he => by cases he⟩
              cases he
              refine A _ (g5 _ ⟨1, ?_⟩)
              rw [mc, g4, if_neg (fun z => c3 z.1), if_neg g2, if_neg g3, if_pos hm]
      · rw [if_neg c1] at h
        refine ⟨fun e he => ?_, fun a' c' G he => ?_⟩
        · subst he
          exact ⟨k + 1, by rw [mc, if_neg c, if_neg c1, h]⟩
        · subst he
          rintro r ⟨k2, hk⟩
          refine ⟨max k k2 + 1, ?_⟩
          rw [mc, if_neg c, if_neg c1, pCmp_le h (Nat.le_max_left k k2)]
          exact mc_le hk (Nat.le_max_right _ _)
  · intro a cn d t st vs q hd hn h
    rw [rd] at h
    rcases pb_inv h with ⟨e, h1, rfl⟩ | ⟨a1, c1, G, h1, h2⟩
    · refine ⟨fun e he => ?_, fun _ _ _ he => by cases he⟩
      cases he
      exact (ih0 _ _ _ _ _ _ _ hd h1).1 e rfl
    · have g := (ih0 _ _ _ _ _ vs _ hd h1).2 _ _ _ rfl
      have hn3 : nst 3 st := fun s st' e => by have := hn s st' e; omega
      rw [stw_n hn3] at g
      obtain ⟨g1, g2⟩ := ih3 a1 c1 d G st st vs (G :: vs) q hd hn (stw_n hn) h2
      refine ⟨fun e he => g _ (g1 e he), fun a' c' G' he => ?_⟩
      obtain ⟨stx, vsx, k1, k2, k3, k4⟩ := g2 a' c' G' he
      exact ⟨stx, vsx, k1, k2, k3, fun r hr => g _ (k4 r hr)⟩
  · intro a cn d t st vs q hd hn h
    rw [rd] at h
    have hn2 : nst 2 st := fun s st' e => by have := hn s st' e; omega
    rcases pb_inv h with ⟨e, h1, rfl⟩ | ⟨a1, c1, G, h1, h2⟩
    · refine ⟨fun e he => ?_, fun _ _ _ he => by cases he⟩
      cases he
      exact (ih1 _ _ _ _ _ _ _ hd hn2 h1).1 e rfl
    · obtain ⟨stx, vsx, g1, g2, g3, g4⟩ := (ih1 _ _ _ _ _ vs _ hd hn2 h1).2 _ _ _ rfl
      have e1 : stw 1 stx vsx = (st, G :: vs) := by
        rw [← stw_stw (m := 1) (m' := 2) (by decide) stx vsx, g1]
        exact stw_n hn
      obtain ⟨k1, k2⟩ := ih4 a1 c1 d G st stx vs vsx q hd hn (by rw [g3]; exact g2) e1 h2
      refine ⟨fun e he => g4 _ (k1 e he), fun a' c' G' he => ?_⟩
      obtain ⟨stx', vsx', l1, l2, l3, l4, l5⟩ := k2 a' c' G' he
      exact ⟨stx', vsx', l1, l2, l3, l4, fun r hr => g4 _ (l5 r hr)⟩
  · intro a cn d t st stx vs vsx q hd hn hx h
    rw [rd] at h
    by_cases c : wl tp n (sk tp n a) = wAnd
    · rw [if_pos c] at h
      have A : ∀ r, mR tp n true (sk tp n a + 3) cn (12 :: st) (t :: vs) r → mR tp n false a cn stx vsx r := by
        rintro r ⟨k, hk⟩
        refine ⟨k + 1, ?_⟩
        rw [mc, if_neg (fun z => by have := wl_sg c (by decide); omega), if_pos c, hx]
        exact hk
      have hd2 : d = dpq (12 :: st) := by rw [dpq, if_neg (by decide)]; omega
      rcases pb_inv h with ⟨e, h1, rfl⟩ | ⟨a1, c1, G, h1, h2⟩
      · refine ⟨fun e he => ?_, fun _ _ _ he => by cases he⟩
        cases he
        exact A _ ((ih0 _ _ _ _ _ _ _ hd2 h1).1 e rfl)
      · have g := (ih0 _ _ _ _ _ (t :: vs) _ hd2 h1).2 _ _ _ rfl
        rw [stw_n (show nst 3 (12 :: st) from fun s st' e => by cases e; decide)] at g
        have e1 : stw 2 (12 :: st) (G :: t :: vs) = (st, jn 12 t G :: vs) := by
          rw [stw, if_pos (by decide)]
          exact stw_n hn
        obtain ⟨g1, g2⟩ := ih3 a1 c1 d _ st _ vs _ q hd hn e1 h2
        refine ⟨fun e he => A _ (g _ (g1 e he)), fun a' c' G' he => ?_⟩
        obtain ⟨stx, vsx, k1, k2, k3, k4⟩ := g2 a' c' G' he
        exact ⟨stx, vsx, k1, k2, k3, fun r hr => A _ (g _ (k4 r hr))⟩
    · rw [if_neg c] at h
      cases h
      refine ⟨fun e he => (by cases he), fun _ _ _ he => ?_⟩
      cases he
      exact ⟨stx, vsx, hx, c, sk_sk _, fun r hr => mR_sk hr⟩
  · intro a cn d t st stx vs vsx q hd hn hna hx h
    rw [rd] at h
    by_cases c : wl tp n (sk tp n a) = wOr
    · rw [if_pos c] at h
      have A : ∀ r, mR tp n true (sk tp n a + 2) cn (13 :: st) (t :: vs) r → mR tp n false a cn stx vsx r := by
        rintro r ⟨k, hk⟩
        refine ⟨k + 1, ?_⟩
        rw [mc, if_neg (fun z => by have := wl_sg c (by decide); omega), if_neg hna, if_pos c, hx]
        exact hk
      have hd2 : d = dpq (13 :: st) := by rw [dpq, if_neg (by decide)]; omega
      have hn2 : nst 2 (13 :: st) := fun s st' e => by cases e; decide
      rcases pb_inv h with ⟨e, h1, rfl⟩ | ⟨a1, c1, G, h1, h2⟩
      · refine ⟨fun e he => ?_, fun _ _ _ he => by cases he⟩
        cases he
        exact A _ ((ih1 _ _ _ _ _ _ _ hd2 hn2 h1).1 e rfl)
      · obtain ⟨sty, vsy, g1, g2, g3, g4⟩ := (ih1 _ _ _ _ _ (t :: vs) _ hd2 hn2 h1).2 _ _ _ rfl
        have e1 : stw 1 sty vsy = (st, jn 13 t G :: vs) := by
          rw [← stw_stw (m := 1) (m' := 2) (by decide) sty vsy, g1]
          show stw 1 (13 :: st) (G :: t :: vs) = _
          rw [stw, if_pos (by decide)]
          exact stw_n hn
        obtain ⟨k1, k2⟩ := ih4 a1 c1 d _ st sty vs vsy q hd hn (by rw [g3]; exact g2) e1 h2
        refine ⟨fun e he => A _ (g4 _ (k1 e he)), fun a' c' G' he => ?_⟩
        obtain ⟨stx', vsx', l1, l2, l3, l4, l5⟩ := k2 a' c' G' he
        exact ⟨stx', vsx', l1, l2, l3, l4, fun r hr => A _ (g4 _ (l5 r hr))⟩
    · rw [if_neg c] at h
      cases h
      refine ⟨fun e he => (by cases he), fun _ _ _ he => ?_⟩
      cases he
      exact ⟨stx, vsx, hx, hna, c, sk_sk _, fun r hr => mR_sk hr⟩
/-- a whole test -/
theorem shy_top {k : Nat} {a cn : Int} {t : WF} {vs : List WF} {q : PRs} (h : rd tp n k 2 a cn 0 t = some q) : mR tp n true a cn [] vs (match q with
    | .inl e => .inl e
    | .inr p => .inr (p.1, p.2.1, p.2.2 :: vs)) := by
  obtain ⟨h1, h2⟩ := (shy k).2.2.1 a cn 0 t [] vs q rfl (fun s st' e => by cases e) h
  cases q with
  | inl e => exact h1 e rfl
  | inr p =>
    obtain ⟨stx, vsx, l1, l2, l3, l4, l5⟩ := h2 _ _ _ rfl
    have hm : ¬ 91 ∈ stx := fun z => by
      have := (stw_mem (Int.le_refl 1) stx vsx).mpr z
      rw [l1] at this
      cases this
    refine l5 _ ⟨1, ?_⟩
    rw [mc, l4, if_neg (fun z => hm z.2), if_neg l2, if_neg l3, if_neg hm, l1]
end SHY
