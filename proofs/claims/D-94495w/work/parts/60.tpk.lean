/-! THE TWIN's methods: rules read -/
set_option maxRecDepth 100000
def dCL : CL := (0, fun _ => 0, none)
def QR (S : SS) (tp : Int → Int) (n tx a cn ln L : Int) (cs : List CL) : Prop := PX0 S tp n tx a cn L 0 ∧ S 43 17 = ln ∧ (cs.length : Int) = ln ∧ ln ≤ 12 ∧ S 6 tx = ln ∧ ∀ c : Int, 0 ≤ c → c < ln → ClT S tx L c (cs.getD c.toNat dCL)
abbrev pkF : List Int := [11, 12, 13, 15, 16, 19, 17]
def FR (fs : List Int) (tx : Int) (S S' : SS) : Prop := fr pkE fs S S' ∧ (∀ i, i < 400 * tx → S' 3 i = S 3 i) ∧ (∀ i, i < 60 * tx → S' 5 i = S 5 i) ∧ ∀ i, i ≠ tx → S' 6 i = S 6 i
def chz (tp : Int → Int) (n : Int) (k : Nat) (a cn ln : Int) : Option (Int ⊕ (Int × Int × CL)) := if wl tp n (sk tp n a) = wTake ∨ wl tp n (sk tp n a) = wWait then (if ln = 12 then some (.inl (er 4 (sk tp n a))) else clz tp n k a cn) else some (.inl (er 0 (sk tp n a)))
def HPo (S : SS) (B : SB) (tp : Int → Int) (n tx ln : Int) (cs : List CL) (r : Int ⊕ (Int × Int × CL)) : vt_Po := fun rr S' B' => B' = B ∧ FR pkF tx S S' ∧ match r with
  | .inl e => some (ii 0) = rr ∧ S' 43 12 = e ∧ 1 ≤ e ∧ e ≤ 4000
  | .inr p => some (ii 1) = rr ∧ ∃ L', QR S' tp n tx p.1 p.2.1 (ln + 1) L' (cs ++ [p.2.2])
section TPK
variable {S : SS} {B : SB} {n : Int}
variable {tp : Int → Int} {tx a cn L ln : Int} {cs : List CL}
theorem rul_eq {k : Nat} : rul tp n (k + 1) a cn ln cs = gb (chz tp n k a cn ln) (fun q =>
      if sg tp n (sk tp n q.1) = 59 then rul tp n k (sk tp n q.1 + 1) q.2.1 (ln + 1) (cs ++ [q.2.2])
      else if sg tp n (sk tp n q.1) = -1 then some (.inr (cs ++ [q.2.2])) else some (.inl (er 0 (sk tp n q.1)))) := by
  rw [rul]
  unfold chz
  split
  · split
    · rfl
    · rfl
  · rfl
theorem FR.rf {fs : List Int} : FR fs tx S S := ⟨fr.rf, fun _ _ => rfl, fun _ _ => rfl, fun _ _ => rfl⟩
theorem FR.tr {fs gs : List Int} {S1 S2 : SS} (h : FR gs tx S S1) (h2 : FR fs tx S1 S2) (hf : ∀ k ∈ fs, k ∈ gs) : FR gs tx S S2 := ⟨h.1.t h2.1 (fun _ z => z) hf, fun i hi => (h2.2.1 i hi).trans (h.2.1 i hi), fun i hi => (h2.2.2.1 i hi).trans (h.2.2.1 i hi), fun i hi => (h2.2.2.2 i hi).trans (h.2.2.2 i hi)⟩
theorem FR.f {fs : List Int} {i v : Int} {S1 : SS} (h : FR fs tx S S1) (hi : i ∈ fs) : FR fs tx S (vt_up S1 43 i v) := ⟨h.1.f (by decide) hi, fun j hj => by rw [vt_up_ne (by decide)]; exact h.2.1 j hj, fun j hj => by rw [vt_up_ne (by decide)]; exact h.2.2.1 j hj, fun j hj => by rw [vt_up_ne (by decide)]; exact h.2.2.2 j hj⟩
theorem clz_sk {k : Nat} : clz tp n k (sk tp n a) cn = clz tp n k a cn := by
  unfold clz
  rw [sk_sk]
theorem PX0.f2 {i v : Int} {w : Int} (h : PX0 S tp n tx a cn L w) (h1 : i = 17) : PX0 (vt_up S 43 i v) tp n tx a cn L w := by
  subst h1
  exact h.f (by decide) (by decide) (by decide) (by decide) (by decide)
theorem tm_clauseHereR {k : Nat} {r : Int ⊕ (Int × Int × CL)} (h : QR S tp n tx a cn ln L cs) (hq : chz tp n k a cn ln = some r) : vt_M 6 [me] S B (HPo S B tp n tx ln cs r) := by
  refine vt_start rfl rfl (Nat.le_of_ble_eq_true rfl) (fun X hX => ?_)
  obtain ⟨p0, q1, q2, q3, q4, q5⟩ := h
  obtain ⟨h1, h2, h3, h4, h5, h6, h7⟩ := id p0
  have hs := sk_spec (tp := tp) (n := n) a
  have hsn := hs.2.1 h4.2.2
  have hkk := sk_sk (tp := tp) (n := n) a
  have hn : 0 ≤ n ∧ n ≤ 400 := h2.2.1
  have s1 := tm_see (B := B) h2 h4.1 h4.2
  rw [h1] at s1
  unfold chz at hq
  rw [← clz_sk] at hq
  generalize sk tp n a = c at *
  have pc : PX0 (nx S c) tp n tx c cn L 0 := p0.nx (by omega) (by omega)
  have e14 : nx S c 43 14 = tx := pc.2.2.1.1
  have e12 : nx S c 43 12 = 0 := pc.2.2.2.2.2.1
  have e17 : nx S c 43 17 = ln := (nx_i (by decide)).trans q1
  have e6 : nx S c 6 = S 6 := nx_k (by decide)
  have e5 : nx S c 5 = S 5 := nx_k (by decide)
  have e3 : nx S c 3 = S 3 := nx_k (by decide)
  have sT := tm_isWord0 (B := B) (ws := wTake) (w := Int64.ofInt 1952541541) pc.2.1 nx_11 (by omega) (by rw [pc.1]; exact hkk) (by decide) (by decide)
  have sW := tm_isWord0 (B := B) (ws := wWait) (w := Int64.ofInt 2002872692) pc.2.1 nx_11 (by omega) (by rw [pc.1]; exact hkk) (by decide) (by decide)
  rw [pc.1] at sT sW
  have k0 : FR pkF tx S (nx S c) := FR.rf.f (by decide)
  -- a clause begins here
  have yes : (wl tp n c = wTake ∨ wl tp n c = wWait) → vt_J 6 (HPo S B tp n tx ln cs r) X 94 [(0, me), (1, ii c), (2, ii 0)] [] (nx S c) B := by
    intro hw
    rw [if_pos hw] at hq
    refine vt_walk hX tk_clauseHere [(157, [0])] 100 ?_
    refine ⟨by decide, fun _ => ?_, fun z => absurd rfl z⟩
    refine ⟨by omega, fun c12 => ?_, fun c12 => ?_⟩
    · rw [if_neg (by omega)] at hq
      refine ⟨by decide, fun _ => ?_, fun z => absurd rfl z⟩
      show vt_J _ _ _ _ _ _ _ _
      rw [e17]
      have pd : PX0 (vt_up (nx S c) 43 17 (ln + 1)) tp n tx c cn L 0 := pc.f2 rfl
      have kd : FR pkF tx S (vt_up (nx S c) 43 17 (ln + 1)) := k0.f (by decide)
      have d17 : vt_up (nx S c) 43 17 (ln + 1) 43 17 = ln + 1 := vt_up_self
      have d3 : vt_up (nx S c) 43 17 (ln + 1) 3 = S 3 := by rw [vt_up_ne (by decide)]; exact e3
      have d5 : vt_up (nx S c) 43 17 (ln + 1) 5 = S 5 := by rw [vt_up_ne (by decide)]; exact e5
      have d6 : vt_up (nx S c) 43 17 (ln + 1) 6 = S 6 := by rw [vt_up_ne (by decide)]; exact e6
      generalize vt_up (nx S c) 43 17 (ln + 1) = T at *
      have sW2 := tm_isWord0 (B := B) (ws := wWait) (w := Int64.ofInt 2002872692) pd.2.1 pd.2.2.2.1.1 pd.2.2.2.1.2 (by rw [pd.1]; exact hkk) (by decide) (by decide)
      rw [pd.1] at sW2
      have main : ∀ so : Int, ((so = 0 ∧ wl tp n c = wTake) ∨ (so = 1 ∧ wl tp n c = wWait)) → ∃ P' : vt_Po, vt_M 17 [me, ii so] T B P' ∧ ∀ rr S' B', P' rr S' B' → (∃ z : Int, (z = 0 ∨ z = 1) ∧ rr = some (ii z)) ∧ HPo S B tp n tx ln cs r rr S' B' := by
        intro so hso
        refine ⟨_, tm_clauseOf (nc := ln) pd hkk hso (by rw [d6]; exact q4) (by omega) hq, ?_⟩
        rintro rr S1 B1 ⟨rfl, k1, k2, k3⟩
        have hF : FR pkF tx S S1 := by
          refine kd.tr (fs := pkF) ⟨⟨k1.1, fun i hi => k1.2.1 i (fun z => hi (by revert z; simp; omega))⟩, fun i hi => k1.2.2 i (by omega), fun i hi => k2.1 i (by omega), k2.2⟩ (fun _ z => z)
        cases r with
        | inl e => exact ⟨⟨0, .inl rfl, k3.1.symm⟩, rfl, hF, k3⟩
        | inr p =>
          obtain ⟨k4, L', hL', p1, c6, cl⟩ := k3
          refine ⟨⟨1, .inr rfl, k4.symm⟩, rfl, hF, k4, L', p1, ?_, ?_, by omega, c6, fun j j0 j1 => ?_⟩
          · rw [k1.2.1 17 (by decide)]; exact d17
          · rw [List.length_append, List.length_singleton]; omega
          · by_cases ej : j = ln
            · have : (cs ++ [p.2.2]).getD j.toNat dCL = p.2.2 := by
                rw [List.getD_eq_getElem?_getD, List.getElem?_append_right (by omega), show j.toNat - cs.length = 0 by omega]
                rfl
              rw [this, ej]
              exact cl
            · have : (cs ++ [p.2.2]).getD j.toNat dCL = cs.getD j.toNat dCL := by
                rw [List.getD_eq_getElem?_getD, List.getElem?_append_left (by omega), ← List.getD_eq_getElem?_getD]
              rw [this]
              refine (q5 j j0 (by omega)).kp hL' (fun i i0 i1 => ?_) (fun i hi => ?_)
              · rw [k2.1 i (by omega), d5]
              · rw [k1.2.2 i hi, d3]
      refine vt_walk hX tk_clauseHere [] 100 ?_
      refine vt_k sW2 ?_
      by_cases cW : wl tp n c = wWait
      · rw [decide_eq_true cW]
        refine ⟨by decide, fun z => absurd z (by decide), fun _ => ?_⟩
        obtain ⟨P', hP, hP2⟩ := main 1 (.inr ⟨rfl, cW⟩)
        refine ⟨P', hP, fun rr S' B' hp => ?_⟩
        obtain ⟨⟨z, hz, rfl⟩, hh⟩ := hP2 rr S' B' hp
        exact ⟨hz, hh⟩
      · rw [decide_eq_false cW]
        refine ⟨by decide, fun _ => ?_, fun z => absurd rfl z⟩
        obtain ⟨P', hP, hP2⟩ := main 0 (.inl ⟨rfl, hw.resolve_right cW⟩)
        refine ⟨P', hP, fun rr S' B' hp => ?_⟩
        obtain ⟨⟨z, hz, rfl⟩, hh⟩ := hP2 rr S' B' hp
        exact ⟨hz, hh⟩
    · rw [if_pos (by omega)] at hq
      cases hq
      refine vt_k (tm_fails (by omega)) ?_
      rw [if_pos e12]
      refine ⟨by omega, rfl, k0.f (by decide), rfl, ?_, by unfold er; omega⟩
      rw [vt_up_self]
      unfold er; omega
  refine vt_walk hX tk_clauseHere [(94, [0, 1, 2])] 100 ?_
  refine vt_k s1 ?_
  refine ⟨by omega, fun _ => ?_, fun z => absurd z (by omega)⟩
  refine ⟨by decide, fun _ => ?_, fun z => absurd rfl z⟩
  refine vt_k sT ?_
  by_cases cT : wl tp n c = wTake
  · rw [decide_eq_true cT]
    refine ⟨by decide, fun _ => ?_, fun z => absurd z (by decide)⟩
    refine ⟨by decide, fun _ => ?_, fun z => absurd z (by decide)⟩
    exact yes (.inl cT)
  · rw [decide_eq_false cT]
    refine ⟨by decide, fun z => absurd rfl z, fun _ => ?_⟩
    refine vt_k sW ?_
    by_cases cW : wl tp n c = wWait
    · rw [decide_eq_true cW]
      refine ⟨by decide, fun z => absurd z (by decide), fun _ => ?_⟩
      refine ⟨by decide, fun _ => ?_, fun z => absurd z (by decide)⟩
      exact yes (.inr cW)
    · rw [decide_eq_false cW]
      refine ⟨by decide, fun _ => ?_, fun z => absurd rfl z⟩
      refine ⟨by decide, fun z => absurd rfl z, fun _ => ?_⟩
      rw [if_neg (by rintro (z | z) <;> contradiction)] at hq
      cases hq
      refine vt_k (tm_fails (by omega)) ?_
      rw [if_pos e12]
      refine ⟨by omega, rfl, k0.f (by decide), rfl, ?_, by unfold er; omega⟩
      rw [vt_up_self]
      unfold er
      have : nx S c 43 11 = c := nx_11
      omega
def toR (cs : List CL) : Int × (Int → CL) := (cs.length, fun c => cs.getD c.toNat dCL)
abbrev pkG : List Int := [11, 12, 13, 15, 16, 19, 17, 1]
def RPo (S : SS) (B : SB) (tx : Int) (r : Int ⊕ List CL) : vt_Po := fun rr S' B' => B' = B ∧ FR pkG tx S S' ∧ S' 43 1 = 0 ∧ match r with
  | .inl e => some (ii 0) = rr ∧ S' 43 12 = e ∧ 1 ≤ e ∧ e ≤ 4000
  | .inr cs => some (ii 1) = rr ∧ RuT1 S' tx (toR cs)
theorem QR.ru (h : QR S tp n tx a cn ln L cs) : RuT1 S tx (toR cs) := by
  obtain ⟨p0, q1, q2, q3, q4, q5⟩ := h
  refine ⟨by rw [q4]; exact q2.symm, ⟨Int.natCast_nonneg _, by show (cs.length : Int) ≤ 12; omega⟩, fun c c0 c1 => ?_⟩
  have c1 : c < (cs.length : Int) := c1
  obtain ⟨a1, a2, a3, a4⟩ := q5 c c0 (by omega)
  refine ⟨a1, a2, fun z => (a3 z).1, ?_⟩
  show match (cs.getD c.toNat dCL).2.2 with
    | none => _
    | some G => _
  cases hq : (cs.getD c.toNat dCL).2.2 with
  | none => rw [hq] at a4; exact a4
  | some G => rw [hq] at a4; exact ⟨a4.1, a4.2.1⟩
theorem RuT1.up {t i v : Int} {r : Int × (Int → CL)} {k : Nat} (h : RuT1 S t r) (h3 : k ≠ 3) (h5 : k ≠ 5) (h6 : k ≠ 6) : RuT1 (vt_up S k i v) t r := by
  unfold RuT1
  rw [vt_up_ne (Ne.symm h3), vt_up_ne (Ne.symm h5), vt_up_ne (Ne.symm h6)]
  exact h
theorem tm_readsAllR {k : Nat} {r : Int ⊕ List CL} (h0 : S 0 = tp) (h1 : TPI S n) (h14 : S 43 14 = tx) (htx : 0 ≤ tx ∧ tx ≤ 5) (h6 : S 6 tx = 0) (hq : rul tp n k 0 0 0 [] = some r) : vt_M 5 [me] S B (RPo S B tx r) := by
  refine vt_start rfl rfl (Nat.le_of_ble_eq_true rfl) (fun X hX => ?_)
  -- the end
  have last : ∀ (T : SS), FR pkG tx S T → (match r with
      | .inl e => T 43 12 = e ∧ 1 ≤ e ∧ e ≤ 4000
      | .inr cs => T 43 12 = 0 ∧ RuT1 T tx (toR cs)) → vt_J 5 (RPo S B tx r) X 88 [(0, me)] [] T B := by
    intro T hF hT
    have e12 : vt_up T 43 1 0 43 12 = T 43 12 := vt_up_off (by decide)
    refine vt_walk hX tk_readsAll [] 60 ?_
    cases r with
    | inl e =>
      have hT : T 43 12 = e ∧ 1 ≤ e ∧ e ≤ 4000 := hT
      refine ⟨by omega, fun _ => ?_, fun z => absurd z (by omega)⟩
      exact ⟨by omega, rfl, hF.f (by decide), vt_up_self, rfl, e12.trans hT.1, hT.2⟩
    | inr cs =>
      have hT : T 43 12 = 0 ∧ RuT1 T tx (toR cs) := hT
      refine ⟨by omega, fun z => absurd z (by omega), fun _ => ?_⟩
      exact ⟨by omega, rfl, hF.f (by decide), vt_up_self, rfl, hT.2.up (by decide) (by decide) (by decide)⟩
  -- behind clauseHere
  have bad : ∀ (e : Int) (T : SS), r = .inl e → FR pkG tx S T → (T 43 12 = e ∧ 1 ≤ e ∧ e ≤ 4000) → vt_J 5 (RPo S B tx r) X 35 [(0, me), (1, ii 0)] [] T B := by
    intro e T hr hF hT
    subst hr
    refine vt_walk hX tk_readsAll [(88, [0])] 60 ?_
    refine ⟨by decide, fun _ => ?_, fun z => absurd rfl z⟩
    refine ⟨by decide, fun _ => ?_, fun z => absurd rfl z⟩
    exact last T hF hT
  have loop : ∀ (k : Nat) (a cn ln L : Int) (cs : List CL) (T : SS), FR pkG tx S T → QR T tp n tx a cn ln L cs → (if sg tp n (sk tp n a) = 59 then rul tp n k (sk tp n a + 1) cn ln cs
      else if sg tp n (sk tp n a) = -1 then some (.inr cs) else some (.inl (er 0 (sk tp n a)))) = some r → vt_J 5 (RPo S B tx r) X 35 [(0, me), (1, ii 1)] [] T B := by
    intro k
    induction k using Nat.strongRecOn with
    | ind k ih =>
      intro a cn ln L cs T hF hQ hq
      obtain ⟨p0, q1, q2, q3, q4, q5⟩ := id hQ
      obtain ⟨g1, g2, g3, g4, g5, g6, g7⟩ := id p0
      have hs := sk_spec (tp := tp) (n := n) a
      have hsn := hs.2.1 g4.2.2
      have hkk := sk_sk (tp := tp) (n := n) a
      have hn : 0 ≤ n ∧ n ≤ 400 := g2.2.1
      have s1 := tm_see (B := B) g2 g4.1 g4.2
      rw [g1] at s1
      generalize sk tp n a = c at *
      have pc : PX0 (nx T c) tp n tx c cn L 0 := p0.nx (by omega) (by omega)
      have kc : FR pkG tx S (nx T c) := hF.f (by decide)
      have sgr : -1 ≤ sg tp n c ∧ sg tp n c ≤ 255 := sg_rg
      have s2 := tm_see (B := B) pc.2.1 pc.2.2.2.1.1 pc.2.2.2.1.2
      rw [pc.1, hkk, nx_nx] at s2
      have qn : ∀ b w', 0 ≤ b ∧ b ≤ n → 0 ≤ w' ∧ L + w' ≤ b → QR (nx T b) tp n tx b cn ln L cs := by
        intro b w' hb hw
        refine ⟨p0.nx hb (by omega), (nx_i (by decide)).trans q1, q2, q3, by rw [nx_k (by decide)]; exact q4, fun j j0 j1 => ?_⟩
        refine (q5 j j0 j1).kp (Int.le_refl _) (fun i _ _ => by rw [nx_k (by decide)]) (fun i _ => by rw [nx_k (by decide)])
      refine vt_walk hX tk_readsAll [(88, [0]), (35, [0, 1]), (58, [0])] 60 ?_
      refine ⟨by decide, fun z => absurd z (by decide), fun _ => ?_⟩
      refine vt_k s1 ?_
      refine ⟨by omega, fun c59 => ?_, fun c59 => ?_⟩
      · rw [if_neg c59] at hq
        refine ⟨by decide, fun z => absurd z (by decide), fun _ => ?_⟩
        refine vt_k s2 ?_
        refine ⟨by omega, fun c1 => ?_, fun c1 => ?_⟩
        · rw [if_pos c1] at hq
          cases hq
          refine last _ kc ⟨pc.2.2.2.2.2.1, (qn c 0 (by omega) (by omega)).ru⟩
        · rw [if_neg c1] at hq
          cases hq
          have e12 : nx T c 43 12 = 0 := pc.2.2.2.2.2.1
          have e11 : nx T c 43 11 = c := nx_11
          refine vt_k (tm_fails (by omega)) ?_
          rw [if_pos e12]
          refine last _ (kc.f (by decide)) ⟨?_, by unfold er; omega⟩
          rw [vt_up_self, e11]
          unfold er; omega
      · rw [if_pos c59] at hq
        have hcn := sg_lt (tp := tp) (n := n) (b := c) (by omega)
        cases k with
        | zero => cases hq
        | succ k =>
          rw [rul_eq] at hq
          have e11 : nx T c 43 11 = c := nx_11
          have en : vt_up (nx T c) 43 11 (nx T c 43 11 + 1) = nx T (c + 1) := by rw [e11]; exact nx_nx
          show vt_J _ _ _ _ _ _ _ _
          rw [en]
          refine vt_walk hX tk_readsAll [(35, [0, 1])] 60 ?_
          have kn : FR pkG tx S (nx T (c + 1)) := hF.f (by decide)
          rcases gb_inv hq with ⟨e, m1, rfl⟩ | ⟨q, m1, m2⟩
          · refine ⟨_, tm_clauseHereR (qn (c + 1) 0 (by omega) (by omega)) m1, ?_⟩
            rintro rr S1 B1 ⟨rfl, k1, rfl, k2⟩
            exact bad e S1 rfl (kn.tr k1 (by decide)) k2
          · refine ⟨_, tm_clauseHereR (qn (c + 1) 0 (by omega) (by omega)) m1, ?_⟩
            rintro rr S1 B1 ⟨rfl, k1, rfl, L', k2⟩
            exact ih k (by omega) q.1 q.2.1 (ln + 1) L' _ S1 (kn.tr k1 (by decide)) k2 m2
  cases k with
  | zero => cases hq
  | succ k =>
    rw [rul_eq] at hq
    refine vt_walk hX tk_readsAll [(30, [0]), (35, [0, 1])] 60 ?_
    refine ⟨by omega, ?_⟩
    show vt_J _ _ _ _ _ _ _ _
    rw [h14]
    generalize hT : vt_up (vt_up (vt_up (vt_up (vt_up S 4 tx 0) 43 17 0) 43 11 0) 43 12 0) 43 15 0 = T
    have hn : 0 ≤ n ∧ n ≤ 400 := h1.2.1
    have kT : FR pkG tx S T := by
      rw [← hT]
      refine FR.f (FR.f (FR.f (FR.f ?_ (by decide)) (by decide)) (by decide)) (by decide)
      refine ⟨fr.rf.upk (by decide) (by decide), fun i hi => by rw [vt_up_ne (by decide)], fun i hi => by rw [vt_up_ne (by decide)], fun i hi => by rw [vt_up_ne (by decide)]⟩
    have pT : PX0 T tp n tx 0 0 0 0 := by
      rw [← hT]
      refine ⟨?_, h1.kp ?_ ?_, ⟨?_, htx⟩, ⟨?_, by omega⟩, ⟨?_, by omega⟩, ?_, ⟨?_, by omega⟩⟩
      · simp only [vt_up_ne (show (0 : Nat) ≠ 43 by decide), vt_up_ne (show (0 : Nat) ≠ 4 by decide)]; exact h0
      · simp only [vt_up_ne (show (0 : Nat) ≠ 43 by decide), vt_up_ne (show (0 : Nat) ≠ 4 by decide)]
      · rw [vt_up_off (by decide), vt_up_off (by decide), vt_up_off (by decide), vt_up_off (by decide), vt_up_ne (by decide)]
      · rw [vt_up_off (by decide), vt_up_off (by decide), vt_up_off (by decide), vt_up_off (by decide), vt_up_ne (by decide)]; exact h14
      · rw [vt_up_off (by decide), vt_up_off (by decide), vt_up_self]
      · rw [vt_up_self]
      · rw [vt_up_off (by decide), vt_up_self]
      · rw [vt_up_ne (by decide), vt_up_ne (by decide), vt_up_ne (by decide), vt_up_ne (by decide), vt_up_self]
    have qT : QR T tp n tx 0 0 0 0 [] := by
      refine ⟨pT, ?_, rfl, by decide, ?_, fun j j0 j1 => by omega⟩
      · rw [← hT, vt_up_off (by decide), vt_up_off (by decide), vt_up_off (by decide), vt_up_self]
      · rw [← hT, vt_up_ne (by decide), vt_up_ne (by decide), vt_up_ne (by decide), vt_up_ne (by decide), vt_up_ne (by decide)]; exact h6
    clear hT
    refine vt_walk hX tk_readsAll [(35, [0, 1])] 60 ?_
    rcases gb_inv hq with ⟨e, m1, rfl⟩ | ⟨q, m1, m2⟩
    · refine ⟨_, tm_clauseHereR qT m1, ?_⟩
      rintro rr S1 B1 ⟨rfl, k1, rfl, k2⟩
      exact bad e S1 rfl (kT.tr k1 (by decide)) k2
    · refine ⟨_, tm_clauseHereR qT m1, ?_⟩
      rintro rr S1 B1 ⟨rfl, k1, rfl, L', k2⟩
      exact loop k q.1 q.2.1 (0 + 1) L' _ S1 (kT.tr k1 (by decide)) k2 m2
/-- a rule more -/
def upR (R : RU) (t : Int) (r : Int × (Int → CL)) : RU := fun i => if i = t then r else R i
abbrev pkH : List Int := [11, 12, 13, 15, 16, 19, 17, 1, 14, 2]
theorem RuT1.kp {t tx : Int} {r : Int × (Int → CL)} {S' : SS} (h : RuT1 S t r) (ht : t < tx) (h3 : ∀ i, i < 400 * tx → S' 3 i = S 3 i) (h5 : ∀ i, i < 60 * tx → S' 5 i = S 5 i) (h6 : S' 6 t = S 6 t) : RuT1 S' t r := by
  obtain ⟨a1, a2, a3⟩ := h
  refine ⟨h6.trans a1, a2, fun c c0 c1 => ?_⟩
  obtain ⟨b1, b2, b3, b4⟩ := a3 c c0 c1
  have hc : c ≤ 11 := by omega
  have hs : ∀ {b e : Int} {F : WF}, Seg (fun i => S 3 (400 * t + i)) b e F → Seg (fun i => S' 3 (400 * t + i)) b e F := fun hg => hg.cg (fun i i0 i1 => h3 _ (by have := hg.1; omega))
  refine ⟨by rw [h5 _ (by omega)]; exact b1, b2, fun z => ?_, ?_⟩
  · rw [h5 _ (by omega), h5 _ (by omega)]; exact hs (b3 z)
  · cases hq : (r.2 c).2.2 with
    | none =>
      rw [hq] at b4
      show S' 5 _ = -1
      rw [h5 _ (by omega)]; exact b4
    | some G =>
      rw [hq] at b4
      show 0 ≤ S' 5 _ ∧ Seg _ (S' 5 _) (S' 5 _) _
      rw [h5 _ (by omega), h5 _ (by omega)]
      exact ⟨b4.1, hs b4.2⟩
def UPo (S : SS) (B : SB) (R : RU) (r : Int ⊕ List CL) : vt_Po := fun rr S' B' => B' = B ∧ fr pkE pkH S S' ∧ (if S 43 2 = 6 then some (ii (-1)) = rr ∧ S' = S else S' 43 1 = 0 ∧ match r with
  | .inl e => some (ii (-2 - e)) = rr ∧ S' 43 2 = S 43 2 ∧ RuT S' R
  | .inr cs => some (ii (S 43 2)) = rr ∧ S' 43 2 = S 43 2 + 1 ∧ RuT S' (upR R (S 43 2) (toR cs)))
theorem tm_rule {k : Nat} {R : RU} {r : Int ⊕ List CL} (hR : RuT S R) (h1 : TPI S n) (hq : rul (S 0) n k 0 0 0 [] = some r) : vt_M 4 [me] S B (UPo S B R r) := by
  refine vt_start rfl rfl (Nat.le_of_ble_eq_true rfl) (fun X hX => ?_)
  have h2 := hR.1
  refine vt_walk hX tk_rule [] 60 ?_
  refine ⟨by omega, fun c6 => ?_, fun c6 => ?_⟩
  · have g14 : vt_up S 43 14 (S 43 2) 43 14 = S 43 2 := vt_up_self
    refine ⟨by omega, ?_⟩
    rw [g14]
    generalize hT : vt_up (vt_up S 43 14 (S 43 2)) 6 (S 43 2) 0 = T
    have t0 : T 0 = S 0 := by rw [← hT, vt_up_ne (by decide), vt_up_ne (by decide)]
    have t1 : T 43 1 = S 43 1 := by rw [← hT, vt_up_ne (by decide), vt_up_off (by decide)]
    have t2 : T 43 2 = S 43 2 := by rw [← hT, vt_up_ne (by decide), vt_up_off (by decide)]
    have t14 : T 43 14 = S 43 2 := by rw [← hT, vt_up_ne (by decide), vt_up_self]
    have t6 : T 6 (S 43 2) = 0 := by rw [← hT, vt_up_self]
    have t6' : ∀ i, i ≠ S 43 2 → T 6 i = S 6 i := fun i hi => by rw [← hT, vt_up_off hi, vt_up_ne (by decide)]
    have t3 : T 3 = S 3 := by rw [← hT, vt_up_ne (by decide), vt_up_ne (by decide)]
    have t5 : T 5 = S 5 := by rw [← hT, vt_up_ne (by decide), vt_up_ne (by decide)]
    have fT : fr pkE pkH S T := by
      rw [← hT]
      exact (fr.rf.f (by decide) (by decide)).upk (by decide) (by decide)
    clear hT
    refine ⟨_, tm_readsAllR (tx := S 43 2) t0 (h1.kp t0 t1) t14 (by omega) t6 hq, ?_⟩
    rintro rr S1 B1 ⟨rfl, k1, k2, k3⟩
    have f1 : fr pkE pkH S S1 := fT.t k1.1 (fun _ z => z) (by decide)
    have e2 : S1 43 2 = S 43 2 := (k1.1.2 2 (by decide)).trans t2
    have old : ∀ t, 0 ≤ t → t < S 43 2 → RuT1 S1 t (R t) := fun t z0 z1 => (hR.2 t z0 z1).kp z1 (fun i hi => by rw [k1.2.1 i hi, t3]) (fun i hi => by rw [k1.2.2.1 i hi, t5]) (by rw [k1.2.2.2 t (by omega), t6' t (by omega)])
    cases r with
    | inl e =>
      obtain ⟨rfl, k4⟩ := k3
      refine ⟨by decide, fun z => absurd rfl z, fun _ => ?_⟩
      refine ⟨rfl, f1, ?_⟩
      rw [if_neg c6]
      refine ⟨k2, ?_, e2, ?_⟩
      · rw [k4.1]
      · refine ⟨by rw [e2]; exact h2, fun t z0 z1 => old t z0 (by omega)⟩
    | inr cs =>
      obtain ⟨rfl, k4⟩ := k3
      refine ⟨by decide, fun _ => ?_, fun z => absurd z (by decide)⟩
      have e2' : vt_up S1 43 2 (S1 43 2 + 1) 43 2 = S 43 2 + 1 := by rw [vt_up_self, e2]
      refine ⟨rfl, f1.f (by decide) (by decide), ?_⟩
      rw [if_neg c6]
      refine ⟨by rw [vt_up_off (by decide)]; exact k2, ?_, e2', by rw [e2']; omega, fun t z0 z1 => ?_⟩
      · rw [e2', show S 43 2 + 1 - 1 = S 43 2 by omega]
      · rw [e2'] at z1
        refine RuT1.up ?_ (by decide) (by decide) (by decide)
        unfold upR
        by_cases et : t = S 43 2
        · rw [if_pos et, et]; exact k4
        · rw [if_neg et]; exact old t z0 (by omega)
  · refine ⟨rfl, fr.rf, ?_⟩
    rw [if_pos c6]
    exact ⟨rfl, rfl⟩
end TPK
