/-! SPEC: whole texts: rules and lands -/
set_option maxRecDepth 100000
def gb {α β : Type} (x : Option (Int ⊕ α)) (f : α → Option (Int ⊕ β)) : Option (Int ⊕ β) := match x with
  | none => none
  | some (.inl e) => some (.inl e)
  | some (.inr q) => f q
theorem gb_inv {α β : Type} {x : Option (Int ⊕ α)} {f : α → Option (Int ⊕ β)} {q : Int ⊕ β} (h : gb x f = some q) : (∃ e, x = some (.inl e) ∧ q = .inl e) ∨ ∃ p, x = some (.inr p) ∧ f p = some q := by
  cases x with
  | none => cases h
  | some y =>
    cases y with
    | inl e => exact .inl ⟨e, rfl, (Option.some.inj h).symm⟩
    | inr y => exact .inr ⟨y, rfl, h⟩
abbrev CL : Type := Int × WF × Option WF
/-- a clause of a rule: its end, what is counted, what it tells -/
def clz (tp : Int → Int) (n : Int) (k : Nat) (a cn : Int) : Option (Int ⊕ (Int × Int × CL)) :=
  if wl tp n (sk tp n a) = wTake then gb (pSm tp n k (sk tp n a + 4) cn) (fun q =>
    if wl tp n (sk tp n q.1) = wIf then gb (rd tp n k 2 (sk tp n q.1 + 2) q.2.1 0 q.2.2) (fun p => some (.inr (p.1, p.2.1, 0, q.2.2, some p.2.2)))
    else some (.inr (sk tp n q.1, q.2.1, 0, q.2.2, none)))
  else gb (rd tp n k 2 (sk tp n a + 4) cn 0 (fun _ => 0)) (fun p => some (.inr (p.1, p.2.1, 1, p.2.2, some p.2.2)))
def rul (tp : Int → Int) (n : Int) : Nat → Int → Int → Int → List CL → Option (Int ⊕ List CL)
  | 0, _, _, _, _ => none
  | k + 1, a, cn, ln, cs => if wl tp n (sk tp n a) = wTake ∨ wl tp n (sk tp n a) = wWait then (if ln = 12 then some (.inl (er 4 (sk tp n a))) else gb (clz tp n k a cn) (fun q =>
      if sg tp n (sk tp n q.1) = 59 then rul tp n k (sk tp n q.1 + 1) q.2.1 (ln + 1) (cs ++ [q.2.2])
      else if sg tp n (sk tp n q.1) = -1 then some (.inr (cs ++ [q.2.2])) else some (.inl (er 0 (sk tp n q.1))))) else some (.inl (er 0 (sk tp n a)))
abbrev T3 : Type := Int × Int × Int
/-- a line of a land: its end and three numbers -/
def lin (tp : Int → Int) (n : Int) (a : Int) : Int ⊕ (Int × T3) :=
  if wl tp n (sk tp n a) = wWay then (match pNum tp n (sk tp n a + 3) 0 7 with
    | .inl e => .inl e
    | .inr x => match pNum tp n x.1 0 7 with
      | .inl e => .inl e
      | .inr y => if y.2 = x.2 then .inl (er 1 (sk tp n x.1)) else match pNum tp n y.1 1 60 with
        | .inl e => .inl e
        | .inr z => .inr (z.1, x.2, y.2, z.2))
  else match pNum tp n (sk tp n a + 4) 0 7 with
    | .inl e => .inl e
    | .inr x => match pNum tp n x.1 0 7 with
      | .inl e => .inl e
      | .inr y => match pNum tp n y.1 0 999 with
        | .inl e => .inl e
        | .inr z => .inr (z.1, x.2, y.2, z.2)
def lan (tp : Int → Int) (n : Int) : Nat → Int → Int → List T3 → List T3 → Option (Int ⊕ (List T3 × List T3))
  | 0, _, _, _, _ => none
  | k + 1, a, ln, ws, gs => if wl tp n (sk tp n a) = wWay ∨ wl tp n (sk tp n a) = wGoer then (if ln = 24 ∨ (wl tp n (sk tp n a) = wWay ∧ ws.length = 14) ∨ (wl tp n (sk tp n a) = wGoer ∧ gs.length = 6) then some (.inl (er 4 (sk tp n a))) else gb (some (lin tp n a)) (fun q =>
      if sg tp n (sk tp n q.1) = 59 then (if wl tp n (sk tp n a) = wWay then lan tp n k (sk tp n q.1 + 1) (ln + 1) (ws ++ [q.2]) gs else lan tp n k (sk tp n q.1 + 1) (ln + 1) ws (gs ++ [q.2]))
      else if sg tp n (sk tp n q.1) = -1 then (if wl tp n (sk tp n a) = wWay then some (.inr (ws ++ [q.2], gs)) else some (.inr (ws, gs ++ [q.2]))) else some (.inl (er 0 (sk tp n q.1))))) else some (.inl (er 0 (sk tp n a)))
/-- from some fuel on it is r -/
def EvG {β : Type} (f : Nat → Option β) (r : β) : Prop := ∃ k0 : Nat, ∀ k, k0 ≤ k → f k = some r
section PRL
variable {tp : Int → Int} {n : Int}
theorem EvG.at {β : Type} {f : Nat → Option β} {r : β} (h : EvG f r) : ∃ k, f k = some r := ⟨h.choose, h.choose_spec _ (Nat.le_refl _)⟩
theorem EvG.cst {β : Type} {r : β} : EvG (fun _ => some r) r := ⟨0, fun _ _ => rfl⟩
theorem EvG.sc {β : Type} {f : Nat → Option β} {r : β} (h : EvG (fun k => f (k + 1)) r) : EvG f r := by
  obtain ⟨k0, h⟩ := h
  refine ⟨k0 + 1, fun k hk => ?_⟩
  have := h (k - 1) (by omega)
  have e : k - 1 + 1 = k := by omega
  exact e ▸ this
theorem EvG.bd {α β : Type} {f : Nat → Option (Int ⊕ α)} {g : Nat → α → Option (Int ⊕ β)} {x : Int ⊕ α} {P : Int ⊕ β → Prop} (h : EvG f x) (he : ∀ e, P (.inl e)) (hg : ∀ q, x = .inr q → ∃ r, EvG (fun k => g k q) r ∧ P r) : ∃ r, EvG (fun k => gb (f k) (g k)) r ∧ P r := by
  obtain ⟨k0, h⟩ := h
  cases x with
  | inl e => exact ⟨.inl e, ⟨k0, fun k hk => by show gb (f k) (g k) = _; rw [h k hk]; rfl⟩, he e⟩
  | inr q =>
    obtain ⟨r, ⟨k1, h1⟩, h2⟩ := hg q rfl
    exact ⟨r, ⟨max k0 k1, fun k hk => by show gb (f k) (g k) = _; rw [h k (by omega)]; exact h1 k (by omega)⟩, h2⟩
theorem ev_clz {a cn : Int} (ha : a ≤ n) (h : wl tp n (sk tp n a) = wTake ∨ wl tp n (sk tp n a) = wWait) : ∃ r, EvG (fun k => clz tp n k a cn) r ∧ ∀ q, r = .inr q → a < q.1 ∧ q.1 ≤ n := by
  have hs := sk_spec (tp := tp) (n := n) a
  have hsn := hs.2.1 ha
  have hb : sk tp n a + 4 ≤ n := by
    rcases h with h | h
    · exact wl3 hsn h
    · exact wl3 hsn h
  unfold clz
  by_cases c : wl tp n (sk tp n a) = wTake
  · simp only [if_pos c]
    obtain ⟨x, h1, h2⟩ := ev_sm (tp := tp) (n := n) (a := sk tp n a + 4) (cn := cn) hb
    refine EvG.bd h1 (fun e q z => by cases z) (fun q hq => ?_)
    have h3 := h2 q.1 q.2.1 q.2.2 hq
    have hs2 := sk_spec (tp := tp) (n := n) q.1
    have hs3 := hs2.2.1 h3.2
    by_cases c2 : wl tp n (sk tp n q.1) = wIf
    · simp only [if_pos c2]
      have h4 := wl3 hs3 c2
      have h4 : sk tp n q.1 + 2 ≤ n := h4
      obtain ⟨y, h5, h6⟩ := (ev_rd (tp := tp) (n := n) (n - (sk tp n q.1 + 2)).toNat).2.2.1 (sk tp n q.1 + 2) q.2.1 0 q.2.2 h4 (by omega)
      · refine EvG.bd h5 (fun e q z => by cases z) (fun p hp => ⟨_, EvG.cst, fun q' hq' => ?_⟩)
        have h7 := h6 p.1 p.2.1 p.2.2 hp
        cases hq'
        exact ⟨by show a < p.1; omega, h7.2⟩
    · simp only [if_neg c2]
      exact ⟨_, EvG.cst, fun q' hq' => by cases hq'; exact ⟨by show a < sk tp n q.1; omega, hs3⟩⟩
  · simp only [if_neg c]
    obtain ⟨y, h5, h6⟩ := (ev_rd (tp := tp) (n := n) (n - (sk tp n a + 4)).toNat).2.2.1 (sk tp n a + 4) cn 0 (fun _ => 0) hb (by omega)
    refine EvG.bd h5 (fun e q z => by cases z) (fun p hp => ⟨_, EvG.cst, fun q' hq' => ?_⟩)
    have h7 := h6 p.1 p.2.1 p.2.2 hp
    cases hq'
    exact ⟨by show a < p.1; omega, h7.2⟩
theorem ev_rul : ∀ (m : Nat) (a cn ln : Int) (cs : List CL), a ≤ n → n - a ≤ m → ∃ r, EvG (fun k => rul tp n k a cn ln cs) r := by
  intro m
  induction m with
  | zero =>
    intro a cn ln cs ha hm
    have hs := sk_spec (tp := tp) (n := n) a
    have hsn := hs.2.1 ha
    refine ⟨.inl (er 0 (sk tp n a)), EvG.sc (f := fun k => rul tp n k a cn ln cs) ?_⟩
    have c : ¬ (wl tp n (sk tp n a) = wTake ∨ wl tp n (sk tp n a) = wWait) := by
      rintro (c | c)
      · have h : sk tp n a + 4 ≤ n := wl3 hsn c
        omega
      · have h : sk tp n a + 4 ≤ n := wl3 hsn c
        omega
    simp only [rul, if_neg c]
    exact EvG.cst
  | succ m ih =>
    intro a cn ln cs ha hm
    have hs := sk_spec (tp := tp) (n := n) a
    have hsn := hs.2.1 ha
    suffices H : ∃ r, EvG (fun k => rul tp n (k + 1) a cn ln cs) r by
      obtain ⟨r, hr⟩ := H
      exact ⟨r, EvG.sc (f := fun k => rul tp n k a cn ln cs) hr⟩
    simp only [rul]
    by_cases c : wl tp n (sk tp n a) = wTake ∨ wl tp n (sk tp n a) = wWait
    · simp only [if_pos c]
      by_cases c1 : ln = 12
      · simp only [if_pos c1]; exact ⟨_, EvG.cst⟩
      · simp only [if_neg c1]
        obtain ⟨x, h1, h2⟩ := ev_clz (tp := tp) (n := n) (a := a) (cn := cn) ha c
        suffices H : ∃ r, EvG _ r ∧ True by
          obtain ⟨r, hr, -⟩ := H
          exact ⟨r, hr⟩
        refine EvG.bd h1 (fun e => trivial) (fun q hq => ?_)
        have h3 := h2 q hq
        have hs2 := sk_spec (tp := tp) (n := n) q.1
        have hs3 := hs2.2.1 h3.2
        by_cases c2 : sg tp n (sk tp n q.1) = 59
        · simp only [if_pos c2]
          have := sg_lt (tp := tp) (n := n) (b := sk tp n q.1) (by omega)
          obtain ⟨r, hr⟩ := ih (sk tp n q.1 + 1) q.2.1 (ln + 1) (cs ++ [q.2.2]) (by omega) (by omega)
          exact ⟨r, hr, trivial⟩
        · simp only [if_neg c2]
          by_cases c3 : sg tp n (sk tp n q.1) = -1
          · simp only [if_pos c3]; exact ⟨_, EvG.cst, trivial⟩
          · simp only [if_neg c3]; exact ⟨_, EvG.cst, trivial⟩
    · simp only [if_neg c]; exact ⟨_, EvG.cst⟩
theorem lin_pg {a : Int} {q : Int × T3} (h : lin tp n a = .inr q) : sk tp n a < q.1 ∧ q.1 ≤ n := by
  have g : ∀ {a lo hi : Int} {q : Int × Int}, pNum tp n a lo hi = .inr q → a < q.1 ∧ q.1 ≤ n := by
    intro a lo hi q h
    have h1 := pNum_pg h
    have := sk_spec (tp := tp) (n := n) a
    omega
  unfold lin at h
  split at h
  · split at h
    · cases h
    · rename_i hx
      split at h
      · cases h
      · rename_i hy
        split at h
        · cases h
        · split at h
          · cases h
          · rename_i hz
            cases h
            have := g hx; have := g hy; have := g hz
            omega
  · split at h
    · cases h
    · rename_i hx
      split at h
      · cases h
      · rename_i hy
        split at h
        · cases h
        · rename_i hz
          cases h
          have := g hx; have := g hy; have := g hz
          omega
theorem ev_lan : ∀ (m : Nat) (a ln : Int) (ws gs : List T3), a ≤ n → n - a ≤ m → ∃ r, EvG (fun k => lan tp n k a ln ws gs) r := by
  intro m
  induction m using Nat.strongRecOn with
  | ind m ih =>
    intro a ln ws gs ha hm
    have hs := sk_spec (tp := tp) (n := n) a
    have hsn := hs.2.1 ha
    suffices H : ∃ r, EvG (fun k => lan tp n (k + 1) a ln ws gs) r by
      obtain ⟨r, hr⟩ := H
      exact ⟨r, EvG.sc (f := fun k => lan tp n k a ln ws gs) hr⟩
    simp only [lan]
    by_cases c : wl tp n (sk tp n a) = wWay ∨ wl tp n (sk tp n a) = wGoer
    · simp only [if_pos c]
      by_cases c1 : ln = 24 ∨ (wl tp n (sk tp n a) = wWay ∧ ws.length = 14) ∨ (wl tp n (sk tp n a) = wGoer ∧ gs.length = 6)
      · simp only [if_pos c1]; exact ⟨_, EvG.cst⟩
      · simp only [if_neg c1]
        suffices H : ∃ r, EvG _ r ∧ True by
          obtain ⟨r, hr, -⟩ := H
          exact ⟨r, hr⟩
        refine EvG.bd (x := lin tp n a) EvG.cst (fun e => trivial) (fun q hq => ?_)
        have h3 := lin_pg hq
        have hs2 := sk_spec (tp := tp) (n := n) q.1
        have hs3 := hs2.2.1 h3.2
        by_cases c2 : sg tp n (sk tp n q.1) = 59
        · simp only [if_pos c2]
          have := sg_lt (tp := tp) (n := n) (b := sk tp n q.1) (by omega)
          by_cases c3 : wl tp n (sk tp n a) = wWay
          · simp only [if_pos c3]
            obtain ⟨r, hr⟩ := ih (m - 1) (by omega) (sk tp n q.1 + 1) (ln + 1) (ws ++ [q.2]) gs (by omega) (by omega)
            exact ⟨r, hr, trivial⟩
          · simp only [if_neg c3]
            obtain ⟨r, hr⟩ := ih (m - 1) (by omega) (sk tp n q.1 + 1) (ln + 1) ws (gs ++ [q.2]) (by omega) (by omega)
            exact ⟨r, hr, trivial⟩
        · simp only [if_neg c2]
          by_cases c3 : sg tp n (sk tp n q.1) = -1
          · simp only [if_pos c3]
            by_cases c4 : wl tp n (sk tp n a) = wWay
            · simp only [if_pos c4]; exact ⟨_, EvG.cst, trivial⟩
            · simp only [if_neg c4]; exact ⟨_, EvG.cst, trivial⟩
          · simp only [if_neg c3]; exact ⟨_, EvG.cst, trivial⟩
    · simp only [if_neg c]; exact ⟨_, EvG.cst⟩
end PRL
