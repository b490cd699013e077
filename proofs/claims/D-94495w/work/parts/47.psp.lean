/-! SPEC: texts: a row of signs tp, n of them -/
set_option maxRecDepth 100000
def runs (p : Int → Bool) : Nat → Int → Int
  | 0, i => i
  | k + 1, i => if p i = true then runs p k (i + 1) else i
def rn (p : Int → Bool) (n i : Int) : Int := runs p (n - i).toNat i
theorem rn_t {p : Int → Bool} {n i : Int} (h : p i = true) (hi : i < n) : rn p n i = rn p n (i + 1) := by
  unfold rn
  rw [show (n - i).toNat = (n - (i + 1)).toNat + 1 by omega]
  show (if p i = true then _ else _) = _
  rw [if_pos h]
theorem rn_f {p : Int → Bool} {n i : Int} (h : p i = false) : rn p n i = i := by
  unfold rn
  cases (n - i).toNat with
  | zero => rfl
  | succ k => show (if p i = true then _ else _) = _; rw [h]; rfl
theorem runs_spec {p : Int → Bool} : ∀ (k : Nat) (i : Int), i ≤ runs p k i ∧ runs p k i ≤ i + k ∧ (runs p k i < i + k → p (runs p k i) = false) ∧ ∀ j, i ≤ j → j < runs p k i → p j = true
  | 0, i => ⟨Int.le_refl _, by show i ≤ i + _; omega, fun z => by have z : i < i + ((0 : Nat) : Int) := z; omega, fun j a b => by have b : j < i := b; omega⟩
  | k + 1, i => by
    obtain ⟨a, b, c, d⟩ := runs_spec (p := p) k (i + 1)
    by_cases h : p i = true
    · have e : runs p (k + 1) i = runs p k (i + 1) := if_pos h
      rw [e]
      refine ⟨by omega, by omega, fun z => c (by omega), fun j j0 j1 => ?_⟩
      by_cases z : j = i
      · rw [z]; exact h
      · exact d j (by omega) j1
    · have e : runs p (k + 1) i = i := if_neg h
      rw [e]
      exact ⟨Int.le_refl _, by omega, fun _ => by simpa using h, fun j a b => by omega⟩
theorem rn_spec {p : Int → Bool} {n : Int} (hp : ∀ j, p j = true → j < n) (i : Int) : i ≤ rn p n i ∧ (i ≤ n → rn p n i ≤ n) ∧ p (rn p n i) = false ∧ ∀ j, i ≤ j → j < rn p n i → p j = true := by
  obtain ⟨a, b, c, d⟩ := runs_spec (p := p) (n - i).toNat i
  unfold rn
  refine ⟨a, fun h => by omega, ?_, d⟩
  by_cases z : runs p (n - i).toNat i < i + (n - i).toNat
  · exact c z
  · cases h : p (runs p (n - i).toNat i) with
    | false => rfl
    | true =>
      have := hp _ h
      omega
def isSp (tp : Int → Int) (n i : Int) : Bool := decide (i < n) && tp i == 32
def isDg (tp : Int → Int) (n i : Int) : Bool := decide (i < n) && decide (48 ≤ tp i ∧ tp i ≤ 57)
def isLt (tp : Int → Int) (n i : Int) : Bool := decide (i < n) && decide (97 ≤ tp i ∧ tp i ≤ 122)
/-- where spaces end -/
def sk (tp : Int → Int) (n i : Int) : Int := rn (isSp tp n) n i
/-- the sign that stands there; none: -1 -/
def sg (tp : Int → Int) (n i : Int) : Int := if i < n then tp i % 256 else -1
def lts (tp : Int → Int) (n : Int) : Nat → Int → List Int
  | 0, _ => []
  | k + 1, i => if isLt tp n i = true then tp i :: lts tp n k (i + 1) else []
/-- the letters from i on -/
def wl (tp : Int → Int) (n i : Int) : List Int := lts tp n (n - i).toNat i
def er (k at_ : Int) : Int := 1 + 8 * at_ + k
section PSP
variable {tp : Int → Int} {n : Int}
theorem isSp_lt {i : Int} (h : isSp tp n i = true) : i < n := of_decide_eq_true ((Bool.and_eq_true _ _).mp h).1
theorem isDg_lt {i : Int} (h : isDg tp n i = true) : i < n := of_decide_eq_true ((Bool.and_eq_true _ _).mp h).1
theorem isLt_lt {i : Int} (h : isLt tp n i = true) : i < n := of_decide_eq_true ((Bool.and_eq_true _ _).mp h).1
theorem isDg_rg {i : Int} (h : isDg tp n i = true) : 48 ≤ tp i ∧ tp i ≤ 57 := of_decide_eq_true ((Bool.and_eq_true _ _).mp h).2
theorem isLt_rg {i : Int} (h : isLt tp n i = true) : 97 ≤ tp i ∧ tp i ≤ 122 := of_decide_eq_true ((Bool.and_eq_true _ _).mp h).2
theorem sk_spec (i : Int) : i ≤ sk tp n i ∧ (i ≤ n → sk tp n i ≤ n) ∧ isSp tp n (sk tp n i) = false := by
  obtain ⟨a, b, c, -⟩ := rn_spec (p := isSp tp n) (fun j => isSp_lt) i
  exact ⟨a, b, c⟩
theorem sk_sk (i : Int) : sk tp n (sk tp n i) = sk tp n i := rn_f (sk_spec i).2.2
theorem wl_t {i : Int} (h : isLt tp n i = true) : wl tp n i = tp i :: wl tp n (i + 1) := by
  have := isLt_lt h
  unfold wl
  rw [show (n - i).toNat = (n - (i + 1)).toNat + 1 by omega]
  show (if isLt tp n i = true then _ else _) = _
  rw [if_pos h]
theorem wl_f {i : Int} (h : isLt tp n i = false) : wl tp n i = [] := by
  unfold wl
  cases (n - i).toNat with
  | zero => rfl
  | succ k => show (if isLt tp n i = true then _ else _) = _; rw [h]; rfl
theorem lts_spec : ∀ (k : Nat) (i : Int), (∀ (j : Nat) x, (lts tp n k i)[j]? = some x → isLt tp n (i + j) = true ∧ tp (i + j) = x) ∧ (lts tp n k i).length ≤ k
  | 0, i => ⟨fun j x h => by simp [lts] at h, Nat.le_refl _⟩
  | k + 1, i => by
    obtain ⟨a, b⟩ := lts_spec k (i + 1)
    by_cases h : isLt tp n i = true
    · have e : lts tp n (k + 1) i = tp i :: lts tp n k (i + 1) := if_pos h
      rw [e]
      refine ⟨fun j x hj => ?_, by rw [List.length_cons]; omega⟩
      cases j with
      | zero =>
        rw [List.getElem?_cons_zero] at hj
        cases hj
        rw [show i + ((0 : Nat) : Int) = i by omega]
        exact ⟨h, rfl⟩
      | succ j =>
        rw [List.getElem?_cons_succ] at hj
        have := a j x hj
        rw [show i + ((j + 1 : Nat) : Int) = i + 1 + j by omega]
        exact this
    · have e : lts tp n (k + 1) i = [] := if_neg h
      rw [e]
      exact ⟨fun j x hj => by simp at hj, Nat.zero_le _⟩
theorem wl_at {i : Int} {j : Nat} {x : Int} (h : (wl tp n i)[j]? = some x) : isLt tp n (i + j) = true ∧ tp (i + j) = x := (lts_spec _ _).1 j x h
theorem wl_len {i : Int} (hi : i ≤ n) : i + (wl tp n i).length ≤ n := by
  have := (lts_spec (tp := tp) (n := n) (n - i).toNat i).2
  unfold wl
  omega
/-- a word of m letters is at i: the signs i .. i + m - 1 -/
theorem wl_pos {i : Int} {w : List Int} (h : wl tp n i = w) (hw : w ≠ []) : isLt tp n i = true := by
  cases hl : isLt tp n i with
  | true => rfl
  | false => rw [wl_f hl] at h; exact absurd h.symm hw
end PSP
def nms : List (List Int) := [[119, 97, 121], [109, 105, 110, 117, 116, 101, 115], [103, 111, 110, 101], [108, 97, 115, 116], [116, 111], [102, 97, 114], [111, 117, 116], [116, 104, 101, 114, 101], [103, 111, 101, 114], [97, 105, 109], [99, 108, 111, 99, 107], [111, 110]]
def nmW (k : Int) : List Int := nms.getD k.toNat []
abbrev wTake : List Int := [116, 97, 107, 101]
abbrev wWait : List Int := [119, 97, 105, 116]
abbrev wIf : List Int := [105, 102]
abbrev wNot : List Int := [110, 111, 116]
abbrev wAnd : List Int := [97, 110, 100]
abbrev wOr : List Int := [111, 114]
abbrev wWay : List Int := [119, 97, 121]
abbrev wGoer : List Int := [103, 111, 101, 114]
def wIx (tp : Int → Int) (n b : Int) : Int := lst (fun k => wl tp n b == nmW k) 12
/-- the value of k digits from b on: the first five count -/
def nvF (tp : Int → Int) (b : Int) : Nat → Int
  | 0 => 0
  | k + 1 => if k < 5 then 10 * nvF tp b k + tp (b + k) - 48 else nvF tp b k
def dgE (tp : Int → Int) (n b : Int) : Int := rn (isDg tp n) n b
def pNum (tp : Int → Int) (n at_ lo hi : Int) : Int ⊕ (Int × Int) :=
  if isDg tp n (sk tp n at_) = true then (if dgE tp n (sk tp n at_) - sk tp n at_ ≤ 5 ∧ lo ≤ nvF tp (sk tp n at_) (dgE tp n (sk tp n at_) - sk tp n at_).toNat ∧ nvF tp (sk tp n at_) (dgE tp n (sk tp n at_) - sk tp n at_).toNat ≤ hi then .inr (dgE tp n (sk tp n at_), nvF tp (sk tp n at_) (dgE tp n (sk tp n at_) - sk tp n at_).toNat) else .inl (er 1 (sk tp n at_))) else .inl (er 0 (sk tp n at_))
abbrev PRs : Type := Int ⊕ (Int × Int × WF)
def pVal (tp : Int → Int) (n at_ cn : Int) : PRs :=
  if isDg tp n (sk tp n at_) = true then (match pNum tp n (sk tp n at_) 0 99999 with
    | .inl e => .inl e
    | .inr q => if cn = 60 then .inl (er 3 (sk tp n at_)) else .inr (q.1, cn + 1, fun _ => Int64.ofInt q.2))
  else if wIx tp n (sk tp n at_) < 0 then .inl (er 0 (sk tp n at_)) else if cn = 60 then .inl (er 3 (sk tp n at_)) else .inr (sk tp n at_ + (nmW (wIx tp n (sk tp n at_))).length, cn + 1, fun wd => wd (wIx tp n (sk tp n at_)))
def jn (s : Int) (F G : WF) : WF := fun wd => opr s (F wd) (G wd)
def pb (x : Option PRs) (f : Int → Int → WF → Option PRs) : Option PRs := match x with
  | none => none
  | some (.inl e) => some (.inl e)
  | some (.inr q) => f q.1 q.2.1 q.2.2
def pTmL (tp : Int → Int) (n : Int) : Nat → Int → Int → WF → Option PRs
  | 0, _, _, _ => none
  | k + 1, a, cn, F => if sg tp n (sk tp n a) = 42 ∨ sg tp n (sk tp n a) = 47 then pb (some (pVal tp n (sk tp n a + 1) cn)) (fun a' c' G => pTmL tp n k a' c' (jn (if sg tp n (sk tp n a) = 42 then 4 else 5) F G)) else some (.inr (sk tp n a, cn, F))
def pTm (tp : Int → Int) (n : Int) (k : Nat) (a cn : Int) : Option PRs := pb (some (pVal tp n a cn)) (fun a' c' F => pTmL tp n k a' c' F)
def pSmL (tp : Int → Int) (n : Int) : Nat → Int → Int → WF → Option PRs
  | 0, _, _, _ => none
  | k + 1, a, cn, F => if sg tp n (sk tp n a) = 43 ∨ sg tp n (sk tp n a) = 45 then pb (pTm tp n k (sk tp n a + 1) cn) (fun a' c' G => pSmL tp n k a' c' (jn (if sg tp n (sk tp n a) = 43 then 2 else 3) F G)) else some (.inr (sk tp n a, cn, F))
def pSm (tp : Int → Int) (n : Int) (k : Nat) (a cn : Int) : Option PRs := pb (pTm tp n k a cn) (fun a' c' F => pSmL tp n k a' c' F)
/-- whether '=' follows the sign at b -/
def also (tp : Int → Int) (n b : Int) : Bool := sg tp n b != 61 && sg tp n (b + 1) == 61
def cmS (tp : Int → Int) (n b : Int) : Int := 6 + (if sg tp n b = 60 then bI (also tp n b) else if sg tp n b = 61 then 2 else if also tp n b = true then 3 else 4)
def pCmp (tp : Int → Int) (n : Int) (k : Nat) (a cn : Int) : Option PRs := pb (pSm tp n k a cn) (fun a1 c1 F =>
  if sg tp n (sk tp n a1) = 60 ∨ sg tp n (sk tp n a1) = 61 ∨ sg tp n (sk tp n a1) = 62 then (if c1 = 60 then some (.inl (er 3 (sk tp n a1))) else
    pb (pSm tp n k (sk tp n a1 + 1 + bI (also tp n (sk tp n a1))) (c1 + 1)) (fun a2 c2 G => some (.inr (a2, c2, jn (cmS tp n (sk tp n a1)) F G))))
  else some (.inl (er 0 (sk tp n a1))))
def ngW (G : WF) : WF := fun wd => Int64.ofInt 1 - G wd
/-- 0 a fact, 1 a part, 2 a test, 3 parts after one, else tests after one -/
def rd (tp : Int → Int) (n : Int) : Nat → Nat → Int → Int → Int → WF → Option PRs
  | 0, _, _, _, _, _ => none
  | k + 1, 0, a, cn, d, t => if wl tp n (sk tp n a) = wNot then (if d = 10 then some (.inl (er 2 (sk tp n a))) else pb (rd tp n k 0 (sk tp n a + 3) cn (d + 1) t) (fun a' c' G => some (.inr (a', c', ngW G))))
      else if sg tp n (sk tp n a) = 91 then (if d = 10 then some (.inl (er 2 (sk tp n a))) else pb (rd tp n k 2 (sk tp n a + 1) cn (d + 1) t) (fun a' c' G => if sg tp n (sk tp n a') = 93 then some (.inr (sk tp n a' + 1, c', G)) else some (.inl (er 0 (sk tp n a')))))
      else pCmp tp n k (sk tp n a) cn
  | k + 1, 1, a, cn, d, t => pb (rd tp n k 0 a cn d t) (fun a' c' G => rd tp n k 3 a' c' d G)
  | k + 1, 2, a, cn, d, t => pb (rd tp n k 1 a cn d t) (fun a' c' G => rd tp n k 4 a' c' d G)
  | k + 1, 3, a, cn, d, t => if wl tp n (sk tp n a) = wAnd then pb (rd tp n k 0 (sk tp n a + 3) cn d t) (fun a' c' G => rd tp n k 3 a' c' d (jn 12 t G)) else some (.inr (sk tp n a, cn, t))
  | k + 1, _ + 4, a, cn, d, t => if wl tp n (sk tp n a) = wOr then pb (rd tp n k 1 (sk tp n a + 2) cn d t) (fun a' c' G => rd tp n k 4 a' c' d (jn 13 t G)) else some (.inr (sk tp n a, cn, t))
def Ev (f : Nat → Option PRs) (r : PRs) : Prop := ∃ k0 : Nat, ∀ k, k0 ≤ k → f k = some r
theorem Ev.at {f : Nat → Option PRs} {r : PRs} (h : Ev f r) : ∃ k, f k = some r := ⟨h.choose, h.choose_spec _ (Nat.le_refl _)⟩
theorem Ev.cst {r : PRs} : Ev (fun _ => some r) r := ⟨0, fun _ _ => rfl⟩
theorem Ev.sc {f : Nat → Option PRs} {r : PRs} (h : Ev (fun k => f (k + 1)) r) : Ev f r := by
  obtain ⟨k0, h⟩ := h
  refine ⟨k0 + 1, fun k hk => ?_⟩
  have := h (k - 1) (by omega)
  have e : k - 1 + 1 = k := by omega
  exact e ▸ this
theorem Ev.cg {f g : Nat → Option PRs} {r : PRs} (h : Ev f r) (e : ∀ k, g k = f k) : Ev g r := by
  obtain ⟨k0, h⟩ := h
  exact ⟨k0, fun k hk => (e k).trans (h k hk)⟩
theorem Ev.pe {f : Nat → Option PRs} {g : Nat → Int → Int → WF → Option PRs} {e : Int} (h : Ev f (.inl e)) : Ev (fun k => pb (f k) (g k)) (.inl e) := by
  obtain ⟨k0, h⟩ := h
  exact ⟨k0, fun k hk => by show pb (f k) (g k) = _; rw [h k hk]; rfl⟩
theorem Ev.po {f : Nat → Option PRs} {g : Nat → Int → Int → WF → Option PRs} {a c : Int} {G : WF} {r : PRs} (h : Ev f (.inr (a, c, G))) (h2 : Ev (fun k => g k a c G) r) : Ev (fun k => pb (f k) (g k)) r := by
  obtain ⟨k0, h⟩ := h
  obtain ⟨k1, h1⟩ := h2
  exact ⟨max k0 k1, fun k hk => by show pb (f k) (g k) = _; rw [h k (by omega)]; exact h1 k (by omega)⟩
section PSPB
variable {tp : Int → Int} {n : Int}
/-- it ends, and behind at -/
def EvB (n a : Int) (f : Nat → Option PRs) : Prop := ∃ r, Ev f r ∧ ∀ a' c' G, r = .inr (a', c', G) → a < a' ∧ a' ≤ n
def EvC (n a : Int) (f : Nat → Option PRs) : Prop := ∃ r, Ev f r ∧ ∀ a' c' G, r = .inr (a', c', G) → a ≤ a' ∧ a' ≤ n
theorem EvB.lt {n a b : Int} {f : Nat → Option PRs} (h : EvB n a f) (hb : b ≤ a) : EvB n b f := by
  obtain ⟨r, h1, h2⟩ := h
  exact ⟨r, h1, fun a' c' G e => by have := h2 a' c' G e; omega⟩
theorem EvB.wk {n a : Int} {f : Nat → Option PRs} (h : EvB n a f) : EvC n a f := by
  obtain ⟨r, h1, h2⟩ := h
  exact ⟨r, h1, fun a' c' G e => by have := h2 a' c' G e; omega⟩
theorem EvC.b {n a b : Int} {f : Nat → Option PRs} (h : EvC n a f) (hb : b < a) : EvB n b f := by
  obtain ⟨r, h1, h2⟩ := h
  exact ⟨r, h1, fun a' c' G e => by have := h2 a' c' G e; omega⟩
theorem EvB.sc {n a : Int} {f : Nat → Option PRs} (h : EvB n a (fun k => f (k + 1))) : EvB n a f := by
  obtain ⟨r, h1, h2⟩ := h
  exact ⟨r, h1.sc, h2⟩
theorem EvC.sc {n a : Int} {f : Nat → Option PRs} (h : EvC n a (fun k => f (k + 1))) : EvC n a f := by
  obtain ⟨r, h1, h2⟩ := h
  exact ⟨r, h1.sc, h2⟩
theorem EvB.er {n a e : Int} : EvB n a (fun _ => some (.inl e)) := ⟨_, Ev.cst, fun _ _ _ h => by cases h⟩
theorem EvC.er {n a e : Int} : EvC n a (fun _ => some (.inl e)) := ⟨_, Ev.cst, fun _ _ _ h => by cases h⟩
theorem EvC.ok {n a a' c : Int} {G : WF} (h : a ≤ a' ∧ a' ≤ n) : EvC n a (fun _ => some (.inr (a', c, G))) := ⟨_, Ev.cst, fun _ _ _ e => by cases e; exact h⟩
theorem EvB.pb {n a b : Int} {f : Nat → Option PRs} {g : Nat → Int → Int → WF → Option PRs} (h : EvB n a f) (hg : ∀ a' c' G, a < a' → a' ≤ n → EvC n a' (fun k => g k a' c' G)) (hb : b ≤ a) : EvB n b (fun k => pb (f k) (g k)) := by
  obtain ⟨r, h1, h2⟩ := h
  cases r with
  | inl e => exact ⟨_, h1.pe, fun _ _ _ h => by cases h⟩
  | inr q =>
    have h3 := h2 _ _ _ rfl
    obtain ⟨r', h4, h5⟩ := hg q.1 q.2.1 q.2.2 h3.1 h3.2
    exact ⟨r', h1.po h4, fun a' c' G e => by have := h5 a' c' G e; omega⟩
theorem rn_dg {b : Int} (h : isDg tp n b = true) : b < dgE tp n b ∧ dgE tp n b ≤ n := by
  have h0 := isDg_lt h
  obtain ⟨a, b1, -, -⟩ := rn_spec (p := isDg tp n) (n := n) (fun j => isDg_lt) (b + 1)
  unfold dgE
  rw [rn_t h h0]
  omega
theorem nms_len {k : Int} (h : 0 ≤ k ∧ k < 12) : 2 ≤ (nmW k).length ∧ (nmW k).length ≤ 7 := by
  have e : k = 0 ∨ k = 1 ∨ k = 2 ∨ k = 3 ∨ k = 4 ∨ k = 5 ∨ k = 6 ∨ k = 7 ∨ k = 8 ∨ k = 9 ∨ k = 10 ∨ k = 11 := by omega
  rcases e with rfl | rfl | rfl | rfl | rfl | rfl | rfl | rfl | rfl | rfl | rfl | rfl <;> decide
theorem wIx_spec {b : Int} : (wIx tp n b = -1 ∧ ∀ k, 0 ≤ k → k < 12 → wl tp n b ≠ nmW k) ∨ (0 ≤ wIx tp n b ∧ wIx tp n b < 12 ∧ wl tp n b = nmW (wIx tp n b) ∧ ∀ k, 0 ≤ k → k < wIx tp n b → wl tp n b ≠ nmW k) := by
  rcases lst_spec (fun k => wl tp n b == nmW k) 12 with ⟨h1, h2⟩ | ⟨h1, h2, h3, h4⟩
  · exact .inl ⟨h1, fun k a c e => by have := h2 k a c; rw [e] at this; simp at this⟩
  · exact .inr ⟨h1, h2, eq_of_beq h3, fun k a c e => by have := h4 k a c; rw [e] at this; simp at this⟩
theorem pNum_pg {a lo hi : Int} {q : Int × Int} (h : pNum tp n a lo hi = .inr q) : sk tp n a < q.1 ∧ q.1 ≤ n ∧ lo ≤ q.2 ∧ q.2 ≤ hi ∧ isDg tp n (sk tp n a) = true ∧ q.1 = dgE tp n (sk tp n a) := by
  unfold pNum at h
  by_cases c : isDg tp n (sk tp n a) = true
  · rw [if_pos c] at h
    split at h
    · have := rn_dg c
      cases h
      rename_i hh
      exact ⟨this.1, this.2, hh.2.1, hh.2.2, c, rfl⟩
    · cases h
  · rw [if_neg c] at h; cases h
theorem pVal_pg {a cn : Int} {q : Int × Int × WF} (ha : a ≤ n) (h : pVal tp n a cn = .inr q) : a < q.1 ∧ q.1 ≤ n ∧ cn ≠ 60 ∧ q.2.1 = cn + 1 := by
  have hs := sk_spec (tp := tp) (n := n) a
  unfold pVal at h
  by_cases c : isDg tp n (sk tp n a) = true
  · rw [if_pos c] at h
    split at h
    · cases h
    · rename_i q1 hq
      have := pNum_pg hq
      rw [sk_sk] at this
      split at h
      · cases h
      · cases h
        exact ⟨by show a < q1.1; omega, this.2.1, by assumption, rfl⟩
  · rw [if_neg c] at h
    split at h
    · cases h
    · split at h
      · cases h
      · rcases wIx_spec (tp := tp) (n := n) (b := sk tp n a) with ⟨e, -⟩ | ⟨e1, e2, e3, -⟩
        · omega
        · have l := nms_len ⟨e1, e2⟩
          have l2 := wl_len (tp := tp) (hs.2.1 ha)
          rw [e3] at l2
          cases h
          exact ⟨by show a < sk tp n a + ((nmW (wIx tp n (sk tp n a))).length : Int); omega, l2, by assumption, rfl⟩
theorem ev_val {a cn : Int} (ha : a ≤ n) : EvB n a (fun _ => some (pVal tp n a cn)) := ⟨_, Ev.cst, fun a' c' G e => by have := pVal_pg ha e; exact ⟨this.1, this.2.1⟩⟩
theorem sg_lt {b : Int} (h : sg tp n b ≠ -1) : b < n := by
  unfold sg at h
  split at h
  · assumption
  · exact absurd rfl h
theorem ev_tmL : ∀ (m : Nat) (a cn : Int) (F : WF), a ≤ n → n - a ≤ m → EvC n a (fun k => pTmL tp n k a cn F) := by
  intro m
  induction m with
  | zero =>
    intro a cn F ha hm
    have hs := sk_spec (tp := tp) (n := n) a
    have := hs.2.1 ha
    have c : ¬ (sg tp n (sk tp n a) = 42 ∨ sg tp n (sk tp n a) = 47) := by
      intro c
      have := sg_lt (tp := tp) (n := n) (b := sk tp n a) (by omega)
      omega
    refine EvC.sc (f := fun k => pTmL tp n k a cn F) ?_
    simp only [pTmL, if_neg c]
    exact EvC.ok (by omega)
  | succ m ih =>
    intro a cn F ha hm
    have hs := sk_spec (tp := tp) (n := n) a
    have := hs.2.1 ha
    refine EvC.sc (f := fun k => pTmL tp n k a cn F) ?_
    by_cases c : sg tp n (sk tp n a) = 42 ∨ sg tp n (sk tp n a) = 47
    · have := sg_lt (tp := tp) (n := n) (b := sk tp n a) (by omega)
      simp only [pTmL, if_pos c]
      exact (EvB.pb (ev_val (by omega)) (fun a' c' G h1 h2 => ih _ _ _ h2 (by omega)) (by omega)).wk
    · simp only [pTmL, if_neg c]
      exact EvC.ok (by omega)
theorem ev_tm {a cn : Int} (ha : a ≤ n) : EvB n a (fun k => pTm tp n k a cn) := EvB.pb (ev_val ha) (fun a' _ _ _ h2 => ev_tmL (n - a').toNat _ _ _ h2 (by omega)) (Int.le_refl _)
theorem ev_smL : ∀ (m : Nat) (a cn : Int) (F : WF), a ≤ n → n - a ≤ m → EvC n a (fun k => pSmL tp n k a cn F) := by
  intro m
  induction m with
  | zero =>
    intro a cn F ha hm
    have hs := sk_spec (tp := tp) (n := n) a
    have := hs.2.1 ha
    have c : ¬ (sg tp n (sk tp n a) = 43 ∨ sg tp n (sk tp n a) = 45) := by
      intro c
      have := sg_lt (tp := tp) (n := n) (b := sk tp n a) (by omega)
      omega
    refine EvC.sc (f := fun k => pSmL tp n k a cn F) ?_
    simp only [pSmL, if_neg c]
    exact EvC.ok (by omega)
  | succ m ih =>
    intro a cn F ha hm
    have hs := sk_spec (tp := tp) (n := n) a
    have := hs.2.1 ha
    refine EvC.sc (f := fun k => pSmL tp n k a cn F) ?_
    by_cases c : sg tp n (sk tp n a) = 43 ∨ sg tp n (sk tp n a) = 45
    · have := sg_lt (tp := tp) (n := n) (b := sk tp n a) (by omega)
      simp only [pSmL, if_pos c]
      exact (EvB.pb (ev_tm (by omega)) (fun a' c' G h1 h2 => ih _ _ _ h2 (by omega)) (by omega)).wk
    · simp only [pSmL, if_neg c]
      exact EvC.ok (by omega)
theorem ev_sm {a cn : Int} (ha : a ≤ n) : EvB n a (fun k => pSm tp n k a cn) := EvB.pb (ev_tm ha) (fun a' _ _ _ h2 => ev_smL (n - a').toNat _ _ _ h2 (by omega)) (Int.le_refl _)
theorem ev_cmp {a cn : Int} (ha : a ≤ n) : EvB n a (fun k => pCmp tp n k a cn) := by
  refine EvB.pb (ev_sm ha) (fun a1 c1 F h1 h2 => ?_) (Int.le_refl _)
  have hs := sk_spec (tp := tp) (n := n) a1
  have := hs.2.1 h2
  by_cases c : sg tp n (sk tp n a1) = 60 ∨ sg tp n (sk tp n a1) = 61 ∨ sg tp n (sk tp n a1) = 62
  · have := sg_lt (tp := tp) (n := n) (b := sk tp n a1) (by omega)
    simp only [if_pos c]
    by_cases c6 : c1 = 60
    · simp only [if_pos c6]; exact EvC.er
    · simp only [if_neg c6]
      have hb : 0 ≤ bI (also tp n (sk tp n a1)) ∧ sk tp n a1 + 1 + bI (also tp n (sk tp n a1)) ≤ n := by
        cases hA : also tp n (sk tp n a1) with
        | false => show (0 : Int) ≤ 0 ∧ _ + (0 : Int) ≤ _; omega
        | true =>
          have h3 := (Bool.and_eq_true _ _).mp hA
          have h4 := eq_of_beq h3.2
          have h5 := sg_lt (tp := tp) (n := n) (b := sk tp n a1 + 1) (by omega)
          show (0 : Int) ≤ 1 ∧ _ + (1 : Int) ≤ _
          omega
      exact (EvB.pb (ev_sm hb.2) (fun a2 c2 G h3 h4 => EvC.ok ⟨Int.le_refl _, h4⟩) (Int.le_refl _)).lt (by omega) |>.wk
  · simp only [if_neg c]; exact EvC.er
theorem wl3 {b : Int} {w : List Int} (hb : b ≤ n) (h : wl tp n b = w) : b + w.length ≤ n := by
  have := wl_len (tp := tp) hb
  rw [h] at this
  exact this
theorem ev_rd : ∀ (m : Nat), (∀ (a cn d : Int) (t : WF), a ≤ n → n - a ≤ m → EvB n a (fun k => rd tp n k 0 a cn d t)) ∧ (∀ (a cn d : Int) (t : WF), a ≤ n → n - a ≤ m → EvB n a (fun k => rd tp n k 1 a cn d t)) ∧ (∀ (a cn d : Int) (t : WF), a ≤ n → n - a ≤ m → EvB n a (fun k => rd tp n k 2 a cn d t)) ∧ (∀ (a cn d : Int) (t : WF), a ≤ n → n - a ≤ m → EvC n a (fun k => rd tp n k 3 a cn d t)) ∧ (∀ (a cn d : Int) (t : WF), a ≤ n → n - a ≤ m → EvC n a (fun k => rd tp n k 4 a cn d t)) := by
  intro m
  induction m using Nat.strongRecOn with
  | ind m ih =>
  have A : ∀ (a cn d : Int) (t : WF), a ≤ n → n - a ≤ m → EvB n a (fun k => rd tp n k 0 a cn d t) := by
    intro a cn d t ha hm
    have hs := sk_spec (tp := tp) (n := n) a
    have hsn := hs.2.1 ha
    refine EvB.sc (f := fun k => rd tp n k 0 a cn d t) ?_
    by_cases c : wl tp n (sk tp n a) = wNot
    · have h3 := wl3 hsn c
      have h3 : sk tp n a + 3 ≤ n := h3
      simp only [rd, if_pos c]
      by_cases c6 : d = 10
      · simp only [if_pos c6]; exact EvB.er
      · simp only [if_neg c6]
        exact EvB.pb ((ih (m - 1) (by omega)).1 _ _ _ _ (by omega) (by omega)) (fun a2 c2 G h3 h4 => EvC.ok ⟨Int.le_refl _, h4⟩) (by omega)
    · simp only [rd, if_neg c]
      by_cases c1 : sg tp n (sk tp n a) = 91
      · have := sg_lt (tp := tp) (n := n) (b := sk tp n a) (by omega)
        simp only [if_pos c1]
        by_cases c6 : d = 10
        · simp only [if_pos c6]; exact EvB.er
        · simp only [if_neg c6]
          refine EvB.pb ((ih (m - 1) (by omega)).2.2.1 _ _ _ _ (by omega) (by omega)) (fun a2 c2 G h3 h4 => ?_) (show a ≤ sk tp n a + 1 by omega)
          have hs2 := sk_spec (tp := tp) (n := n) a2
          have := hs2.2.1 h4
          by_cases c2 : sg tp n (sk tp n a2) = 93
          · have := sg_lt (tp := tp) (n := n) (b := sk tp n a2) (by omega)
            simp only [if_pos c2]
            exact EvC.ok (by omega)
          · simp only [if_neg c2]
            exact EvC.er
      · simp only [if_neg c1]
        exact (ev_cmp hsn).lt hs.1
  have D : ∀ (a cn d : Int) (t : WF), a ≤ n → n - a ≤ m → EvC n a (fun k => rd tp n k 3 a cn d t) := by
    intro a cn d t ha hm
    have hs := sk_spec (tp := tp) (n := n) a
    have hsn := hs.2.1 ha
    refine EvC.sc (f := fun k => rd tp n k 3 a cn d t) ?_
    by_cases c : wl tp n (sk tp n a) = wAnd
    · have h3 := wl3 hsn c
      have h3 : sk tp n a + 3 ≤ n := h3
      simp only [rd, if_pos c]
      exact (EvB.pb ((ih (m - 1) (by omega)).1 _ _ _ _ (by omega) (by omega)) (fun a2 c2 G h3 h4 => (ih (m - 1) (by omega)).2.2.2.1 _ _ _ _ (by omega) (by omega)) (show a ≤ sk tp n a + 3 by omega)).wk
    · simp only [rd, if_neg c]
      exact EvC.ok (by omega)
  have E : ∀ (a cn d : Int) (t : WF), a ≤ n → n - a ≤ m → EvC n a (fun k => rd tp n k 4 a cn d t) := by
    intro a cn d t ha hm
    have hs := sk_spec (tp := tp) (n := n) a
    have hsn := hs.2.1 ha
    refine EvC.sc (f := fun k => rd tp n k 4 a cn d t) ?_
    by_cases c : wl tp n (sk tp n a) = wOr
    · have h3 := wl3 hsn c
      have h3 : sk tp n a + 2 ≤ n := h3
      simp only [rd, if_pos c]
      exact (EvB.pb ((ih (m - 1) (by omega)).2.1 _ _ _ _ (by omega) (by omega)) (fun a2 c2 G h3 h4 => (ih (m - 1) (by omega)).2.2.2.2 _ _ _ _ (by omega) (by omega)) (show a ≤ sk tp n a + 2 by omega)).wk
    · simp only [rd, if_neg c]
      exact EvC.ok (by omega)
  have Bb : ∀ (a cn d : Int) (t : WF), a ≤ n → n - a ≤ m → EvB n a (fun k => rd tp n k 1 a cn d t) := by
    intro a cn d t ha hm
    refine EvB.sc (f := fun k => rd tp n k 1 a cn d t) ?_
    exact EvB.pb (f := fun k => rd tp n k 0 a cn d t) (g := fun k a' c' G => rd tp n k 3 a' c' d G) (A _ _ _ _ ha hm) (fun a2 c2 G h3 h4 => D _ _ _ _ h4 (by omega)) (Int.le_refl _)
  refine ⟨A, Bb, ?_, D, E⟩
  intro a cn d t ha hm
  refine EvB.sc (f := fun k => rd tp n k 2 a cn d t) ?_
  exact EvB.pb (f := fun k => rd tp n k 1 a cn d t) (g := fun k a' c' G => rd tp n k 4 a' c' d G) (Bb _ _ _ _ ha hm) (fun a2 c2 G h3 h4 => E _ _ _ _ h4 (by omega)) (Int.le_refl _)
end PSPB
