/-! THE TWIN's methods: a row of goings -/
set_option maxRecDepth 100000
abbrev RS : Type := Int × (Int → Int)
def xr (d w : Int) : Int := ((d.toNat ^^^ 2 ^ w.toNat : Nat) : Int)
theorem xr_rg {d w n : Int} (hn : n ≤ 14) (hd : 0 ≤ d ∧ d < 2 ^ n.toNat) (hw : 0 ≤ w ∧ w < n) : 0 ≤ xr d w ∧ xr d w < 2 ^ n.toNat := by
  unfold xr
  refine ⟨Int.natCast_nonneg _, ?_⟩
  have e : ((2 ^ n.toNat : Nat) : Int) = (2 : Int) ^ n.toNat := by simp
  rw [← e] at hd ⊢
  exact Int.ofNat_lt.mpr (xor_lt (by omega) (by omega))
/-- the going k of the row, from directions and places -/
def rg (f : Int → Int) (k : Int) (st : RS) : Option RS := if st.2 (f (122 + 2 * k)) ≠ 8 ∧ sOn f (f (122 + 2 * k + 1)) = 0 ∧ sE f st.1 (f (122 + 2 * k + 1)) 0 = st.2 (f (122 + 2 * k)) then some (xr st.1 (f (122 + 2 * k + 1)), upF st.2 (f (122 + 2 * k)) (sE f st.1 (f (122 + 2 * k + 1)) 1)) else none
def rgo (f : Int → Int) : Nat → Int → RS → Int × RS
  | 0, k, st => (k, st)
  | n + 1, k, st => match rg f k st with
    | some st' => rgo f n (k + 1) st'
    | none => (k, st)
def rs0 (f : Int → Int) : RS := (f 2, fun g => sG f g 0)
def stE (n : Int) (a b : RS) : Prop := a.1 = b.1 ∧ ∀ g, 0 ≤ g → g < n → a.2 g = b.2 g
def stV (f : Int → Int) (a : RS) : Prop := (0 ≤ a.1 ∧ a.1 < 2 ^ (f 0).toNat) ∧ ∀ g, 0 ≤ g → g < f 1 → 0 ≤ a.2 g ∧ a.2 g ≤ 8
section RGS
variable {K : Int} {f : Int → Int}
theorem rg_congr {k : Int} (hk : RI f k) {a b : RS} (h : stE (f 1) a b) : (rg f k a = none ∧ rg f k b = none) ∨ ∃ a' b', rg f k a = some a' ∧ rg f k b = some b' ∧ stE (f 1) a' b' := by
  have e := h.2 _ hk.1.1 hk.1.2
  unfold rg
  rw [e, h.1]
  by_cases c : b.2 (f (122 + 2 * k)) ≠ 8 ∧ sOn f (f (122 + 2 * k + 1)) = 0 ∧ sE f b.1 (f (122 + 2 * k + 1)) 0 = b.2 (f (122 + 2 * k))
  · rw [if_pos c, if_pos c]
    refine Or.inr ⟨_, _, rfl, rfl, rfl, fun g g0 g1 => ?_⟩
    show upF _ _ _ g = upF _ _ _ g
    by_cases e2 : g = f (122 + 2 * k)
    · rw [e2, upF_self, upF_self]
    · rw [upF_ne e2, upF_ne e2]
      exact h.2 g g0 g1
  · rw [if_neg c, if_neg c]
    exact Or.inl ⟨rfl, rfl⟩
theorem rg_V (h : LI K f) {k : Int} (hk : RI f k) {a a' : RS} (hV : stV f a) (e : rg f k a = some a') : stV f a' := by
  unfold rg at e
  have n0 := h.nW
  split at e
  · cases e
    refine ⟨xr_rg n0.2 hV.1 hk.2, fun g g0 g1 => ?_⟩
    show 0 ≤ upF _ _ _ g ∧ upF _ _ _ g ≤ 8
    by_cases e2 : g = f (122 + 2 * k)
    · rw [e2, upF_self]
      have := (h.w hk.2.1 hk.2.2).end (d := a.1) (Or.inr rfl)
      omega
    · rw [upF_ne e2]
      exact hV.2 g g0 g1
  · cases e
theorem rs0_V (h : LI K f) : stV f (rs0 f) := ⟨h.dirs, fun g g0 g1 => (h.g g0 g1).place⟩
theorem stV_of {a b : RS} (h : stE (f 1) a b) (hb : stV f b) : stV f a := ⟨by rw [h.1]; exact hb.1, fun g g0 g1 => by rw [h.2 g g0 g1]; exact hb.2 g g0 g1⟩
end RGS
/-- the row's own state laid -/
def vt_rw (S : SS) (st : RS) : SS := vt_st (vt_st S 39 st.2) 43 (upF (S 43) 40 st.1)
theorem rw_43 {S : SS} {st : RS} : vt_rw S st 43 40 = st.1 := by unfold vt_rw; rw [vt_st_at, upF_self]
theorem rw_39 {S : SS} {st : RS} : vt_rw S st 39 = st.2 := by unfold vt_rw; rw [vt_st_ne (by decide), vt_st_at]
theorem rw_23 {S : SS} {st : RS} : vt_rw S st 23 = S 23 := by unfold vt_rw; rw [vt_st_ne (by decide), vt_st_ne (by decide)]
theorem rw_self {S : SS} : vt_rw S (S 43 40, S 39) = S := by
  unfold vt_rw
  rw [vt_st_self]
  funext j
  by_cases e43 : j = 43
  · subst e43
    rw [vt_st_at]
    funext i
    by_cases ei : i = 40
    · subst ei; rw [upF_self]
    · rw [upF_ne ei]
  · rw [vt_st_ne e43]
theorem rw_rw {S : SS} {a b : RS} : vt_rw (vt_rw S a) b = vt_rw S b := by
  unfold vt_rw
  funext j
  by_cases e43 : j = 43
  · subst e43
    rw [vt_st_at, vt_st_at, vt_st_at]
    funext i
    by_cases ei : i = 40
    · subst ei; rw [upF_self, upF_self]
    · rw [upF_ne ei, upF_ne ei, upF_ne ei]
  · rw [vt_st_ne e43, vt_st_ne e43]
    by_cases e0 : j = 39
    · subst e0; rw [vt_st_at, vt_st_at]
    · rw [vt_st_ne e0, vt_st_ne e0, vt_st_ne e43, vt_st_ne e0]
theorem rw_up43 {S : SS} {st : RS} {v : Int} : vt_up (vt_rw S st) 43 40 v = vt_rw S (v, st.2) := by
  rw [← rw_rw (S := S) (a := st) (b := (v, st.2))]
  rw [vt_up_0]
  show vt_st (vt_rw S st) 43 _ = vt_st (vt_st (vt_rw S st) 39 st.2) 43 _
  rw [show vt_st (vt_rw S st) 39 st.2 = vt_rw S st by rw [← rw_39 (S := S) (st := st)]; exact vt_st_self]
theorem rw_up39 {S : SS} {st : RS} {i v : Int} : vt_up (vt_rw S st) 39 i v = vt_rw S (st.1, upF st.2 i v) := by
  rw [← rw_rw (S := S) (a := st) (b := (st.1, upF st.2 i v))]
  rw [vt_up_0, rw_39]
  show _ = vt_st (vt_st (vt_rw S st) 39 (upF st.2 i v)) 43 (upF (vt_rw S st 43) 40 st.1)
  funext j
  by_cases e43 : j = 43
  · subst e43
    rw [vt_st_ne (by decide), vt_st_at]
    funext i
    by_cases ei : i = 40
    · subst ei; rw [upF_self, rw_43]
    · rw [upF_ne ei]
  · rw [vt_st_ne e43]
section TME
variable {S : SS} {B : SB} {K : Int}
theorem tm_rowBegins (h : LI K (S 23)) : vt_M 83 [me] S B (fun r S' B' => none = r ∧ B = B' ∧ ∃ st, S' = vt_rw S st ∧ stE (S 23 1) st (rs0 (S 23))) := by
  refine vt_start rfl rfl (Nat.le_of_ble_eq_true rfl) (fun X hX => ?_)
  have n1 := h.nG
  have loop : ∀ (n : Nat) (g : Int) (pl : Int → Int), 0 ≤ g → g + n = S 23 1 → (∀ i, 0 ≤ i → i < g → pl i = sG (S 23) i 0) → vt_J 83 (fun r S' B' => none = r ∧ B = B' ∧ ∃ st, S' = vt_rw S st ∧ stE (S 23 1) st (rs0 (S 23))) X 12 [(0, me), (1, ii g)] [] (vt_rw S (S 23 2, pl)) B := by
    intro n
    induction n with
    | zero =>
      intro g pl hg hn hp
      refine vt_walk hX tk_rowBegins [(12, [0, 1])] 60 ?_
      refine ⟨by omega, by rw [rw_23]; omega, fun _ => ?_, fun z => absurd z (by rw [rw_23]; omega)⟩
      exact ⟨rfl, rfl, _, rfl, rfl, fun i i0 i1 => hp i i0 (by omega)⟩
    | succ n ih =>
      intro g pl hg hn hp
      refine vt_walk hX tk_rowBegins [(12, [0, 1])] 60 ?_
      refine ⟨by omega, by rw [rw_23]; omega, fun z => absurd z (by rw [rw_23]; omega), fun _ => ?_⟩
      refine vt_k (tm_goerOf (by omega)) ?_
      refine ⟨by omega, ?_⟩
      rw [rw_up39]
      refine ih (g + 1) _ (by omega) (by omega) (fun i i0 i1 => ?_)
      by_cases e : i = g
      · subst e; rw [upF_self, rw_23]
      · rw [upF_ne e]; exact hp i i0 (by omega)
  refine vt_walk hX tk_rowBegins [(12, [0, 1])] 60 ?_
  refine ⟨by omega, ?_⟩
  have h1 := loop (S 23 1).toNat 0 (S 39) (by omega) (by omega) (fun i i0 i1 => by omega)
  rw [show vt_rw S (S 23 2, S 39) = vt_up S 43 40 (S 23 2) by
    have := rw_up43 (S := S) (st := (S 43 40, S 39)) (v := S 23 2)
    rw [rw_self] at this
    exact this.symm] at h1
  exact h1
theorem tm_rowGoes {st : RS} {k : Int} (h : LI K (S 23)) (hk : 0 ≤ k ∧ k < S 23 6) (hV : stV (S 23) st) : vt_M 84 [me, ii k] (vt_rw S st) B (vt_eq (some (ii (bI (rg (S 23) k st).isSome))) (vt_rw S ((rg (S 23) k st).getD st)) B) := by
  refine vt_start rfl rfl (Nat.le_of_ble_eq_true rfl) (fun X hX => ?_)
  have n0 := h.nW
  have n1 := h.nG
  have n6 := h.rows
  have hr := h.r hk.1 hk.2
  have hw := h.w hr.2.1 hr.2.2
  have hp := hV.2 _ hr.1.1 hr.1.2
  have hd := hV.1
  have h14 := pow14 n0.2
  have ho := sOn_rg h (S 23 (122 + 2 * k + 1))
  have he := hw.end (d := st.1) (Or.inl rfl)
  have hr0 := hr
  unfold RI at hr
  have hLI : LI K (vt_rw S st 23) := by rw [rw_23]; exact h
  refine vt_walk hX tk_rowGoes [(66, [0, 1, 2, 3])] 80 ?_
  refine ⟨by omega, by omega, ?_⟩
  rw [rw_23]
  refine ⟨by omega, by rw [rw_39]; omega, fun c => ?_, fun c => ?_⟩ <;> rw [rw_39] at c
  · have e : rg (S 23) k st = none := if_neg (fun z => z.1 c)
    rw [e]
    exact ⟨Or.inl rfl, rfl, rfl, rfl⟩
  refine vt_k (tm_onWay (by omega) hLI) ?_
  rw [rw_23]
  refine ⟨by omega, fun c2 => ?_, fun c2 => ?_⟩
  · have e : rg (S 23) k st = none := if_neg (fun z => by omega)
    rw [e]
    exact ⟨Or.inl rfl, rfl, rfl, rfl⟩
  refine vt_k (tm_endOf (by rw [rw_43]; omega) (by omega) (Or.inl rfl)) ?_
  rw [rw_43, rw_23]
  refine ⟨by omega, by rw [rw_39]; omega, fun c3 => ?_, fun c3 => ?_⟩ <;> rw [rw_39] at c3
  · have e : rg (S 23) k st = some (xr st.1 (S 23 (122 + 2 * k + 1)), upF st.2 (S 23 (122 + 2 * k)) (sE (S 23) st.1 (S 23 (122 + 2 * k + 1)) 1)) := if_pos ⟨c, by omega, c3⟩
    rw [e]
    refine vt_walk hX tk_rowGoes [] 80 ?_
    refine vt_k (tm_endOf (by rw [rw_43]; omega) (by omega) (Or.inr rfl)) ?_
    rw [rw_43, rw_23]
    refine ⟨by omega, ?_⟩
    rw [rw_up39]
    refine ⟨by omega, Or.inr rfl, rfl, ?_, rfl⟩
    rw [rw_43, rw_up43, xorp (by omega) (by omega)]
    rfl
  · have e : rg (S 23) k st = none := if_neg (fun z => c3 z.2.2)
    rw [e]
    exact ⟨Or.inl rfl, rfl, rfl, rfl⟩
theorem rg_E {f : Int → Int} {k : Int} {a b : RS} (hk : RI f k) (h : stE (f 1) a b) : (rg f k a).isSome = (rg f k b).isSome ∧ stE (f 1) ((rg f k a).getD a) ((rg f k b).getD b) := by
  rcases rg_congr hk h with ⟨e1, e2⟩ | ⟨a', b', e1, e2, e3⟩
  · rw [e1, e2]; exact ⟨rfl, h⟩
  · rw [e1, e2]; exact ⟨rfl, e3⟩
theorem rg_Vd {f : Int → Int} (h : LI K f) {k : Int} (hk : RI f k) {a : RS} (hV : stV f a) : stV f ((rg f k a).getD a) := by
  cases e : rg f k a with
  | none => exact hV
  | some a' => exact rg_V h hk hV e
theorem tm_goesTo {m : Int} (h : LI K (S 23)) (hm : 0 ≤ m ∧ m ≤ S 23 6) : vt_M 82 [me, ii m] S B (fun r S' B' => some (ii (rgo (S 23) m.toNat 0 (rs0 (S 23))).1) = r ∧ B = B' ∧ ∃ st, S' = vt_rw S st ∧ stE (S 23 1) st (rgo (S 23) m.toNat 0 (rs0 (S 23))).2 ∧ stV (S 23) st) := by
  refine vt_start rfl rfl (Nat.le_of_ble_eq_true rfl) (fun X hX => ?_)
  have n6 := h.rows
  have loop : ∀ (n : Nat) (k : Int) (st st1 : RS), 0 ≤ k → k + n = m → stE (S 23 1) st st1 → stV (S 23) st → rgo (S 23) m.toNat 0 (rs0 (S 23)) = rgo (S 23) n k st1 → vt_J 82 (fun r S' B' => some (ii (rgo (S 23) m.toNat 0 (rs0 (S 23))).1) = r ∧ B = B' ∧ ∃ st, S' = vt_rw S st ∧ stE (S 23 1) st (rgo (S 23) m.toNat 0 (rs0 (S 23))).2 ∧ stV (S 23) st) X 6 [(0, me), (1, ii m), (2, ii k)] [] (vt_rw S st) B := by
    intro n
    induction n with
    | zero =>
      intro k st st1 hk hn hE hV he
      refine vt_walk hX tk_goesTo [(6, [0, 1, 2])] 60 ?_
      refine ⟨by omega, fun _ => ?_, fun z => absurd z (by omega)⟩
      rw [he]
      exact ⟨rfl, rfl, st, rfl, hE, hV⟩
    | succ n ih =>
      intro k st st1 hk hn hE hV he
      have hr := h.r hk (by omega)
      have hb := bI_rg (rg (S 23) k st).isSome
      refine vt_walk hX tk_goesTo [(6, [0, 1, 2])] 60 ?_
      refine ⟨by omega, fun z => absurd z (by omega), fun _ => ?_⟩
      refine vt_k (tm_rowGoes h (by omega) hV) ?_
      refine ⟨by omega, fun c => ?_, fun c => ?_⟩
      · rcases rg_congr hr hE with ⟨e1, e2⟩ | ⟨a', b', e1, e2, e3⟩
        · have : rgo (S 23) (n + 1) k st1 = (k, st1) := by unfold rgo; rw [e2]
          rw [he, this, e1]
          exact ⟨rfl, rfl, st, rfl, hE, hV⟩
        · rw [e1] at c; cases c
      · rcases rg_congr hr hE with ⟨e1, e2⟩ | ⟨a', b', e1, e2, e3⟩
        · rw [e1] at c; exact absurd rfl c
        · have : rgo (S 23) (n + 1) k st1 = rgo (S 23) n (k + 1) b' := by show (match rg (S 23) k st1 with | some st' => rgo (S 23) n (k + 1) st' | none => (k, st1)) = _; rw [e2]
          rw [e1]
          exact ih (k + 1) a' b' (by omega) (by omega) e3 (rg_V h hr hV e1) (by rw [he, this])
  refine vt_walk hX tk_goesTo [(6, [0, 1, 2])] 60 ?_
  refine ⟨_, tm_rowBegins h, ?_⟩
  rintro _ _ _ ⟨rfl, rfl, st, rfl, hE⟩
  exact loop m.toNat 0 st (rs0 (S 23)) (by omega) (by omega) hE (stV_of hE (rs0_V h)) rfl
def sp_done (f : Int → Int) : Int := (rgo f (f 6).toNat 0 (rs0 f)).1
theorem tm_done (h : LI K (S 23)) : vt_M 81 [me] S B (fun r S' B' => some (ii (sp_done (S 23))) = r ∧ B = B' ∧ ∃ st, S' = vt_rw S st) := by
  refine vt_start rfl rfl (Nat.le_of_ble_eq_true rfl) (fun X hX => ?_)
  have n6 := h.rows
  refine vt_walk hX tk_done [] 60 ?_
  refine ⟨by omega, _, tm_goesTo h (by omega), ?_⟩
  rintro _ _ _ ⟨rfl, rfl, st, rfl, -, -⟩
  exact ⟨rfl, rfl, st, rfl⟩
-- ===== two orders =====
def encI (st : RS) : Nat → Int
  | 0 => st.1
  | n + 1 => encI st n * 16 + st.2 (n : Int)
theorem encI_rg {st : RS} (hd : 0 ≤ st.1 ∧ st.1 < 16384) : ∀ n : Nat, (∀ g : Int, 0 ≤ g → g < n → 0 ≤ st.2 g ∧ st.2 g ≤ 8) → 0 ≤ encI st n ∧ encI st n < 16384 * 16 ^ n
  | 0, _ => by show 0 ≤ st.1 ∧ st.1 < 16384 * 1; omega
  | n + 1, h => by
    have h1 := encI_rg hd n (fun g a b => h g a (by omega))
    have h2 := h n (by omega) (by omega)
    have e : (16 : Int) ^ (n + 1) = 16 ^ n * 16 := rfl
    show 0 ≤ encI st n * 16 + _ ∧ encI st n * 16 + _ < _
    rw [e]
    omega
theorem encI_inj {a b : RS} : ∀ n : Nat, (∀ g : Int, 0 ≤ g → g < n → 0 ≤ a.2 g ∧ a.2 g ≤ 8) → (∀ g : Int, 0 ≤ g → g < n → 0 ≤ b.2 g ∧ b.2 g ≤ 8) → (encI a n = encI b n ↔ stE n a b)
  | 0, _, _ => ⟨fun h => ⟨h, fun g a b => by omega⟩, fun h => h.1⟩
  | n + 1, ha, hb => by
    have ih := encI_inj (a := a) (b := b) n (fun g a b => ha g a (by omega)) (fun g a b => hb g a (by omega))
    have h1 := ha n (by omega) (by omega)
    have h2 := hb n (by omega) (by omega)
    show encI a n * 16 + _ = encI b n * 16 + _ ↔ _
    constructor
    · intro h
      have e1 : encI a n = encI b n := by omega
      have e2 : a.2 n = b.2 n := by omega
      have e3 := ih.mp e1
      refine ⟨e3.1, fun g g0 g1 => ?_⟩
      by_cases c : g = n
      · subst c; exact e2
      · exact e3.2 g g0 (by omega)
    · intro h
      rw [ih.mpr ⟨h.1, fun g g0 g1 => h.2 g g0 (by omega)⟩, h.2 n (by omega) (by omega)]
theorem tm_rowState {st : RS} (h : LI K (S 23)) (hV : stV (S 23) st) : vt_M 86 [me] (vt_rw S st) B (vt_eq (some (ll (Int64.ofInt (encI st (S 23 1).toNat)))) (vt_rw S st) B) := by
  refine vt_start rfl rfl (Nat.le_of_ble_eq_true rfl) (fun X hX => ?_)
  have n0 := h.nW
  have n1 := h.nG
  have hd := hV.1
  have h14 := pow14 n0.2
  have loop : ∀ (n : Nat) (g : Int), 0 ≤ g → g + n = S 23 1 → vt_J 86 (vt_eq (some (ll (Int64.ofInt (encI st (S 23 1).toNat)))) (vt_rw S st) B) X 8 [(0, me), (1, ll (Int64.ofInt (encI st g.toNat))), (3, ii g)] [] (vt_rw S st) B := by
    intro n
    induction n with
    | zero =>
      intro g hg hn
      refine vt_walk hX tk_rowState [(8, [0, 1, 3])] 60 ?_
      refine ⟨by omega, by rw [rw_23]; omega, fun _ => ?_, fun z => absurd z (by rw [rw_23]; omega)⟩
      rw [show g = S 23 1 by omega]
      exact ⟨rfl, rfl, rfl⟩
    | succ n ih =>
      intro g hg hn
      have hp := hV.2 g hg (by omega)
      have hi := ih (g + 1) (by omega) (by omega)
      rw [show (g + 1).toNat = g.toNat + 1 by omega, show encI st (g.toNat + 1) = encI st g.toNat * 16 + st.2 ((g.toNat : Nat) : Int) from rfl, show ((g.toNat : Nat) : Int) = g by omega, Int64.ofInt_add, Int64.ofInt_mul] at hi
      refine vt_walk hX tk_rowState [(8, [0, 1, 3])] 60 ?_
      refine ⟨by omega, by rw [rw_23]; omega, fun z => absurd z (by rw [rw_23]; omega), fun _ => ?_⟩
      refine ⟨by omega, ?_⟩
      rw [rw_39]
      exact ⟨by omega, hi⟩
  refine vt_walk hX tk_rowState [(8, [0, 1, 3])] 60 ?_
  refine ⟨by rw [rw_43]; omega, ?_⟩
  rw [rw_43]
  exact loop (S 23 1).toNat 0 (by omega) (by omega)
end TME
