/-! VC: the component's walk: values, the world, contracts.  A reference is 0 (null) or an address + 1; S r (-2): the kind of the cell r (a class's number, or 100 int, 101 byte, 102 long, 103 Object, 104 Image: arrays), S r (-1): an array's length, S 0: the constants -/
set_option maxRecDepth 100000
abbrev vc_Po : Type := (Option AV ⊕ Nat) → List Nat → SS → SB → Prop
def vc_r : Nat → Option Nat
  | 0 => none
  | k + 1 => some k
def cw : AV → Value
  | .inl z => .int (Int32.ofInt z)
  | .inr (.inl x) => .long x
  | .inr (.inr k) => va_rf (vc_r k)
theorem vc_cat_cw (v : AV) : (cw v).category = if vt_is2 v = true then 2 else 1 := by
  rcases v with z | x | k
  · rfl
  · rfl
  · cases k <;> rfl
/-- a field: 0 an int, 1 a reference, 2 a boolean -/
def vc_ft (c k : Nat) : Nat := match vc_tf c k with
  | .int => 0
  | .boolean => 2
  | .object _ => 1
  | .array _ => 1
  | _ => 3
def vc_fv (c : Nat) (f : Int → Int) (k : Nat) : Value := if vc_ft c k = 1 then va_rf (vc_r (f (k : Int)).toNat) else .int (Int32.ofInt (f (k : Int)))
def vc_fs (c : Nat) (f : Int → Int) : List Value := (List.range (vc_N c)).map (vc_fv c f)
def vc_ac (S : SS) (B : SB) (r : Nat) : vp_A := ((S r (-1)).toNat, if S r (-2) = 102 then .inr (.inl (fun j => B r (j : Int))) else if S r (-2) ≤ 101 then .inl (fun j => Int32.ofInt (S r (j : Int))) else .inr (.inr (.inr (.inr (fun j => vc_r (S r (j : Int)).toNat)))))
def vc_e (cA : Nat → ClassId) (S : SS) (B : SB) (a : Nat) : va_E := if S (a + 1) (-2) < 100 then .inr ((S (a + 1) (-2)).toNat, vc_fs (S (a + 1) (-2)).toNat (S (a + 1))) else .inl (cA ((S (a + 1) (-2)).toNat - 100), vc_ac S B (a + 1))
abbrev vc_w (cA : Nat → ClassId) (Lw : List Nat) (S : SS) (B : SB) : va_W := va_pl Lw (vc_e cA S B)
def vc_ty (cA : Nat → ClassId) : List (ClassId × FieldType) := [(cA 0, .int), (cA 1, .byte), (cA 2, .long), (cA 3, .object "java/lang/Object"), (cA 4, .object "TurningRoads$Image")]
def vc_A (Lw : List Nat) (sz : Nat) : Nat → Prop := fun q => q ∈ Lw ∨ sz ≤ q
/-- a reference to a cell of a kind -/
def vc_ob (Lw : List Nat) (S : SS) (r : Nat) (c : Int) : Prop := (∃ a, r = a + 1 ∧ a ∈ Lw) ∧ S r (-2) = c
/-- the words that ride at a contract's start -/
def vc_okw : Cond → Bool
  | .fieldLinkNest .. => true
  | .methodLinkNest .. => true
  | .castable .. => true
  | .declares .. => true
  | _ => false
def vc_sf (U : State) : Prop := (∀ w ∈ lw_tbl, vc_okw w = true → va_Nw w U) ∧ va_AO "java/lang/Object" U ∧ va_AO "TurningRoads$Image" U
theorem vc_sf.warm {s U : State} (hW : s.WarmedH U.vm) (h : vc_sf s) : vc_sf U := by
  refine ⟨fun w hw ho => ?_, va_AO.moved hW.alike h.2.1, va_AO.moved hW.alike h.2.2⟩
  have h1 := h.1 w hw ho
  cases w
  case fieldLinkNest => exact va_Nw.warmF hW h1
  case methodLinkNest => exact va_Nw.warmM hW h1
  case castable => exact va_Nw.warmC hW h1
  case declares => exact va_Nw.warmD hW h1
  all_goals cases ho
/-- texts: their number, their lengths, their bytes -/
def vc_tl : List (List Int32) := [[119, 97, 121], [109, 105, 110, 117, 116, 101, 115], [103, 111, 110, 101], [108, 97, 115, 116], [116, 111], [102, 97, 114], [111, 117, 116], [116, 104, 101, 114, 101], [103, 111, 101, 114], [97, 105, 109], [99, 108, 111, 99, 107], [111, 110], [110, 111, 116], [97, 110, 100], [111, 114], [116, 97, 107, 101], [119, 97, 105, 116], [105, 102]]
def vc_tn : List String := ["way", "minutes", "gone", "last", "to", "far", "out", "there", "goer", "aim", "clock", "on", "not", "and", "or", "take", "wait", "if"]
def vc_cn (z : Int → Int) (A : Nat → Prop) (U : State) (H : Heap) : Prop := (∀ i : Nat, i < 18 → 0 < z (i : Int)) ∧ (∃ adV : Nat → Nat, (∀ i : Nat, i < 18 → z (40 + (i : Int)) = ((adV i + 1 : Nat) : Int)) ∧ vk_S 18 (vc_tl.map List.length) vc_tl (fun i => (z (i : Int)).toNat - 1) adV A U H) ∧
  (∀ (own : String) (k : Nat) (i : Nat), i < 18 → Cond.stringRef own k (vc_tn.getD i "") ∈ lw_tbl → vk_R own k (vc_tn.getD i "") ((z (i : Int)).toNat - 1) U) ∧
  0 < z 30 ∧ va_Z "TurningRoads" "NAMES" "[Ljava/lang/String;" (.ref ((z 30).toNat - 1)) A U H ∧ va_T (.object "java/lang/String") ((z 30).toNat - 1) 12 (fun j => .ref ((z (j : Int)).toNat - 1)) A U H ∧ 0 < z 31 ∧ va_Mi "[Ljava/lang/Object;" ((z 31).toNat - 1) U ∧ va_Z "java/lang/String" "COMPACT_STRINGS" "Z" (.int 1) A U H ∧ va_Zq "jdk/internal/util/Preconditions" "SIOOBE_FORMATTER" "Ljava/util/function/BiFunction;" A U H
def vc_nd (L : List Nat) : Prop := ∀ (i j : Nat) (a : Nat), L[i]? = some a → L[j]? = some a → i = j
def vc_In (D : va_G) (cA : Nat → ClassId) (Lw : List Nat) (S : SS) (B : SB) (U : State) : Prop := va_P D vc_cl (vc_w cA Lw S B) U.heap ∧ va_K D vc_cl (vc_ty cA) U ∧ vc_nd Lw ∧ vc_cn (S 0) (vc_A Lw U.heap.size) U U.heap ∧ vc_sf U
def vc_oc (r : Option AV ⊕ Nat) : Outcome := match r with
  | .inl v => .returned (v.map cw)
  | .inr k => .threw (k - 1)
def vc_gr (Lw0 : List Nat) (sz : Nat) (Lw : List Nat) : Prop := ∃ N : List Nat, Lw = Lw0 ++ N ∧ ∀ a ∈ N, sz ≤ a
def vc_Q (D : va_G) (cA : Nat → ClassId) (Lw0 : List Nat) (sz : Nat) (z : Int → Int) (Post : vc_Po) : Array Value → State → Outcome → State → Prop := fun _ st o t =>
  (∃ (r : Option AV ⊕ Nat) (Lw : List Nat) (S : SS) (B : SB), o = vc_oc r ∧ (∀ k, r = .inr k → 0 < k) ∧ Post r Lw S B ∧ vc_In D cA Lw S B t ∧ vc_gr Lw0 sz Lw ∧ S 0 = z) ∧ va_F (vc_A Lw0 sz) st t
def vc_rm (d mc ms : Nat) : Room := { frames := d, cells := mc, slots := ms, locals := 41 * d }
/-- the component's method mt, with room for d frames, making at most mc cells of ms slots -/
def vc_M (d mc ms mt : Nat) (as : List AV) (Lw : List Nat) (S : SS) (B : SB) (Post : vc_Po) : Prop := ∀ (l : Launch) (D : va_G) (cA : Nat → ClassId) (sz : Nat),
  vx_Met l (vc_y mt) (ws_ (vc_y mt) (vc_c mt) (vc_n mt) (vc_rt mt)) (vc_rm d mc ms) (va_Pc (as.map cw) (fun U => U.heap.size = sz ∧ vc_In D cA Lw S B U)) (vc_Q D cA Lw sz (S 0) Post) mc ms (vc_A Lw sz)
theorem vc_M.mono {d mc ms mt : Nat} {as : List AV} {Lw : List Nat} {S : SS} {B : SB} {P P' : vc_Po} (h : vc_M d mc ms mt as Lw S B P) (hP : ∀ r Lw S B, P r Lw S B → P' r Lw S B) : vc_M d mc ms mt as Lw S B P' := by
  intro l D cA sz
  refine (h l D cA sz).mono ?_
  rintro a s o t ⟨⟨r, L1, S1, B1, h1, h2, h3, h4⟩, h5⟩
  exact ⟨⟨r, L1, S1, B1, h1, h2, hP _ _ _ _ h3, h4⟩, h5⟩
-- ===== constants stay =====
theorem vc_cn.moved {z : Int → Int} {A : Nat → Prop} {u U : State} {H : Heap} (hW : u.WarmedH U.vm) (h : vc_cn z A u H) : vc_cn z A U H := by
  obtain ⟨h1, ⟨adV, h0, h2⟩, h3, h4, h5, h6, h7, h8, h9, h10⟩ := h
  exact ⟨h1, ⟨adV, h0, h2.moved hW.alike⟩, fun own k i hi hw => (h3 own k i hi hw).warm hW, h4, h5.moved hW.alike, h6.moved hW.alike, h7, h8.moved hW.alike, h9.moved hW.alike, h10.moved hW.alike⟩
theorem vc_cn.kept {z : Int → Int} {A : Nat → Prop} {U : State} {H H1 : Heap} (h : vc_cn z A U H) (hq : ∀ a : Nat, a < H.size → ¬ A a → H1[a]? = H[a]?) : vc_cn z A U H1 := by
  obtain ⟨h1, ⟨adV, h0, h2⟩, h3, h4, h5, h6, h7, h8, h9, h10⟩ := h
  exact ⟨h1, ⟨adV, h0, h2.kept hq⟩, h3, h4, h5.kept hq, h6.kept hq, h7, h8, h9.kept hq, h10.kept hq⟩
theorem vc_cn.narrow {z : Int → Int} {A A' : Nat → Prop} {U : State} {H : Heap} (h : vc_cn z A U H) (hA : ∀ q, A' q → A q) : vc_cn z A' U H := by
  obtain ⟨h1, ⟨adV, h0, h2⟩, h3, h4, h5, h6, h7, h8, h9, h10⟩ := h
  exact ⟨h1, ⟨adV, h0, h2.narrow hA⟩, h3, h4, h5.narrow hA, h6.narrow hA, h7, h8, h9.narrow hA, h10.narrow hA⟩
