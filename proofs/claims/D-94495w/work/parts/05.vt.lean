/-! VT: the twin's walk over whole numbers: values, the world, contracts, the walk's function and its soundness -/
set_option maxRecDepth 100000
abbrev AV : Type := Int ⊕ Int64 ⊕ Nat
abbrev SS : Type := Nat → Int → Int
abbrev SB : Type := Nat → Int → Int64
abbrev vt_I : Type := Instr ⊕ (Nat × Nat × Int)
abbrev vt_L : Type := List (Nat × AV)
abbrev vt_Po : Type := Option AV → SS → SB → Prop
abbrev ii (z : Int) : AV := .inl z
abbrev ll (x : Int64) : AV := .inr (.inl x)
abbrev me : AV := .inr (.inr 43)
def cv (ad : Nat → Nat) : AV → Value
  | .inl z => .int (Int32.ofInt z)
  | .inr (.inl x) => .long x
  | .inr (.inr k) => .ref (ad k)
def vt_is2 : AV → Bool
  | .inr (.inl _) => true
  | _ => false
theorem vt_cat_cv (ad : Nat → Nat) (v : AV) : (cv ad v).category = if vt_is2 v = true then 2 else 1 := by
  rcases v with z | x | k <;> rfl
-- ===== numbers =====
theorem vt_toI {z : Int} (h : -2147483648 ≤ z ∧ z ≤ 2147483647) : (Int32.ofInt z).toInt = z := Int32.toInt_ofInt_of_le (by omega) (by omega)
theorem vt_eqI {x y : Int} (hx : -2147483648 ≤ x ∧ x ≤ 2147483647) (hy : -2147483648 ≤ y ∧ y ≤ 2147483647) : Int32.ofInt x = Int32.ofInt y ↔ x = y := by
  rw [← Int32.toInt_inj, vt_toI hx, vt_toI hy]
theorem vt_ltI {x y : Int} (hx : -2147483648 ≤ x ∧ x ≤ 2147483647) (hy : -2147483648 ≤ y ∧ y ≤ 2147483647) : Int32.ofInt x < Int32.ofInt y ↔ x < y := by
  rw [Int32.lt_iff_toInt_lt, vt_toI hx, vt_toI hy]
theorem vt_leI {x y : Int} (hx : -2147483648 ≤ x ∧ x ≤ 2147483647) (hy : -2147483648 ≤ y ∧ y ≤ 2147483647) : Int32.ofInt x ≤ Int32.ofInt y ↔ x ≤ y := by
  rw [Int32.le_iff_toInt_le, vt_toI hx, vt_toI hy]
theorem vt_zero : (0 : Int32) = Int32.ofInt 0 := by decide
theorem vt_ix {i : Int} {n : Nat} (h0 : 0 ≤ i) (h1 : i < (n : Int)) (hn : n ≤ 1048576) : vp_in (Int32.ofInt i) n ∧ (((Int32.ofInt i).toNatClampNeg : Nat) : Int) = i := by
  have h : (Int32.ofInt i).toInt = i := vt_toI (by omega)
  refine ⟨vp_in_iff.mpr (by rw [h]; exact ⟨h0, h1⟩), ?_⟩
  show (((Int32.ofInt i).toInt.toNat : Nat) : Int) = i
  rw [h]
  omega
def vt_and (x y : Int) : Int := (Int32.ofInt x &&& Int32.ofInt y).toInt
def vt_or (x y : Int) : Int := (Int32.ofInt x ||| Int32.ofInt y).toInt
def vt_xor (x y : Int) : Int := (Int32.ofInt x ^^^ Int32.ofInt y).toInt
def vt_i2b (x : Int) : Int := (Int32.ofInt x).toInt8.toInt
def vt_cmp (x y : Int64) : Int := if y < x then 1 else if x = y then 0 else -1
theorem vt_cmp_ok (x y : Int64) : lg_cmp x y = Int32.ofInt (vt_cmp x y) := by
  unfold lg_cmp vt_cmp
  show (if y < x then (1 : Int32) else if x = y then 0 else -1) = _
  split
  · decide
  · split <;> decide
theorem vt_shm : ∀ n : Nat, n < 32 → ((Int32.ofInt (n : Int) &&& 31).toBitVec.smod 32).toNat = n := by decide
theorem vt_shr {x y : Int} (hx : -2147483648 ≤ x ∧ x ≤ 2147483647) (h0 : 0 ≤ y) (h1 : y < 32) : Int32.ofInt x >>> (Int32.ofInt y &&& 31) = Int32.ofInt (x / 2 ^ y.toNat) := by
  obtain ⟨n, rfl⟩ := Int.eq_ofNat_of_zero_le h0
  have hn : n < 32 := by omega
  rw [← Int32.toInt_inj, pk_shr _ _ n (vt_shm n hn), vt_toI hx, Int.toNat_natCast, Int.shiftRight_eq_div_pow]
  have hp : (0 : Int) < 2 ^ n := Int.pow_pos (by decide)
  have e : ((2 ^ n : Nat) : Int) = (2 : Int) ^ n := by simp
  rw [e, vt_toI]
  constructor
  · have := Int.le_ediv_of_mul_le hp (a := -2147483648) (b := x) (by
      have : (1 : Int) ≤ 2 ^ n := hp
      have h2 : (-2147483648 : Int) * 2 ^ n ≤ -2147483648 * 1 := Int.mul_le_mul_of_nonpos_left (by decide) this
      omega)
    exact this
  · by_cases hz : 0 ≤ x
    · have := Int.ediv_le_self (2 ^ n) hz
      omega
    · have := Int.ediv_neg_of_neg_of_pos (by omega : x < 0) hp
      omega
theorem vt_shl {x y : Int} (h0 : 0 ≤ y) (h1 : y < 32) : Int32.ofInt x <<< (Int32.ofInt y &&& 31) = Int32.ofInt (x * 2 ^ y.toNat) := by
  obtain ⟨n, rfl⟩ := Int.eq_ofNat_of_zero_le h0
  have hn : n < 32 := by omega
  apply Int32.toBitVec.inj
  apply BitVec.eq_of_toNat_eq
  rw [pk_shl _ _ n (vt_shm n hn), Int.toNat_natCast, Int32.ofInt_mul, Int32.toBitVec_mul, BitVec.toNat_mul]
  have : (Int32.ofInt (2 ^ n)).toBitVec.toNat = 2 ^ n % 2 ^ 32 := by
    rw [show (2 : Int) ^ n = ((2 ^ n : Nat) : Int) by simp, Int32.ofInt_eq_ofNat]
    rfl
  rw [this, Nat.mul_mod_mod]
theorem vt_i2l {z : Int} (h : -2147483648 ≤ z ∧ z ≤ 2147483647) : (Int32.ofInt z).toInt64 = Int64.ofInt z := by
  rw [← Int64.toInt_inj, Int32.toInt_toInt64, vt_toI h, Int64.toInt_ofInt_of_le (by omega) (by omega)]
-- ===== the state =====
def vt_up (S : SS) (k : Nat) (i v : Int) : SS := fun k' => if k' = k then (fun i' => if i' = i then v else S k i') else S k'
def vt_ub (B : SB) (k : Nat) (i : Int) (v : Int64) : SB := fun k' => if k' = k then (fun i' => if i' = i then v else B k i') else B k'
theorem vt_up_ne {S : SS} {k k' : Nat} {i v : Int} (h : k' ≠ k) : vt_up S k i v k' = S k' := if_neg h
theorem vt_up_at {S : SS} {k : Nat} {i v : Int} : vt_up S k i v k = fun i' => if i' = i then v else S k i' := if_pos rfl
theorem vt_up_self {S : SS} {k : Nat} {i v : Int} : vt_up S k i v k i = v := by rw [vt_up_at]; exact if_pos rfl
theorem vt_up_off {S : SS} {k : Nat} {i j v : Int} (h : j ≠ i) : vt_up S k i v k j = S k j := by rw [vt_up_at]; exact if_neg h
theorem vt_ub_ne {B : SB} {k k' : Nat} {i : Int} {v : Int64} (h : k' ≠ k) : vt_ub B k i v k' = B k' := if_neg h
theorem vt_ub_at {B : SB} {k : Nat} {i : Int} {v : Int64} : vt_ub B k i v k = fun i' => if i' = i then v else B k i' := if_pos rfl
-- ===== the world =====
def vt_fs (ad : Nat → Nat) (S : SS) : List Value := (List.range 43).map (fun (k : Nat) => if (vt_kl k).1 = 9 then Value.int (Int32.ofInt (S 43 (k : Int))) else Value.ref (ad k))
def vt_e (cA : Nat → ClassId) (ad : Nat → Nat) (S : SS) (B : SB) (k : Nat) : va_E :=
  if k = 43 then .inr (0, vt_fs ad S) else if (vt_kl k).1 = 3 then .inl (cA 3, (vt_kl k).2, .inr (.inl (fun j => B k (j : Int)))) else .inl (cA (vt_kl k).1, (vt_kl k).2, .inl (fun j => Int32.ofInt (S k (j : Int))))
def vt_w (cA : Nat → ClassId) (ad : Nat → Nat) (S : SS) (B : SB) : va_W := vt_nm.map (fun k => (ad k, vt_e cA ad S B k))
theorem vt_ps_ok : ∀ k ∈ vt_nm, vt_nm[vt_ps k]? = some k := by decide
theorem vt_ps_in : ∀ i : Nat, i < 25 → vt_ps (vt_nm.getD i 0) = i := by decide
theorem vt_inv {i k : Nat} (h : vt_nm[i]? = some k) : vt_ps k = i := by
  have hi : i < 25 := (List.getElem?_eq_some_iff.mp h).1
  have h2 := vt_ps_in i hi
  rw [List.getD_eq_getElem?_getD, h] at h2
  exact h2
theorem vt_at {cA : Nat → ClassId} {ad : Nat → Nat} {S : SS} {B : SB} {k : Nat} (h : k ∈ vt_nm) : (vt_w cA ad S B)[vt_ps k]? = some (ad k, vt_e cA ad S B k) := by
  unfold vt_w
  rw [List.getElem?_map, vt_ps_ok k h]
  rfl
theorem vt_e_congr {cA : Nat → ClassId} {ad : Nat → Nat} {S S' : SS} {B B' : SB} {k : Nat} (h : S k = S' k) (h2 : B k = B' k) : vt_e cA ad S B k = vt_e cA ad S' B' k := by
  unfold vt_e
  by_cases hk : k = 43
  · subst hk
    rw [if_pos rfl, if_pos rfl]
    unfold vt_fs
    rw [h]
  · rw [if_neg hk, if_neg hk, h, h2]
theorem vt_set {cA : Nat → ClassId} {ad : Nat → Nat} {S S' : SS} {B B' : SB} {k : Nat} {e : va_E} (h : k ∈ vt_nm) (he : e = vt_e cA ad S' B' k) (hS : ∀ j, j ≠ k → S j = S' j) (hB : ∀ j, j ≠ k → B j = B' j) : (vt_w cA ad S B).set (vt_ps k) (ad k, e) = vt_w cA ad S' B' := by
  apply List.ext_getElem?
  intro i
  by_cases hi : i = vt_ps k
  · subst hi
    rw [vt_at h, List.getElem?_set_self, he]
    exact (List.getElem?_eq_some_iff.mp (vt_at (cA := cA) (ad := ad) (S := S) (B := B) h)).1
  · rw [List.getElem?_set_ne (Ne.symm hi)]
    unfold vt_w
    rw [List.getElem?_map, List.getElem?_map]
    cases hj : vt_nm[i]? with
    | none => rfl
    | some j =>
      have hjk : j ≠ k := fun z => hi (by rw [← vt_inv hj, z])
      show some (ad j, vt_e cA ad S B j) = some (ad j, vt_e cA ad S' B' j)
      rw [vt_e_congr (hS j hjk) (hB j hjk)]
def vt_ap (ad : Nat → Nat) : Prop := ∀ i ∈ vt_nm, ∀ j ∈ vt_nm, ad i = ad j → i = j
def vt_A (ad : Nat → Nat) : Nat → Prop := fun q => ∃ k ∈ vt_nm, q = ad k
theorem vt_D {cA : Nat → ClassId} {ad : Nat → Nat} {S : SS} {B : SB} (hap : vt_ap ad) : va_D (vt_A ad) (vt_w cA ad S B) := by
  have key : ∀ (i : Nat) (q : Nat × va_E), (vt_w cA ad S B)[i]? = some q → ∃ k, k ∈ vt_nm ∧ vt_nm[i]? = some k ∧ q.1 = ad k := by
    intro i q h
    unfold vt_w at h
    rw [List.getElem?_map] at h
    cases hj : vt_nm[i]? with
    | none => rw [hj] at h; cases h
    | some k =>
      rw [hj] at h
      cases h
      exact ⟨k, List.mem_of_getElem? hj, rfl, rfl⟩
  refine ⟨fun i j x y hi hj hxy => ?_, fun k q hk => ?_⟩
  · obtain ⟨a, a1, a2, a3⟩ := key i x hi
    obtain ⟨b, b1, b2, b3⟩ := key j y hj
    have : a = b := hap a a1 b b1 (by rw [← a3, ← b3, hxy])
    subst this
    rw [← vt_inv a2, ← vt_inv b2]
  · obtain ⟨a, a1, a2, a3⟩ := key k q hk
    exact ⟨a, a1, a3⟩
def vt_ty (cA : Nat → ClassId) : List (ClassId × FieldType) := [(cA 0, .int), (cA 1, .byte), (cA 2, .boolean), (cA 3, .long)]
abbrev vt_cl : List vw_C := [(RX3, TX3, 43)]
def vt_In (D : va_G) (cA : Nat → ClassId) (ad : Nat → Nat) (S : SS) (B : SB) (U : State) : Prop := va_P D vt_cl (vt_w cA ad S B) U.heap ∧ va_K D vt_cl (vt_ty cA) U ∧ vt_ap ad
def vt_Q (D : va_G) (cA : Nat → ClassId) (ad : Nat → Nat) (Post : vt_Po) : Array Value → State → Outcome → State → Prop := fun _ st o t =>
  (∃ (r : Option AV) (S : SS) (B : SB), o = .returned (r.map (cv ad)) ∧ Post r S B ∧ vt_In D cA ad S B t) ∧ va_F (vt_A ad) st t
def vt_rm (d : Nat) : Room := { frames := d, cells := 0, slots := 0, locals := 41 * d }
/-- the twin's method mt, called with these values in this state, returns, and what it answers and leaves is in Post -/
def vt_M (mt : Nat) (as : List AV) (S : SS) (B : SB) (Post : vt_Po) : Prop := ∀ (l : Launch) (D : va_G) (cA : Nat → ClassId) (ad : Nat → Nat),
  Met l (vt_y mt) (ws_ (vt_y mt) (vt_c mt) (vt_n mt) (vt_r mt)) (vt_rm (vt_lv mt)) (va_Pc (as.map (cv ad)) (vt_In D cA ad S B)) (vt_Q D cA ad Post) 0 0 (vt_A ad)
theorem vt_M.mono {mt : Nat} {as : List AV} {S : SS} {B : SB} {P P' : vt_Po} (h : vt_M mt as S B P) (hP : ∀ r S B, P r S B → P' r S B) : vt_M mt as S B P' := by
  intro l D cA ad
  refine MetFree.mono (h l D cA ad) (fun _ _ h => h) (fun _ _ _ _ _ h => h) ?_
  rintro a s o t - ⟨⟨⟨r, S1, B1, h1, h2, h3⟩, h4⟩, h5⟩
  exact ⟨⟨⟨r, S1, B1, h1, hP _ _ _ h2, h3⟩, h4⟩, h5⟩
-- ===== the walk's function =====
def vt_lkK : vt_L → Nat → (AV → Prop) → Prop
  | [], _, _ => False
  | q :: r, i, f => match Nat.beq q.1 i with
    | true => f q.2
    | false => vt_lkK r i f
def vt_bad (i : Nat) (two : Bool) (q : Nat × AV) : Bool := Nat.beq q.1 i || (two && Nat.beq q.1 (i + 1)) || (Nat.beq (q.1 + 1) i && vt_is2 q.2)
def vt_insK (i : Nat) (v : AV) (two : Bool) : vt_L → Bool → (vt_L → Prop) → Prop
  | [], dn, k => match dn with
    | true => k []
    | false => k [(i, v)]
  | q :: r, dn, k => match vt_bad i two q with
    | true => vt_insK i v two r dn k
    | false => match (!dn && Nat.blt i q.1) with
      | true => vt_insK i v two r true (fun r' => k ((i, v) :: q :: r'))
      | false => vt_insK i v two r dn (fun r' => k (q :: r'))
def vt_pick : List Nat → vt_L → vt_L
  | [], _ => []
  | i :: is, L => match L.find? (fun q => Nat.beq q.1 i) with
    | some q => q :: vt_pick is L
    | none => vt_pick is L
def vt_seek (pc : Nat) : List (Nat × vt_I) → List (Nat × vt_I)
  | [] => []
  | q :: r => match Nat.beq q.1 pc with
    | true => q :: r
    | false => vt_seek pc r
def vt_hd : List (Nat × vt_I) → Nat
  | [] => 0
  | q :: _ => q.1
def vt_stop (pc : Nat) : List (Nat × List Nat) → Option (List Nat)
  | [] => none
  | q :: r => match Nat.beq q.1 pc with
    | true => some q.2
    | false => vt_stop pc r
def vt_pi (st : List AV) (k : Int → List AV → Prop) : Prop := match st with
  | .inl z :: r => k z r
  | _ => False
def vt_pl (st : List AV) (k : Int64 → List AV → Prop) : Prop := match st with
  | .inr (.inl x) :: r => k x r
  | _ => False
def vt_pr (st : List AV) (k : Nat → List AV → Prop) : Prop := match st with
  | .inr (.inr a) :: r => k a r
  | _ => False
def vt_p1 (st : List AV) (k : AV → List AV → Prop) : Prop := match st with
  | .inl z :: r => k (.inl z) r
  | .inr (.inr a) :: r => k (.inr (.inr a)) r
  | _ => False
def vt_args : Nat → List AV → List AV → (List AV → List AV → Prop) → Prop
  | 0, st, acc, k => k acc st
  | n + 1, v :: st, acc, k => vt_args n st (v :: acc) k
  | _ + 1, [], _, _ => False
def vt_cat : List AV → Nat
  | [] => 0
  | .inr (.inl _) :: r => vt_cat r + 2
  | _ :: r => vt_cat r + 1
def vt_rs (r : Option AV) (st : List AV) : List AV := match r with
  | some v => v :: st
  | none => st
def vt_br (c : ClassFile.Cond) (x y : Int) (A B : Prop) : Prop := match c with
  | .eq => (x = y → A) ∧ (x ≠ y → B)
  | .ne => (x ≠ y → A) ∧ (x = y → B)
  | .lt => (x < y → A) ∧ (y ≤ x → B)
  | .ge => (y ≤ x → A) ∧ (x < y → B)
  | .gt => (y < x → A) ∧ (x ≤ y → B)
  | .le => (x ≤ y → A) ∧ (y < x → B)
def vt_sw (x : Int) (K : Int → Prop) : Int → List Int → Prop
  | _, [] => True
  | lo, t :: ts => (x = lo → K t) ∧ vt_sw x K (lo + 1) ts
abbrev vt_G : Type := List (Nat × vt_I) → vt_L → List AV → SS → SB → Prop
def vt_s1 (nL : Nat) (rt : Option FieldType) (full : List (Nat × vt_I)) (Post : vt_Po) (G : vt_G) (i : Instr) (is : List (Nat × vt_I)) (L : vt_L) (st : List AV) (S : SS) (B : SB) : Prop := match i with
  | .sipush z => G is L (.inl z :: st) S B
  | .iload k => vt_lkK L k fun v => match v with
    | .inl z => G is L (.inl z :: st) S B
    | _ => False
  | .lload k => vt_lkK L k fun v => match v with
    | .inr (.inl x) => G is L (.inr (.inl x) :: st) S B
    | _ => False
  | .aload k => vt_lkK L k fun v => match v with
    | .inr (.inr a) => G is L (.inr (.inr a) :: st) S B
    | _ => False
  | .istore k => vt_pi st fun z st => match Nat.blt k nL with
    | true => vt_insK k (.inl z) false L false fun L' => G is L' st S B
    | false => False
  | .lstore k => vt_pl st fun x st => match Nat.blt (k + 1) nL with
    | true => vt_insK k (.inr (.inl x)) true L false fun L' => G is L' st S B
    | false => False
  | .iinc k c => vt_lkK L k fun v => match v with
    | .inl z => match Nat.blt k nL with
      | true => vt_insK k (.inl (z + c)) false L false fun L' => G is L' st S B
      | false => False
    | _ => False
  | .iadd => vt_pi st fun y st => vt_pi st fun x st => G is L (.inl (x + y) :: st) S B
  | .isub => vt_pi st fun y st => vt_pi st fun x st => G is L (.inl (x - y) :: st) S B
  | .imul => vt_pi st fun y st => vt_pi st fun x st => G is L (.inl (x * y) :: st) S B
  | .iand => vt_pi st fun y st => vt_pi st fun x st => G is L (.inl (vt_and x y) :: st) S B
  | .ior => vt_pi st fun y st => vt_pi st fun x st => G is L (.inl (vt_or x y) :: st) S B
  | .ixor => vt_pi st fun y st => vt_pi st fun x st => G is L (.inl (vt_xor x y) :: st) S B
  | .ishl => vt_pi st fun y st => vt_pi st fun x st => (0 ≤ y ∧ y < 32) ∧ G is L (.inl (x * 2 ^ y.toNat) :: st) S B
  | .ishr => vt_pi st fun y st => vt_pi st fun x st => (0 ≤ y ∧ y < 32 ∧ -2147483648 ≤ x ∧ x ≤ 2147483647) ∧ G is L (.inl (x / 2 ^ y.toNat) :: st) S B
  | .ladd => vt_pl st fun y st => vt_pl st fun x st => G is L (.inr (.inl (x + y)) :: st) S B
  | .lsub => vt_pl st fun y st => vt_pl st fun x st => G is L (.inr (.inl (x - y)) :: st) S B
  | .lmul => vt_pl st fun y st => vt_pl st fun x st => G is L (.inr (.inl (x * y)) :: st) S B
  | .land => vt_pl st fun y st => vt_pl st fun x st => G is L (.inr (.inl (x &&& y)) :: st) S B
  | .lor => vt_pl st fun y st => vt_pl st fun x st => G is L (.inr (.inl (x ||| y)) :: st) S B
  | .ldiv => vt_pl st fun y st => vt_pl st fun x st => (¬ y = 0) ∧ G is L (.inr (.inl (x / y)) :: st) S B
  | .lrem => vt_pl st fun y st => vt_pl st fun x st => (¬ y = 0) ∧ G is L (.inr (.inl (x - x / y * y)) :: st) S B
  | .lshl => vt_pi st fun y st => vt_pl st fun x st => G is L (.inr (.inl (x <<< ((Int32.ofInt y).toInt64 &&& 63))) :: st) S B
  | .lcmp => vt_pl st fun y st => vt_pl st fun x st => G is L (.inl (vt_cmp x y) :: st) S B
  | .i2l => vt_pi st fun z st => (-2147483648 ≤ z ∧ z ≤ 2147483647) ∧ G is L (.inr (.inl (Int64.ofInt z)) :: st) S B
  | .l2i => vt_pl st fun x st => G is L (.inl x.toInt32.toInt :: st) S B
  | .i2b => vt_pi st fun z st => G is L (.inl (vt_i2b z) :: st) S B
  | .dup => vt_p1 st fun v st => G is L (v :: v :: st) S B
  | .dup2 => vt_p1 st fun v st => vt_p1 st fun u st => G is L (v :: u :: v :: u :: st) S B
  | .pop => vt_p1 st fun _ st => G is L st S B
  | .if_icmp c t => vt_pi st fun y st => vt_pi st fun x st => ((-2147483648 ≤ x ∧ x ≤ 2147483647) ∧ (-2147483648 ≤ y ∧ y ≤ 2147483647)) ∧ vt_br c x y (G (vt_seek t.toNat full) L st S B) (G is L st S B)
  | .ifCond c t => vt_pi st fun x st => (-2147483648 ≤ x ∧ x ≤ 2147483647) ∧ vt_br c x 0 (G (vt_seek t.toNat full) L st S B) (G is L st S B)
  | .goto t => G (vt_seek t.toNat full) L st S B
  | .tableswitch d lo hi ts => vt_pi st fun x st => (-2147483648 ≤ x ∧ x ≤ 2147483647) ∧ ((x < lo ∨ hi < x) → G (vt_seek d.toNat full) L st S B) ∧ vt_sw x (fun t => G (vt_seek t.toNat full) L st S B) lo ts.toList
  | .iaload => vt_pi st fun i st => vt_pr st fun k st => vt_ar k fun kd n => match kd with
    | 0 => (0 ≤ i ∧ i < n) ∧ G is L (.inl (S k i) :: st) S B
    | _ => False
  | .baload => vt_pi st fun i st => vt_pr st fun k st => vt_ar k fun kd n => match kd with
    | 1 => (0 ≤ i ∧ i < n) ∧ G is L (.inl (S k i) :: st) S B
    | 2 => (0 ≤ i ∧ i < n) ∧ G is L (.inl (S k i) :: st) S B
    | _ => False
  | .laload => vt_pi st fun i st => vt_pr st fun k st => vt_ar k fun kd n => match kd with
    | 3 => (0 ≤ i ∧ i < n) ∧ G is L (.inr (.inl (B k i)) :: st) S B
    | _ => False
  | .iastore => vt_pi st fun v st => vt_pi st fun i st => vt_pr st fun k st => vt_ar k fun kd n => match kd with
    | 0 => (0 ≤ i ∧ i < n) ∧ G is L st (vt_up S k i v) B
    | _ => False
  | .bastore => vt_pi st fun v st => vt_pi st fun i st => vt_pr st fun k st => vt_ar k fun kd n => match kd with
    | 1 => ((0 ≤ i ∧ i < n) ∧ -128 ≤ v ∧ v ≤ 127) ∧ G is L st (vt_up S k i v) B
    | 2 => ((0 ≤ i ∧ i < n) ∧ (v = 0 ∨ v = 1)) ∧ G is L st (vt_up S k i v) B
    | _ => False
  | .lastore => vt_pl st fun v st => vt_pi st fun i st => vt_pr st fun k st => vt_ar k fun kd n => match kd with
    | 3 => (0 ≤ i ∧ i < n) ∧ G is L st S (vt_ub B k i v)
    | _ => False
  | .ireturn => vt_pi st fun z st => match st with
    | [] => match rt with
      | some .int => Post (some (.inl z)) S B
      | some .boolean => (z = 0 ∨ z = 1) ∧ Post (some (.inl z)) S B
      | _ => False
    | _ => False
  | .lreturn => vt_pl st fun x st => match st with
    | [] => match rt with
      | some .long => Post (some (.inr (.inl x))) S B
      | _ => False
    | _ => False
  | .return_ => match st with
    | [] => match rt with
      | none => Post none S B
      | _ => False
    | _ => False
  | _ => False
def vt_s2 (d : Nat) (G : vt_G) (op k : Nat) (z : Int) (is : List (Nat × vt_I)) (L : vt_L) (st : List AV) (S : SS) (B : SB) : Prop := match op with
  | 0 => vt_pr st fun j st => match Nat.beq j 43 with
    | true => G is L (.inl (S 43 z) :: st) S B
    | false => False
  | 1 => vt_pi st fun v st => vt_pr st fun j st => match Nat.beq j 43 with
    | true => G is L st (vt_up S 43 z v) B
    | false => False
  | 2 => vt_pr st fun j st => match Nat.beq j 43 with
    | true => G is L (.inr (.inr k) :: st) S B
    | false => False
  | 3 => vt_args z.toNat st [] fun as st => match as with
    | .inr (.inr j) :: as => match Nat.beq j 43 && (Nat.blt (vt_lv k) d && Nat.ble (vt_cat st) 8) with
      | true => ∃ P', vt_M k (.inr (.inr 43) :: as) S B P' ∧ ∀ r S' B', P' r S' B' → G is L (vt_rs r st) S' B'
      | false => False
    | _ => False
  | 4 => G is L (.inr (.inl (Int64.ofInt z)) :: st) S B
  | 5 => vt_args z.toNat st [] fun as st => match Nat.blt (vt_lv k) d && Nat.ble (vt_cat st) 8 with
    | true => ∃ P', vt_M k as S B P' ∧ ∀ r S' B', P' r S' B' → G is L (vt_rs r st) S' B'
    | false => False
  | _ => False
def vt_nx (stops : List (Nat × List Nat)) (J : Nat → vt_L → List AV → SS → SB → Prop) (V : vt_G) : vt_G := fun is L st S B => match is with
  | [] => False
  | q :: r => match vt_stop q.1 stops with
    | some lv => J q.1 (vt_pick lv L) st S B
    | none => V (q :: r) L st S B
def vt_vc (d nL : Nat) (rt : Option FieldType) (full : List (Nat × vt_I)) (stops : List (Nat × List Nat)) (J : Nat → vt_L → List AV → SS → SB → Prop) (Post : vt_Po) : Nat → vt_G
  | 0, _, _, _, _, _ => False
  | n + 1, is, L, st, S, B => match is with
    | [] => False
    | q :: is => match q.2 with
      | .inl i => vt_s1 nL rt full Post (vt_nx stops J (vt_vc d nL rt full stops J Post n)) i is L st S B
      | .inr (op, k, z) => vt_s2 d (vt_nx stops J (vt_vc d nL rt full stops J Post n)) op k z is L st S B
