/-! VC: the walk as a function (written by mk_vc.py) -/
set_option maxRecDepth 100000
abbrev vc_G : Type := List (Nat × vt_I) → vt_L → List AV → List Nat → SS → SB → Nat → Nat → Prop
/-- a new cell r: its kind, its length -/
def vc_nw (S : SS) (r : Nat) (c len : Int) : SS := fun k => if k = r then (fun i => if i = -2 then c else if i = -1 then len else 0) else S k
def vc_nb (B : SB) (r : Nat) : SB := fun k => if k = r then (fun _ => 0) else B k
/-- which method an abstract call goes to (0 a value's, 1 a condition's), by the receiver's class -/
def vc_im (k c : Nat) : Option Nat := if k = 0 then (if c = 7 then some 122 else if c = 8 then some 124 else if c = 9 then some 126 else none) else (if c = 11 then some 130 else if c = 12 then some 132 else if c = 13 then some 134 else none)
def vc_sub (k c : Nat) : Bool := match k, c with
  | 1, 11 => true
  | 1, 12 => true
  | 1, 13 => true
  | _, _ => false
def vc_ay (k : Nat) : MethodName := match k with
  | 0 => ⟨"TurningRoads$Value", "of", "([J)J"⟩
  | _ => ⟨"TurningRoads$Condition", "is", "([J)Z"⟩
/-- the kind of the receiver of method k -/
def vc_rc (k : Nat) : Int := vc_rcN k
def vc_up (P : Option AV → List Nat → SS → SB → Prop) : vc_Po := fun r Lw S B => match r with
  | .inl v => P v Lw S B
  | .inr _ => False
def vc_s1 (mc ms : Nat) (hd : List (Nat × Nat × Nat × Nat)) (nL : Nat) (rt : Option FieldType) (full : List (Nat × vt_I)) (Post : vc_Po) (G : vc_G) (i : Instr) (is : List (Nat × vt_I)) (L : vt_L) (st : List AV) (Lw : List Nat) (S : SS) (B : SB) (cc sl : Nat) : Prop := match i with
  | .sipush z => G is L (.inl z :: st) Lw S B cc sl
  | .iload k => vt_lkK L k fun v => match v with
    | .inl z => G is L (.inl z :: st) Lw S B cc sl
    | _ => False
  | .lload k => vt_lkK L k fun v => match v with
    | .inr (.inl x) => G is L (.inr (.inl x) :: st) Lw S B cc sl
    | _ => False
  | .aload k => vt_lkK L k fun v => match v with
    | .inr (.inr a) => G is L (.inr (.inr a) :: st) Lw S B cc sl
    | _ => False
  | .istore k => vt_pi st fun z st => match Nat.blt k nL with
    | true => vt_insK k (.inl z) false L false fun L' => G is L' st Lw S B cc sl
    | false => False
  | .lstore k => vt_pl st fun x st => match Nat.blt (k + 1) nL with
    | true => vt_insK k (.inr (.inl x)) true L false fun L' => G is L' st Lw S B cc sl
    | false => False
  | .iinc k c => vt_lkK L k fun v => match v with
    | .inl z => match Nat.blt k nL with
      | true => vt_insK k (.inl (z + c)) false L false fun L' => G is L' st Lw S B cc sl
      | false => False
    | _ => False
  | .iadd => vt_pi st fun y st => vt_pi st fun x st => G is L (.inl (x + y) :: st) Lw S B cc sl
  | .isub => vt_pi st fun y st => vt_pi st fun x st => G is L (.inl (x - y) :: st) Lw S B cc sl
  | .imul => vt_pi st fun y st => vt_pi st fun x st => G is L (.inl (x * y) :: st) Lw S B cc sl
  | .iand => vt_pi st fun y st => vt_pi st fun x st => G is L (.inl (vt_and x y) :: st) Lw S B cc sl
  | .ior => vt_pi st fun y st => vt_pi st fun x st => G is L (.inl (vt_or x y) :: st) Lw S B cc sl
  | .ixor => vt_pi st fun y st => vt_pi st fun x st => G is L (.inl (vt_xor x y) :: st) Lw S B cc sl
  | .ishl => vt_pi st fun y st => vt_pi st fun x st => (0 ≤ y ∧ y < 32) ∧ G is L (.inl (x * 2 ^ y.toNat) :: st) Lw S B cc sl
  | .ishr => vt_pi st fun y st => vt_pi st fun x st => (0 ≤ y ∧ y < 32 ∧ -2147483648 ≤ x ∧ x ≤ 2147483647) ∧ G is L (.inl (x / 2 ^ y.toNat) :: st) Lw S B cc sl
  | .ladd => vt_pl st fun y st => vt_pl st fun x st => G is L (.inr (.inl (x + y)) :: st) Lw S B cc sl
  | .lsub => vt_pl st fun y st => vt_pl st fun x st => G is L (.inr (.inl (x - y)) :: st) Lw S B cc sl
  | .lmul => vt_pl st fun y st => vt_pl st fun x st => G is L (.inr (.inl (x * y)) :: st) Lw S B cc sl
  | .land => vt_pl st fun y st => vt_pl st fun x st => G is L (.inr (.inl (x &&& y)) :: st) Lw S B cc sl
  | .lor => vt_pl st fun y st => vt_pl st fun x st => G is L (.inr (.inl (x ||| y)) :: st) Lw S B cc sl
  | .ldiv => vt_pl st fun y st => vt_pl st fun x st => (¬ y = 0) ∧ G is L (.inr (.inl (x / y)) :: st) Lw S B cc sl
  | .lrem => vt_pl st fun y st => vt_pl st fun x st => (¬ y = 0) ∧ G is L (.inr (.inl (x - x / y * y)) :: st) Lw S B cc sl
  | .lshl => vt_pi st fun y st => vt_pl st fun x st => G is L (.inr (.inl (x <<< ((Int32.ofInt y).toInt64 &&& 63))) :: st) Lw S B cc sl
  | .lcmp => vt_pl st fun y st => vt_pl st fun x st => G is L (.inl (vt_cmp x y) :: st) Lw S B cc sl
  | .i2l => vt_pi st fun z st => (-2147483648 ≤ z ∧ z ≤ 2147483647) ∧ G is L (.inr (.inl (Int64.ofInt z)) :: st) Lw S B cc sl
  | .l2i => vt_pl st fun x st => G is L (.inl x.toInt32.toInt :: st) Lw S B cc sl
  | .i2b => vt_pi st fun z st => G is L (.inl (vt_i2b z) :: st) Lw S B cc sl
  | .dup => vt_p1 st fun v st => G is L (v :: v :: st) Lw S B cc sl
  | .dup2 => vt_p1 st fun v st => vt_p1 st fun u st => G is L (v :: u :: v :: u :: st) Lw S B cc sl
  | .pop => vt_p1 st fun _ st => G is L st Lw S B cc sl
  | .if_icmp c t => vt_pi st fun y st => vt_pi st fun x st => ((-2147483648 ≤ x ∧ x ≤ 2147483647) ∧ (-2147483648 ≤ y ∧ y ≤ 2147483647)) ∧ vt_br c x y (G (vt_seek t.toNat full) L st Lw S B cc sl) (G is L st Lw S B cc sl)
  | .ifCond c t => vt_pi st fun x st => (-2147483648 ≤ x ∧ x ≤ 2147483647) ∧ vt_br c x 0 (G (vt_seek t.toNat full) L st Lw S B cc sl) (G is L st Lw S B cc sl)
  | .goto t => G (vt_seek t.toNat full) L st Lw S B cc sl
  | .tableswitch d lo hi ts => vt_pi st fun x st => (-2147483648 ≤ x ∧ x ≤ 2147483647) ∧ ((x < lo ∨ hi < x) → G (vt_seek d.toNat full) L st Lw S B cc sl) ∧ vt_sw x (fun t => G (vt_seek t.toNat full) L st Lw S B cc sl) lo ts.toList
  | .idiv => vt_pi st fun y st => vt_pi st fun x st => ((-2147483648 < x ∧ x ≤ 2147483647) ∧ 0 < y ∧ y ≤ 2147483647) ∧ G is L (.inl (x.tdiv y) :: st) Lw S B cc sl
  | .irem => vt_pi st fun y st => vt_pi st fun x st => ((-2147483648 < x ∧ x ≤ 2147483647) ∧ 0 < y ∧ y ≤ 2147483647) ∧ G is L (.inl (x.tmod y) :: st) Lw S B cc sl
  | .aconst_null => G is L (.inr (.inr 0) :: st) Lw S B cc sl
  | .astore k => vt_pr st fun r st => match Nat.blt k nL with
    | true => vt_insK k (.inr (.inr r)) false L false fun L' => G is L' st Lw S B cc sl
    | false => False
  | .ifnull t => vt_pr st fun r st => (r = 0 → G (vt_seek t.toNat full) L st Lw S B cc sl) ∧ (r ≠ 0 → G is L st Lw S B cc sl)
  | .ifnonnull t => vt_pr st fun r st => (r ≠ 0 → G (vt_seek t.toNat full) L st Lw S B cc sl) ∧ (r = 0 → G is L st Lw S B cc sl)
  | .arraylength => vt_pr st fun r st => ((∃ c, 100 ≤ c ∧ c ≤ 104 ∧ vc_ob Lw S r c) ∧ 0 ≤ S r (-1) ∧ S r (-1) ≤ 1048576) ∧ G is L (.inl (S r (-1)) :: st) Lw S B cc sl
  | .iaload => vt_pi st fun i st => vt_pr st fun r st => (vc_ob Lw S r 100 ∧ 0 ≤ i ∧ i < S r (-1) ∧ S r (-1) ≤ 1048576) ∧ G is L (.inl (S r i) :: st) Lw S B cc sl
  | .baload => vt_pi st fun i st => vt_pr st fun r st => (vc_ob Lw S r 101 ∧ 0 ≤ i ∧ i < S r (-1) ∧ S r (-1) ≤ 1048576) ∧ G is L (.inl (S r i) :: st) Lw S B cc sl
  | .laload => vt_pi st fun i st => vt_pr st fun r st => (vc_ob Lw S r 102 ∧ 0 ≤ i ∧ i < S r (-1) ∧ S r (-1) ≤ 1048576) ∧ G is L (.inr (.inl (B r i)) :: st) Lw S B cc sl
  | .iastore => vt_pi st fun v st => vt_pi st fun i st => vt_pr st fun r st => (vc_ob Lw S r 100 ∧ 0 ≤ i ∧ i < S r (-1) ∧ S r (-1) ≤ 1048576) ∧ G is L st Lw (vt_up S r i v) B cc sl
  | .bastore => vt_pi st fun v st => vt_pi st fun i st => vt_pr st fun r st => (vc_ob Lw S r 101 ∧ (0 ≤ i ∧ i < S r (-1) ∧ S r (-1) ≤ 1048576) ∧ -128 ≤ v ∧ v ≤ 127) ∧ G is L st Lw (vt_up S r i v) B cc sl
  | .lastore => vt_pl st fun v st => vt_pi st fun i st => vt_pr st fun r st => (vc_ob Lw S r 102 ∧ 0 ≤ i ∧ i < S r (-1) ∧ S r (-1) ≤ 1048576) ∧ G is L st Lw S (vt_ub B r i v) cc sl
  | .ireturn => vt_pi st fun z st => match st with
    | [] => match rt with
      | some .int => (cc ≤ mc ∧ sl ≤ ms) ∧ Post (.inl (some (.inl z))) Lw S B
      | some .boolean => ((z = 0 ∨ z = 1) ∧ cc ≤ mc ∧ sl ≤ ms) ∧ Post (.inl (some (.inl z))) Lw S B
      | _ => False
    | _ => False
  | .lreturn => vt_pl st fun x st => match st with
    | [] => match rt with
      | some .long => (cc ≤ mc ∧ sl ≤ ms) ∧ Post (.inl (some (.inr (.inl x)))) Lw S B
      | _ => False
    | _ => False
  | .areturn => vt_pr st fun r st => match st with
    | [] => match rt with
      | some (.object _) => (cc ≤ mc ∧ sl ≤ ms) ∧ Post (.inl (some (.inr (.inr r)))) Lw S B
      | _ => False
    | _ => False
  | .athrow => vt_pr st fun r st => match hd with
    | [] => (0 < r ∧ cc ≤ mc ∧ sl ≤ ms) ∧ Post (.inr r) Lw S B
    | _ => False
  | .return_ => match st with
    | [] => match rt with
      | none => (cc ≤ mc ∧ sl ≤ ms) ∧ Post (.inl none) Lw S B
      | _ => False
    | _ => False
  | _ => False
/-- the class that a call's receiver has (where it is one) -/
def vc_s2 (d mc ms : Nat) (G : vc_G) (op k : Nat) (z : Int) (is : List (Nat × vt_I)) (L : vt_L) (st : List AV) (Lw : List Nat) (S : SS) (B : SB) (cc sl : Nat) (Th : Nat → List Nat → SS → SB → Nat → Nat → Prop) : Prop := match op with
  | 0 => vt_pr st fun r st => vc_ob Lw S r ((k / 64 : Nat) : Int) ∧ G is L (.inl (S r z) :: st) Lw S B cc sl
  | 1 => vt_pi st fun v st => vt_pr st fun r st => vc_ob Lw S r ((k / 64 : Nat) : Int) ∧ G is L st Lw (vt_up S r z v) B cc sl
  | 2 => vt_pr st fun r st => vc_ob Lw S r ((k / 64 : Nat) : Int) ∧ G is L (.inr (.inr (S r z).toNat) :: st) Lw S B cc sl
  | 6 => vt_pr st fun v st => vt_pr st fun r st => vc_ob Lw S r ((k / 64 : Nat) : Int) ∧ G is L st Lw (vt_up S r z (v : Int)) B cc sl
  | 13 => vt_pi st fun v st => vt_pr st fun r st => (vc_ob Lw S r ((k / 64 : Nat) : Int) ∧ (v = 0 ∨ v = 1)) ∧ G is L st Lw (vt_up S r z v) B cc sl
  | 4 => G is L (.inr (.inl (Int64.ofInt z)) :: st) Lw S B cc sl
  | 3 => vt_args z.toNat st [] fun as st => match as with
    | .inr (.inr r) :: as => match Nat.blt 0 d && Nat.ble (vt_cat st) 8 with
      | true => vc_ob Lw S r (vc_rc k) ∧ ∃ mc' ms' P', vc_M (d - 1) mc' ms' k (.inr (.inr r) :: as) Lw S B P' ∧ (cc + mc' ≤ mc ∧ sl + ms' ≤ ms) ∧ ∀ o Lw' S' B', P' o Lw' S' B' → match o with
        | .inl v => G is L (vt_rs v st) Lw' S' B' (cc + mc') (sl + ms')
        | .inr x => Th x Lw' S' B' (cc + mc') (sl + ms')
      | false => False
    | _ => False
  | 5 => vt_args z.toNat st [] fun as st => match Nat.blt 0 d && Nat.ble (vt_cat st) 8 with
      | true => ∃ mc' ms' P', vc_M (d - 1) mc' ms' k as Lw S B (vc_up P') ∧ (cc + mc' ≤ mc ∧ sl + ms' ≤ ms) ∧ ∀ v Lw' S' B', P' v Lw' S' B' → G is L (vt_rs v st) Lw' S' B' (cc + mc') (sl + ms')
      | false => False
  | 8 => vt_args z.toNat st [] fun as st => match as with
    | .inr (.inr r) :: as => match Nat.blt 0 d && Nat.ble (vt_cat st) 8 with
      | true => vc_ob Lw S r (vc_rc k) ∧ ∃ mc' ms' P', vc_M (d - 1) mc' ms' k (.inr (.inr r) :: as) Lw S B (vc_up P') ∧ (cc + mc' ≤ mc ∧ sl + ms' ≤ ms) ∧ ∀ v Lw' S' B', P' v Lw' S' B' → G is L (vt_rs v st) Lw' S' B' (cc + mc') (sl + ms')
      | false => False
    | _ => False
  | 9 => vt_args z.toNat st [] fun as st => match Nat.blt 0 d && Nat.ble (vt_cat st) 8 with
      | true => ∃ mc' ms' P', vc_M (d - 1) mc' ms' k as Lw S B (vc_up P') ∧ (cc + mc' ≤ mc ∧ sl + ms' ≤ ms) ∧ ∀ v Lw' S' B', P' v Lw' S' B' → G is L (vt_rs v st) Lw' S' B' (cc + mc') (sl + ms')
      | false => False
  | 10 => vt_args z.toNat st [] fun as st => match as with
    | .inr (.inr (r + 1)) :: as => match Nat.blt 0 d && Nat.ble (vt_cat st) 8 with
      | true => ∃ mc' ms' P', vc_M (d - 1) mc' ms' k (.inr (.inr (r + 1)) :: as) Lw S B (vc_up P') ∧ (cc + mc' ≤ mc ∧ sl + ms' ≤ ms) ∧ ∀ v Lw' S' B', P' v Lw' S' B' → G is L (vt_rs v st) Lw' S' B' (cc + mc') (sl + ms')
      | false => False
    | _ => False
  | 11 => vt_args z.toNat st [] fun as st => match as with
    | .inr (.inr (r + 1)) :: as => match Nat.blt 0 d && Nat.ble (vt_cat st) 8 with
      | true => ∃ mc' ms' P', vc_M (d - 1) mc' ms' k (.inr (.inr (r + 1)) :: as) Lw S B (vc_up P') ∧ (cc + mc' ≤ mc ∧ sl + ms' ≤ ms) ∧ ∀ v Lw' S' B', P' v Lw' S' B' → G is L (vt_rs v st) Lw' S' B' (cc + mc') (sl + ms')
      | false => False
    | _ => False
  | 12 => vt_args z.toNat st [] fun as st => match as with
    | .inr (.inr r) :: as => match Nat.blt 0 d && Nat.ble (vt_cat st) 8 with
      | true => ∃ c' mt', vc_im k c' = some mt' ∧ vc_ob Lw S r (c' : Int) ∧ ∃ mc' ms' P', vc_M (d - 1) mc' ms' mt' (.inr (.inr r) :: as) Lw S B (vc_up P') ∧ (cc + mc' ≤ mc ∧ sl + ms' ≤ ms) ∧ ∀ v Lw' S' B', P' v Lw' S' B' → G is L (vt_rs v st) Lw' S' B' (cc + mc') (sl + ms')
      | false => False
    | _ => False
  | 18 => vt_pr st fun v st => vt_pi st fun i st => vt_pr st fun r st => (vc_ob Lw S r 104 ∧ vc_ob Lw S v 14 ∧ 0 ≤ i ∧ i < S r (-1) ∧ S r (-1) ≤ 1048576) ∧ G is L st Lw (vt_up S r i (v : Int)) B cc sl
  | 19 => G is L (.inr (.inr (S 0 (k : Int)).toNat) :: st) Lw S B cc sl
  | 20 => vt_pr st fun r st => (r = 0 ∨ ∃ c', vc_sub k c' = true ∧ vc_ob Lw S r (c' : Int)) ∧ G is L (.inr (.inr r) :: st) Lw S B cc sl
  | 21 => vt_pi st fun i st => vt_pr st fun r st => ((r : Int) = S 0 30 ∧ 0 ≤ i ∧ i < 12) ∧ G is L (.inr (.inr (S 0 i).toNat) :: st) Lw S B cc sl
  | 7 => vt_pr st fun r st => (r = 0 ∨ vc_ob Lw S r (k : Int)) ∧ G is L (.inr (.inr r) :: st) Lw S B cc sl
  | 14 => vt_pr st fun r st => match Nat.blt 0 d && Nat.ble (vt_cat st) 8 with
    | true => (∃ c, vc_ob Lw S r c) ∧ G is L st Lw S B cc sl
    | false => False
  | 15 => (cc + 1 ≤ mc ∧ sl + vc_N k ≤ ms) ∧ ∀ a, a ∉ Lw → G is L (.inr (.inr (a + 1)) :: st) (Lw ++ [a]) (vc_nw S (a + 1) (k : Int) 0) B (cc + 1) (sl + vc_N k)
  | 16 => vt_pi st fun n st => (0 ≤ n ∧ n ≤ 1048576 ∧ cc + 1 ≤ mc ∧ sl + n.toNat ≤ ms) ∧ ∀ a, a ∉ Lw → G is L (.inr (.inr (a + 1)) :: st) (Lw ++ [a]) (vc_nw S (a + 1) (k : Int) n) (vc_nb B (a + 1)) (cc + 1) (sl + n.toNat)
  | 17 => vt_pi st fun i st => vt_pr st fun r st => (vc_ob Lw S r (k : Int) ∧ 0 ≤ i ∧ i < S r (-1) ∧ S r (-1) ≤ 1048576) ∧ G is L (.inr (.inr (S r i).toNat) :: st) Lw S B cc sl
  | _ => False
def vc_nx (stops : List (Nat × List Nat)) (J : Nat → vt_L → List AV → List Nat → SS → SB → Nat → Nat → Prop) (V : vc_G) : vc_G := fun is L st Lw S B cc sl => match is with
  | [] => False
  | q :: r => match vt_stop q.1 stops with
    | some lv => J q.1 (vt_pick lv L) st Lw S B cc sl
    | none => V (q :: r) L st Lw S B cc sl
/-- what a throw at pc does: it leaves the method, where no handler stands -/
def vc_th (mc ms : Nat) (hd : List (Nat × Nat × Nat × Nat)) (Post : vc_Po) (x : Nat) (Lw : List Nat) (S : SS) (B : SB) (cc sl : Nat) : Prop := match hd with
  | [] => (0 < x ∧ cc ≤ mc ∧ sl ≤ ms) ∧ Post (.inr x) Lw S B
  | _ => False
def vc_vc (d mc ms nL : Nat) (hd : List (Nat × Nat × Nat × Nat)) (rt : Option FieldType) (full : List (Nat × vt_I)) (stops : List (Nat × List Nat)) (J : Nat → vt_L → List AV → List Nat → SS → SB → Nat → Nat → Prop) (Post : vc_Po) : Nat → vc_G
  | 0, _, _, _, _, _, _, _, _ => False
  | n + 1, is, L, st, Lw, S, B, cc, sl => match is with
    | [] => False
    | q :: is => match q.2 with
      | .inl i => vc_s1 mc ms hd nL rt full Post (vc_nx stops J (vc_vc d mc ms nL hd rt full stops J Post n)) i is L st Lw S B cc sl
      | .inr (op, k, z) => vc_s2 d mc ms (vc_nx stops J (vc_vc d mc ms nL hd rt full stops J Post n)) op k z is L st Lw S B cc sl (vc_th mc ms hd Post)
