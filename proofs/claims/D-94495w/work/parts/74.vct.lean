/-! VC: the walk is sound, instruction by instruction (written by mk_vc2.py) -/
set_option maxRecDepth 100000
/-- the instruction at pc pushes v and goes to nx -/
def vc_pu (own : String) (cc : ByteArray) (pc nx : Nat) (v : Value) : Prop := ∀ {p : Program} {l : Launch} {e : Env} {R : Room} {s : State} {m : MethodId} {args : Array Value} {below : List Frame} {meth : Method} {c : Code} {H : Heap} {locs : List Loc} {cells slots : Nat} {Q : State → Prop} {ls : Array Slot} {rest : List Value},
  p.tables.exec = Jvm.exec → c.code = cc → s.vm.findClass own = some m.cls → (∀ w ∈ lw_all, w.before args s = true) → W p l e R s m args below meth c H locs cells slots Q (F0 m nx ls (v :: rest)) → W p l e R s m args below meth c H locs cells slots Q (F0 m pc ls rest)
theorem vc_o_iconst {own : String} {cc : ByteArray} {pc nx : Nat} {z : Int} (h : decode cc pc = .ok (.iconst z, 1)) (e : pc + 1 = nx) : vc_pu own cc pc nx (.int (Int32.ofInt z)) := by
  intro p l e R s m args below meth c H locs cells slots Q ls rest hx hb _ _ k
  subst nx
  exact lv_iconst hx hb h rfl k
theorem vc_o_bipush {own : String} {cc : ByteArray} {pc nx : Nat} {z : Int} (h : decode cc pc = .ok (.bipush z, 2)) (e : pc + 2 = nx) (hz : (Int8.ofInt z).toInt32 = Int32.ofInt z) : vc_pu own cc pc nx (.int (Int32.ofInt z)) := by
  intro p l e R s m args below meth c H locs cells slots Q ls rest hx hb _ _ k
  subst nx
  exact lv_bipush hx hb h hz k
theorem vc_o_sipush {own : String} {cc : ByteArray} {pc nx : Nat} {z : Int} (h : decode cc pc = .ok (.sipush z, 3)) (e : pc + 3 = nx) (hz : (Int16.ofInt z).toInt32 = Int32.ofInt z) : vc_pu own cc pc nx (.int (Int32.ofInt z)) := by
  intro p l e R s m args below meth c H locs cells slots Q ls rest hx hb _ _ k
  subst nx
  exact lv_sipush hx hb h hz k
theorem vc_o_ldc {own : String} {cc : ByteArray} {pc nx idx : Nat} {z : Int} {v : Int32} (h : decode cc pc = .ok (.ldc idx, 2)) (e : pc + 2 = nx) (hq : Cond.constant own idx v ∈ lw_all) (hz : v = Int32.ofInt z) : vc_pu own cc pc nx (.int (Int32.ofInt z)) := by
  intro p l e R s m args below meth c H locs cells slots Q ls rest hx hb hown hts k
  subst nx
  subst hz
  exact lv_ldc hx hb hown (hts _ hq) h k
theorem vc_o_lconst {own : String} {cc : ByteArray} {pc nx : Nat} {f : Fin 2} {z : Int} (h : decode cc pc = .ok (.lconst f, 1)) (e : pc + 1 = nx) (hz : Int64.ofNat (f : Nat) = Int64.ofInt z) : vc_pu own cc pc nx (.long (Int64.ofInt z)) := by
  intro p l e R s m args below meth c H locs cells slots Q ls rest hx hb _ _ k
  subst nx
  exact lv_lconst hx hb h hz k
theorem vc_o_ldc2 {own : String} {cc : ByteArray} {pc nx idx : Nat} {z : Int} {v : Int64} (h : decode cc pc = .ok (.ldc2_w idx, 3)) (e : pc + 3 = nx) (hq : Cond.constantLong own idx v ∈ lw_all) (hz : v = Int64.ofInt z) : vc_pu own cc pc nx (.long (Int64.ofInt z)) := by
  intro p l e R s m args below meth c H locs cells slots Q ls rest hx hb hown hts k
  subst nx
  subst hz
  exact lv_ldc2 hx hb hown (hts _ hq) h k
theorem vc_o_ldcw {own : String} {cc : ByteArray} {pc nx idx : Nat} {z : Int} {v : Int32} (h : decode cc pc = .ok (.ldc_w idx, 3)) (e : pc + 3 = nx) (hq : Cond.constant own idx v ∈ lw_all) (hz : v = Int32.ofInt z) : vc_pu own cc pc nx (.int (Int32.ofInt z)) := by
  intro p l e R s m args below meth c H locs cells slots Q ls rest hx hb hown hts k
  subst nx
  subst hz
  exact lv_ldcw hx hb hown (hts _ hq) h k
def vc_ok1 (own : String) (cc : ByteArray) (pc : Nat) (i : Instr) (nx : Nat) : Prop := match i with
  | .sipush z => vc_pu own cc pc nx (.int (Int32.ofInt z))
  | .iload k => (∃ f : Fin 4, decode cc pc = .ok (.iload_n f, 1) ∧ (f : Nat) = k ∧ pc + 1 = nx) ∨ (decode cc pc = .ok (.iload k, 2) ∧ pc + 2 = nx)
  | .lload k => (∃ f : Fin 4, decode cc pc = .ok (.lload_n f, 1) ∧ (f : Nat) = k ∧ pc + 1 = nx) ∨ (decode cc pc = .ok (.lload k, 2) ∧ pc + 2 = nx)
  | .aload k => (∃ f : Fin 4, decode cc pc = .ok (.aload_n f, 1) ∧ (f : Nat) = k ∧ pc + 1 = nx) ∨ (decode cc pc = .ok (.aload k, 2) ∧ pc + 2 = nx)
  | .istore k => (∃ f : Fin 4, decode cc pc = .ok (.istore_n f, 1) ∧ (f : Nat) = k ∧ pc + 1 = nx) ∨ (decode cc pc = .ok (.istore k, 2) ∧ pc + 2 = nx)
  | .lstore k => (∃ f : Fin 4, decode cc pc = .ok (.lstore_n f, 1) ∧ (f : Nat) = k ∧ pc + 1 = nx) ∨ (decode cc pc = .ok (.lstore k, 2) ∧ pc + 2 = nx)
  | .astore k => (∃ f : Fin 4, decode cc pc = .ok (.astore_n f, 1) ∧ (f : Nat) = k ∧ pc + 1 = nx) ∨ (decode cc pc = .ok (.astore k, 2) ∧ pc + 2 = nx)
  | .ifnull t => ∃ off, decode cc pc = .ok (.ifnull off, 3) ∧ (pc : Int) + off = (t.toNat : Int) ∧ pc + 3 = nx
  | .ifnonnull t => ∃ off, decode cc pc = .ok (.ifnonnull off, 3) ∧ (pc : Int) + off = (t.toNat : Int) ∧ pc + 3 = nx
  | .areturn => decode cc pc = .ok (.areturn, 1)
  | .athrow => decode cc pc = .ok (.athrow, 1)
  | .iinc k c => decode cc pc = .ok (.iinc k c, 3) ∧ pc + 3 = nx
  | .if_icmp c t => ∃ off, decode cc pc = .ok (.if_icmp c off, 3) ∧ (pc : Int) + off = (t.toNat : Int) ∧ pc + 3 = nx
  | .ifCond c t => ∃ off, decode cc pc = .ok (.ifCond c off, 3) ∧ (pc : Int) + off = (t.toNat : Int) ∧ pc + 3 = nx
  | .goto t => ∃ off, decode cc pc = .ok (.goto off, 3) ∧ (pc : Int) + off = (t.toNat : Int)
  | .tableswitch d lo hi ts => ∃ (d0 : Int) (offs : Array Int) (len : Nat), decode cc pc = .ok (.tableswitch d0 lo hi offs, len) ∧ (pc : Int) + d0 = (d.toNat : Int) ∧ offs.toList.map (fun o => (pc : Int) + o) = ts.toList.map (fun t => (t.toNat : Int)) ∧ hi + 1 = lo + (ts.toList.length : Int)
  | .ireturn => decode cc pc = .ok (.ireturn, 1)
  | .lreturn => decode cc pc = .ok (.lreturn, 1)
  | .return_ => decode cc pc = .ok (.return_, 1)
  | i => decode cc pc = .ok (i, 1) ∧ pc + 1 = nx
def vc_fo (own : String) (ci f : Nat) (idx : Nat) : Prop := ci < 16 ∧ f < vc_N ci ∧ (Cond.fieldLink own idx (vc_T ci f).1 (vc_T ci f).2.1 (vc_T ci f).2.2.1 ∈ lw_all ∨ ∃ host, Cond.fieldLinkNest own idx (vc_T ci f).1 (vc_T ci f).2.1 (vc_T ci f).2.2.1 host ∈ lw_tbl)
/-- a write: the field is not final, or it is a constructor's own -/
def vc_fw (mt ci f : Nat) (idx : Nat) : Prop := (vc_fo (vc_o mt) ci f idx ∧ (vc_T ci f).2.2.2 = false) ∨ ((ci < 16 ∧ f < vc_N ci ∧ Cond.fieldLink (vc_o mt) idx (vc_T ci f).1 (vc_T ci f).2.1 (vc_T ci f).2.2.1 ∈ lw_all) ∧ (vc_T ci f).2.2.2 = true ∧ (vc_y mt).name = "<init>" ∧ (vc_T ci f).1 = vc_o mt)
def vc_cv (own : String) (idx mt n : Nat) : Prop := Cond.methodLink own idx (vc_y mt) ∈ lw_all ∧ Cond.instanceMethod (vc_y mt) ∈ lw_all ∧ Cond.selects (vc_R (vc_rcN mt)) (vc_y mt) (vc_y mt) ∈ lw_all ∧ Cond.initialized (vc_R (vc_rcN mt)) ∈ lw_all ∧ Cond.code (vc_y mt) (vc_c mt) (vc_n mt) (vc_rt mt) ∈ lw_all ∧
  ((vc_y mt).cls = vc_R (vc_rcN mt) ∧ (vc_y mt).cls ≠ "java/lang/invoke/MethodHandle" ∧ (vc_y mt).cls ≠ "java/lang/invoke/VarHandle" ∧ (parseMethodDescriptor (vc_y mt).desc).map (fun d => d.parameters.length) = some n) ∧ vc_n mt ≤ 22 ∧ vc_rcN mt < 16
def vc_cs (own : String) (idx mt n : Nat) : Prop := Cond.methodLink own idx (vc_y mt) ∈ lw_all ∧ Cond.static (vc_y mt) ∈ lw_all ∧ Cond.initialized (vc_y mt).cls ∈ lw_all ∧ Cond.code (vc_y mt) (vc_c mt) (vc_n mt) (vc_rt mt) ∈ lw_all ∧
  ((vc_y mt).cls ≠ "java/lang/invoke/MethodHandle" ∧ (vc_y mt).cls ≠ "java/lang/invoke/VarHandle" ∧ (parseMethodDescriptor (vc_y mt).desc).map (fun d => d.parameters.length) = some n) ∧ vc_n mt ≤ 22
def vc_cvN (own : String) (idx mt n : Nat) : Prop := (∃ host, Cond.methodLinkNest own idx (vc_y mt) host ∈ lw_tbl) ∧ Cond.instanceMethod (vc_y mt) ∈ lw_all ∧ Cond.selects (vc_R (vc_rcN mt)) (vc_y mt) (vc_y mt) ∈ lw_all ∧ Cond.initialized (vc_y mt).cls ∈ lw_all ∧ Cond.code (vc_y mt) (vc_c mt) (vc_n mt) (vc_rt mt) ∈ lw_all ∧
  ((vc_y mt).cls ≠ "java/lang/invoke/MethodHandle" ∧ (vc_y mt).cls ≠ "java/lang/invoke/VarHandle" ∧ (parseMethodDescriptor (vc_y mt).desc).map (fun d => d.parameters.length) = some n) ∧ vc_n mt ≤ 22 ∧ vc_rcN mt < 16
def vc_csN (own : String) (idx mt n : Nat) : Prop := (∃ host, Cond.methodLinkNest own idx (vc_y mt) host ∈ lw_tbl) ∧ Cond.static (vc_y mt) ∈ lw_all ∧ Cond.initialized (vc_y mt).cls ∈ lw_all ∧ Cond.code (vc_y mt) (vc_c mt) (vc_n mt) (vc_rt mt) ∈ lw_all ∧
  ((vc_y mt).cls ≠ "java/lang/invoke/MethodHandle" ∧ (vc_y mt).cls ≠ "java/lang/invoke/VarHandle" ∧ (parseMethodDescriptor (vc_y mt).desc).map (fun d => d.parameters.length) = some n) ∧ vc_n mt ≤ 22
def vc_ci (own : String) (idx mt n : Nat) : Prop := Cond.methodLink own idx (vc_y mt) ∈ lw_all ∧ Cond.instanceMethod (vc_y mt) ∈ lw_all ∧ Cond.initialized (vc_y mt).cls ∈ lw_all ∧ Cond.code (vc_y mt) (vc_c mt) (vc_n mt) none ∈ lw_all ∧
  ((vc_y mt).cls ≠ "java/lang/invoke/MethodHandle" ∧ (vc_y mt).cls ≠ "java/lang/invoke/VarHandle" ∧ (parseMethodDescriptor (vc_y mt).desc).map (fun d => d.parameters.length) = some n) ∧ vc_n mt ≤ 22 ∧ (vc_y mt).name = "<init>" ∧ vc_rt mt = none
def vc_ciN (own : String) (idx mt n : Nat) : Prop := (∃ host, Cond.methodLinkNest own idx (vc_y mt) host ∈ lw_tbl) ∧ Cond.instanceMethod (vc_y mt) ∈ lw_all ∧ Cond.initialized (vc_y mt).cls ∈ lw_all ∧ Cond.code (vc_y mt) (vc_c mt) (vc_n mt) none ∈ lw_all ∧
  ((vc_y mt).cls ≠ "java/lang/invoke/MethodHandle" ∧ (vc_y mt).cls ≠ "java/lang/invoke/VarHandle" ∧ (parseMethodDescriptor (vc_y mt).desc).map (fun d => d.parameters.length) = some n) ∧ vc_n mt ≤ 22 ∧ (vc_y mt).name = "<init>" ∧ vc_rt mt = none
def vc_ca (own : String) (idx k n : Nat) : Prop := Cond.methodLink own idx (vc_ay k) ∈ lw_all ∧ Cond.sameMethod (vc_ay k).cls (vc_ay k).cls (vc_ay k).name (vc_ay k).desc ∈ lw_all ∧ Cond.declares (vc_ay k) ∈ lw_tbl ∧ ((vc_ay k).cls ≠ "java/lang/invoke/MethodHandle" ∧ (vc_ay k).cls ≠ "java/lang/invoke/VarHandle" ∧ (parseMethodDescriptor (vc_ay k).desc).map (fun d => d.parameters.length) = some n) ∧
  ∀ c' mt', vc_im k c' = some mt' → (Cond.selects (vc_R c') (vc_ay k) (vc_y mt') ∈ lw_all ∧ Cond.instanceMethod (vc_y mt') ∈ lw_all ∧ Cond.initialized (vc_y mt').cls ∈ lw_all ∧ Cond.code (vc_y mt') (vc_c mt') (vc_n mt') (vc_rt mt') ∈ lw_all) ∧ vc_n mt' ≤ 22 ∧ c' < 16
def vc_ok2 (mt pc op k : Nat) (z : Int) (nx : Nat) : Prop := match op with
  | 0 => ∃ idx, decode (vc_c mt) pc = .ok (.getfield idx, 3) ∧ pc + 3 = nx ∧ vc_fo (vc_o mt) (k / 64) (k % 64) idx ∧ ((k % 64 : Nat) : Int) = z ∧ vc_ft (k / 64) (k % 64) ≠ 1
  | 1 => ∃ idx, decode (vc_c mt) pc = .ok (.putfield idx, 3) ∧ pc + 3 = nx ∧ vc_fw mt (k / 64) (k % 64) idx ∧ ((k % 64 : Nat) : Int) = z ∧ vc_tf (k / 64) (k % 64) = .int
  | 2 => ∃ idx, decode (vc_c mt) pc = .ok (.getfield idx, 3) ∧ pc + 3 = nx ∧ vc_fo (vc_o mt) (k / 64) (k % 64) idx ∧ ((k % 64 : Nat) : Int) = z ∧ vc_ft (k / 64) (k % 64) = 1
  | 6 => ∃ idx, decode (vc_c mt) pc = .ok (.putfield idx, 3) ∧ pc + 3 = nx ∧ vc_fw mt (k / 64) (k % 64) idx ∧ ((k % 64 : Nat) : Int) = z ∧ vc_ft (k / 64) (k % 64) = 1
  | 13 => ∃ idx, decode (vc_c mt) pc = .ok (.putfield idx, 3) ∧ pc + 3 = nx ∧ vc_fw mt (k / 64) (k % 64) idx ∧ ((k % 64 : Nat) : Int) = z ∧ vc_tf (k / 64) (k % 64) = .boolean
  | 3 => ∃ idx, decode (vc_c mt) pc = .ok (.invokevirtual idx, 3) ∧ pc + 3 = nx ∧ vc_cv (vc_o mt) idx k (z.toNat - 1)
  | 4 => vc_pu (vc_o mt) (vc_c mt) pc nx (.long (Int64.ofInt z))
  | 5 => ∃ idx, decode (vc_c mt) pc = .ok (.invokestatic idx, 3) ∧ pc + 3 = nx ∧ vc_cs (vc_o mt) idx k z.toNat
  | 8 => ∃ idx, decode (vc_c mt) pc = .ok (.invokevirtual idx, 3) ∧ pc + 3 = nx ∧ vc_cvN (vc_o mt) idx k (z.toNat - 1)
  | 9 => ∃ idx, decode (vc_c mt) pc = .ok (.invokestatic idx, 3) ∧ pc + 3 = nx ∧ vc_csN (vc_o mt) idx k z.toNat
  | 10 => ∃ idx, decode (vc_c mt) pc = .ok (.invokespecial idx, 3) ∧ pc + 3 = nx ∧ vc_ci (vc_o mt) idx k (z.toNat - 1)
  | 11 => ∃ idx, decode (vc_c mt) pc = .ok (.invokespecial idx, 3) ∧ pc + 3 = nx ∧ vc_ciN (vc_o mt) idx k (z.toNat - 1)
  | 12 => ∃ idx, decode (vc_c mt) pc = .ok (.invokevirtual idx, 3) ∧ pc + 3 = nx ∧ vc_ca (vc_o mt) idx k (z.toNat - 1)
  | 18 => decode (vc_c mt) pc = .ok (.aastore, 1) ∧ pc + 1 = nx
  | 19 => (k < 18 ∧ ∃ idx, decode (vc_c mt) pc = .ok (.ldc idx, 2) ∧ pc + 2 = nx ∧ Cond.stringRef (vc_o mt) idx (vc_tn.getD k "") ∈ lw_tbl) ∨ (k = 30 ∧ ∃ idx, decode (vc_c mt) pc = .ok (.getstatic idx, 3) ∧ pc + 3 = nx ∧ Cond.fieldLink (vc_o mt) idx "TurningRoads" "NAMES" "[Ljava/lang/String;" ∈ lw_all)
  | 20 => ∃ idx, decode (vc_c mt) pc = .ok (.checkcast idx, 3) ∧ pc + 3 = nx ∧ Cond.classLink (vc_o mt) idx "TurningRoads$Condition" ∈ lw_all ∧ k = 1
  | 21 => decode (vc_c mt) pc = .ok (.aaload, 1) ∧ pc + 1 = nx
  | 99 => True
  | 7 => ∃ idx, decode (vc_c mt) pc = .ok (.checkcast idx, 3) ∧ pc + 3 = nx ∧ Cond.classLink (vc_o mt) idx (vc_R k) ∈ lw_all ∧ k < 16
  | 14 => ∃ idx, decode (vc_c mt) pc = .ok (.invokespecial idx, 3) ∧ pc + 3 = nx ∧ Cond.methodLink (vc_o mt) idx Lib.objectInit ∈ lw_all
  | 15 => ∃ idx, decode (vc_c mt) pc = .ok (.new idx, 3) ∧ pc + 3 = nx ∧ Cond.classLink (vc_o mt) idx (vc_R k) ∈ lw_all ∧ Cond.instantiable (vc_R k) (vc_N k) ∈ lw_all ∧ Cond.initialized (vc_R k) ∈ lw_all ∧ k < 16
  | 16 => ∃ at_, decode (vc_c mt) pc = .ok (.newarray at_, 2) ∧ pc + 2 = nx ∧ Cond.arrayClass (newarray.typeOf at_) ∈ lw_all ∧ ((k = 100 ∧ newarray.typeOf at_ = .int) ∨ (k = 101 ∧ newarray.typeOf at_ = .byte) ∨ (k = 102 ∧ newarray.typeOf at_ = .long))
  | 17 => decode (vc_c mt) pc = .ok (.aaload, 1) ∧ pc + 1 = nx ∧ (k = 103 ∨ k = 104)
  | _ => False
def vc_ok (mt pc : Nat) (i : vt_I) (nx : Nat) : Prop := match i with
  | .inl i => vc_ok1 (vc_o mt) (vc_c mt) pc i nx
  | .inr (op, k, z) => vc_ok2 mt pc op k z nx
def vc_tok (mt : Nat) : List (Nat × vt_I) → Prop
  | [] => True
  | q :: r => vc_ok mt q.1 q.2 (vt_hd r) ∧ vc_tok mt r
theorem vc_seek_tok {mt : Nat} (pc : Nat) : ∀ (l : List (Nat × vt_I)), vc_tok mt l → vc_tok mt (vt_seek pc l)
  | [], h => h
  | q :: r, h => by
    unfold vt_seek
    split
    · exact h
    · exact vc_seek_tok pc r h.2
theorem vc_e_i0 {cA : Nat → ClassId} {S : SS} {B : SB} {a : Nat} (h : S (a + 1) (-2) = 100) : vc_e cA S B a = .inl (cA 0, (S (a + 1) (-1)).toNat, .inl (fun j => Int32.ofInt (S (a + 1) (j : Int)))) := by
  rw [vc_e_arr (c := 100) h (by decide)]
  unfold vc_ac
  rw [h, if_neg (by decide), if_pos (by decide)]
theorem vc_e_i1 {cA : Nat → ClassId} {S : SS} {B : SB} {a : Nat} (h : S (a + 1) (-2) = 101) : vc_e cA S B a = .inl (cA 1, (S (a + 1) (-1)).toNat, .inl (fun j => Int32.ofInt (S (a + 1) (j : Int)))) := by
  rw [vc_e_arr (c := 101) h (by decide)]
  unfold vc_ac
  rw [h, if_neg (by decide), if_pos (by decide)]
theorem vc_e_l {cA : Nat → ClassId} {S : SS} {B : SB} {a : Nat} (h : S (a + 1) (-2) = 102) : vc_e cA S B a = .inl (cA 2, (S (a + 1) (-1)).toNat, .inr (.inl (fun j => B (a + 1) (j : Int)))) := by
  rw [vc_e_arr (c := 102) h (by decide)]
  unfold vc_ac
  rw [h, if_pos rfl]
theorem vc_e_q {cA : Nat → ClassId} {S : SS} {B : SB} {a c : Nat} (h : S (a + 1) (-2) = (c : Int)) (hc : 103 ≤ c) : vc_e cA S B a = .inl (cA (c - 100), (S (a + 1) (-1)).toNat, .inr (.inr (.inr (.inr (fun j => vc_r (S (a + 1) (j : Int)).toNat))))) := by
  rw [vc_e_arr h (by omega)]
  unfold vc_ac
  rw [h, if_neg (by omega), if_neg (by omega)]
theorem vc_div {x y : Int} (hx : -2147483648 < x ∧ x ≤ 2147483647) (hy : 0 < y ∧ y ≤ 2147483647) : Int32.ofInt x / Int32.ofInt y = Int32.ofInt (x.tdiv y) := by
  have e1 : Int32.minValue.toInt = -2147483648 := by decide
  have e2 : Int32.maxValue.toInt = 2147483647 := by decide
  rw [Int32.ofInt_tdiv (by omega) (by omega) (by omega) (by omega)]
theorem vc_rem {x y : Int} (hx : -2147483648 < x ∧ x ≤ 2147483647) (hy : 0 < y ∧ y ≤ 2147483647) : Int32.ofInt x - Int32.ofInt x / Int32.ofInt y * Int32.ofInt y = Int32.ofInt (x.tmod y) := by
  rw [vc_div hx hy, ← Int32.ofInt_mul, ← Int32.ofInt_sub]
  congr 1
  have := Int.tmod_add_tdiv_mul x y
  omega
theorem vc_end {mt : Nat} {p : Program} {l : Launch} {e : Env} {s : State} {m : MethodId} {args : Array Value} {below : List Frame} {meth : Method} {c : Code} {D : va_G} {cA : Nat → ClassId} {Lw0 : List Nat} {sz : Nat} {z0 : Int → Int} {d0 mc ms : Nat} (hF : vc_F mt (p, l, e, s, m, args, below, meth, c, D, cA, Lw0, sz, z0, d0, mc, ms)) {Lw : List Nat} {S : SS} {B : SB} {H : Heap} {locs : List Loc} (hw : vc_Hp D cA Lw0 sz s z0 Lw S B H locs) {t : State} (ht : t.heap = H) (hW : s.WarmedH t.vm) : vc_In D cA Lw S B t := by
  obtain ⟨hx, hb, hr, hml, hown, hts, hlocks, hK, hsf, hsz, hcn, hex, hnm⟩ := hF
  obtain ⟨h1, h2, h3, ⟨N, h4, h5⟩, h6⟩ := hw
  refine ⟨by rw [ht]; exact h1, va_K.moved hW.alike hK, vc_D_nd h2, ?_, hsf.warm hW⟩
  rw [ht, h6]
  refine ((hcn.kept (fun a ha hA => h3.2.1 a ha hA)).moved hW).narrow (fun q hq => ?_)
  rcases hq with hq | hq
  · rw [h4] at hq
    rcases List.mem_append.mp hq with hq | hq
    · exact .inl hq
    · exact .inr (h5 q hq)
  · have := h3.1
    exact .inr (by omega)
section VCS
variable {p : Program} {l : Launch} {e : Env} {s : State} {m : MethodId} {args : Array Value} {below : List Frame} {meth : Method} {c : Code} {D : va_G} {cA : Nat → ClassId} {Lw0 : List Nat} {sz : Nat} {z0 : Int → Int} {d0 mc ms : Nat} {mt : Nat} {Post : vc_Po}
/-- the simple instructions -/
theorem vc_s1_ok (hF : vc_F mt (p, l, e, s, m, args, below, meth, c, D, cA, Lw0, sz, z0, d0, mc, ms)) {full : List (Nat × vt_I)} (hfull : vc_tok mt full) {G : vc_G}
    (hG : ∀ is L st Lw S B cc sl, G is L st Lw S B cc sl → is ≠ [] ∧ (vc_tok mt is → vc_J mt Post (p, l, e, s, m, args, below, meth, c, D, cA, Lw0, sz, z0, d0, mc, ms) (vt_hd is) L st Lw S B cc sl))
    {pc : Nat} {i : Instr} {is : List (Nat × vt_I)} (hok : vc_ok1 (vc_o mt) (vc_c mt) pc i (vt_hd is)) (his : vc_tok mt is) {L : vt_L} {st : List AV} {Lw : List Nat} {S : SS} {B : SB} {cc sl : Nat} (h : vc_s1 mc ms (vc_hd mt) (vc_n mt) (vc_rt mt) full Post G i is L st Lw S B cc sl) :
    vc_J mt Post (p, l, e, s, m, args, below, meth, c, D, cA, Lw0, sz, z0, d0, mc, ms) pc L st Lw S B cc sl := by
  obtain ⟨hx, hb, hr, hml, hown, hts, hlocks, hK, hsf, hsz, hcn, hex, hnm⟩ := id hF
  have go : ∀ {L st Lw S B cc sl}, G is L st Lw S B cc sl → vc_J mt Post (p, l, e, s, m, args, below, meth, c, D, cA, Lw0, sz, z0, d0, mc, ms) (vt_hd is) L st Lw S B cc sl := fun h => (hG _ _ _ _ _ _ _ _ h).2 his
  have jump : ∀ {t : Nat} {L st Lw S B cc sl}, G (vt_seek t full) L st Lw S B cc sl → vc_J mt Post (p, l, e, s, m, args, below, meth, c, D, cA, Lw0, sz, z0, d0, mc, ms) t L st Lw S B cc sl := by
    intro t L st Lw S B cc sl h
    have h1 := hG _ _ _ _ _ _ _ _ h
    have h2 := h1.2 (vc_seek_tok t full hfull)
    rw [vt_seek_hd t full h1.1] at h2
    exact h2
  intro H locs ls hw hl
  cases i
  case sipush z => exact hok hx hb hown hts (go h H locs ls hw hl)
  case iload k =>
    obtain ⟨v, hv, h⟩ := vt_lkK_spec h
    split at h
    · have hg := vc_lm_get hl hv
      have K := go h H locs ls hw hl
      rcases hok with ⟨f, d, hf, hn⟩ | ⟨d, hn⟩
      · rw [← hn] at K
        exact lv_iload_n hx hb d hf hg K
      · rw [← hn] at K
        exact lv_iload hx hb d hg K
    · exact h.elim
  case lload k =>
    obtain ⟨v, hv, h⟩ := vt_lkK_spec h
    split at h
    · have hg := vc_lm_get hl hv
      have K := go h H locs ls hw hl
      rcases hok with ⟨f, d, hf, hn⟩ | ⟨d, hn⟩
      · rw [← hn] at K
        exact lv_lload_n hx hb d hf hg K
      · rw [← hn] at K
        exact lv_lload hx hb d hg K
    · exact h.elim
  case istore k =>
    obtain ⟨z, r1, e1, h1⟩ := vt_pi_spec h
    subst e1
    split at h1
    · rename_i hk
      have hk : k < vc_n mt := Nat.le_of_ble_eq_true hk
      obtain ⟨L', h1, h2⟩ := vt_insK_spec _ _ _ h1
      rcases hok with ⟨f, d, hf, hn⟩ | ⟨d, hn⟩
      · refine lv_istore_n hx hb d hf hl hk rfl (fun ls' hl' => ?_)
        have K := go h1 H locs ls' hw (vc_lm_set1 (v := .inl z) hl' h2)
        rw [← hn] at K
        exact K
      · refine lv_istore hx hb d hl hk rfl (fun ls' hl' => ?_)
        have K := go h1 H locs ls' hw (vc_lm_set1 (v := .inl z) hl' h2)
        rw [← hn] at K
        exact K
    · exact h1.elim
  case lstore k =>
    obtain ⟨z, r1, e1, h1⟩ := vt_pl_spec h
    subst e1
    split at h1
    · rename_i hk
      have hk : k + 1 < vc_n mt := Nat.le_of_ble_eq_true hk
      obtain ⟨L', h1, h2⟩ := vt_insK_spec _ _ _ h1
      rcases hok with ⟨f, d, hf, hn⟩ | ⟨d, hn⟩
      · refine lv_lstore_n hx hb d hf hl hk rfl (fun ls' hl' => ?_)
        have K := go h1 H locs ls' hw (vc_lm_set2 (v := .inr (.inl z)) hl' h2)
        rw [← hn] at K
        exact K
      · refine lv_lstore hx hb d hl hk rfl (fun ls' hl' => ?_)
        have K := go h1 H locs ls' hw (vc_lm_set2 (v := .inr (.inl z)) hl' h2)
        rw [← hn] at K
        exact K
    · exact h1.elim
  case iinc k n =>
    obtain ⟨v, hv, h⟩ := vt_lkK_spec h
    split at h
    · rename_i z
      split at h
      · rename_i hk
        have hk : k < vc_n mt := Nat.le_of_ble_eq_true hk
        obtain ⟨L', h1, h2⟩ := vt_insK_spec _ _ _ h
        obtain ⟨d, hn⟩ := hok
        obtain ⟨j, hj⟩ := List.getElem?_of_mem (List.mem_map.mpr ⟨(k, .inl z), hv, rfl⟩ : (k, cw (.inl z)) ∈ vc_lm L)
        refine lv_iinc hx hb d hl hj (Int32.ofInt_add z n).symm hk rfl (fun ls' hl' => ?_)
        have K := go h1 H locs ls' hw (vc_lm_set1 (v := .inl (z + n)) hl' h2)
        rw [← hn] at K
        exact K
      · exact h.elim
    · exact h.elim
  case iadd =>
    obtain ⟨y, r1, e1, h1⟩ := vt_pi_spec h
    obtain ⟨x, r2, e2, h2⟩ := vt_pi_spec h1
    subst e2
    subst e1
    have K := go h2 H locs ls hw hl
    rw [← hok.2] at K
    refine lv_iadd hx hb hok.1 ?_
    rw [← Int32.ofInt_add]
    exact K
  case isub =>
    obtain ⟨y, r1, e1, h1⟩ := vt_pi_spec h
    obtain ⟨x, r2, e2, h2⟩ := vt_pi_spec h1
    subst e2
    subst e1
    have K := go h2 H locs ls hw hl
    rw [← hok.2] at K
    refine lv_isub hx hb hok.1 ?_
    rw [← Int32.ofInt_sub]
    exact K
  case imul =>
    obtain ⟨y, r1, e1, h1⟩ := vt_pi_spec h
    obtain ⟨x, r2, e2, h2⟩ := vt_pi_spec h1
    subst e2
    subst e1
    have K := go h2 H locs ls hw hl
    rw [← hok.2] at K
    refine lv_imul hx hb hok.1 ?_
    rw [← Int32.ofInt_mul]
    exact K
  case iand =>
    obtain ⟨y, r1, e1, h1⟩ := vt_pi_spec h
    obtain ⟨x, r2, e2, h2⟩ := vt_pi_spec h1
    subst e2
    subst e1
    have K := go h2 H locs ls hw hl
    rw [← hok.2] at K
    refine lv_iand hx hb hok.1 ?_
    rw [← Int32.ofInt_toInt (Int32.ofInt x &&& Int32.ofInt y)]
    exact K
  case ior =>
    obtain ⟨y, r1, e1, h1⟩ := vt_pi_spec h
    obtain ⟨x, r2, e2, h2⟩ := vt_pi_spec h1
    subst e2
    subst e1
    have K := go h2 H locs ls hw hl
    rw [← hok.2] at K
    refine lv_ior hx hb hok.1 ?_
    rw [← Int32.ofInt_toInt (Int32.ofInt x ||| Int32.ofInt y)]
    exact K
  case ixor =>
    obtain ⟨y, r1, e1, h1⟩ := vt_pi_spec h
    obtain ⟨x, r2, e2, h2⟩ := vt_pi_spec h1
    subst e2
    subst e1
    have K := go h2 H locs ls hw hl
    rw [← hok.2] at K
    refine lv_ixor hx hb hok.1 ?_
    rw [← Int32.ofInt_toInt (Int32.ofInt x ^^^ Int32.ofInt y)]
    exact K
  case ishl =>
    obtain ⟨y, r1, e1, h1⟩ := vt_pi_spec h
    obtain ⟨x, r2, e2, h2⟩ := vt_pi_spec h1
    subst e2
    subst e1
    have K := go h2.2 H locs ls hw hl
    rw [← hok.2] at K
    refine lv_ishl hx hb hok.1 ?_
    rw [vt_shl h2.1.1 h2.1.2]
    exact K
  case ishr =>
    obtain ⟨y, r1, e1, h1⟩ := vt_pi_spec h
    obtain ⟨x, r2, e2, h2⟩ := vt_pi_spec h1
    subst e2
    subst e1
    have K := go h2.2 H locs ls hw hl
    rw [← hok.2] at K
    refine lv_ishr hx hb hok.1 ?_
    rw [vt_shr h2.1.2.2 h2.1.1 h2.1.2.1]
    exact K
  case ladd =>
    obtain ⟨y, r1, e1, h1⟩ := vt_pl_spec h
    obtain ⟨x, r2, e2, h2⟩ := vt_pl_spec h1
    subst e2
    subst e1
    have K := go h2 H locs ls hw hl
    rw [← hok.2] at K
    exact lv_ladd hx hb hok.1 K
  case lsub =>
    obtain ⟨y, r1, e1, h1⟩ := vt_pl_spec h
    obtain ⟨x, r2, e2, h2⟩ := vt_pl_spec h1
    subst e2
    subst e1
    have K := go h2 H locs ls hw hl
    rw [← hok.2] at K
    exact lv_lsub hx hb hok.1 K
  case lmul =>
    obtain ⟨y, r1, e1, h1⟩ := vt_pl_spec h
    obtain ⟨x, r2, e2, h2⟩ := vt_pl_spec h1
    subst e2
    subst e1
    have K := go h2 H locs ls hw hl
    rw [← hok.2] at K
    exact lv_lmul hx hb hok.1 K
  case land =>
    obtain ⟨y, r1, e1, h1⟩ := vt_pl_spec h
    obtain ⟨x, r2, e2, h2⟩ := vt_pl_spec h1
    subst e2
    subst e1
    have K := go h2 H locs ls hw hl
    rw [← hok.2] at K
    exact lv_land hx hb hok.1 K
  case lor =>
    obtain ⟨y, r1, e1, h1⟩ := vt_pl_spec h
    obtain ⟨x, r2, e2, h2⟩ := vt_pl_spec h1
    subst e2
    subst e1
    have K := go h2 H locs ls hw hl
    rw [← hok.2] at K
    exact lv_lor hx hb hok.1 K
  case ldiv =>
    obtain ⟨y, r1, e1, h1⟩ := vt_pl_spec h
    obtain ⟨x, r2, e2, h2⟩ := vt_pl_spec h1
    subst e2
    subst e1
    have K := go h2.2 H locs ls hw hl
    rw [← hok.2] at K
    exact lv_ldiv hx hb hok.1 h2.1 K
  case lrem =>
    obtain ⟨y, r1, e1, h1⟩ := vt_pl_spec h
    obtain ⟨x, r2, e2, h2⟩ := vt_pl_spec h1
    subst e2
    subst e1
    have K := go h2.2 H locs ls hw hl
    rw [← hok.2] at K
    exact lv_lrem hx hb hok.1 h2.1 K
  case lshl =>
    obtain ⟨y, r1, e1, h1⟩ := vt_pi_spec h
    obtain ⟨x, r2, e2, h2⟩ := vt_pl_spec h1
    subst e2
    subst e1
    have K := go h2 H locs ls hw hl
    rw [← hok.2] at K
    exact lv_lshl hx hb hok.1 rfl K
  case lcmp =>
    obtain ⟨y, r1, e1, h1⟩ := vt_pl_spec h
    obtain ⟨x, r2, e2, h2⟩ := vt_pl_spec h1
    subst e2
    subst e1
    have K := go h2 H locs ls hw hl
    rw [← hok.2] at K
    refine W.lcmp hx hb hok.1 ?_
    rw [vt_cmp_ok]
    exact K
  case i2l =>
    obtain ⟨z, r1, e1, h1⟩ := vt_pi_spec h
    subst e1
    have K := go h1.2 H locs ls hw hl
    rw [← hok.2] at K
    exact lv_i2l hx hb hok.1 (vt_i2l h1.1) K
  case l2i =>
    obtain ⟨z, r1, e1, h1⟩ := vt_pl_spec h
    subst e1
    have K := go h1 H locs ls hw hl
    rw [← hok.2] at K
    exact lv_l2i hx hb hok.1 (Int32.ofInt_toInt _).symm K
  case i2b =>
    obtain ⟨z, r1, e1, h1⟩ := vt_pi_spec h
    subst e1
    have K := go h1 H locs ls hw hl
    rw [← hok.2] at K
    exact lv_i2b hx hb hok.1 (Int32.ofInt_int8ToInt _).symm K
  case dup =>
    unfold vc_s1 at h
    dsimp only at h
    obtain ⟨z, r1, e1, hz, h1⟩ := vt_p1_spec h
    subst e1
    have K := go h1 H locs ls hw hl
    rw [← hok.2] at K
    exact lv_dup hx hb hok.1 (vc_cat1 hz) K
  case dup2 =>
    unfold vc_s1 at h
    dsimp only at h
    obtain ⟨z, r1, e1, hz, h1⟩ := vt_p1_spec h
    obtain ⟨y, r2, e2, hy, h2⟩ := vt_p1_spec h1
    subst e2
    subst e1
    have K := go h2 H locs ls hw hl
    rw [← hok.2] at K
    exact lv_dup2_11 hx hb hok.1 (vc_cat1 hz) (vc_cat1 hy) K
  case pop =>
    unfold vc_s1 at h
    dsimp only at h
    obtain ⟨z, r1, e1, hz, h1⟩ := vt_p1_spec h
    subst e1
    have K := go h1 H locs ls hw hl
    rw [← hok.2] at K
    exact lv_pop hx hb hok.1 (vc_cat1 hz) K
  case if_icmp cd t =>
    obtain ⟨y, r1, e1, h1⟩ := vt_pi_spec h
    obtain ⟨x, r2, e2, ⟨hx1, hy1⟩, h2⟩ := vt_pi_spec h1
    subst e2
    subst e1
    obtain ⟨off, d, ht, hn⟩ := hok
    cases cd
    · exact lv_icmp_eq hx hb d ht (fun z => jump (h2.1 ((vt_eqI hx1 hy1).mp z)) H locs ls hw hl) (fun z => by rw [hn]; exact go (h2.2 (fun e => z ((vt_eqI hx1 hy1).mpr e))) H locs ls hw hl)
    · exact lv_icmp_ne hx hb d ht (fun z => jump (h2.1 (fun e => z ((vt_eqI hx1 hy1).mpr e))) H locs ls hw hl) (fun z => by rw [hn]; exact go (h2.2 ((vt_eqI hx1 hy1).mp z)) H locs ls hw hl)
    · exact lv_icmp_lt hx hb d ht (fun z => jump (h2.1 ((vt_ltI hx1 hy1).mp z)) H locs ls hw hl) (fun z => by rw [hn]; exact go (h2.2 (Int.not_lt.mp fun e => z ((vt_ltI hx1 hy1).mpr e))) H locs ls hw hl)
    · exact lv_icmp_ge hx hb d ht (fun z => jump (h2.1 ((vt_leI hy1 hx1).mp z)) H locs ls hw hl) (fun z => by rw [hn]; exact go (h2.2 (Int.not_le.mp fun e => z ((vt_leI hy1 hx1).mpr e))) H locs ls hw hl)
    · exact lv_icmp_gt hx hb d ht (fun z => jump (h2.1 ((vt_ltI hy1 hx1).mp z)) H locs ls hw hl) (fun z => by rw [hn]; exact go (h2.2 (Int.not_lt.mp fun e => z ((vt_ltI hy1 hx1).mpr e))) H locs ls hw hl)
    · exact lv_icmp_le hx hb d ht (fun z => jump (h2.1 ((vt_leI hx1 hy1).mp z)) H locs ls hw hl) (fun z => by rw [hn]; exact go (h2.2 (Int.not_le.mp fun e => z ((vt_leI hx1 hy1).mpr e))) H locs ls hw hl)
  case ifCond cd t =>
    obtain ⟨x, r1, e1, hx1, h1⟩ := vt_pi_spec h
    subst e1
    obtain ⟨off, d, ht, hn⟩ := hok
    have hy1 : (-2147483648 : Int) ≤ 0 ∧ (0 : Int) ≤ 2147483647 := by decide
    cases cd
    · exact lv_if_eq hx hb d ht (fun z => jump (h1.1 ((vt_eqI hx1 hy1).mp z)) H locs ls hw hl) (fun z => by rw [hn]; exact go (h1.2 (fun e => z ((vt_eqI hx1 hy1).mpr e))) H locs ls hw hl)
    · exact lv_if_ne hx hb d ht (fun z => jump (h1.1 (fun e => z ((vt_eqI hx1 hy1).mpr e))) H locs ls hw hl) (fun z => by rw [hn]; exact go (h1.2 ((vt_eqI hx1 hy1).mp z)) H locs ls hw hl)
    · exact lv_if_lt hx hb d ht (fun z => jump (h1.1 ((vt_ltI hx1 hy1).mp z)) H locs ls hw hl) (fun z => by rw [hn]; exact go (h1.2 (Int.not_lt.mp fun e => z ((vt_ltI hx1 hy1).mpr e))) H locs ls hw hl)
    · exact lv_if_ge hx hb d ht (fun z => jump (h1.1 ((vt_leI hy1 hx1).mp z)) H locs ls hw hl) (fun z => by rw [hn]; exact go (h1.2 (Int.not_le.mp fun e => z ((vt_leI hy1 hx1).mpr e))) H locs ls hw hl)
    · exact lv_if_gt hx hb d ht (fun z => jump (h1.1 ((vt_ltI hy1 hx1).mp z)) H locs ls hw hl) (fun z => by rw [hn]; exact go (h1.2 (Int.not_lt.mp fun e => z ((vt_ltI hy1 hx1).mpr e))) H locs ls hw hl)
    · exact lv_if_le hx hb d ht (fun z => jump (h1.1 ((vt_leI hx1 hy1).mp z)) H locs ls hw hl) (fun z => by rw [hn]; exact go (h1.2 (Int.not_le.mp fun e => z ((vt_leI hx1 hy1).mpr e))) H locs ls hw hl)
  case goto t =>
    obtain ⟨off, d, ht⟩ := hok
    exact lv_goto hx hb d ht (jump h H locs ls hw hl)
  case tableswitch df lo hi ts =>
    obtain ⟨x, r1, e1, hx1, hd1, hs1⟩ := vt_pi_spec h
    subst e1
    obtain ⟨d0, offs, len, d, ht, hmap, hhi⟩ := hok
    have hxt := vt_toI hx1
    by_cases hout : x < lo ∨ hi < x
    · exact lv_tableOut hx hb d (by rw [hxt]; exact hout) ht (jump (hd1 hout) H locs ls hw hl)
    · have hj : (x - lo).toNat < ts.toList.length := by omega
      have e1 : ts.toList[(x - lo).toNat]? = some (ts.toList[(x - lo).toNat]) := List.getElem?_eq_getElem hj
      have e2 : (offs.toList.map (fun o => (pc : Int) + o))[(x - lo).toNat]? = some (((ts.toList[(x - lo).toNat]).toNat : Nat) : Int) := by
        rw [hmap, List.getElem?_map, e1]; rfl
      rw [List.getElem?_map] at e2
      cases ho : offs.toList[(x - lo).toNat]? with
      | none => rw [ho] at e2; cases e2
      | some o =>
        rw [ho] at e2
        refine lv_tableIn hx hb d (off := o) (tgt := (ts.toList[(x - lo).toNat]).toNat) (by rw [hxt]; omega) (by rw [hxt]; omega) (by rw [hxt, ← Array.getElem?_toList]; exact ho) (Option.some.inj e2) ?_
        exact jump (vt_sw_spec _ _ hs1 _ _ e1 (by omega)) H locs ls hw hl
  case aload k =>
    obtain ⟨v, hv, h⟩ := vt_lkK_spec h
    split at h
    · rename_i r
      have hg := vc_lm_get hl hv
      have K := go h H locs ls hw hl
      cases r with
      | zero =>
        rcases hok with ⟨f, d, hf, hn⟩ | ⟨d, hn⟩
        · rw [← hn] at K
          exact lv_aload_nN hx hb d hf hg K
        · rw [← hn] at K
          exact lv_aloadN hx hb d hg K
      | succ r =>
        rcases hok with ⟨f, d, hf, hn⟩ | ⟨d, hn⟩
        · rw [← hn] at K
          exact lv_aload_n hx hb d hf hg K
        · rw [← hn] at K
          exact lv_aload hx hb d hg K
    · exact h.elim
  case astore k =>
    obtain ⟨r, r1, e1, h1⟩ := vt_pr_spec h
    subst e1
    split at h1
    · rename_i hk
      have hk : k < vc_n mt := Nat.le_of_ble_eq_true hk
      obtain ⟨L', h3, h4⟩ := vt_insK_spec _ _ _ h1
      cases r with
      | zero =>
        rcases hok with ⟨f, d, hf, hn⟩ | ⟨d, hn⟩
        · refine lv_astore_nN hx hb d hf hl hk rfl (fun ls' hl' => ?_)
          have K := go h3 H locs ls' hw (vc_lm_set1 (v := .inr (.inr 0)) hl' h4)
          rw [← hn] at K
          exact K
        · refine lv_astoreN hx hb d hl hk rfl (fun ls' hl' => ?_)
          have K := go h3 H locs ls' hw (vc_lm_set1 (v := .inr (.inr 0)) hl' h4)
          rw [← hn] at K
          exact K
      | succ r =>
        rcases hok with ⟨f, d, hf, hn⟩ | ⟨d, hn⟩
        · refine lv_astore_n hx hb d hf hl hk rfl (fun ls' hl' => ?_)
          have K := go h3 H locs ls' hw (vc_lm_set1 (v := .inr (.inr (r + 1))) hl' h4)
          rw [← hn] at K
          exact K
        · refine lv_astore hx hb d hl hk rfl (fun ls' hl' => ?_)
          have K := go h3 H locs ls' hw (vc_lm_set1 (v := .inr (.inr (r + 1))) hl' h4)
          rw [← hn] at K
          exact K
    · exact h1.elim
  case idiv =>
    obtain ⟨y, r1, e1, h1⟩ := vt_pi_spec h
    obtain ⟨x, r2, e2, ⟨hx1, hy0, hy1⟩, h2⟩ := vt_pi_spec h1
    subst e2
    subst e1
    have K := go h2 H locs ls hw hl
    rw [← hok.2] at K
    refine lv_idiv hx hb hok.1 (fun z => by rw [vt_zero, vt_eqI (by omega) (by omega)] at z; omega) ?_
    rw [vc_div (by omega) (by omega)]
    exact K
  case irem =>
    obtain ⟨y, r1, e1, h1⟩ := vt_pi_spec h
    obtain ⟨x, r2, e2, ⟨hx1, hy0, hy1⟩, h2⟩ := vt_pi_spec h1
    subst e2
    subst e1
    have K := go h2 H locs ls hw hl
    rw [← hok.2] at K
    refine lv_irem hx hb hok.1 (fun z => by rw [vt_zero, vt_eqI (by omega) (by omega)] at z; omega) ?_
    rw [vc_rem (by omega) (by omega)]
    exact K
  case aconst_null =>
    have K := go h H locs ls hw hl
    rw [← hok.2] at K
    exact lv_null hx hb hok.1 K
  case ifnull t =>
    obtain ⟨r, r1, e1, h1, h2⟩ := vt_pr_spec h
    subst e1
    obtain ⟨off, d, ht, hn⟩ := hok
    cases r with
    | zero => exact lv_ifnullN hx hb d ht (jump (h1 rfl) H locs ls hw hl)
    | succ r =>
      have K := go (h2 (by omega)) H locs ls hw hl
      rw [← hn] at K
      exact lv_ifnull hx hb d K
  case ifnonnull t =>
    obtain ⟨r, r1, e1, h1, h2⟩ := vt_pr_spec h
    subst e1
    obtain ⟨off, d, ht, hn⟩ := hok
    cases r with
    | zero =>
      have K := go (h2 rfl) H locs ls hw hl
      rw [← hn] at K
      exact lv_ifnonnullN hx hb d K
    | succ r => exact lv_ifnonnull hx hb d ht (jump (h1 (by omega)) H locs ls hw hl)
  case arraylength =>
    obtain ⟨r, r1, e1, ⟨⟨c1, hc0, hc1, ⟨a, ea, ha⟩, hk⟩, hn0, hn1⟩, h1⟩ := vt_pr_spec h
    subst e1
    subst ea
    have K := go h1 H locs ls hw hl
    rw [← hok.2] at K
    obtain ⟨k, hkk⟩ := vc_plg (f := vc_e cA S B) ha
    obtain ⟨cn, rfl⟩ := Int.eq_ofNat_of_zero_le (show 0 ≤ c1 by omega)
    rw [vc_e_arr hk (by omega)] at hkk
    have hty : ∃ ty, (vc_ty cA)[cn - 100]? = some (cA (cn - 100), ty) := by
      have : cn - 100 = 0 ∨ cn - 100 = 1 ∨ cn - 100 = 2 ∨ cn - 100 = 3 ∨ cn - 100 = 4 := by omega
      rcases this with e | e | e | e | e <;> (rw [e]; exact ⟨_, rfl⟩)
    obtain ⟨ty, hty⟩ := hty
    refine va_alen hx hb hK hw.1 k (cn - 100) hkk hty ?_ hok.1 K
    show Int32.ofNat (S (a + 1) (-1)).toNat = Int32.ofInt (S (a + 1) (-1))
    rw [← Int32.ofInt_eq_ofNat, show (((S (a + 1) (-1)).toNat : Nat) : Int) = S (a + 1) (-1) by omega]
  case iaload =>
    obtain ⟨i, r1, e1, h1⟩ := vt_pi_spec h
    obtain ⟨r, r2, e2, ⟨⟨⟨a, ea, ha⟩, hk⟩, h0, h1, hn2⟩, h2⟩ := vt_pr_spec h1
    subst e2
    subst e1
    subst ea
    have K := go h2 H locs ls hw hl
    rw [← hok.2] at K
    obtain ⟨k, hkk⟩ := vc_plg (f := vc_e cA S B) ha
    rw [vc_e_i0 hk] at hkk
    obtain ⟨q1, q2⟩ := vt_ix (n := (S (a + 1) (-1)).toNat) h0 (by omega) (by omega)
    refine va_iald hx hb hK hw.1 k 0 hkk rfl q1 hok.1 ?_
    rw [q2]
    exact K
  case baload =>
    obtain ⟨i, r1, e1, h1⟩ := vt_pi_spec h
    obtain ⟨r, r2, e2, ⟨⟨⟨a, ea, ha⟩, hk⟩, h0, h1, hn2⟩, h2⟩ := vt_pr_spec h1
    subst e2
    subst e1
    subst ea
    have K := go h2 H locs ls hw hl
    rw [← hok.2] at K
    obtain ⟨k, hkk⟩ := vc_plg (f := vc_e cA S B) ha
    rw [vc_e_i1 hk] at hkk
    obtain ⟨q1, q2⟩ := vt_ix (n := (S (a + 1) (-1)).toNat) h0 (by omega) (by omega)
    refine va_bald hx hb hK hw.1 k 1 hkk rfl q1 hok.1 ?_
    rw [q2]
    exact K
  case laload =>
    obtain ⟨i, r1, e1, h1⟩ := vt_pi_spec h
    obtain ⟨r, r2, e2, ⟨⟨⟨a, ea, ha⟩, hk⟩, h0, h1, hn2⟩, h2⟩ := vt_pr_spec h1
    subst e2
    subst e1
    subst ea
    have K := go h2 H locs ls hw hl
    rw [← hok.2] at K
    obtain ⟨k, hkk⟩ := vc_plg (f := vc_e cA S B) ha
    rw [vc_e_l hk] at hkk
    obtain ⟨q1, q2⟩ := vt_ix (n := (S (a + 1) (-1)).toNat) h0 (by omega) (by omega)
    refine va_lald hx hb hK hw.1 k 2 hkk rfl q1 hok.1 ?_
    rw [q2]
    exact K
  case iastore =>
    obtain ⟨v, r1, e1, h1⟩ := vt_pi_spec h
    obtain ⟨i, r2, e2, h2⟩ := vt_pi_spec h1
    obtain ⟨r, r3, e3, ⟨⟨⟨a, ea, ha⟩, hk⟩, h0, h1, hn2⟩, h3⟩ := vt_pr_spec h2
    subst e3
    subst e2
    subst e1
    subst ea
    obtain ⟨k, hkk⟩ := vc_plg (f := vc_e cA S B) ha
    have hk2 := hkk
    rw [vc_e_i0 hk] at hk2
    obtain ⟨q1, q2⟩ := vt_ix (n := (S (a + 1) (-1)).toNat) h0 (by omega) (by omega)
    refine va_iast hx hb hK hw.1 hw.2.1 hw.2.2.1 k 0 hk2 rfl q1 hok.1 (fun H1 locs1 hP1 hD1 hS1 => ?_)
    have K := go h3 H1 locs1 ls (hw.put hP1 hD1 hS1 (vc_set hw.2.1 ha hkk (by rw [vc_e_i0 (by rw [vt_up_off (by omega)]; exact hk), vt_up_off (show (-1 : Int) ≠ i by omega), vt_upd q2]) (fun b hb => vc_e_up hb)) (vt_up_ne (by omega))) hl
    rw [← hok.2] at K
    exact K
  case bastore =>
    obtain ⟨v, r1, e1, h1⟩ := vt_pi_spec h
    obtain ⟨i, r2, e2, h2⟩ := vt_pi_spec h1
    obtain ⟨r, r3, e3, ⟨⟨⟨a, ea, ha⟩, hk⟩, ⟨h0, h1, hn2⟩, g2, g3⟩, h3⟩ := vt_pr_spec h2
    subst e3
    subst e2
    subst e1
    subst ea
    obtain ⟨k, hkk⟩ := vc_plg (f := vc_e cA S B) ha
    have hk2 := hkk
    rw [vc_e_i1 hk] at hk2
    obtain ⟨q1, q2⟩ := vt_ix (n := (S (a + 1) (-1)).toNat) h0 (by omega) (by omega)
    have hv : vp_nar .byte (Int32.ofInt v) = Int32.ofInt v := by
      rw [vp_nar_byte, ← Int32.toInt_inj, Int8.toInt_toInt32, vt_toI (by omega), Int32.toInt_toInt8, vt_toI (by omega)]
      exact Int.bmod_eq_of_le (by omega) (by omega)
    refine va_bast hx hb hK hw.1 hw.2.1 hw.2.2.1 k 1 hk2 rfl q1 hok.1 (fun H1 locs1 hP1 hD1 hS1 => ?_)
    rw [hv] at hP1 hD1
    have K := go h3 H1 locs1 ls (hw.put hP1 hD1 hS1 (vc_set hw.2.1 ha hkk (by rw [vc_e_i1 (by rw [vt_up_off (by omega)]; exact hk), vt_up_off (show (-1 : Int) ≠ i by omega), vt_upd q2]) (fun b hb => vc_e_up hb)) (vt_up_ne (by omega))) hl
    rw [← hok.2] at K
    exact K
  case lastore =>
    obtain ⟨v, r1, e1, h1⟩ := vt_pl_spec h
    obtain ⟨i, r2, e2, h2⟩ := vt_pi_spec h1
    obtain ⟨r, r3, e3, ⟨⟨⟨a, ea, ha⟩, hk⟩, h0, h1, hn2⟩, h3⟩ := vt_pr_spec h2
    subst e3
    subst e2
    subst e1
    subst ea
    obtain ⟨k, hkk⟩ := vc_plg (f := vc_e cA S B) ha
    have hk2 := hkk
    rw [vc_e_l hk] at hk2
    obtain ⟨q1, q2⟩ := vt_ix (n := (S (a + 1) (-1)).toNat) h0 (by omega) (by omega)
    refine va_last hx hb hK hw.1 hw.2.1 hw.2.2.1 k 2 hk2 rfl q1 hok.1 (fun H1 locs1 hP1 hD1 hS1 => ?_)
    have K := go h3 H1 locs1 ls (hw.put hP1 hD1 hS1 (vc_set hw.2.1 ha hkk (by rw [vc_e_l hk, vt_updB q2]) (fun b hb => vc_e_ub hb)) rfl) hl
    rw [← hok.2] at K
    exact K
  case ireturn =>
    obtain ⟨z, r1, e1, h1⟩ := vt_pi_spec h
    subst e1
    split at h1
    · split at h1
      · rename_i hrt
        exact W.widen h1.1.1 h1.1.2 (vx_MQ (W.iret hx hb (hr.trans hrt) (fun t ht hW => ⟨⟨.inl (some (.inl z)), Lw, S, B, rfl, fun k hk => (by cases hk), h1.2, vc_end hF hw ht hW, hw.2.2.2.1, hw.2.2.2.2⟩, hw.2.2.1.F ht⟩) hw.2.2.1.2.2 hok hlocks))
      · rename_i hrt
        exact W.widen h1.1.2.1 h1.1.2.2 (vx_MQ (W.zret hx hb (hr.trans hrt) (by rcases h1.1.1 with rfl | rfl <;> rfl) (fun t ht hW => ⟨⟨.inl (some (.inl z)), Lw, S, B, rfl, fun k hk => (by cases hk), h1.2, vc_end hF hw ht hW, hw.2.2.2.1, hw.2.2.2.2⟩, hw.2.2.1.F ht⟩) hw.2.2.1.2.2 hok hlocks))
      · exact h1.elim
    · exact h1.elim
  case lreturn =>
    obtain ⟨z, r1, e1, h1⟩ := vt_pl_spec h
    subst e1
    split at h1
    · split at h1
      · rename_i hrt
        exact W.widen h1.1.1 h1.1.2 (vx_MQ (W.lret hx hb (hr.trans hrt) (fun t ht hW => ⟨⟨.inl (some (.inr (.inl z))), Lw, S, B, rfl, fun k hk => (by cases hk), h1.2, vc_end hF hw ht hW, hw.2.2.2.1, hw.2.2.2.2⟩, hw.2.2.1.F ht⟩) hw.2.2.1.2.2 hok hlocks))
      · exact h1.elim
    · exact h1.elim
  case areturn =>
    obtain ⟨r, r1, e1, h1⟩ := vt_pr_spec h
    subst e1
    split at h1
    · split at h1
      · rename_i hrt
        exact W.widen h1.1.1 h1.1.2 (vx_MQ (W.aret hx hb (hr.trans hrt) (.inl ⟨_, rfl⟩) (by cases r with
          | zero => exact .inl rfl
          | succ r => exact .inr ⟨r, rfl⟩) (fun t ht hW => ⟨⟨.inl (some (.inr (.inr r))), Lw, S, B, rfl, fun k hk => (by cases hk), h1.2, vc_end hF hw ht hW, hw.2.2.2.1, hw.2.2.2.2⟩, hw.2.2.1.F ht⟩) hw.2.2.1.2.2 hok hlocks))
      · exact h1.elim
    · exact h1.elim
  case athrow =>
    obtain ⟨r, r1, e1, h1⟩ := vt_pr_spec h
    subst e1
    split at h1
    · obtain ⟨⟨h0, hc1, hc2⟩, h1⟩ := h1
      obtain ⟨a, rfl⟩ : ∃ a, r = a + 1 := ⟨r - 1, by omega⟩
      refine W.widen hc1 hc2 (vx_athrow hx hb (fun t ht hW => ⟨⟨.inr (a + 1), Lw, S, B, rfl, fun k hk => (by cases hk; omega), h1, vc_end hF hw ht hW, hw.2.2.2.1, hw.2.2.2.2⟩, hw.2.2.1.F ht⟩) hw.2.2.1.2.2 (fun x hx => (hex x hx).elim) hok hlocks)
    · exact h1.elim
  case return_ =>
    simp only [vc_s1] at h
    split at h
    · split at h
      · rename_i hrt
        exact W.widen h.1.1 h.1.2 (vx_MQ (W.vret hx hb (hr.trans hrt) (fun t ht hW => ⟨⟨.inl none, Lw, S, B, rfl, fun k hk => (by cases hk), h.2, vc_end hF hw ht hW, hw.2.2.2.1, hw.2.2.2.2⟩, hw.2.2.1.F ht⟩) hw.2.2.1.2.2 hok hlocks))
      · exact h.elim
    · exact h.elim
  all_goals exact h.elim
end VCS
