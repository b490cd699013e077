/-! VT: the walk is sound -/
set_option maxRecDepth 100000
-- ===== what an instruction's entry in the table says =====
/-- the instruction at pc pushes v and goes to nx -/
def vt_pu (cc : ByteArray) (pc nx : Nat) (v : Value) : Prop := ∀ {p : Program} {l : Launch} {e : Env} {R : Room} {s : State} {m : MethodId} {args : Array Value} {below : List Frame} {meth : Method} {c : Code} {H : Heap} {locs : List Loc} {cells slots : Nat} {Q : State → Prop} {ls : Array Slot} {rest : List Value},
  p.tables.exec = Jvm.exec → c.code = cc → s.vm.findClass RX3 = some m.cls → (∀ w ∈ lw_all, w.before args s = true) → W p l e R s m args below meth c H locs cells slots Q (F0 m nx ls (v :: rest)) → W p l e R s m args below meth c H locs cells slots Q (F0 m pc ls rest)
theorem vt_o_iconst {cc : ByteArray} {pc nx : Nat} {z : Int} (h : decode cc pc = .ok (.iconst z, 1)) (e : pc + 1 = nx) : vt_pu cc pc nx (.int (Int32.ofInt z)) := by
  intro p l e R s m args below meth c H locs cells slots Q ls rest hx hb _ _ k
  subst nx
  exact lv_iconst hx hb h rfl k
theorem vt_o_bipush {cc : ByteArray} {pc nx : Nat} {z : Int} (h : decode cc pc = .ok (.bipush z, 2)) (e : pc + 2 = nx) (hz : (Int8.ofInt z).toInt32 = Int32.ofInt z) : vt_pu cc pc nx (.int (Int32.ofInt z)) := by
  intro p l e R s m args below meth c H locs cells slots Q ls rest hx hb _ _ k
  subst nx
  exact lv_bipush hx hb h hz k
theorem vt_o_sipush {cc : ByteArray} {pc nx : Nat} {z : Int} (h : decode cc pc = .ok (.sipush z, 3)) (e : pc + 3 = nx) (hz : (Int16.ofInt z).toInt32 = Int32.ofInt z) : vt_pu cc pc nx (.int (Int32.ofInt z)) := by
  intro p l e R s m args below meth c H locs cells slots Q ls rest hx hb _ _ k
  subst nx
  exact lv_sipush hx hb h hz k
theorem vt_o_ldc {cc : ByteArray} {pc nx idx : Nat} {z : Int} {v : Int32} (h : decode cc pc = .ok (.ldc idx, 2)) (e : pc + 2 = nx) (hq : Cond.constant RX3 idx v ∈ lw_all) (hz : v = Int32.ofInt z) : vt_pu cc pc nx (.int (Int32.ofInt z)) := by
  intro p l e R s m args below meth c H locs cells slots Q ls rest hx hb hown hts k
  subst nx
  subst hz
  exact lv_ldc hx hb hown (hts _ hq) h k
theorem vt_o_lconst {cc : ByteArray} {pc nx : Nat} {f : Fin 2} {z : Int} (h : decode cc pc = .ok (.lconst f, 1)) (e : pc + 1 = nx) (hz : Int64.ofNat (f : Nat) = Int64.ofInt z) : vt_pu cc pc nx (.long (Int64.ofInt z)) := by
  intro p l e R s m args below meth c H locs cells slots Q ls rest hx hb _ _ k
  subst nx
  exact lv_lconst hx hb h hz k
theorem vt_o_ldc2 {cc : ByteArray} {pc nx idx : Nat} {z : Int} {v : Int64} (h : decode cc pc = .ok (.ldc2_w idx, 3)) (e : pc + 3 = nx) (hq : Cond.constantLong RX3 idx v ∈ lw_all) (hz : v = Int64.ofInt z) : vt_pu cc pc nx (.long (Int64.ofInt z)) := by
  intro p l e R s m args below meth c H locs cells slots Q ls rest hx hb hown hts k
  subst nx
  subst hz
  exact lv_ldc2 hx hb hown (hts _ hq) h k
/-- a call through the object -/
def vt_cv (idx mt n : Nat) : Prop := Cond.methodLink RX3 idx (vt_y mt) ∈ lw_all ∧ Cond.instanceMethod (vt_y mt) ∈ lw_all ∧ Cond.selects RX3 (vt_y mt) (vt_y mt) ∈ lw_all ∧ Cond.code (vt_y mt) (vt_c mt) (vt_n mt) (vt_r mt) ∈ lw_all ∧
  ((vt_y mt).cls = RX3 ∧ (vt_y mt).cls ≠ "java/lang/invoke/MethodHandle" ∧ (vt_y mt).cls ≠ "java/lang/invoke/VarHandle" ∧ (parseMethodDescriptor (vt_y mt).desc).map (fun d => d.parameters.length) = some n) ∧ vt_n mt ≤ 22
def vt_cs (idx mt n : Nat) : Prop := Cond.methodLink RX3 idx (vt_y mt) ∈ lw_all ∧ Cond.static (vt_y mt) ∈ lw_all ∧ Cond.initialized (vt_y mt).cls ∈ lw_all ∧ Cond.code (vt_y mt) (vt_c mt) (vt_n mt) (vt_r mt) ∈ lw_all ∧
  ((vt_y mt).cls ≠ "java/lang/invoke/MethodHandle" ∧ (vt_y mt).cls ≠ "java/lang/invoke/VarHandle" ∧ (parseMethodDescriptor (vt_y mt).desc).map (fun d => d.parameters.length) = some n) ∧ vt_n mt ≤ 22
def vt_fo (k : Nat) (z : Int) (idx : Nat) : Prop := Cond.fieldLink RX3 idx RX3 (TX3 k).2.1 (TX3 k).2.2.1 ∈ lw_all ∧ (TX3 k).1 = RX3 ∧ (k : Int) = z ∧ k < 43
def vt_ok1 (cc : ByteArray) (pc : Nat) (i : Instr) (nx : Nat) : Prop := match i with
  | .sipush z => vt_pu cc pc nx (.int (Int32.ofInt z))
  | .iload k => (∃ f : Fin 4, decode cc pc = .ok (.iload_n f, 1) ∧ (f : Nat) = k ∧ pc + 1 = nx) ∨ (decode cc pc = .ok (.iload k, 2) ∧ pc + 2 = nx)
  | .lload k => (∃ f : Fin 4, decode cc pc = .ok (.lload_n f, 1) ∧ (f : Nat) = k ∧ pc + 1 = nx) ∨ (decode cc pc = .ok (.lload k, 2) ∧ pc + 2 = nx)
  | .aload k => (∃ f : Fin 4, decode cc pc = .ok (.aload_n f, 1) ∧ (f : Nat) = k ∧ pc + 1 = nx) ∨ (decode cc pc = .ok (.aload k, 2) ∧ pc + 2 = nx)
  | .istore k => (∃ f : Fin 4, decode cc pc = .ok (.istore_n f, 1) ∧ (f : Nat) = k ∧ pc + 1 = nx) ∨ (decode cc pc = .ok (.istore k, 2) ∧ pc + 2 = nx)
  | .lstore k => (∃ f : Fin 4, decode cc pc = .ok (.lstore_n f, 1) ∧ (f : Nat) = k ∧ pc + 1 = nx) ∨ (decode cc pc = .ok (.lstore k, 2) ∧ pc + 2 = nx)
  | .iinc k c => decode cc pc = .ok (.iinc k c, 3) ∧ pc + 3 = nx
  | .if_icmp c t => ∃ off, decode cc pc = .ok (.if_icmp c off, 3) ∧ (pc : Int) + off = (t.toNat : Int) ∧ pc + 3 = nx
  | .ifCond c t => ∃ off, decode cc pc = .ok (.ifCond c off, 3) ∧ (pc : Int) + off = (t.toNat : Int) ∧ pc + 3 = nx
  | .goto t => ∃ off, decode cc pc = .ok (.goto off, 3) ∧ (pc : Int) + off = (t.toNat : Int)
  | .tableswitch d lo hi ts => ∃ (d0 : Int) (offs : Array Int) (len : Nat), decode cc pc = .ok (.tableswitch d0 lo hi offs, len) ∧ (pc : Int) + d0 = (d.toNat : Int) ∧ offs.toList.map (fun o => (pc : Int) + o) = ts.toList.map (fun t => (t.toNat : Int)) ∧ hi + 1 = lo + (ts.toList.length : Int)
  | .ireturn => decode cc pc = .ok (.ireturn, 1)
  | .lreturn => decode cc pc = .ok (.lreturn, 1)
  | .return_ => decode cc pc = .ok (.return_, 1)
  | i => decode cc pc = .ok (i, 1) ∧ pc + 1 = nx
def vt_ok2 (cc : ByteArray) (pc : Nat) (op k : Nat) (z : Int) (nx : Nat) : Prop := match op with
  | 0 => ∃ idx, decode cc pc = .ok (.getfield idx, 3) ∧ pc + 3 = nx ∧ vt_fo k z idx ∧ (vt_kl k).1 = 9
  | 1 => ∃ idx, decode cc pc = .ok (.putfield idx, 3) ∧ pc + 3 = nx ∧ vt_fo k z idx ∧ (vt_kl k).1 = 9 ∧ (TX3 k).2.2.2 = false ∧ tyX3 k = .int
  | 2 => ∃ idx, decode cc pc = .ok (.getfield idx, 3) ∧ pc + 3 = nx ∧ vt_fo k k idx ∧ (vt_kl k).1 ≠ 9
  | 3 => ∃ idx, decode cc pc = .ok (.invokevirtual idx, 3) ∧ pc + 3 = nx ∧ vt_cv idx k (z.toNat - 1)
  | 4 => vt_pu cc pc nx (.long (Int64.ofInt z))
  | 5 => ∃ idx, decode cc pc = .ok (.invokestatic idx, 3) ∧ pc + 3 = nx ∧ vt_cs idx k z.toNat
  | _ => False
def vt_ok (cc : ByteArray) (pc : Nat) (i : vt_I) (nx : Nat) : Prop := match i with
  | .inl i => vt_ok1 cc pc i nx
  | .inr (op, k, z) => vt_ok2 cc pc op k z nx
def vt_tok (cc : ByteArray) : List (Nat × vt_I) → Prop
  | [] => True
  | q :: r => vt_ok cc q.1 q.2 (vt_hd r) ∧ vt_tok cc r
theorem vt_seek_tok {cc : ByteArray} (pc : Nat) : ∀ (l : List (Nat × vt_I)), vt_tok cc l → vt_tok cc (vt_seek pc l)
  | [], h => h
  | q :: r, h => by
    unfold vt_seek
    split
    · exact h
    · exact vt_seek_tok pc r h.2
theorem vt_seek_hd (pc : Nat) : ∀ (l : List (Nat × vt_I)), vt_seek pc l ≠ [] → vt_hd (vt_seek pc l) = pc
  | [], h => absurd rfl h
  | q :: r, h => by
    unfold vt_seek at h ⊢
    split at h
    · rename_i he
      exact Nat.eq_of_beq_eq_true he
    · exact vt_seek_hd pc r h
-- ===== locals =====
theorem vt_lkK_spec {i : Nat} {f : AV → Prop} : ∀ {L : vt_L}, vt_lkK L i f → ∃ v, (i, v) ∈ L ∧ f v
  | [], h => h.elim
  | (j, w) :: r, h => by
    unfold vt_lkK at h
    split at h
    · rename_i he
      have : j = i := Nat.eq_of_beq_eq_true he
      subst this
      exact ⟨w, List.mem_cons_self, h⟩
    · obtain ⟨v, h1, h2⟩ := vt_lkK_spec h
      exact ⟨v, List.mem_cons_of_mem _ h1, h2⟩
theorem vt_insK_spec {i : Nat} {v : AV} {two : Bool} : ∀ (L : vt_L) (dn : Bool) (k : vt_L → Prop), vt_insK i v two L dn k → ∃ L', k L' ∧ ∀ q ∈ L', q = (i, v) ∨ (q ∈ L ∧ vt_bad i two q = false)
  | [], true, k, h => ⟨[], h, fun q hq => by cases hq⟩
  | [], false, k, h => ⟨[(i, v)], h, fun q hq => Or.inl (List.mem_singleton.mp hq)⟩
  | q :: r, dn, k, h => by
    have key : ∀ {L' : vt_L}, (∀ x ∈ L', x = (i, v) ∨ (x ∈ r ∧ vt_bad i two x = false)) → ∀ x ∈ L', x = (i, v) ∨ (x ∈ q :: r ∧ vt_bad i two x = false) := by
      intro L' hL x hx
      rcases hL x hx with h | ⟨h1, h2⟩
      · exact Or.inl h
      · exact Or.inr ⟨List.mem_cons_of_mem _ h1, h2⟩
    unfold vt_insK at h
    split at h
    · obtain ⟨L', h1, h2⟩ := vt_insK_spec r dn k h
      exact ⟨L', h1, key h2⟩
    · rename_i hb
      split at h
      · obtain ⟨L', h1, h2⟩ := vt_insK_spec r true _ h
        refine ⟨_, h1, fun x hx => ?_⟩
        rcases List.mem_cons.mp hx with e | hx
        · exact Or.inl e
        · rcases List.mem_cons.mp hx with e | hx
          · exact Or.inr ⟨by rw [e]; exact List.mem_cons_self, by rw [e]; exact hb⟩
          · exact key h2 x hx
      · obtain ⟨L', h1, h2⟩ := vt_insK_spec r dn _ h
        refine ⟨_, h1, fun x hx => ?_⟩
        rcases List.mem_cons.mp hx with e | hx
        · exact Or.inr ⟨by rw [e]; exact List.mem_cons_self, by rw [e]; exact hb⟩
        · exact key h2 x hx
theorem vt_pick_sub : ∀ (is : List Nat) (L : vt_L), ∀ q ∈ vt_pick is L, q ∈ L
  | [], _, q, h => by cases h
  | i :: is, L, q, h => by
    unfold vt_pick at h
    split at h
    · rename_i x hx
      rcases List.mem_cons.mp h with e | h
      · rw [e]; exact List.mem_of_find?_eq_some hx
      · exact vt_pick_sub is L q h
    · exact vt_pick_sub is L q h
def vt_lm (ad : Nat → Nat) (L : vt_L) : List (Nat × Value) := L.map (fun q => (q.1, cv ad q.2))
theorem vt_lm_get {ad : Nat → Nat} {L : vt_L} {ls : Array Slot} {nL i : Nat} {v : AV} (h : lv_has ls nL (vt_lm ad L)) (hm : (i, v) ∈ L) : ls[i]? = some (.val (cv ad v)) := h.2.2 (i, cv ad v) (List.mem_map.mpr ⟨(i, v), hm, rfl⟩)
theorem vt_lm_sub {ad : Nat → Nat} {L L' : vt_L} {ls : Array Slot} {nL : Nat} (h : lv_has ls nL (vt_lm ad L)) (hs : ∀ q ∈ L', q ∈ L) : lv_has ls nL (vt_lm ad L') := by
  refine ⟨h.1, h.2.1, fun q hq => ?_⟩
  obtain ⟨x, hx, rfl⟩ := List.mem_map.mp hq
  exact vt_lm_get h (hs x hx)
theorem vt_bad_of {i : Nat} {two : Bool} {q : Nat × AV} (h : vt_bad i two q = false) : q.1 ≠ i ∧ (two = true → q.1 ≠ i + 1) ∧ ¬ (q.1 + 1 = i ∧ vt_is2 q.2 = true) := by
  unfold vt_bad at h
  simp only [Bool.or_eq_false_iff, Bool.and_eq_false_iff] at h
  obtain ⟨⟨h1, h2⟩, h3⟩ := h
  refine ⟨fun e => ?_, fun ht e => ?_, fun e => ?_⟩
  · rw [e, Nat.beq_refl] at h1; cases h1
  · rw [ht, e, Nat.beq_refl] at h2; rcases h2 with h2 | h2 <;> cases h2
  · rw [e.1, Nat.beq_refl, e.2] at h3; rcases h3 with h3 | h3 <;> cases h3
theorem vt_lm_set1 {ad : Nat → Nat} {L L' : vt_L} {ls : Array Slot} {nL i : Nat} {v : AV} (h : lv_has ls nL ((i, cv ad v) :: (vt_lm ad L).filter (fun q => !(q.1 == i) && !(q.1 + 1 == i && q.2.category == 2)))) (hs : ∀ q ∈ L', q = (i, v) ∨ (q ∈ L ∧ vt_bad i false q = false)) : lv_has ls nL (vt_lm ad L') := by
  refine ⟨h.1, h.2.1, fun q hq => ?_⟩
  obtain ⟨x, hx, rfl⟩ := List.mem_map.mp hq
  apply h.2.2
  rcases hs x hx with e | ⟨h1, h2⟩
  · rw [e]; exact List.mem_cons_self
  · apply List.mem_cons_of_mem
    rw [List.mem_filter]
    refine ⟨List.mem_map.mpr ⟨x, h1, rfl⟩, ?_⟩
    obtain ⟨b1, -, b3⟩ := vt_bad_of h2
    have hc := vt_cat_cv ad x.2
    simp only [Bool.and_eq_true, Bool.not_eq_true', beq_eq_false_iff_ne, Bool.and_eq_false_iff]
    refine ⟨b1, ?_⟩
    by_cases e : x.1 + 1 = i
    · right
      intro hz
      rw [hc] at hz
      cases hx2 : vt_is2 x.2
      · rw [hx2] at hz; cases hz
      · exact b3 ⟨e, hx2⟩
    · exact Or.inl e
theorem vt_lm_set2 {ad : Nat → Nat} {L L' : vt_L} {ls : Array Slot} {nL i : Nat} {v : AV} (h : lv_has ls nL ((i, cv ad v) :: (vt_lm ad L).filter (fun q => !(q.1 == i) && (!(q.1 == i + 1) && !(q.1 + 1 == i && q.2.category == 2))))) (hs : ∀ q ∈ L', q = (i, v) ∨ (q ∈ L ∧ vt_bad i true q = false)) : lv_has ls nL (vt_lm ad L') := by
  refine ⟨h.1, h.2.1, fun q hq => ?_⟩
  obtain ⟨x, hx, rfl⟩ := List.mem_map.mp hq
  apply h.2.2
  rcases hs x hx with e | ⟨h1, h2⟩
  · rw [e]; exact List.mem_cons_self
  · apply List.mem_cons_of_mem
    rw [List.mem_filter]
    refine ⟨List.mem_map.mpr ⟨x, h1, rfl⟩, ?_⟩
    obtain ⟨b1, b2, b3⟩ := vt_bad_of h2
    have hc := vt_cat_cv ad x.2
    simp only [Bool.and_eq_true, Bool.not_eq_true', beq_eq_false_iff_ne, Bool.and_eq_false_iff]
    refine ⟨b1, b2 rfl, ?_⟩
    by_cases e : x.1 + 1 = i
    · right
      intro hz
      rw [hc] at hz
      cases hx2 : vt_is2 x.2
      · rw [hx2] at hz; cases hz
      · exact b3 ⟨e, hx2⟩
    · exact Or.inl e
-- ===== arrays =====
theorem vt_ar_spec {k : Nat} {f : Nat → Int → Prop} (h : vt_ar k f) : ∃ (kd : Nat) (n : Int), f kd n ∧ k ∈ vt_nm ∧ k ≠ 43 ∧ vt_kl k = (kd, n.toNat) ∧ (n.toNat : Int) = n ∧ n.toNat ≤ 1048576 := by
  unfold vt_ar at h
  split at h
  all_goals first
    | exact h.elim
    | exact ⟨_, _, h, by decide, by decide, rfl, rfl, by decide⟩
theorem vt_e_i {cA : Nat → ClassId} {ad : Nat → Nat} {S : SS} {B : SB} {k kd n : Nat} (h : k ≠ 43) (hk : vt_kl k = (kd, n)) (h3 : kd ≠ 3) : vt_e cA ad S B k = .inl (cA kd, n, .inl (fun j => Int32.ofInt (S k (j : Int)))) := by
  unfold vt_e
  rw [if_neg h, hk, if_neg h3]
theorem vt_e_l {cA : Nat → ClassId} {ad : Nat → Nat} {S : SS} {B : SB} {k n : Nat} (h : k ≠ 43) (hk : vt_kl k = (3, n)) : vt_e cA ad S B k = .inl (cA 3, n, .inr (.inl (fun j => B k (j : Int)))) := by
  unfold vt_e
  rw [if_neg h, hk, if_pos rfl]
theorem vt_upd {S : SS} {k : Nat} {i v : Int} {j : Nat} (hj : (j : Int) = i) : upd (fun (q : Nat) => Int32.ofInt (S k (q : Int))) j (Int32.ofInt v) = fun (q : Nat) => Int32.ofInt (vt_up S k i v k (q : Int)) := by
  funext q
  unfold upd
  by_cases h : q = j
  · subst h
    rw [if_pos rfl]
    exact congrArg Int32.ofInt (by rw [vt_up_at]; exact (if_pos hj).symm)
  · rw [if_neg h]
    exact congrArg Int32.ofInt (vt_up_off (by omega)).symm
theorem vt_updB {B : SB} {k : Nat} {i : Int} {v : Int64} {j : Nat} (hj : (j : Int) = i) : vp_updL (fun (q : Nat) => B k (q : Int)) j v = fun (q : Nat) => vt_ub B k i v k (q : Int) := by
  funext q
  unfold vp_updL
  by_cases h : q = j
  · subst h
    rw [if_pos rfl, vt_ub_at]
    exact (if_pos hj).symm
  · rw [if_neg h, vt_ub_at]
    exact (if_neg (by omega)).symm
-- ===== the judgement =====
abbrev vt_X := Program × Launch × Env × State × MethodId × Array Value × List Frame × Method × Code × va_G × (Nat → ClassId) × (Nat → Nat)
def vt_J (mt : Nat) (Post : vt_Po) (X : vt_X) (pc : Nat) (L : vt_L) (st : List AV) (S : SS) (B : SB) : Prop := match X with
  | (p, l, e, s, m, args, below, meth, c, D, cA, ad) => ∀ (H : Heap) (locs : List Loc) (ls : Array Slot), va_P D vt_cl (vt_w cA ad S B) H → va_S (vt_A ad) s.heap H locs → lv_has ls (vt_n mt) (vt_lm ad L) →
    W p l e (vt_rm (vt_lv mt)) s m args below meth c H locs 0 0 (MQ below (vt_Q D cA ad Post) args s 0 0 (vt_A ad)) (F0 m pc ls (st.map (cv ad)))
def vt_F (mt : Nat) (X : vt_X) : Prop := match X with
  | (p, l, e, s, m, args, below, meth, c, D, cA, ad) => p.tables.exec = Jvm.exec ∧ c.code = vt_c mt ∧ meth.sig.returnType = vt_r mt ∧ c.maxLocals = vt_n mt ∧ s.vm.findClass RX3 = some m.cls ∧ (∀ w ∈ lw_all, w.before args s = true) ∧ meth.locks = false ∧ va_K D vt_cl (vt_ty cA) s ∧ vt_ap ad
theorem vt_J.sub {mt : Nat} {Post : vt_Po} {X : vt_X} {pc : Nat} {L L' : vt_L} {st : List AV} {S : SS} {B : SB} (h : vt_J mt Post X pc L' st S B) (hs : ∀ q ∈ L', q ∈ L) : vt_J mt Post X pc L st S B := by
  obtain ⟨p, l, e, s, m, args, below, meth, c, D, cA, ad⟩ := X
  intro H locs ls hP hS hl
  exact h H locs ls hP hS (vt_lm_sub hl hs)
