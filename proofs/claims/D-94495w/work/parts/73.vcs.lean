/-! VC: the judgement, what the tables say, the world's cells -/
set_option maxRecDepth 100000
abbrev vc_X := Program × Launch × Env × State × MethodId × Array Value × List Frame × Method × Code × va_G × (Nat → ClassId) × List Nat × Nat × (Int → Int) × Nat × Nat × Nat
def vc_Hp (D : va_G) (cA : Nat → ClassId) (Lw0 : List Nat) (sz : Nat) (s : State) (z : Int → Int) (Lw : List Nat) (S : SS) (B : SB) (H : Heap) (locs : List Loc) : Prop := va_P D vc_cl (vc_w cA Lw S B) H ∧ va_D (vc_A Lw0 sz) (vc_w cA Lw S B) ∧ va_S (vc_A Lw0 sz) s.heap H locs ∧ vc_gr Lw0 sz Lw ∧ S 0 = z
def vc_lm (L : vt_L) : List (Nat × Value) := L.map (fun q => (q.1, cw q.2))
def vc_J (mt : Nat) (Post : vc_Po) (X : vc_X) (pc : Nat) (L : vt_L) (st : List AV) (Lw : List Nat) (S : SS) (B : SB) (cc sl : Nat) : Prop := match X with
  | (p, l, e, s, m, args, below, meth, c, D, cA, Lw0, sz, z, d, mc, ms) => ∀ (H : Heap) (locs : List Loc) (ls : Array Slot), vc_Hp D cA Lw0 sz s z Lw S B H locs → lv_has ls (vc_n mt) (vc_lm L) →
    W p l e (vc_rm d mc ms) s m args below meth c H locs cc sl (vx_Q below (vc_Q D cA Lw0 sz z Post) args s mc ms (vc_A Lw0 sz)) (F0 m pc ls (st.map cw))
/-- handlers of a method: none but for two -/
def vc_hd (mt : Nat) : List (Nat × Nat × Nat × Nat) := []
def vc_F (mt : Nat) (X : vc_X) : Prop := match X with
  | (p, l, e, s, m, args, below, meth, c, D, cA, Lw0, sz, z, d, mc, ms) => p.tables.exec = Jvm.exec ∧ c.code = vc_c mt ∧ meth.sig.returnType = vc_rt mt ∧ c.maxLocals = vc_n mt ∧ s.vm.findClass (vc_o mt) = some m.cls ∧ (∀ w ∈ lw_all, w.before args s = true) ∧ meth.locks = false ∧ va_K D vc_cl (vc_ty cA) s ∧ vc_sf s ∧ s.heap.size = sz ∧ vc_cn z (vc_A Lw0 sz) s s.heap ∧ (∀ x ∈ c.exceptionTable.toList, False) ∧ meth.name = (vc_y mt).name
-- ===== locals =====
theorem vc_lm_get {L : vt_L} {ls : Array Slot} {nL i : Nat} {v : AV} (h : lv_has ls nL (vc_lm L)) (hm : (i, v) ∈ L) : ls[i]? = some (.val (cw v)) := h.2.2 (i, cw v) (List.mem_map.mpr ⟨(i, v), hm, rfl⟩)
theorem vc_lm_sub {L L' : vt_L} {ls : Array Slot} {nL : Nat} (h : lv_has ls nL (vc_lm L)) (hs : ∀ q ∈ L', q ∈ L) : lv_has ls nL (vc_lm L') := by
  refine ⟨h.1, h.2.1, fun q hq => ?_⟩
  obtain ⟨x, hx, rfl⟩ := List.mem_map.mp hq
  exact vc_lm_get h (hs x hx)
theorem vc_lm_set1 {L L' : vt_L} {ls : Array Slot} {nL i : Nat} {v : AV} (h : lv_has ls nL ((i, cw v) :: (vc_lm L).filter (fun q => !(q.1 == i) && !(q.1 + 1 == i && q.2.category == 2)))) (hs : ∀ q ∈ L', q = (i, v) ∨ (q ∈ L ∧ vt_bad i false q = false)) : lv_has ls nL (vc_lm L') := by
  refine ⟨h.1, h.2.1, fun q hq => ?_⟩
  obtain ⟨x, hx, rfl⟩ := List.mem_map.mp hq
  apply h.2.2
  rcases hs x hx with e | ⟨h1, h2⟩
  · rw [e]; exact List.mem_cons_self
  · apply List.mem_cons_of_mem
    rw [List.mem_filter]
    refine ⟨List.mem_map.mpr ⟨x, h1, rfl⟩, ?_⟩
    obtain ⟨b1, -, b3⟩ := vt_bad_of h2
    have hc := vc_cat_cw x.2
    simp only [Bool.and_eq_true, Bool.not_eq_true', beq_eq_false_iff_ne, Bool.and_eq_false_iff]
    refine ⟨b1, ?_⟩
    by_cases e : x.1 + 1 = i
    · right
      intro hz
      rw [hc] at hz
      cases hx2 : vt_is2 x.2
      · rw [hx2] at hz; cases hz
      · exact b3 ⟨e, hx2⟩
    · exact Or.inl e
theorem vc_lm_set2 {L L' : vt_L} {ls : Array Slot} {nL i : Nat} {v : AV} (h : lv_has ls nL ((i, cw v) :: (vc_lm L).filter (fun q => !(q.1 == i) && (!(q.1 == i + 1) && !(q.1 + 1 == i && q.2.category == 2))))) (hs : ∀ q ∈ L', q = (i, v) ∨ (q ∈ L ∧ vt_bad i true q = false)) : lv_has ls nL (vc_lm L') := by
  refine ⟨h.1, h.2.1, fun q hq => ?_⟩
  obtain ⟨x, hx, rfl⟩ := List.mem_map.mp hq
  apply h.2.2
  rcases hs x hx with e | ⟨h1, h2⟩
  · rw [e]; exact List.mem_cons_self
  · apply List.mem_cons_of_mem
    rw [List.mem_filter]
    refine ⟨List.mem_map.mpr ⟨x, h1, rfl⟩, ?_⟩
    obtain ⟨b1, b2, b3⟩ := vt_bad_of h2
    have hc := vc_cat_cw x.2
    simp only [Bool.and_eq_true, Bool.not_eq_true', beq_eq_false_iff_ne, Bool.and_eq_false_iff]
    refine ⟨b1, b2 rfl, ?_⟩
    by_cases e : x.1 + 1 = i
    · right
      intro hz
      rw [hc] at hz
      cases hx2 : vt_is2 x.2
      · rw [hx2] at hz; cases hz
      · exact b3 ⟨e, hx2⟩
    · exact Or.inl e
theorem vc_cat1 {v : AV} (h : vt_is2 v = false) : (cw v).category = 1 := by
  rw [vc_cat_cw, h]; rfl
theorem vc_cat_sum : ∀ st : List AV, ((st.map cw).map fun v => v.category).sum = vt_cat st
  | [] => rfl
  | .inl _ :: r => by
    show 1 + ((r.map cw).map fun v => v.category).sum = vt_cat r + 1
    rw [vc_cat_sum r, Nat.add_comm]
  | .inr (.inl _) :: r => by
    show 2 + ((r.map cw).map fun v => v.category).sum = vt_cat r + 2
    rw [vc_cat_sum r, Nat.add_comm]
  | .inr (.inr k) :: r => by
    have h : (cw (.inr (.inr k))).category = 1 := vc_cat1 rfl
    show (cw (.inr (.inr k))).category + ((r.map cw).map fun v => v.category).sum = vt_cat r + 1
    rw [vc_cat_sum r, h, Nat.add_comm]
theorem vc_rs_map (r : Option AV) (st : List AV) : (vt_rs r st).map cw = (r.map cw).toList ++ st.map cw := by
  cases r <;> rfl
theorem vc_J.sub {mt : Nat} {Post : vc_Po} {X : vc_X} {pc : Nat} {L L' : vt_L} {st : List AV} {Lw : List Nat} {S : SS} {B : SB} {cc sl : Nat} (h : vc_J mt Post X pc L' st Lw S B cc sl) (hs : ∀ q ∈ L', q ∈ L) : vc_J mt Post X pc L st Lw S B cc sl := by
  obtain ⟨p, l, e, s, m, args, below, meth, c, D, cA, Lw0, sz, z, d, mc, ms⟩ := X
  intro H locs ls hw hl
  exact h H locs ls hw (vc_lm_sub hl hs)
-- ===== the world's cells =====
theorem vc_pl_at {L : List Nat} {f : Nat → va_E} {i : Nat} {q : Nat × va_E} (h : (va_pl L f)[i]? = some q) : L[i]? = some q.1 ∧ q.2 = f q.1 := by
  unfold va_pl at h
  rw [List.getElem?_map] at h
  cases hi : L[i]? with
  | none => rw [hi] at h; cases h
  | some a => rw [hi] at h; cases h; exact ⟨rfl, rfl⟩
theorem vc_D_of {A : Nat → Prop} {L : List Nat} {f : Nat → va_E} (hn : vc_nd L) (hA : ∀ a ∈ L, A a) : va_D A (va_pl L f) := by
  refine ⟨fun i j p q hi hj hpq => ?_, fun k q hk => ?_⟩
  · have h1 := (vc_pl_at hi).1
    have h2 := (vc_pl_at hj).1
    rw [← hpq] at h2
    exact hn i j _ h1 h2
  · exact hA _ (List.mem_of_getElem? (vc_pl_at hk).1)
theorem vc_D_nd {A : Nat → Prop} {L : List Nat} {f : Nat → va_E} (h : va_D A (va_pl L f)) : vc_nd L := by
  intro i j a hi hj
  refine h.1 i j (a, f a) (a, f a) ?_ ?_ rfl
  · unfold va_pl; rw [List.getElem?_map, hi]; rfl
  · unfold va_pl; rw [List.getElem?_map, hj]; rfl
theorem vc_D_A {A : Nat → Prop} {L : List Nat} {f : Nat → va_E} (h : va_D A (va_pl L f)) {a : Nat} (ha : a ∈ L) : A a := by
  obtain ⟨i, hi⟩ := List.getElem?_of_mem ha
  refine h.2 i (a, f a) ?_
  unfold va_pl; rw [List.getElem?_map, hi]; rfl
theorem vc_plg {L : List Nat} {f : Nat → va_E} {a : Nat} (h : a ∈ L) : ∃ k : Nat, (va_pl L f)[k]? = some (a, f a) := by
  obtain ⟨i, hi⟩ := List.getElem?_of_mem h
  exact ⟨i, by unfold va_pl; rw [List.getElem?_map, hi]; rfl⟩
theorem vc_set {A : Nat → Prop} {L : List Nat} {f g : Nat → va_E} {a k : Nat} {e : va_E} (hD : va_D A (va_pl L f)) (h : a ∈ L) (hk : (va_pl L f)[k]? = some (a, f a)) (he : e = g a) (hg : ∀ b, b ≠ a → f b = g b) : (va_pl L f).set k (a, e) = va_pl L g := by
  have h1 := va_pl_set (X := []) (e := e) hD h hk
  rw [List.nil_append, List.nil_append] at h1
  rw [h1]
  refine va_pl_congr (fun b => ?_)
  by_cases hb : b = a
  · subst hb; rw [va_up_self]; exact he
  · rw [va_up_ne _ _ hb]; exact hg b hb
theorem vc_e_obj {cA : Nat → ClassId} {S : SS} {B : SB} {a c : Nat} (h : S (a + 1) (-2) = (c : Int)) (hc : c < 100) : vc_e cA S B a = .inr (c, vc_fs c (S (a + 1))) := by
  unfold vc_e
  rw [h, if_pos (by omega), Int.toNat_natCast]
theorem vc_e_arr {cA : Nat → ClassId} {S : SS} {B : SB} {a c : Nat} (h : S (a + 1) (-2) = (c : Int)) (hc : 100 ≤ c) : vc_e cA S B a = .inl (cA (c - 100), vc_ac S B (a + 1)) := by
  unfold vc_e
  rw [h, if_neg (by omega), Int.toNat_natCast]
theorem vc_fs_at {c k : Nat} {f : Int → Int} (h : k < vc_N c) : (vc_fs c f)[k]? = some (vc_fv c f k) := by
  unfold vc_fs
  rw [List.getElem?_map, List.getElem?_range h]
  rfl
theorem vc_fs_len {c : Nat} {f : Int → Int} : (vc_fs c f).length = vc_N c := by
  unfold vc_fs
  rw [List.length_map, List.length_range]
theorem vc_fs_set {c k : Nat} {f g : Int → Int} {v : Value} (h : k < vc_N c) (hv : v = vc_fv c g k) (hg : ∀ i : Int, i ≠ k → g i = f i) : (vc_fs c f).set k v = vc_fs c g := by
  apply List.ext_getElem?
  intro i
  by_cases hi : i = k
  · subst hi
    rw [List.getElem?_set_self (by rw [vc_fs_len]; exact h), vc_fs_at h, hv]
  · rw [List.getElem?_set_ne (Ne.symm hi)]
    by_cases hl : i < vc_N c
    · rw [vc_fs_at hl, vc_fs_at hl]
      unfold vc_fv
      rw [hg (i : Int) (by omega)]
    · rw [List.getElem?_eq_none (by rw [vc_fs_len]; omega), List.getElem?_eq_none (by rw [vc_fs_len]; omega)]
/-- a write into one cell -/
theorem vc_e_up {cA : Nat → ClassId} {S : SS} {B : SB} {a b : Nat} {i v : Int} (h : b ≠ a) : vc_e cA S B b = vc_e cA (vt_up S (a + 1) i v) B b := by
  have e : vt_up S (a + 1) i v (b + 1) = S (b + 1) := vt_up_ne (by omega)
  unfold vc_e vc_ac
  rw [e]
theorem vc_e_ub {cA : Nat → ClassId} {S : SS} {B : SB} {a b : Nat} {i : Int} {v : Int64} (h : b ≠ a) : vc_e cA S B b = vc_e cA S (vt_ub B (a + 1) i v) b := by
  have e : vt_ub B (a + 1) i v (b + 1) = B (b + 1) := vt_ub_ne (by omega)
  unfold vc_e vc_ac
  rw [e]
theorem vc_Hp.put {D : va_G} {cA : Nat → ClassId} {Lw0 : List Nat} {sz : Nat} {s : State} {z : Int → Int} {Lw : List Nat} {S S' : SS} {B B' : SB} {H H1 : Heap} {locs locs1 : List Loc} (hw : vc_Hp D cA Lw0 sz s z Lw S B H locs) {ws : va_W} (h1 : va_P D vc_cl ws H1) (h2 : va_D (vc_A Lw0 sz) ws) (h3 : va_S (vc_A Lw0 sz) s.heap H1 locs1) (he : ws = vc_w cA Lw S' B') (h0 : S' 0 = S 0) : vc_Hp D cA Lw0 sz s z Lw S' B' H1 locs1 := by
  subst he
  exact ⟨h1, h2, h3, hw.2.2.2.1, h0.trans hw.2.2.2.2⟩
