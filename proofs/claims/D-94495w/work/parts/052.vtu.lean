/-! VT: the walk is sound, instruction by instruction -/
set_option maxRecDepth 100000
theorem vt_pi_spec {st : List AV} {k : Int → List AV → Prop} (h : vt_pi st k) : ∃ z r, st = .inl z :: r ∧ k z r := by
  unfold vt_pi at h
  split at h
  · exact ⟨_, _, rfl, h⟩
  · exact h.elim
theorem vt_pl_spec {st : List AV} {k : Int64 → List AV → Prop} (h : vt_pl st k) : ∃ z r, st = .inr (.inl z) :: r ∧ k z r := by
  unfold vt_pl at h
  split at h
  · exact ⟨_, _, rfl, h⟩
  · exact h.elim
theorem vt_pr_spec {st : List AV} {k : Nat → List AV → Prop} (h : vt_pr st k) : ∃ z r, st = .inr (.inr z) :: r ∧ k z r := by
  unfold vt_pr at h
  split at h
  · exact ⟨_, _, rfl, h⟩
  · exact h.elim
theorem vt_p1_spec {st : List AV} {k : AV → List AV → Prop} (h : vt_p1 st k) : ∃ z r, st = z :: r ∧ vt_is2 z = false ∧ k z r := by
  unfold vt_p1 at h
  split at h
  · exact ⟨_, _, rfl, rfl, h⟩
  · exact ⟨_, _, rfl, rfl, h⟩
  · exact h.elim
theorem vt_cat1 {ad : Nat → Nat} {v : AV} (h : vt_is2 v = false) : (cv ad v).category = 1 := by
  rw [vt_cat_cv, h]; rfl
theorem vt_cat_sum (ad : Nat → Nat) : ∀ st : List AV, ((st.map (cv ad)).map fun v => v.category).sum = vt_cat st
  | [] => rfl
  | .inl _ :: r => by
    show 1 + ((r.map (cv ad)).map fun v => v.category).sum = vt_cat r + 1
    rw [vt_cat_sum ad r, Nat.add_comm]
  | .inr (.inl _) :: r => by
    show 2 + ((r.map (cv ad)).map fun v => v.category).sum = vt_cat r + 2
    rw [vt_cat_sum ad r, Nat.add_comm]
  | .inr (.inr _) :: r => by
    show 1 + ((r.map (cv ad)).map fun v => v.category).sum = vt_cat r + 1
    rw [vt_cat_sum ad r, Nat.add_comm]
theorem vt_args_spec : ∀ (n : Nat) (st acc : List AV) (k : List AV → List AV → Prop), vt_args n st acc k → ∃ as r, st = as.reverse ++ r ∧ as.length = n ∧ k (as ++ acc) r
  | 0, st, acc, k, h => ⟨[], st, rfl, rfl, h⟩
  | n + 1, v :: st, acc, k, h => by
    obtain ⟨as, r, h1, h2, h3⟩ := vt_args_spec n st (v :: acc) k h
    refine ⟨as ++ [v], r, ?_, ?_, ?_⟩
    · rw [List.reverse_append, h1]; rfl
    · rw [List.length_append, h2]; rfl
    · rw [List.append_assoc]; exact h3
  | n + 1, [], acc, k, h => h.elim
theorem vt_sw_spec {x : Int} {K : Int → Prop} : ∀ (l : List Int) (lo : Int), vt_sw x K lo l → ∀ (j : Nat) (t : Int), l[j]? = some t → x = lo + (j : Int) → K t
  | [], _, _, j, t, h, _ => by simp at h
  | a :: l, lo, h, 0, t, ht, e => by
    cases ht
    exact h.1 (by omega)
  | a :: l, lo, h, j + 1, t, ht, e => vt_sw_spec l (lo + 1) h.2 j t (by simpa using ht) (by omega)
section VTS
variable {p : Program} {l : Launch} {e : Env} {s : State} {m : MethodId} {args : Array Value} {below : List Frame} {meth : Method} {c : Code} {D : va_G} {cA : Nat → ClassId} {ad : Nat → Nat} {mt : Nat} {Post : vt_Po}
theorem vt_call {R : Room} {H : Heap} {locs : List Loc} {Q : State → Prop} {pc : Nat} {ls : Array Slot} {rest st0 : List Value} {a : Array Value} {P' : vt_Po} (hr : va_Run p l e R s m args below meth c H locs 0 0 0 0 (F0 m pc ls st0) rest (vt_Q D cA ad P' a) (vt_A ad)) (hS : va_S (vt_A ad) s.heap H locs)
    (kk : ∀ (r : Option AV) (S : SS) (B : SB) (H1 : Heap) (locs1 : List Loc), P' r S B → va_P D vt_cl (vt_w cA ad S B) H1 → va_S (vt_A ad) s.heap H1 locs1 → W p l e R s m args below meth c H1 locs1 0 0 Q (F0 m (pc + 3) ls ((r.map (cv ad)).toList ++ rest))) : W p l e R s m args below meth c H locs 0 0 Q (F0 m pc ls st0) := by
  intro T hT X
  obtain ⟨v, st₀, t, T', L, h0, X', hL, e1, e2, ⟨⟨r, S, B, hv, hp, hb⟩, hz, hk⟩, st⟩ := hr T hT X
  cases hv
  rw [h0] at hz hk
  obtain ⟨t2, a1, b1⟩ := kk r S B T'.heap (locs ++ L) hp (by rw [e1]; exact hb.1)
    ⟨Nat.le_trans hS.1 (by rw [e1]; exact hz), fun q h1 h2 => by rw [e1, hk q (Nat.lt_of_lt_of_le h1 hS.1) h2]; exact hS.2.1 q h1 h2, fun q hq => by
      rcases List.mem_append.mp hq with h | h
      · exact hS.2.2 q h
      · exact hL q h⟩ T' rfl X'
  exact ⟨t2, st t2 a1, b1⟩
theorem vt_rs_map (r : Option AV) (st : List AV) : (vt_rs r st).map (cv ad) = (r.map (cv ad)).toList ++ st.map (cv ad) := by
  cases r <;> rfl
theorem vt_blind {as : List Value} {S : SS} {B : SB} : FrameBlind (va_Pc as (vt_In D cA ad S B)) := fun a U g mk q => by
  obtain ⟨q0, qP, qK, qA⟩ := q
  exact ⟨q0, qP, va_K.moved (u := U) (U := U.calling g mk a) (Vm.Alike.refl U.vm) qK, qA⟩
theorem vt_fs_at {S : SS} {k : Nat} (h : k < 43) : (vt_fs ad S)[k]? = some (if (vt_kl k).1 = 9 then Value.int (Int32.ofInt (S 43 (k : Int))) else Value.ref (ad k)) := by
  unfold vt_fs
  rw [List.getElem?_map, List.getElem?_range h]
  rfl
theorem vt_at0 {S : SS} {B : SB} : (vt_w cA ad S B)[0]? = some (ad 43, .inr (0, vt_fs ad S)) := by
  have h := vt_at (cA := cA) (ad := ad) (S := S) (B := B) (k := 43) (by decide)
  exact h
theorem vt_fs_set {S : SS} {k : Nat} {v : Int} (h : k < 43) (hk : (vt_kl k).1 = 9) : (vt_fs ad S).set k (.int (Int32.ofInt v)) = vt_fs ad (vt_up S 43 (k : Int) v) := by
  apply List.ext_getElem?
  intro i
  by_cases hi : i = k
  · subst hi
    rw [List.getElem?_set_self (by simpa [vt_fs] using h), vt_fs_at h, if_pos hk, vt_up_self]
  · rw [List.getElem?_set_ne (Ne.symm hi)]
    by_cases h43 : i < 43
    · rw [vt_fs_at h43, vt_fs_at h43, vt_up_off (by omega)]
    · rw [List.getElem?_eq_none (by simp [vt_fs]; omega), List.getElem?_eq_none (by simp [vt_fs]; omega)]
/-- the simple instructions -/
theorem vt_s1_ok (hX : vt_F mt (p, l, e, s, m, args, below, meth, c, D, cA, ad)) {full : List (Nat × vt_I)} (hfull : vt_tok (vt_c mt) full) {G : vt_G}
    (hG : ∀ is L st S B, G is L st S B → is ≠ [] ∧ (vt_tok (vt_c mt) is → vt_J mt Post (p, l, e, s, m, args, below, meth, c, D, cA, ad) (vt_hd is) L st S B))
    {pc : Nat} {i : Instr} {is : List (Nat × vt_I)} (hok : vt_ok1 (vt_c mt) pc i (vt_hd is)) (his : vt_tok (vt_c mt) is) {L : vt_L} {st : List AV} {S : SS} {B : SB} (h : vt_s1 (vt_n mt) (vt_r mt) full Post G i is L st S B) :
    vt_J mt Post (p, l, e, s, m, args, below, meth, c, D, cA, ad) pc L st S B := by
  obtain ⟨hx, hb, hr, hml, hown, hts, hlocks, hK, hap⟩ := hX
  have go : ∀ {L st S B}, G is L st S B → vt_J mt Post (p, l, e, s, m, args, below, meth, c, D, cA, ad) (vt_hd is) L st S B := fun h => (hG _ _ _ _ _ h).2 his
  have jump : ∀ {t : Nat} {L st S B}, G (vt_seek t full) L st S B → vt_J mt Post (p, l, e, s, m, args, below, meth, c, D, cA, ad) t L st S B := by
    intro t L st S B h
    have h1 := hG _ _ _ _ _ h
    have h2 := h1.2 (vt_seek_tok t full hfull)
    rw [vt_seek_hd t full h1.1] at h2
    exact h2
  intro H locs ls hP hS hl
  cases i
  case sipush z => exact hok hx hb hown hts (go h H locs ls hP hS hl)
  case iload k =>
    obtain ⟨v, hv, h⟩ := vt_lkK_spec h
    split at h
    · have hg := vt_lm_get hl hv
      have K := go h H locs ls hP hS hl
      rcases hok with ⟨f, d, hf, hn⟩ | ⟨d, hn⟩
      · rw [← hn] at K
        exact lv_iload_n hx hb d hf hg K
      · rw [← hn] at K
        exact lv_iload hx hb d hg K
    · exact h.elim
  case lload k =>
    obtain ⟨v, hv, h⟩ := vt_lkK_spec h
    split at h
    · have hg := vt_lm_get hl hv
      have K := go h H locs ls hP hS hl
      rcases hok with ⟨f, d, hf, hn⟩ | ⟨d, hn⟩
      · rw [← hn] at K
        exact lv_lload_n hx hb d hf hg K
      · rw [← hn] at K
        exact lv_lload hx hb d hg K
    · exact h.elim
  case aload k =>
    obtain ⟨v, hv, h⟩ := vt_lkK_spec h
    split at h
    · have hg := vt_lm_get hl hv
      have K := go h H locs ls hP hS hl
      rcases hok with ⟨f, d, hf, hn⟩ | ⟨d, hn⟩
      · rw [← hn] at K
        exact lv_aload_n hx hb d hf hg K
      · rw [← hn] at K
        exact lv_aload hx hb d hg K
    · exact h.elim
  case istore k =>
    obtain ⟨z, r1, e1, h1⟩ := vt_pi_spec h
    subst e1
    split at h1
    · rename_i hk
      have hk : k < vt_n mt := Nat.le_of_ble_eq_true hk
      obtain ⟨L', h1, h2⟩ := vt_insK_spec _ _ _ h1
      rcases hok with ⟨f, d, hf, hn⟩ | ⟨d, hn⟩
      · refine lv_istore_n hx hb d hf hl hk rfl (fun ls' hl' => ?_)
        have K := go h1 H locs ls' hP hS (vt_lm_set1 (v := .inl z) hl' h2)
        rw [← hn] at K
        exact K
      · refine lv_istore hx hb d hl hk rfl (fun ls' hl' => ?_)
        have K := go h1 H locs ls' hP hS (vt_lm_set1 (v := .inl z) hl' h2)
        rw [← hn] at K
        exact K
    · exact h1.elim
  case lstore k =>
    obtain ⟨z, r1, e1, h1⟩ := vt_pl_spec h
    subst e1
    split at h1
    · rename_i hk
      have hk : k + 1 < vt_n mt := Nat.le_of_ble_eq_true hk
      obtain ⟨L', h1, h2⟩ := vt_insK_spec _ _ _ h1
      rcases hok with ⟨f, d, hf, hn⟩ | ⟨d, hn⟩
      · refine lv_lstore_n hx hb d hf hl hk rfl (fun ls' hl' => ?_)
        have K := go h1 H locs ls' hP hS (vt_lm_set2 (v := .inr (.inl z)) hl' h2)
        rw [← hn] at K
        exact K
      · refine lv_lstore hx hb d hl hk rfl (fun ls' hl' => ?_)
        have K := go h1 H locs ls' hP hS (vt_lm_set2 (v := .inr (.inl z)) hl' h2)
        rw [← hn] at K
        exact K
    · exact h1.elim
  case iinc k n =>
    obtain ⟨v, hv, h⟩ := vt_lkK_spec h
    split at h
    · rename_i z
      split at h
      · rename_i hk
        have hk : k < vt_n mt := Nat.le_of_ble_eq_true hk
        obtain ⟨L', h1, h2⟩ := vt_insK_spec _ _ _ h
        obtain ⟨d, hn⟩ := hok
        obtain ⟨j, hj⟩ := List.getElem?_of_mem (List.mem_map.mpr ⟨(k, .inl z), hv, rfl⟩ : (k, cv ad (.inl z)) ∈ vt_lm ad L)
        refine lv_iinc hx hb d hl hj (Int32.ofInt_add z n).symm hk rfl (fun ls' hl' => ?_)
        have K := go h1 H locs ls' hP hS (vt_lm_set1 (v := .inl (z + n)) hl' h2)
        rw [← hn] at K
        exact K
      · exact h.elim
    · exact h.elim
  case iadd =>
    obtain ⟨y, r1, e1, h1⟩ := vt_pi_spec h
    obtain ⟨x, r2, e2, h2⟩ := vt_pi_spec h1
    subst e2
    subst e1
    have K := go h2 H locs ls hP hS hl
    rw [← hok.2] at K
    refine lv_iadd hx hb hok.1 ?_
    rw [← Int32.ofInt_add]
    exact K
  case isub =>
    obtain ⟨y, r1, e1, h1⟩ := vt_pi_spec h
    obtain ⟨x, r2, e2, h2⟩ := vt_pi_spec h1
    subst e2
    subst e1
    have K := go h2 H locs ls hP hS hl
    rw [← hok.2] at K
    refine lv_isub hx hb hok.1 ?_
    rw [← Int32.ofInt_sub]
    exact K
  case imul =>
    obtain ⟨y, r1, e1, h1⟩ := vt_pi_spec h
    obtain ⟨x, r2, e2, h2⟩ := vt_pi_spec h1
    subst e2
    subst e1
    have K := go h2 H locs ls hP hS hl
    rw [← hok.2] at K
    refine lv_imul hx hb hok.1 ?_
    rw [← Int32.ofInt_mul]
    exact K
  case iand =>
    obtain ⟨y, r1, e1, h1⟩ := vt_pi_spec h
    obtain ⟨x, r2, e2, h2⟩ := vt_pi_spec h1
    subst e2
    subst e1
    have K := go h2 H locs ls hP hS hl
    rw [← hok.2] at K
    refine lv_iand hx hb hok.1 ?_
    rw [← Int32.ofInt_toInt (Int32.ofInt x &&& Int32.ofInt y)]
    exact K
  case ior =>
    obtain ⟨y, r1, e1, h1⟩ := vt_pi_spec h
    obtain ⟨x, r2, e2, h2⟩ := vt_pi_spec h1
    subst e2
    subst e1
    have K := go h2 H locs ls hP hS hl
    rw [← hok.2] at K
    refine lv_ior hx hb hok.1 ?_
    rw [← Int32.ofInt_toInt (Int32.ofInt x ||| Int32.ofInt y)]
    exact K
  case ixor =>
    obtain ⟨y, r1, e1, h1⟩ := vt_pi_spec h
    obtain ⟨x, r2, e2, h2⟩ := vt_pi_spec h1
    subst e2
    subst e1
    have K := go h2 H locs ls hP hS hl
    rw [← hok.2] at K
    refine lv_ixor hx hb hok.1 ?_
    rw [← Int32.ofInt_toInt (Int32.ofInt x ^^^ Int32.ofInt y)]
    exact K
  case ishl =>
    obtain ⟨y, r1, e1, h1⟩ := vt_pi_spec h
    obtain ⟨x, r2, e2, h2⟩ := vt_pi_spec h1
    subst e2
    subst e1
    have K := go h2.2 H locs ls hP hS hl
    rw [← hok.2] at K
    refine lv_ishl hx hb hok.1 ?_
    rw [vt_shl h2.1.1 h2.1.2]
    exact K
  case ishr =>
    obtain ⟨y, r1, e1, h1⟩ := vt_pi_spec h
    obtain ⟨x, r2, e2, h2⟩ := vt_pi_spec h1
    subst e2
    subst e1
    have K := go h2.2 H locs ls hP hS hl
    rw [← hok.2] at K
    refine lv_ishr hx hb hok.1 ?_
    rw [vt_shr h2.1.2.2 h2.1.1 h2.1.2.1]
    exact K
  case ladd =>
    obtain ⟨y, r1, e1, h1⟩ := vt_pl_spec h
    obtain ⟨x, r2, e2, h2⟩ := vt_pl_spec h1
    subst e2
    subst e1
    have K := go h2 H locs ls hP hS hl
    rw [← hok.2] at K
    exact lv_ladd hx hb hok.1 K
  case lsub =>
    obtain ⟨y, r1, e1, h1⟩ := vt_pl_spec h
    obtain ⟨x, r2, e2, h2⟩ := vt_pl_spec h1
    subst e2
    subst e1
    have K := go h2 H locs ls hP hS hl
    rw [← hok.2] at K
    exact lv_lsub hx hb hok.1 K
  case lmul =>
    obtain ⟨y, r1, e1, h1⟩ := vt_pl_spec h
    obtain ⟨x, r2, e2, h2⟩ := vt_pl_spec h1
    subst e2
    subst e1
    have K := go h2 H locs ls hP hS hl
    rw [← hok.2] at K
    exact lv_lmul hx hb hok.1 K
  case land =>
    obtain ⟨y, r1, e1, h1⟩ := vt_pl_spec h
    obtain ⟨x, r2, e2, h2⟩ := vt_pl_spec h1
    subst e2
    subst e1
    have K := go h2 H locs ls hP hS hl
    rw [← hok.2] at K
    exact lv_land hx hb hok.1 K
  case lor =>
    obtain ⟨y, r1, e1, h1⟩ := vt_pl_spec h
    obtain ⟨x, r2, e2, h2⟩ := vt_pl_spec h1
    subst e2
    subst e1
    have K := go h2 H locs ls hP hS hl
    rw [← hok.2] at K
    exact lv_lor hx hb hok.1 K
  case ldiv =>
    obtain ⟨y, r1, e1, h1⟩ := vt_pl_spec h
    obtain ⟨x, r2, e2, h2⟩ := vt_pl_spec h1
    subst e2
    subst e1
    have K := go h2.2 H locs ls hP hS hl
    rw [← hok.2] at K
    exact lv_ldiv hx hb hok.1 h2.1 K
  case lrem =>
    obtain ⟨y, r1, e1, h1⟩ := vt_pl_spec h
    obtain ⟨x, r2, e2, h2⟩ := vt_pl_spec h1
    subst e2
    subst e1
    have K := go h2.2 H locs ls hP hS hl
    rw [← hok.2] at K
    exact lv_lrem hx hb hok.1 h2.1 K
  case lshl =>
    obtain ⟨y, r1, e1, h1⟩ := vt_pi_spec h
    obtain ⟨x, r2, e2, h2⟩ := vt_pl_spec h1
    subst e2
    subst e1
    have K := go h2 H locs ls hP hS hl
    rw [← hok.2] at K
    exact lv_lshl hx hb hok.1 rfl K
  case lcmp =>
    obtain ⟨y, r1, e1, h1⟩ := vt_pl_spec h
    obtain ⟨x, r2, e2, h2⟩ := vt_pl_spec h1
    subst e2
    subst e1
    have K := go h2 H locs ls hP hS hl
    rw [← hok.2] at K
    refine W.lcmp hx hb hok.1 ?_
    rw [vt_cmp_ok]
    exact K
  case i2l =>
    obtain ⟨z, r1, e1, h1⟩ := vt_pi_spec h
    subst e1
    have K := go h1.2 H locs ls hP hS hl
    rw [← hok.2] at K
    exact lv_i2l hx hb hok.1 (vt_i2l h1.1) K
  case l2i =>
    obtain ⟨z, r1, e1, h1⟩ := vt_pl_spec h
    subst e1
    have K := go h1 H locs ls hP hS hl
    rw [← hok.2] at K
    exact lv_l2i hx hb hok.1 (Int32.ofInt_toInt _).symm K
  case i2b =>
    obtain ⟨z, r1, e1, h1⟩ := vt_pi_spec h
    subst e1
    have K := go h1 H locs ls hP hS hl
    rw [← hok.2] at K
    exact lv_i2b hx hb hok.1 (Int32.ofInt_int8ToInt _).symm K
  case dup =>
    unfold vt_s1 at h
    dsimp only at h
    obtain ⟨z, r1, e1, hz, h1⟩ := vt_p1_spec h
    subst e1
    have K := go h1 H locs ls hP hS hl
    rw [← hok.2] at K
    exact lv_dup hx hb hok.1 (vt_cat1 hz) K
  case dup2 =>
    unfold vt_s1 at h
    dsimp only at h
    obtain ⟨z, r1, e1, hz, h1⟩ := vt_p1_spec h
    obtain ⟨y, r2, e2, hy, h2⟩ := vt_p1_spec h1
    subst e2
    subst e1
    have K := go h2 H locs ls hP hS hl
    rw [← hok.2] at K
    exact lv_dup2_11 hx hb hok.1 (vt_cat1 hz) (vt_cat1 hy) K
  case pop =>
    unfold vt_s1 at h
    dsimp only at h
    obtain ⟨z, r1, e1, hz, h1⟩ := vt_p1_spec h
    subst e1
    have K := go h1 H locs ls hP hS hl
    rw [← hok.2] at K
    exact lv_pop hx hb hok.1 (vt_cat1 hz) K
  case if_icmp cd t =>
    obtain ⟨y, r1, e1, h1⟩ := vt_pi_spec h
    obtain ⟨x, r2, e2, ⟨hx1, hy1⟩, h2⟩ := vt_pi_spec h1
    subst e2
    subst e1
    obtain ⟨off, d, ht, hn⟩ := hok
    cases cd
    · exact lv_icmp_eq hx hb d ht (fun z => jump (h2.1 ((vt_eqI hx1 hy1).mp z)) H locs ls hP hS hl) (fun z => by rw [hn]; exact go (h2.2 (fun e => z ((vt_eqI hx1 hy1).mpr e))) H locs ls hP hS hl)
    · exact lv_icmp_ne hx hb d ht (fun z => jump (h2.1 (fun e => z ((vt_eqI hx1 hy1).mpr e))) H locs ls hP hS hl) (fun z => by rw [hn]; exact go (h2.2 ((vt_eqI hx1 hy1).mp z)) H locs ls hP hS hl)
    · exact lv_icmp_lt hx hb d ht (fun z => jump (h2.1 ((vt_ltI hx1 hy1).mp z)) H locs ls hP hS hl) (fun z => by rw [hn]; exact go (h2.2 (Int.not_lt.mp fun e => z ((vt_ltI hx1 hy1).mpr e))) H locs ls hP hS hl)
    · exact lv_icmp_ge hx hb d ht (fun z => jump (h2.1 ((vt_leI hy1 hx1).mp z)) H locs ls hP hS hl) (fun z => by rw [hn]; exact go (h2.2 (Int.not_le.mp fun e => z ((vt_leI hy1 hx1).mpr e))) H locs ls hP hS hl)
    · exact lv_icmp_gt hx hb d ht (fun z => jump (h2.1 ((vt_ltI hy1 hx1).mp z)) H locs ls hP hS hl) (fun z => by rw [hn]; exact go (h2.2 (Int.not_lt.mp fun e => z ((vt_ltI hy1 hx1).mpr e))) H locs ls hP hS hl)
    · exact lv_icmp_le hx hb d ht (fun z => jump (h2.1 ((vt_leI hx1 hy1).mp z)) H locs ls hP hS hl) (fun z => by rw [hn]; exact go (h2.2 (Int.not_le.mp fun e => z ((vt_leI hx1 hy1).mpr e))) H locs ls hP hS hl)
  case ifCond cd t =>
    obtain ⟨x, r1, e1, hx1, h1⟩ := vt_pi_spec h
    subst e1
    obtain ⟨off, d, ht, hn⟩ := hok
    have hy1 : (-2147483648 : Int) ≤ 0 ∧ (0 : Int) ≤ 2147483647 := by decide
    cases cd
    · exact lv_if_eq hx hb d ht (fun z => jump (h1.1 ((vt_eqI hx1 hy1).mp z)) H locs ls hP hS hl) (fun z => by rw [hn]; exact go (h1.2 (fun e => z ((vt_eqI hx1 hy1).mpr e))) H locs ls hP hS hl)
    · exact lv_if_ne hx hb d ht (fun z => jump (h1.1 (fun e => z ((vt_eqI hx1 hy1).mpr e))) H locs ls hP hS hl) (fun z => by rw [hn]; exact go (h1.2 ((vt_eqI hx1 hy1).mp z)) H locs ls hP hS hl)
    · exact lv_if_lt hx hb d ht (fun z => jump (h1.1 ((vt_ltI hx1 hy1).mp z)) H locs ls hP hS hl) (fun z => by rw [hn]; exact go (h1.2 (Int.not_lt.mp fun e => z ((vt_ltI hx1 hy1).mpr e))) H locs ls hP hS hl)
    · exact lv_if_ge hx hb d ht (fun z => jump (h1.1 ((vt_leI hy1 hx1).mp z)) H locs ls hP hS hl) (fun z => by rw [hn]; exact go (h1.2 (Int.not_le.mp fun e => z ((vt_leI hy1 hx1).mpr e))) H locs ls hP hS hl)
    · exact lv_if_gt hx hb d ht (fun z => jump (h1.1 ((vt_ltI hy1 hx1).mp z)) H locs ls hP hS hl) (fun z => by rw [hn]; exact go (h1.2 (Int.not_lt.mp fun e => z ((vt_ltI hy1 hx1).mpr e))) H locs ls hP hS hl)
    · exact lv_if_le hx hb d ht (fun z => jump (h1.1 ((vt_leI hx1 hy1).mp z)) H locs ls hP hS hl) (fun z => by rw [hn]; exact go (h1.2 (Int.not_le.mp fun e => z ((vt_leI hx1 hy1).mpr e))) H locs ls hP hS hl)
  case goto t =>
    obtain ⟨off, d, ht⟩ := hok
    exact lv_goto hx hb d ht (jump h H locs ls hP hS hl)
  case tableswitch df lo hi ts =>
    obtain ⟨x, r1, e1, hx1, hd1, hs1⟩ := vt_pi_spec h
    subst e1
    obtain ⟨d0, offs, len, d, ht, hmap, hhi⟩ := hok
    have hxt := vt_toI hx1
    by_cases hout : x < lo ∨ hi < x
    · exact lv_tableOut hx hb d (by rw [hxt]; exact hout) ht (jump (hd1 hout) H locs ls hP hS hl)
    · have hj : (x - lo).toNat < ts.toList.length := by omega
      have e1 : ts.toList[(x - lo).toNat]? = some (ts.toList[(x - lo).toNat]) := List.getElem?_eq_getElem hj
      have e2 : (offs.toList.map (fun o => (pc : Int) + o))[(x - lo).toNat]? = some (((ts.toList[(x - lo).toNat]).toNat : Nat) : Int) := by
        rw [hmap, List.getElem?_map, e1]; rfl
      rw [List.getElem?_map] at e2
      cases ho : offs.toList[(x - lo).toNat]? with
      | none => rw [ho] at e2; cases e2
      | some o =>
        rw [ho] at e2
        refine lv_tableIn hx hb d (off := o) (tgt := (ts.toList[(x - lo).toNat]).toNat) (by rw [hxt]; omega) (by rw [hxt]; omega) (by rw [hxt, ← Array.getElem?_toList]; exact ho) (Option.some.inj e2) ?_
        exact jump (vt_sw_spec _ _ hs1 _ _ e1 (by omega)) H locs ls hP hS hl
  case iaload =>
    obtain ⟨i, r1, e1, h1⟩ := vt_pi_spec h
    obtain ⟨k, r2, e2, h2⟩ := vt_pr_spec h1
    subst e2
    subst e1
    obtain ⟨kd, n, h2, hk, h43, hkl, hn, hn2⟩ := vt_ar_spec h2
    split at h2
    · obtain ⟨⟨h0, h1⟩, h2⟩ := h2
      have K := go h2 H locs ls hP hS hl
      rw [← hok.2] at K
      obtain ⟨q1, q2⟩ := vt_ix (n := n.toNat) h0 (by rw [hn]; exact h1) hn2
      refine va_iald hx hb hK hP (vt_ps k) 0 (by rw [vt_at hk, vt_e_i h43 hkl (by decide)]) rfl q1 hok.1 ?_
      rw [q2]
      exact K
    · exact h2.elim
  case baload =>
    obtain ⟨i, r1, e1, h1⟩ := vt_pi_spec h
    obtain ⟨k, r2, e2, h2⟩ := vt_pr_spec h1
    subst e2
    subst e1
    obtain ⟨kd, n, h2, hk, h43, hkl, hn, hn2⟩ := vt_ar_spec h2
    split at h2
    · obtain ⟨⟨h0, h1⟩, h2⟩ := h2
      have K := go h2 H locs ls hP hS hl
      rw [← hok.2] at K
      obtain ⟨q1, q2⟩ := vt_ix (n := n.toNat) h0 (by rw [hn]; exact h1) hn2
      refine va_bald hx hb hK hP (vt_ps k) 1 (by rw [vt_at hk, vt_e_i h43 hkl (by decide)]) rfl q1 hok.1 ?_
      rw [q2]
      exact K
    · obtain ⟨⟨h0, h1⟩, h2⟩ := h2
      have K := go h2 H locs ls hP hS hl
      rw [← hok.2] at K
      obtain ⟨q1, q2⟩ := vt_ix (n := n.toNat) h0 (by rw [hn]; exact h1) hn2
      refine va_zald hx hb hK hP (vt_ps k) 2 (by rw [vt_at hk, vt_e_i h43 hkl (by decide)]) rfl q1 hok.1 ?_
      rw [q2]
      exact K
    · exact h2.elim
  case laload =>
    obtain ⟨i, r1, e1, h1⟩ := vt_pi_spec h
    obtain ⟨k, r2, e2, h2⟩ := vt_pr_spec h1
    subst e2
    subst e1
    obtain ⟨kd, n, h2, hk, h43, hkl, hn, hn2⟩ := vt_ar_spec h2
    split at h2
    · obtain ⟨⟨h0, h1⟩, h2⟩ := h2
      have K := go h2 H locs ls hP hS hl
      rw [← hok.2] at K
      obtain ⟨q1, q2⟩ := vt_ix (n := n.toNat) h0 (by rw [hn]; exact h1) hn2
      refine va_lald hx hb hK hP (vt_ps k) 3 (by rw [vt_at hk, vt_e_l h43 hkl]) rfl q1 hok.1 ?_
      rw [q2]
      exact K
    · exact h2.elim
  case iastore =>
    obtain ⟨v, r1, e1, h1⟩ := vt_pi_spec h
    obtain ⟨i, r2, e2, h2⟩ := vt_pi_spec h1
    obtain ⟨k, r3, e3, h3⟩ := vt_pr_spec h2
    subst e3
    subst e2
    subst e1
    obtain ⟨kd, n, h3, hk, h43, hkl, hn, hn2⟩ := vt_ar_spec h3
    split at h3
    · obtain ⟨⟨h0, h1⟩, h3⟩ := h3
      obtain ⟨q1, q2⟩ := vt_ix (n := n.toNat) h0 (by rw [hn]; exact h1) hn2
      refine va_iast hx hb hK hP (vt_D hap) hS (vt_ps k) 0 (by rw [vt_at hk, vt_e_i h43 hkl (by decide)]) rfl q1 hok.1 (fun H1 locs1 hP1 _ hS1 => ?_)
      rw [vt_set (S' := vt_up S k i v) (B' := B) hk (by rw [vt_e_i h43 hkl (by decide), vt_upd q2]) (fun j hj => (vt_up_ne hj).symm) (fun _ _ => rfl)] at hP1
      have K := go h3 H1 locs1 ls hP1 hS1 hl
      rw [← hok.2] at K
      exact K
    · exact h3.elim
  case bastore =>
    obtain ⟨v, r1, e1, h1⟩ := vt_pi_spec h
    obtain ⟨i, r2, e2, h2⟩ := vt_pi_spec h1
    obtain ⟨k, r3, e3, h3⟩ := vt_pr_spec h2
    subst e3
    subst e2
    subst e1
    obtain ⟨kd, n, h3, hk, h43, hkl, hn, hn2⟩ := vt_ar_spec h3
    split at h3
    · obtain ⟨⟨⟨h0, h1⟩, g2, g3⟩, h3⟩ := h3
      obtain ⟨q1, q2⟩ := vt_ix (n := n.toNat) h0 (by rw [hn]; exact h1) hn2
      have hv : vp_nar .byte (Int32.ofInt v) = Int32.ofInt v := by
        rw [vp_nar_byte, ← Int32.toInt_inj, Int8.toInt_toInt32, vt_toI (by omega), Int32.toInt_toInt8, vt_toI (by omega)]
        exact Int.bmod_eq_of_le (by omega) (by omega)
      refine va_bast hx hb hK hP (vt_D hap) hS (vt_ps k) 1 (by rw [vt_at hk, vt_e_i h43 hkl (by decide)]) rfl q1 hok.1 (fun H1 locs1 hP1 _ hS1 => ?_)
      rw [hv, vt_set (S' := vt_up S k i v) (B' := B) hk (by rw [vt_e_i h43 hkl (by decide), vt_upd q2]) (fun j hj => (vt_up_ne hj).symm) (fun _ _ => rfl)] at hP1
      have K := go h3 H1 locs1 ls hP1 hS1 hl
      rw [← hok.2] at K
      exact K
    · obtain ⟨⟨⟨h0, h1⟩, g2⟩, h3⟩ := h3
      obtain ⟨q1, q2⟩ := vt_ix (n := n.toNat) h0 (by rw [hn]; exact h1) hn2
      have hv : vp_nar .boolean (Int32.ofInt v) = Int32.ofInt v := by
        rcases g2 with rfl | rfl <;> decide
      refine va_zast hx hb hK hP (vt_D hap) hS (vt_ps k) 2 (by rw [vt_at hk, vt_e_i h43 hkl (by decide)]) rfl q1 hok.1 (fun H1 locs1 hP1 _ hS1 => ?_)
      rw [hv, vt_set (S' := vt_up S k i v) (B' := B) hk (by rw [vt_e_i h43 hkl (by decide), vt_upd q2]) (fun j hj => (vt_up_ne hj).symm) (fun _ _ => rfl)] at hP1
      have K := go h3 H1 locs1 ls hP1 hS1 hl
      rw [← hok.2] at K
      exact K
    · exact h3.elim
  case lastore =>
    obtain ⟨v, r1, e1, h1⟩ := vt_pl_spec h
    obtain ⟨i, r2, e2, h2⟩ := vt_pi_spec h1
    obtain ⟨k, r3, e3, h3⟩ := vt_pr_spec h2
    subst e3
    subst e2
    subst e1
    obtain ⟨kd, n, h3, hk, h43, hkl, hn, hn2⟩ := vt_ar_spec h3
    split at h3
    · obtain ⟨⟨h0, h1⟩, h3⟩ := h3
      obtain ⟨q1, q2⟩ := vt_ix (n := n.toNat) h0 (by rw [hn]; exact h1) hn2
      refine va_last hx hb hK hP (vt_D hap) hS (vt_ps k) 3 (by rw [vt_at hk, vt_e_l h43 hkl]) rfl q1 hok.1 (fun H1 locs1 hP1 _ hS1 => ?_)
      rw [vt_set (S' := S) (B' := vt_ub B k i v) hk (by rw [vt_e_l h43 hkl, vt_updB q2]) (fun _ _ => rfl) (fun j hj => (vt_ub_ne hj).symm)] at hP1
      have K := go h3 H1 locs1 ls hP1 hS1 hl
      rw [← hok.2] at K
      exact K
    · exact h3.elim
  case ireturn =>
    obtain ⟨z, r1, e1, h1⟩ := vt_pi_spec h
    subst e1
    split at h1
    · split at h1
      · rename_i hrt
        exact W.iret hx hb (hr.trans hrt) (fun t ht hW => ⟨⟨some (.inl z), S, B, rfl, h1, by rw [ht]; exact hP, va_K.moved hW.alike hK, hap⟩, hS.F ht⟩) hS.2.2 hok hlocks
      · rename_i hrt
        exact W.zret hx hb (hr.trans hrt) (by rcases h1.1 with rfl | rfl <;> rfl) (fun t ht hW => ⟨⟨some (.inl z), S, B, rfl, h1.2, by rw [ht]; exact hP, va_K.moved hW.alike hK, hap⟩, hS.F ht⟩) hS.2.2 hok hlocks
      · exact h1.elim
    · exact h1.elim
  case lreturn =>
    obtain ⟨z, r1, e1, h1⟩ := vt_pl_spec h
    subst e1
    split at h1
    · split at h1
      · rename_i hrt
        exact W.lret hx hb (hr.trans hrt) (fun t ht hW => ⟨⟨some (.inr (.inl z)), S, B, rfl, h1, by rw [ht]; exact hP, va_K.moved hW.alike hK, hap⟩, hS.F ht⟩) hS.2.2 hok hlocks
      · exact h1.elim
    · exact h1.elim
  case return_ =>
    simp only [vt_s1] at h
    split at h
    · split at h
      · rename_i hrt
        exact W.vret hx hb (hr.trans hrt) (fun t ht hW => ⟨⟨none, S, B, rfl, h, by rw [ht]; exact hP, va_K.moved hW.alike hK, hap⟩, hS.F ht⟩) hS.2.2 hok hlocks
      · exact h.elim
    · exact h.elim
  all_goals exact h.elim
end VTS
