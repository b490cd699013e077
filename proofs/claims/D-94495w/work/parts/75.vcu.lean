/-! VC: fields, calls, new cells; a method's start; the walk -/
set_option maxRecDepth 100000
theorem vc_ref_ok {c k r : Nat} (h : vc_ft c k = 1) : narrow (vc_tf c k) (va_rf (vc_r r)) = va_rf (vc_r r) ∧ fits (vc_tf c k) (va_rf (vc_r r)) = true := by
  unfold vc_ft at h
  split at h
  · cases h
  · cases h
  · rename_i C hC
    rw [hC]
    cases r <;> exact ⟨rfl, rfl⟩
  · rename_i C hC
    rw [hC]
    cases r <;> exact ⟨rfl, rfl⟩
  · cases h
theorem vc_A_of {Lw0 Lw : List Nat} {sz : Nat} (h : vc_gr Lw0 sz Lw) {a : Nat} (ha : a ∈ Lw) : vc_A Lw0 sz a := by
  obtain ⟨N, h1, h2⟩ := h
  rw [h1] at ha
  rcases List.mem_append.mp ha with ha | ha
  · exact .inl ha
  · exact .inr (h2 a ha)
theorem vc_A_sub {Lw0 Lw : List Nat} {sz n : Nat} (h : vc_gr Lw0 sz Lw) (hn : sz ≤ n) {q : Nat} (hq : vc_A Lw n q) : vc_A Lw0 sz q := by
  rcases hq with hq | hq
  · exact vc_A_of h hq
  · exact .inr (by omega)
section VCU
variable {p : Program} {l : Launch} {e : Env} {s : State} {m : MethodId} {args : Array Value} {below : List Frame} {meth : Method} {c : Code} {D : va_G} {cA : Nat → ClassId} {Lw0 : List Nat} {sz : Nat} {z0 : Int → Int} {d0 mc ms : Nat} {mt : Nat} {Post : vc_Po}
/-- what a run of a call gives -/
def vc_Run (p : Program) (l : Launch) (e : Env) (R : Room) (s : State) (m : MethodId) (args : Array Value) (below : List Frame) (meth : Method) (c : Code) (D : va_G) (cA : Nat → ClassId) (Lw : List Nat) (z : Int → Int) (P' : vc_Po) (H : Heap) (locs : List Loc) (cc sl mc' ms' : Nat) (g : JFrame) (rest : List Value) : Prop :=
  ∀ T : State, T.heap = H → Stand p l e R s m args below meth c T locs cc sl → ∃ (o : Outcome) (st₀ t T' : State) (L : List Loc) (a : Array Value), st₀.heap = H ∧ Stand p l e R s m args below meth c T' (locs ++ L) (cc + mc') (sl + ms') ∧ (∀ q ∈ L, vc_A Lw H.size q.base) ∧ T'.heap = t.heap ∧ T'.vm = t.vm ∧ vc_Q D cA Lw H.size z P' a st₀ o t ∧
      ∀ target, Steps p.tables e below (match o with
        | .returned v => T'.setTop { g with pc := g.pc + 3, stack := v.toList ++ rest }
        | .threw x => (T'.setTop { g with stack := rest }).pushFrame (.throwing x)) target → Steps p.tables e below (T.setTop g) target
theorem vc_call (hF : vc_F mt (p, l, e, s, m, args, below, meth, c, D, cA, Lw0, sz, z0, d0, mc, ms)) {Lw : List Nat} {S : SS} {B : SB} {H : Heap} {locs : List Loc} (hw : vc_Hp D cA Lw0 sz s z0 Lw S B H locs) {P' : vc_Po} {cc sl mc' ms' pc : Nat} {ls : Array Slot} {st0 rest : List Value} (hr : vc_Run p l e (vc_rm d0 mc ms) s m args below meth c D cA Lw (S 0) P' H locs cc sl mc' ms' (F0 m pc ls st0) rest) (hb : cc + mc' ≤ mc ∧ sl + ms' ≤ ms)
    (kk : ∀ (v : Option AV) (Lw' : List Nat) (S' : SS) (B' : SB) (H1 : Heap) (locs1 : List Loc), P' (.inl v) Lw' S' B' → vc_Hp D cA Lw0 sz s z0 Lw' S' B' H1 locs1 → W p l e (vc_rm d0 mc ms) s m args below meth c H1 locs1 (cc + mc') (sl + ms') (vx_Q below (vc_Q D cA Lw0 sz z0 Post) args s mc ms (vc_A Lw0 sz)) (F0 m (pc + 3) ls ((v.map cw).toList ++ rest)))
    (kt : ∀ (x : Nat) (Lw' : List Nat) (S' : SS) (B' : SB), P' (.inr x) Lw' S' B' → Post (.inr x) Lw' S' B') :
    W p l e (vc_rm d0 mc ms) s m args below meth c H locs cc sl (vx_Q below (vc_Q D cA Lw0 sz z0 Post) args s mc ms (vc_A Lw0 sz)) (F0 m pc ls st0) := by
  obtain ⟨hx, hbb, hrr, hml, hown, hts, hlocks, hK, hsf, hsz, hcn, hex, hnm⟩ := id hF
  obtain ⟨w1, w2, w3, w4, w5⟩ := hw
  intro T hT X
  obtain ⟨o, st₀, t, T', L, a, h0, X', hL, e1, e2, ⟨⟨r, Lw', S', B', q1, q2, q3, q4, q5, q6⟩, hz, hk⟩, st⟩ := hr T hT X
  rw [h0] at hz hk
  have hsH : sz ≤ H.size := by have := w3.1; omega
  have hgr : vc_gr Lw0 sz Lw' := by
    obtain ⟨N, n1, n2⟩ := w4
    obtain ⟨N', n3, n4⟩ := q5
    refine ⟨N ++ N', by rw [n3, n1, List.append_assoc], fun b hb => ?_⟩
    rcases List.mem_append.mp hb with hb | hb
    · exact n2 b hb
    · have := n4 b hb; omega
  have hS' : va_S (vc_A Lw0 sz) s.heap T'.heap (locs ++ L) := by
    refine ⟨Nat.le_trans w3.1 (by rw [e1]; exact hz), fun q h1 h2 => ?_, fun q hq => ?_⟩
    · rw [e1, hk q (Nat.lt_of_lt_of_le h1 w3.1) (fun hA => h2 (vc_A_sub w4 hsH hA))]
      exact w3.2.1 q h1 h2
    · rcases List.mem_append.mp hq with h | h
      · exact w3.2.2 q h
      · exact vc_A_sub w4 hsH (hL q h)
  have hw' : vc_Hp D cA Lw0 sz s z0 Lw' S' B' T'.heap (locs ++ L) := ⟨by rw [e1]; exact q4.1, vc_D_of q4.2.2.1 (fun b hb => vc_A_of hgr hb), hS', hgr, q6.trans w5⟩
  cases r with
  | inl v =>
    subst q1
    obtain ⟨t2, a1, b1⟩ := kk v Lw' S' B' T'.heap (locs ++ L) q3 hw' T' rfl X'
    exact ⟨t2, st t2 a1, b1⟩
  | inr x =>
    subst q1
    have X2 := stand_widen X' hb.1 hb.2
    obtain ⟨h1, h2, h3, h4, h5⟩ := X2.leaveThrown (x - 1) (g := { F0 m pc ls st0 with stack := rest }) rfl rfl rfl (fun y hy => (hex y hy).elim) hlocks
    refine ⟨_, st _ h1, .threw (x - 1), h2, h3, ?_, locs ++ L, ⟨h4, h5⟩, hS'.2.2⟩
    refine ⟨⟨.inr x, Lw', S', B', rfl, q2, kt x Lw' S' B' q3, ?_, hgr, q6.trans w5⟩, hS'.F (t := T'.setFrames (.throwing (x - 1) :: below)) rfl⟩
    exact vc_end hF hw' (t := T'.setFrames (.throwing (x - 1) :: below)) rfl h4
theorem vc_run_of {R : Room} {Lw : List Nat} {z : Int → Int} {P' : Option AV → List Nat → SS → SB → Prop} {H : Heap} {locs : List Loc} {cc sl mc' ms' : Nat} {g : JFrame} {rest : List Value} {a : Array Value} (h : va_Run p l e R s m args below meth c H locs cc sl mc' ms' g rest (vc_Q D cA Lw H.size z (vc_up P') a) (vc_A Lw H.size)) : vc_Run p l e R s m args below meth c D cA Lw z (vc_up P') H locs cc sl mc' ms' g rest := by
  intro T hT X
  obtain ⟨v, st₀, t, T', L', g1, g2, g3, g4, g5, g6, g7⟩ := h T hT X
  exact ⟨.returned v, st₀, t, T', L', _, g1, g2, g3, g4, g5, g6, g7⟩
theorem vc_met {d mc' ms' k : Nat} {as : List AV} {Lw : List Nat} {S : SS} {B : SB} {P' : Option AV → List Nat → SS → SB → Prop} (hM : vc_M d mc' ms' k as Lw S B (vc_up P')) (n : Nat) : Met l (vc_y k) (ws_ (vc_y k) (vc_c k) (vc_n k) (vc_rt k)) (vc_rm d mc' ms') (va_Pc (as.map cw) (fun U => U.heap.size = n ∧ vc_In D cA Lw S B U)) (vc_Q D cA Lw n (S 0) (vc_up P')) mc' ms' (vc_A Lw n) := (hM l D cA n).met (fun a st o t hq => by
  obtain ⟨⟨r, Lw', S', B', q1, q2, q3, -⟩, -⟩ := hq
  cases r with
  | inl v => exact ⟨_, q1⟩
  | inr x => exact q3.elim)
theorem vc_blind {as : List Value} {n : Nat} {Lw : List Nat} {S : SS} {B : SB} : FrameBlind (va_Pc as (fun U => U.heap.size = n ∧ vc_In D cA Lw S B U)) := fun a U g mk q => by
  obtain ⟨q0, q1, q2, q3, q4, q5, q6⟩ := q
  exact ⟨q0, q1, q2, va_K.moved (u := U) (U := U.calling g mk a) (Vm.Alike.refl U.vm) q3, q4, q5.moved (State.WarmedH.refl U), q6.warm (State.WarmedH.refl U)⟩
theorem vc_new_nin {A : Nat → Prop} {Lw : List Nat} {f : Nat → va_E} {q : Nat} {x : va_E} (h : va_D A (va_pl Lw f ++ [(q, x)])) : q ∉ Lw := fun hq => by
  obtain ⟨i, hi⟩ := List.getElem?_of_mem hq
  have hl : i < Lw.length := (List.getElem?_eq_some_iff.mp hi).1
  have h1 : (va_pl Lw f ++ [(q, x)])[i]? = some (q, f q) := by
    rw [List.getElem?_append_left (by unfold va_pl; rw [List.length_map]; exact hl)]
    unfold va_pl; rw [List.getElem?_map, hi]; rfl
  have h2 : (va_pl Lw f ++ [(q, x)])[Lw.length]? = some (q, x) := by
    rw [List.getElem?_append_right (by unfold va_pl; rw [List.length_map]; exact Nat.le_refl _)]
    unfold va_pl; rw [List.length_map, Nat.sub_self]; rfl
  have := h.1 i Lw.length _ _ h1 h2 rfl
  omega
/-- the world with a new cell -/
theorem vc_Hp.new {Lw : List Nat} {S S' : SS} {B B' : SB} {H H1 : Heap} {locs : List Loc} (hw : vc_Hp D cA Lw0 sz s z0 Lw S B H locs) {q : Nat} {x : va_E} (h1 : va_P D vc_cl (vc_w cA Lw S B ++ [(q, x)]) H1) (h2 : va_D (vc_A Lw0 sz) (vc_w cA Lw S B ++ [(q, x)])) (h3 : va_S (vc_A Lw0 sz) s.heap H1 locs) (hx : x = vc_e cA S' B' q) (hb : ∀ b, b ≠ q → vc_e cA S B b = vc_e cA S' B' b) (h0 : S' 0 = S 0) : q ∉ Lw ∧ vc_Hp D cA Lw0 sz s z0 (Lw ++ [q]) S' B' H1 locs := by
  have hq := vc_new_nin h2
  have e : vc_w cA Lw S B ++ [(q, x)] = vc_w cA (Lw ++ [q]) S' B' := by
    rw [va_pl_push hq]
    refine va_pl_congr (fun b => ?_)
    by_cases hbq : b = q
    · subst hbq; rw [va_up_self]; exact hx
    · rw [va_up_ne _ _ hbq]; exact hb b hbq
  have hA : vc_A Lw0 sz q := by
    rw [e] at h2
    exact vc_D_A h2 (List.mem_append_right _ (List.mem_singleton.mpr rfl))
  have hsq : sz ≤ q := by
    rcases hA with hA | hA
    · obtain ⟨N, n1, -⟩ := hw.2.2.2.1
      exact absurd (by rw [n1]; exact List.mem_append_left _ hA) hq
    · exact hA
  rw [e] at h1 h2
  refine ⟨hq, h1, h2, h3, ?_, h0.trans hw.2.2.2.2⟩
  obtain ⟨N, n1, n2⟩ := hw.2.2.2.1
  refine ⟨N ++ [q], by rw [n1, List.append_assoc], fun b hb => ?_⟩
  rcases List.mem_append.mp hb with hb | hb
  · exact n2 b hb
  · rw [List.mem_singleton.mp hb]; exact hsq
theorem vc_nw_ne {S : SS} {r k : Nat} {c len : Int} (h : k ≠ r) : vc_nw S r c len k = S k := if_neg h
theorem vc_nw_at {S : SS} {r : Nat} {c len : Int} : vc_nw S r c len r = fun i => if i = -2 then c else if i = -1 then len else 0 := if_pos rfl
theorem vc_nb_ne {B : SB} {r k : Nat} (h : k ≠ r) : vc_nb B r k = B k := if_neg h
theorem vc_nb_at {B : SB} {r : Nat} : vc_nb B r r = fun _ => 0 := if_pos rfl
theorem vc_e_nw {S : SS} {B : SB} {q b : Nat} {c len : Int} (h : b ≠ q) : vc_e cA S B b = vc_e cA (vc_nw S (q + 1) c len) B b := by
  unfold vc_e vc_ac
  rw [vc_nw_ne (by omega)]
theorem vc_e_nwb {S : SS} {B : SB} {q b : Nat} {c len : Int} (h : b ≠ q) : vc_e cA S B b = vc_e cA (vc_nw S (q + 1) c len) (vc_nb B (q + 1)) b := by
  unfold vc_e vc_ac
  rw [vc_nw_ne (by omega), vc_nb_ne (by omega)]
theorem vc_put (hF : vc_F mt (p, l, e, s, m, args, below, meth, c, D, cA, Lw0, sz, z0, d0, mc, ms)) {ci f idx pc : Nat} (hfw : vc_fw mt ci f idx) (hdg : decode (vc_c mt) pc = .ok (.putfield idx, 3)) {a : Nat} {Lw : List Nat} {S : SS} {B : SB} {H : Heap} {locs : List Loc} {cc sl : Nat} {ls : Array Slot} {rest : List Value} {v : Value} {zv : Int} (hw : vc_Hp D cA Lw0 sz s z0 Lw S B H locs) (ha : a ∈ Lw) (hk : S (a + 1) (-2) = (ci : Int)) (hn : narrow (vc_tf ci f) v = v) (hfit : fits (vc_tf ci f) v = true) (hv : v = vc_fv ci (vt_up S (a + 1) (f : Int) zv (a + 1)) f)
    (kk : ∀ (H1 : Heap) (locs1 : List Loc), vc_Hp D cA Lw0 sz s z0 Lw (vt_up S (a + 1) (f : Int) zv) B H1 locs1 → W p l e (vc_rm d0 mc ms) s m args below meth c H1 locs1 cc sl (vx_Q below (vc_Q D cA Lw0 sz z0 Post) args s mc ms (vc_A Lw0 sz)) (F0 m (pc + 3) ls rest)) :
    W p l e (vc_rm d0 mc ms) s m args below meth c H locs cc sl (vx_Q below (vc_Q D cA Lw0 sz z0 Post) args s mc ms (vc_A Lw0 sz)) (F0 m pc ls (v :: .ref a :: rest)) := by
  obtain ⟨hx, hb, hr, hml, hown, hts, hlocks, hK, hsf, hsz, hcn, hex, hnm⟩ := id hF
  obtain ⟨k0, hkk⟩ := vc_plg (f := vc_e cA S B) ha
  have hci : ci < 16 ∧ f < vc_N ci := by
    rcases hfw with ⟨h, -⟩ | ⟨h, -⟩
    · exact ⟨h.1, h.2.1⟩
    · exact ⟨h.1, h.2.1⟩
  have hk2 := hkk
  rw [vc_e_obj hk (by omega)] at hk2
  have hset : (vc_w cA Lw S B).set k0 (a, .inr (ci, (vc_fs ci (S (a + 1))).set f v)) = vc_w cA Lw (vt_up S (a + 1) (f : Int) zv) B := by
    refine vc_set hw.2.1 ha hkk ?_ (fun b hb => vc_e_up hb)
    rw [vc_e_obj (c := ci) (by rw [vt_up_off (by omega)]; exact hk) (by omega), vc_fs_set hci.2 hv (fun i hi => vt_up_off hi)]
  have fin : ∀ (H1 : Heap) (locs1 : List Loc), va_P D vc_cl ((vc_w cA Lw S B).set k0 (a, .inr (ci, (vc_fs ci (S (a + 1))).set f v))) H1 → va_D (vc_A Lw0 sz) ((vc_w cA Lw S B).set k0 (a, .inr (ci, (vc_fs ci (S (a + 1))).set f v))) → va_S (vc_A Lw0 sz) s.heap H1 locs1 → W p l e (vc_rm d0 mc ms) s m args below meth c H1 locs1 cc sl (vx_Q below (vc_Q D cA Lw0 sz z0 Post) args s mc ms (vc_A Lw0 sz)) (F0 m (pc + 3) ls rest) := fun H1 locs1 h1 h2 h3 => kk H1 locs1 (hw.put h1 h2 h3 hset (vt_up_ne (by omega)))
  rcases hfw with ⟨⟨-, -, hq⟩, hfin⟩ | ⟨⟨-, -, hq⟩, hfin, hini, hdecl⟩
  · rcases hq with hq | ⟨host, hq⟩
    · exact va_put (C := vc_R ci) (T := vc_T ci) (N := vc_N ci) (ref := (vc_T ci f).1) (ty := vc_tf ci f) hx hb hts (vc_in ci hci.1) (vc_tf ci) (vc_tfo ci hci.1) (vc_nm ci hci.1) hown hK hw.1 hw.2.1 hw.2.2.1 k0 hk2 (vc_cl_at ci hci.1) f hci.2 (hts _ hq) (fun x h => h) hfin (vc_tfo ci hci.1 f hci.2) hn hfit (by rw [vc_fs_len]; exact hci.2) hdg fin
    · exact va_putN (C := vc_R ci) (T := vc_T ci) (N := vc_N ci) (ref := (vc_T ci f).1) (ty := vc_tf ci f) hx hb hts (vc_in ci hci.1) (vc_tf ci) (vc_tfo ci hci.1) (vc_nm ci hci.1) hown hK hw.1 hw.2.1 hw.2.2.1 k0 hk2 (vc_cl_at ci hci.1) f hci.2 (va_Nw.use rfl (hsf.1 _ hq rfl)) (fun x h => h) hfin (vc_tfo ci hci.1 f hci.2) hn hfit (by rw [vc_fs_len]; exact hci.2) hdg fin
  · exact va_putF (C := vc_R ci) (T := vc_T ci) (N := vc_N ci) (ref := (vc_T ci f).1) (ty := vc_tf ci f) hx hb hts (vc_in ci hci.1) (vc_tf ci) (vc_tfo ci hci.1) (vc_nm ci hci.1) hown hK hw.1 hw.2.1 hw.2.2.1 k0 hk2 (vc_cl_at ci hci.1) f hci.2 (hts _ hq) (fun x h => h) hfin (hnm.trans hini) hdecl (vc_tfo ci hci.1 f hci.2) hn hfit (by rw [vc_fs_len]; exact hci.2) hdg fin
theorem vc_read (hF : vc_F mt (p, l, e, s, m, args, below, meth, c, D, cA, Lw0, sz, z0, d0, mc, ms)) {ci f idx pc : Nat} (hfo : vc_fo (vc_o mt) ci f idx) (hdg : decode (vc_c mt) pc = .ok (.getfield idx, 3)) {a : Nat} {Lw : List Nat} {S : SS} {B : SB} {H : Heap} {locs : List Loc} {cc sl : Nat} {ls : Array Slot} {rest : List Value} (hw : vc_Hp D cA Lw0 sz s z0 Lw S B H locs) (ha : a ∈ Lw) (hk : S (a + 1) (-2) = (ci : Int)) {Q : State → Prop}
    (kk : W p l e (vc_rm d0 mc ms) s m args below meth c H locs cc sl Q (F0 m (pc + 3) ls (vc_fv ci (S (a + 1)) f :: rest))) :
    W p l e (vc_rm d0 mc ms) s m args below meth c H locs cc sl Q (F0 m pc ls (.ref a :: rest)) := by
  obtain ⟨hx, hb, hr, hml, hown, hts, hlocks, hK, hsf, hsz, hcn, hex, hnm⟩ := id hF
  obtain ⟨k0, hkk⟩ := vc_plg (f := vc_e cA S B) ha
  obtain ⟨hc, hf, hq⟩ := hfo
  rw [vc_e_obj hk (by omega)] at hkk
  rcases hq with hq | ⟨host, hq⟩
  · exact va_get (C := vc_R ci) (T := vc_T ci) (N := vc_N ci) (ref := (vc_T ci f).1) hx hb hts (vc_in ci hc) hown hK hw.1 k0 hkk (vc_cl_at ci hc) f hf (hts _ hq) (fun x h => h) (vc_fs_at hf) hdg kk
  · exact va_getN (C := vc_R ci) (T := vc_T ci) (N := vc_N ci) (ref := (vc_T ci f).1) hx hb hts (vc_in ci hc) hown hK hw.1 k0 hkk (vc_cl_at ci hc) f hf (va_Nw.use rfl (hsf.1 _ hq rfl)) (fun x h => h) (vc_fs_at hf) hdg kk
end VCU
