/-! THE COMPONENT's methods: image and back, the methods -/
set_option maxRecDepth 100000
/-- what is written for an image -/
def vW (S0 : SS) (o : Nat) (τ : Nat → Nat) (r : Nat) (i : Int) : Prop := 0 ≤ i ∧ (S0 r (-2) = 104 ∨ S0 r (-2) = 14 ∨ (S0 r (-2) = 2 ∧ r ≠ (S0 o 32).toNat) ∨ (S0 r (-2) = 100 ∧ 100 ≤ τ r))
def imF (p : Bool) (fi : Int → Int → Int) (k : Int) (f : Int → Int) (j : Int) : Int → Int := if p = true ∧ j = k then f else fi j
def imM (p : Bool) (mk : Int → Int) (k j : Int) : Int := if p = true ∧ j = k then 1 else mk j
section CNO
variable {W : Nat → Int → Prop} {Lw Lw' : List Nat} {S0 S : SS} {B : SB} {d o D kr ir b : Nat} {τ τ' : Nat → Nat} {f F l : Int → Int} {wr gr rr : Int → Nat} {lt : Int → Int} {K c n : Int} {fi : Int → Int → Int} {mk : Int → Int}
theorem vW.o0 {i : Int} (h0 : S0 o (-2) = 0) : ¬ vW S0 o τ o i := by
  rintro ⟨-, z | z | ⟨z, -⟩ | ⟨z, -⟩⟩ <;> omega
theorem vW.neg {q : Nat} {i : Int} (hi : i < 0) : ¬ vW S0 o τ q i := fun z => by have := z.1; omega
theorem vW.k {q : Nat} {c i : Int} (h : S0 q (-2) = c) (hc : c ≠ 104 ∧ c ≠ 14 ∧ c ≠ 2 ∧ c ≠ 100) : ¬ vW S0 o τ q i := by
  rintro ⟨-, z | z | ⟨z, -⟩ | ⟨z, -⟩⟩ <;> omega
theorem vW.lb {q : Nat} {i : Int} (h : S0 q (-2) = 100) (ht : τ q < 100) : ¬ vW S0 o τ q i := by
  rintro ⟨-, z | z | ⟨z, -⟩ | ⟨-, z⟩⟩ <;> omega
theorem CAr.v {k : Nat} {c len : Int} (h : CAr Lw S0 o τ k c len) (h0 : vc_ob Lw S0 o 0) (hE : Ext (vW S0 o τ) Lw S0 τ Lw' S τ') : CAr Lw' S o τ' k c len := by
  have e : S o (k : Int) = S0 o (k : Int) := hE.2.1 o _ h0.1 (vW.o0 h0.2)
  unfold CAr
  rw [e, hE.2.1 _ (-1) h.1.1 (vW.neg (by decide)), hE.2.2 _ h.1.1]
  exact ⟨hE.ob2 h.1 (vW.neg (by decide)), h.2⟩
theorem CSh.v (h : CSh Lw S0 o τ) (hE : Ext (vW S0 o τ) Lw S0 τ Lw' S τ') : CSh Lw' S o τ' := by
  obtain ⟨h1, ⟨a1, a2, a3, a4, a5, a6, a7, a8, a9, a10, a11, a12⟩, h3, h4⟩ := h
  have e : ∀ i, S o i = S0 o i := fun i => hE.2.1 o i h1.1 (vW.o0 h1.2)
  refine ⟨hE.ob2 h1 (vW.neg (by decide)), ⟨a1.v h1 hE, a2.v h1 hE, a3.v h1 hE, a4.v h1 hE, a5.v h1 hE, a6.v h1 hE, a7.v h1 hE, a8.v h1 hE, a9.v h1 hE, a10.v h1 hE, a11.v h1 hE, a12.v h1 hE⟩, ?_, ?_⟩
  · rw [e]
    refine h3.extG hE (fun q i hi => vW.neg hi) (fun i _ => ?_)
    have := h3.1.2
    rintro ⟨-, z | z | ⟨-, z⟩ | ⟨z, -⟩⟩
    · omega
    · omega
    · exact z rfl
    · omega
  · rcases h4 with ⟨z1, z2⟩ | ⟨z1, z2⟩
    · exact Or.inl ⟨by rw [e]; exact z1, by rw [e]; exact z2⟩
    · exact Or.inr ⟨z1.v h1 hE, z2.v h1 hE⟩
theorem CLd.v (h : CLd Lw S0 o f wr gr lt) (hE : Ext (vW S0 o τ) Lw S0 τ Lw' S τ') : CLd Lw' S o f wr gr lt := h.same hE.1 (fun q c hq hc i => hE.2.1 q i hq.1 (vW.k hq.2 (by omega))) (fun i _ => hE.2.1 o i h.1.1 (vW.o0 h.1.2))
theorem CRw.v (h : CRw S0 o f) (hsh : CSh Lw S0 o τ) (hE : Ext (vW S0 o τ) Lw S0 τ Lw' S τ') : CRw S o f := by
  have h1 := hsh.1
  have e : ∀ i, S o i = S0 o i := fun i => hE.2.1 o i h1.1 (vW.o0 h1.2)
  have a25 := hsh.2.1.2.2.2.2.2.1
  have a26 := hsh.2.1.2.2.2.2.2.2.1
  have o25 : vc_ob Lw S0 (S0 o 25).toNat 100 := a25.1
  have o26 : vc_ob Lw S0 (S0 o 26).toNat 100 := a26.1
  have t25 : τ (S0 o 25).toNat = 25 := a25.2.2
  have t26 : τ (S0 o 26).toNat = 26 := a26.2.2
  intro k k0 k1
  rw [e, e, hE.2.1 _ k o25.1 (vW.lb o25.2 (by omega)), hE.2.1 _ k o26.1 (vW.lb o26.2 (by omega))]
  exact h k k0 k1
theorem liLb.v {r : Nat} {n : Int} {g : Int → Nat} (h : liLb S0 τ r) (hr : vc_li Lw S0 r n g) (hE : Ext (vW S0 o τ) Lw S0 τ Lw' S τ') : liLb S τ' r := by
  unfold liLb
  rw [hE.2.1 r 1 hr.1.1 (vW.k hr.1.2 (by decide)), hE.2.2 _ hr.1.1, hE.2.2 _ hr.2.2.1.1]
  exact h
theorem jW.v {r : Nat} {i : Int} (hb : 100 ≤ b) (h14 : S0 ir (-2) = 14) (h2 : S0 kr (-2) = 2) (hk : kr ≠ (S0 o 32).toNat) (h : jW S0 ir kr τ b r i) : vW S0 o τ r i := by
  rcases h with ⟨rfl, h2, -⟩ | ⟨rfl, h3, -⟩ | ⟨h1, ⟨h2, -⟩, h4⟩
  · exact ⟨by omega, Or.inr (Or.inl h14)⟩
  · exact ⟨by omega, Or.inr (Or.inr (Or.inl ⟨h2, hk⟩))⟩
  · exact ⟨h4, Or.inr (Or.inr (Or.inr ⟨h1, by omega⟩))⟩
theorem ImN.k32 (h : ImN Lw S o τ b ir) (hb : 100 ≤ b) (hsh : CSh Lw S o τ) : (S ir 0).toNat ≠ (S o 32).toNat := by
  intro z
  have x1 := (h.2.2.1.ak (j := 0) (by decide)).2
  have x2 := (hsh.2.2.1.ak (j := 0) (by decide)).2
  rw [z, x2] at x1
  omega
theorem jW.sf {b2 ir2 : Nat} (h : ImN Lw S o τ b ir) (h2 : ImN Lw S o τ b2 ir2) (hb : b + 20 ≤ b2 ∨ b2 + 20 ≤ b) : ImSf (jW S ir (S ir 0).toNat τ b) S τ b2 ir2 (S ir2 0).toNat := by
  have n1 : ir2 ≠ ir := by
    intro z
    have x1 := h.2.2.2.1.2.2
    have x2 := h2.2.2.2.1.2.2
    rw [z, x1] at x2
    omega
  have n2 : (S ir2 0).toNat ≠ (S ir 0).toNat := by
    intro z
    have x1 := (h.2.2.1.ak (j := 0) (by decide)).2
    have x2 := (h2.2.2.1.ak (j := 0) (by decide)).2
    rw [z, x1] at x2
    omega
  have a1 := h.1.2
  have a2 := h2.1.2
  have a3 := h.2.2.1.1.2
  have a4 := h2.2.2.1.1.2
  refine ⟨fun r i hi => jW.neg hi, fun i => ?_, fun i => ?_, fun r i hr t1 t2 => ?_, fun r i hr _ => ?_, fun r i hr _ => ?_, fun r i hr _ => ?_, fun r i hr _ => ?_⟩
  · rintro (⟨z, -⟩ | ⟨z, -⟩ | ⟨z, -⟩)
    · exact n1 z
    · rw [z] at a2; omega
    · omega
  · rintro (⟨z, -⟩ | ⟨z, -⟩ | ⟨z, -⟩)
    · rw [z] at a4; omega
    · exact n2 z
    · omega
  · rintro (⟨z, -⟩ | ⟨z, -⟩ | ⟨-, z, -⟩)
    · rw [z] at hr; omega
    · rw [z] at hr; omega
    · omega
  all_goals
    rintro (⟨z, -⟩ | ⟨z, -⟩ | ⟨z, -⟩)
    · rw [z] at hr; omega
    · rw [z] at hr; omega
    · omega
theorem ImSf.no : ImSf (fun _ _ => False) S τ b ir kr := ⟨fun _ _ _ z => z, fun _ z => z, fun _ z => z, fun _ _ _ _ _ z => z, fun _ _ _ _ z => z, fun _ _ _ _ z => z, fun _ _ _ _ z => z, fun _ _ _ _ z => z⟩
theorem ImSf.arr {ar : Nat} {k : Int} (ha : vc_ob Lw S ar 104) (hk : 0 ≤ k) (h : ImN Lw S o τ b ir) : ImSf (fun r i => r = ar ∧ i = k) S τ b ir (S ir 0).toNat := by
  have a := ha.2
  have a1 := h.1.2
  have a3 := h.2.2.1.1.2
  refine ⟨fun r i hi z => by omega, fun i z => ?_, fun i z => ?_, fun r i hr _ _ z => ?_, fun r i hr _ z => ?_, fun r i hr _ z => ?_, fun r i hr _ z => ?_, fun r i hr _ z => ?_⟩
  · rw [z.1] at a1; omega
  · rw [z.1] at a3; omega
  all_goals rw [z.1] at hr; omega
theorem cm_image {k : Int} (hlt : ∀ g, lt g = 0) (hk : -2147483648 ≤ k ∧ k ≤ 2147483647) (hM : CIms Lw S o τ fi mk) (hsh : CSh Lw S o τ) (hj : CIj f wr gr) (hC : CLd Lw S o f wr gr lt) (hr : CRw S o f) (hlb : liLb S τ (S o 0).toNat ∧ liLb S τ (S o 1).toNat) (hl : LI K f) : vc_M (d + 6) 11 158 80 [.inr (.inr o), ii k] Lw S B (vc_up (fun v Lw' S' B' => v = some (ii (if sIn k 0 3 = true then f 4 else -1)) ∧ ∃ τ', Ext (vW S o τ) Lw S τ Lw' S' τ' ∧ CIms Lw' S' o τ' (imF (sIn k 0 3) fi k f) (imM (sIn k 0 3) mk k))) := by
  refine vc_start rfl rfl (Nat.le_of_ble_eq_true rfl) (fun X hX hd => ?_)
  have hb := bI_rg (sIn k 0 3)
  have h0 := hC.1
  obtain ⟨m1, m2, m3⟩ := hM
  generalize hPost : (vc_up (fun v Lw' S' (_ : SB) => v = some (ii (if sIn k 0 3 = true then f 4 else -1)) ∧ ∃ τ', Ext (vW S o τ) Lw S τ Lw' S' τ' ∧ CIms Lw' S' o τ' (imF (sIn k 0 3) fi k f) (imM (sIn k 0 3) mk k))) = Post
  refine vc_walk hX ck_X0_image [(37, [0, 1])] 60 hd ?_
  refine ⟨by omega, vc_k (cm_in (by omega) (by decide) (by decide)) ⟨Nat.zero_le _, Nat.zero_le _⟩ ?_⟩
  refine ⟨by omega, fun z => ?_, fun z => ?_⟩
  rotate_left
  · refine ⟨⟨Nat.zero_le _, Nat.zero_le _⟩, ?_⟩
    have z := bI_0.mp z
    rw [← hPost]
    refine ⟨by rw [if_neg (by rw [z]; decide)], τ, (Ag.rf : Ag (vW S o τ) S S).ext, m1, m2, fun j j0 j1 => ?_⟩
    rw [show imF (sIn k 0 3) fi k f j = fi j from if_neg (fun q => by rw [z] at q; cases q.1), show imM (sIn k 0 3) mk k j = mk j from if_neg (fun q => by rw [z] at q; cases q.1)]
    exact m3 j j0 j1
  have z1 := bI_n0.mp z
  have z2 := of_decide_eq_true z1
  -- the image is there: it keeps
  have main : ∀ (Lw1 : List Nat) (S1 : SS) (B1 : SB) (τ1 : Nat → Nat) (cc sl : Nat), Ext (vW S o τ) Lw S τ Lw1 S1 τ1 → vc_ob Lw1 S1 (S o 33).toNat 104 → S1 (S o 33).toNat (-1) = 4 → ImN Lw1 S1 o τ1 (100 + 20 * k.toNat) (S1 (S o 33).toNat k).toNat → (∀ j, 0 ≤ j → j ≤ 3 → j ≠ k → (mk j = 0 ∧ S1 (S o 33).toNat j = 0) ∨ (mk j = 1 ∧ ∃ wr gr, ImN Lw1 S1 o τ1 (100 + 20 * j.toNat) (S1 (S o 33).toNat j).toNat ∧ ImC Lw1 S1 τ1 (S1 (S o 33).toNat j).toNat (fi j) wr gr ∧ CIj (fi j) wr gr)) → cc ≤ 11 → sl ≤ 158 → vc_J 80 Post X 37 [(0, .inr (.inr o)), (1, ii k)] [] Lw1 S1 B1 cc sl := by
    intro Lw1 S1 B1 τ1 cc sl E1 o1 l1 I1 R1 hcc hsl
    have H1 := hsh.v E1
    have C1 := hC.v E1
    have W1 := hr.v hsh E1
    have e1 : ∀ i, S1 o i = S o i := fun i => E1.2.1 o i h0.1 (vW.o0 h0.2)
    have L1 : liLb S1 τ1 (S1 o 0).toNat ∧ liLb S1 τ1 (S1 o 1).toNat := by
      rw [e1, e1]
      exact ⟨hlb.1.v hC.2.1 E1, hlb.2.v hC.2.2.1 E1⟩
    refine vc_walk hX ck_X0_image [] 60 hd ?_
    refine ⟨C1.1, ?_⟩
    rw [e1]
    refine ⟨⟨o1, by omega, by omega, by omega⟩, ?_⟩
    refine vc_kp I1.1 (cm_imageKeep (d := d) (by omega) hlt I1 H1 C1 W1 L1 hl) ⟨by omega, by omega⟩ ?_
    rintro _ _ S2 _ ⟨rfl, rfl, rfl, A2, M2⟩
    have C2 := C1.jw I1.1 I1.2.2.1.1 A2
    refine ⟨C2.1, ⟨by omega, by omega⟩, ?_⟩
    rw [← hPost, C2.2.2.2.2.2.2.1]
    have e2 : ∀ i, S2 o i = S1 o i := fun i => A2 o i (jW.kd I1.1 I1.2.2.1.1 C1.1 (by decide))
    have v2 : ∀ i, S2 (S o 33).toNat i = S1 (S o 33).toNat i := fun i => A2 _ i (jW.kd I1.1 I1.2.2.1.1 o1 (by decide))
    have k32 := I1.k32 (by omega) H1
    have E2 : Ext (vW S o τ) Lw S τ Lw1 S2 τ1 := E1.tr (A2.ext (Lw := Lw1) (τ := τ1)) (fun r i hr z => by
      obtain ⟨y1, y2⟩ := z.v (o := o) (by omega) I1.1.2 I1.2.2.1.1.2 k32
      rw [E1.2.1 r (-2) hr (vW.neg (by decide)), E1.2.2 r hr, e1] at y2
      exact ⟨y1, y2⟩)
    refine ⟨by rw [if_pos z1], τ1, E2, ?_⟩
    unfold CIms
    rw [e2, e1, v2]
    refine ⟨⟨o1.1, by rw [v2]; exact o1.2⟩, l1, fun j j0 j1 => ?_⟩
    rw [v2]
    by_cases cj : j = k
    · subst cj
      right
      rw [show imF (sIn j 0 3) fi j f j = f from if_pos ⟨z1, rfl⟩, show imM (sIn j 0 3) mk j j = 1 from if_pos ⟨z1, rfl⟩]
      have i2 : ∀ i, i < 3 ∨ 6 < i → S2 (S1 (S o 33).toNat j).toNat i = S1 (S1 (S o 33).toNat j).toNat i := fun i hi => A2 _ i (by
        rintro (⟨-, y⟩ | ⟨y, -⟩ | ⟨y, -⟩)
        · omega
        · exact ob_ne I1.1 I1.2.2.1.1 (by decide) y
        · have := I1.1.2; omega)
      have nk : (S1 (S1 (S o 33).toNat j).toNat 0).toNat ≠ (S1 (S o 33).toNat j).toNat := ob_ne I1.2.2.1.1 I1.1 (by decide)
      have I2 : ImN Lw1 S2 o τ1 (100 + 20 * j.toNat) (S1 (S o 33).toNat j).toNat := by
        obtain ⟨a1, a2, a3, a4, a5⟩ := I1
        refine ⟨⟨a1.1, by rw [A2 _ (-2) (jW.neg (by decide))]; exact a1.2⟩, by rw [i2 7 (by decide)]; exact a2, ?_, a4.ext2 (A2.ext (τ := τ1)) (i2 _ (by decide)) (fun i hi => jW.neg hi), a5.ext2 (A2.ext (τ := τ1)) (i2 _ (by decide)) (fun i hi => jW.neg hi)⟩
        rw [i2 0 (by decide)]
        refine a3.extG (A2.ext (τ := τ1)) (fun q i hi => jW.neg hi) (fun i hi => ?_)
        rintro (⟨y, -⟩ | ⟨-, y, y2⟩ | ⟨y, -⟩)
        · exact nk y
        · omega
        · have := a3.1.2; omega
      exact ⟨rfl, wr, gr, I2, M2, hj⟩
    · rw [show imF (sIn k 0 3) fi k f j = fi j from if_neg (fun q => cj q.2), show imM (sIn k 0 3) mk k j = mk j from if_neg (fun q => cj q.2)]
      rcases R1 j j0 j1 cj with x | ⟨xm, wj, gj, x1, x2, x3⟩
      · exact Or.inl x
      · have sf := jW.sf I1 x1 (by omega)
        exact Or.inr ⟨xm, wj, gj, x1.ext (A2.ext (τ := τ1)) sf, x2.ext x1 (A2.ext (τ := τ1)) sf, x3⟩
  refine ⟨h0, ⟨m1, by omega, by omega, by omega⟩, fun c => ?_, fun c => ?_⟩
  · rcases m3 k z2.1 z2.2 with ⟨-, x⟩ | ⟨-, wk, gk, x1, x2, x3⟩
    · rw [x] at c; exact absurd rfl c
    · exact main Lw S B τ 0 0 (Ag.rf : Ag (vW S o τ) S S).ext m1 m2 x1 (fun j j0 j1 _ => m3 j j0 j1) (by decide) (by decide)
  · have c : (S (S o 33).toNat k).toNat = 0 := c
    have hm0 : mk k = 0 ∧ S (S o 33).toNat k = 0 := by
      rcases m3 k z2.1 z2.2 with x | ⟨-, wk, gk, x1, x2, x3⟩
      · exact x
      · obtain ⟨y, hy, -⟩ := x1.1.1
        omega
    refine ⟨h0, ⟨by decide, by decide⟩, fun a ha => ?_⟩
    refine ⟨10, 150, _, cm_imageInit (d := d + 3) (τ := τ) (o := o) (b := 100 + 20 * k.toNat) nw_new, ⟨by decide, by decide⟩, ?_⟩
    rintro _ Lw2 S2 B2 ⟨rfl, τ2, E2, N2⟩
    have E1 : Ext (fun _ _ => False) Lw S τ (Lw ++ [a]) (vc_nw S (a + 1) 14 0) τ := ⟨fun _ h => List.mem_append_left _ h, fun r i hr _ => nw_old ha hr, fun _ _ => rfl⟩
    have E12 : Ext (fun _ _ => False) Lw S τ Lw2 S2 τ2 := E1.tr E2 (fun r i hr z => isO.ne hr ha z)
    have q104 := E12.ob2 m1 id
    have ql : S2 (S o 33).toNat (-1) = 4 := by rw [E12.2.1 _ (-1) m1.1 id]; exact m2
    have X3 : Ext (fun r i => r = (S o 33).toNat ∧ i = k) Lw2 S2 τ2 Lw2 (vt_up S2 (S o 33).toNat k ((a + 1 : Nat) : Int)) τ2 := (Ag.rf.up ⟨rfl, rfl⟩ : Ag (fun r i => r = (S o 33).toNat ∧ i = k) S2 _).ext
    have at3 : vt_up S2 (S o 33).toNat k ((a + 1 : Nat) : Int) (S o 33).toNat k = ((a + 1 : Nat) : Int) := vt_up_self
    refine ⟨⟨q104, N2.1, by omega, by omega, by omega⟩, ?_⟩
    refine main Lw2 _ B2 τ2 _ _ ?_ (X3.ob2 q104 (by omega)) (by rw [up_ne (Or.inr (by omega))]; exact ql) ?_ (fun j j0 j1 hj => ?_) (by decide) (by decide)
    · refine (E12.mono (fun _ _ _ z => z.elim)).tr X3 (fun r i hr z => ?_)
      obtain ⟨rfl, rfl⟩ := z
      exact ⟨z2.1, Or.inl m1.2⟩
    · rw [at3, Int.toNat_natCast]
      exact N2.ext X3 (ImSf.arr q104 z2.1 N2)
    · rw [up_ne (Or.inr hj), E12.2.1 _ j m1.1 id]
      rcases m3 j j0 j1 with x | ⟨xm, wj, gj, x1, x2, x3⟩
      · exact Or.inl x
      · have y1 := x1.ext E12 ImSf.no
        have y2 := x2.ext x1 E12 ImSf.no
        have sf := ImSf.arr q104 z2.1 y1
        exact Or.inr ⟨xm, wj, gj, y1.ext X3 sf, y2.ext y1 X3 sf, x3⟩
theorem cm_back {k : Int} (hk : -2147483648 ≤ k ∧ k ≤ 2147483647) (hM : CIms Lw S o τ fi mk) (hsh : CSh Lw S o τ) (hC : CLd Lw S o f wr gr lt) (hl : ∀ j, 0 ≤ j → j ≤ 3 → mk j = 1 → LI K (fi j)) : vc_M (d + 6) 0 0 81 [.inr (.inr o), ii k] Lw S B (vc_up (fun v Lw' S' B' => v = some (ii (if sIn k 0 3 = true ∧ mk k = 1 then fi k 4 else -1)) ∧ Lw = Lw' ∧ B = B' ∧ ((¬ (sIn k 0 3 = true ∧ mk k = 1) ∧ S' = S) ∨ ((sIn k 0 3 = true ∧ mk k = 1) ∧ Ag (bkW S o τ) S S' ∧ ∃ wr gr, CIj (fi k) wr gr ∧ CLd Lw S' o (fi k) wr gr (fun _ => 0) ∧ CRw S' o (fi k) ∧ liLb S' τ (S' o 0).toNat ∧ liLb S' τ (S' o 1).toNat)))) := by
  refine vc_start rfl rfl (Nat.le_of_ble_eq_true rfl) (fun X hX hd => ?_)
  have hb := bI_rg (sIn k 0 3)
  have h0 := hC.1
  obtain ⟨m1, m2, m3⟩ := hM
  refine vc_walk hX ck_X0_back [] 60 hd ?_
  refine ⟨by omega, vc_k (cm_in (by omega) (by decide) (by decide)) ⟨Nat.zero_le _, Nat.zero_le _⟩ ?_⟩
  refine ⟨by omega, fun z => ?_, fun z => ?_⟩
  · have z := bI_0.mp z
    refine ⟨⟨Nat.zero_le _, Nat.zero_le _⟩, ?_, rfl, rfl, Or.inl ⟨fun q => absurd (z.symm.trans q.1) (by decide), rfl⟩⟩
    rw [if_neg (fun q => by rw [z] at q; cases q.1)]
  have z1 := bI_n0.mp z
  have z2 := of_decide_eq_true z1
  refine ⟨h0, ⟨m1, by omega, by omega, by omega⟩, fun c => ?_, fun c => ?_⟩
  · rcases m3 k z2.1 z2.2 with ⟨-, x⟩ | ⟨xm, wk, gk, x1, x2, x3⟩
    · rw [x] at c; exact absurd rfl c
    · refine ⟨h0, ⟨m1, by omega, by omega, by omega⟩, ?_⟩
      have hlk := hl k z2.1 z2.2 xm
      refine vc_kp x1.1 (cm_imageBack (d := d) (by omega) x1 x2 x3 h0 hsh hlk) ⟨Nat.zero_le _, Nat.zero_le _⟩ ?_
      rintro _ _ S2 _ ⟨rfl, rfl, rfl, A2, C2, W2, e0, e1⟩
      refine ⟨C2.1, ⟨Nat.zero_le _, Nat.zero_le _⟩, ?_, rfl, rfl, Or.inr ⟨⟨z1, xm⟩, A2, wk, gk, x3, C2, W2, ?_, ?_⟩⟩
      · rw [C2.2.2.2.2.2.2.1, if_pos ⟨z1, xm⟩]
      · rw [e0, Int.toNat_natCast]
        obtain ⟨q1, q2⟩ := x2.2.2.2.1.1
        refine ⟨q1, ?_⟩
        rw [A2 _ 1 (bkW.k h0 x2.2.1.1 (by decide))]
        exact q2
      · rw [e1, Int.toNat_natCast]
        obtain ⟨q1, q2⟩ := x2.2.2.2.1.2
        refine ⟨q1, ?_⟩
        rw [A2 _ 1 (bkW.k h0 x2.2.2.1.1 (by decide))]
        exact q2
  · have c : (S (S o 33).toNat k).toNat = 0 := c
    have hm0 : mk k = 0 ∧ S (S o 33).toNat k = 0 := by
      rcases m3 k z2.1 z2.2 with x | ⟨-, wk, gk, x1, x2, x3⟩
      · exact x
      · obtain ⟨y, hy, -⟩ := x1.1.1
        omega
    refine ⟨⟨Nat.zero_le _, Nat.zero_le _⟩, ?_, rfl, rfl, Or.inl ⟨fun q => by omega, rfl⟩⟩
    rw [if_neg (fun q => by omega)]
end CNO
