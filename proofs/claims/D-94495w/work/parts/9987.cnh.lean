/-! THE COMPONENT's methods: days -/
set_option maxRecDepth 100000
/-- the goers leave l later -/
def ltF (f l : Int → Int) (i : Int) : Int := if (i - 82) % 7 = 0 ∧ 82 ≤ i ∧ i < 82 + 7 * f 1 then f i + l ((i - 82) / 7) else f i
theorem ltF_G {f l : Int → Int} {g k : Int} (hg : 0 ≤ g ∧ g < f 1) (hk : 0 ≤ k ∧ k ≤ 6) : sG (ltF f l) g k = if k = 2 then sG f g 2 + l g else sG f g k := by
  show ltF f l (80 + 7 * g + k) = if k = 2 then f (80 + 7 * g + 2) + l g else f (80 + 7 * g + k)
  unfold ltF
  by_cases c : k = 2
  · subst c
    rw [if_pos (by omega), if_pos rfl, show (80 + 7 * g + 2 - 82) / 7 = g by omega]
  · rw [if_neg (by omega), if_neg c]
theorem ltF_x {f l : Int → Int} {i : Int} (hi : i < 82) : ltF f l i = f i := if_neg (by omega)
theorem ltF_0 {f l : Int → Int} (h : ∀ u, 0 ≤ u → u < f 1 → l u = 0) : ltF f l = f := by
  funext i
  unfold ltF
  split
  · rw [h _ (by omega) (by omega), Int.add_zero]
  · rfl
theorem ltF_c {f l l' : Int → Int} (h : ∀ u, 0 ≤ u → u < f 1 → l' u = l u) : ltF f l' = ltF f l := by
  funext i
  unfold ltF
  split
  · rw [h _ (by omega) (by omega)]
  · rfl
theorem ltF_up {f l : Int → Int} {g v : Int} (hg : 0 ≤ g ∧ g < f 1) : upF (ltF f l) (80 + 7 * g + 2) (sG f g 2 + v) = ltF f (fun u => if u = g then v else l u) := by
  funext i
  by_cases c : i = 80 + 7 * g + 2
  · subst c
    rw [upF_self]
    have := ltF_G (f := f) (l := fun u => if u = g then v else l u) (k := 2) hg (by decide)
    rw [if_pos rfl, if_pos rfl] at this
    exact this.symm
  · rw [upF_ne c]
    unfold ltF
    by_cases c2 : (i - 82) % 7 = 0 ∧ 82 ≤ i ∧ i < 82 + 7 * f 1
    · rw [if_pos c2, if_pos c2]
      show _ = f i + (if (i - 82) / 7 = g then v else l ((i - 82) / 7))
      rw [if_neg (show ¬ (i - 82) / 7 = g by omega)]
    · rw [if_neg c2, if_neg c2]
def ldF (f : Int → Int) (x u : Int) : Int := (dgF f x (u + 1).toNat).1 / 65536 % 60
theorem dgF_lt {f : Int → Int} {x : Int} : ∀ (n : Nat) (i : Int), (dgF f x n).2 i = if (i - 82) % 7 = 0 ∧ 82 ≤ i ∧ i < 82 + 7 * (n : Int) then f i + ldF f x ((i - 82) / 7) else f i
  | 0, i => by rw [if_neg (by omega)]; rfl
  | n + 1, i => by
    show upF (dgF f x n).2 (80 + 7 * (n : Int) + 2) ((dgF f x n).2 (80 + 7 * (n : Int) + 2) + dgx (dgF f x n).1 / 65536 % 60) i = _
    by_cases c : i = 80 + 7 * (n : Int) + 2
    · subst c
      rw [upF_self, dgF_lt n, if_neg (by omega), if_pos (by omega), show (80 + 7 * (n : Int) + 2 - 82) / 7 = n by omega]
      unfold ldF
      rw [show ((n : Int) + 1).toNat = n + 1 by omega]
      rfl
    · rw [upF_ne c, dgF_lt n]
      by_cases c2 : (i - 82) % 7 = 0 ∧ 82 ≤ i ∧ i < 82 + 7 * (n : Int)
      · rw [if_pos c2, if_pos (by omega)]
      · rw [if_neg c2, if_neg (by omega)]
theorem ltF_dg {f l : Int → Int} {x : Int} (n1 : 0 ≤ f 1) (h : ∀ u, 0 ≤ u → u < f 1 → l u = ldF f x u) : ltF f l = (dgF f x (f 1).toNat).2 := by
  funext i
  rw [dgF_lt, ltF_c h, Int.toNat_of_nonneg n1]
  rfl
section CNH
variable {Lw Lw' : List Nat} {S0 S : SS} {B : SB} {d o D kr b : Nat} {τ τ' : Nat → Nat} {f F l : Int → Int} {wr gr rr : Int → Nat} {lt : Int → Int} {K nr : Int} {R : RU}
theorem cm_draws (h : vc_ob Lw S o 0) (hx : 0 ≤ S o 5 ∧ S o 5 ≤ 2147483647) : vc_M d 0 0 78 [.inr (.inr o), ii 60] Lw S B (vc_eq (some (ii (dgx (S o 5) / 65536 % 60))) Lw (vt_up S o 5 (dgx (S o 5))) B) := by
  refine vc_start rfl rfl (Nat.le_of_ble_eq_true rfl) (fun X hX hd => ?_)
  have hr := dgx_rg (S o 5)
  have ex : Int64.ofInt (S o 5) * Int64.ofInt 1103515245 + Int64.ofInt 12345 - (Int64.ofInt (S o 5) * Int64.ofInt 1103515245 + Int64.ofInt 12345) / Int64.ofInt 2147483648 * Int64.ofInt 2147483648 = Int64.ofInt (dgx (S o 5)) := by
    rw [← Int64.ofInt_mul, ← Int64.ofInt_add, l_rem (by omega) (by decide)]
    rfl
  refine vc_walk hX ck_X0_draws [(18, [0, 1])] 60 hd ?_
  refine ⟨h, by omega, l_ne0 (by decide), ?_⟩
  show vc_J _ _ _ _ _ _ _ _ _ _ _
  rw [ex]
  refine vc_walk hX ck_X0_draws [(22, [0, 1])] 60 hd ?_
  refine ⟨h, ?_⟩
  show vc_J _ _ _ _ _ _ _ _ _ _ _
  rw [Int64.toInt32_ofInt, vt_toI (by omega)]
  have e : vt_up S o 5 (dgx (S o 5)) o 5 = dgx (S o 5) := vt_up_self
  refine vc_walk hX ck_X0_draws [] 60 hd ?_
  refine ⟨ob_up h (by decide), ?_⟩
  rw [e]
  have t1 : (dgx (S o 5)).tdiv 65536 = dgx (S o 5) / 65536 := Int.tdiv_eq_ediv_of_nonneg hr.1
  refine ⟨by omega, by rw [t1]; omega, ⟨Nat.le_refl _, Nat.le_refl _⟩, ?_, rfl, rfl, rfl⟩
  rw [t1, Int.tmod_eq_emod_of_nonneg (by omega)]
/-- goer g leaves v later -/
theorem CLd.later {g v : Int} (h : CLd Lw S o (ltF f l) wr gr l) (hj : CIj f wr gr) (n0 : 0 ≤ f 0 ∧ f 0 ≤ 14) (n1 : 0 ≤ f 1 ∧ f 1 ≤ 6) (hg : 0 ≤ g ∧ g < f 1) : CLd Lw (vt_up S (gr g) 7 v) o (ltF f (fun u => if u = g then v else l u)) wr gr (fun u => if u = g then v else l u) := by
  have f0 : ltF f l 0 = f 0 := ltF_x (by decide)
  have f1 : ltF f l 1 = f 1 := ltF_x (by decide)
  have hG := h.2.2.2.2.1 g hg.1 (by rw [f1]; exact hg.2)
  refine h.goerL (hj.of f0 f1) (by rw [f0]; exact n0) (by rw [f1]; exact n1) (g := g) (by rw [f1]; exact hg) (fun r i hr => up_ne (Or.inl hr)) (fun i hi => ?_) (fun u k u0 u1 hu k0 k1 => ?_) (fun u hu => if_neg hu) ?_
  · unfold ltF
    by_cases c : i < 80
    · rw [if_neg (by omega), if_neg (by omega)]
    · rw [if_neg (by omega), if_neg (by omega)]
  · rw [← ltF_up hg]
    exact upF_ne (by omega)
  · obtain ⟨q0, q1, q2, q3, q4, q5, q6, q7, q8⟩ := hG
    have er : ∀ i, i ≠ 7 → vt_up S (gr g) 7 v (gr g) i = S (gr g) i := fun i hi => up_ne (Or.inr hi)
    show CG Lw _ _ _ g (if g = g then v else l g)
    rw [if_pos rfl]
    unfold CG
    rw [ltF_G hg (by decide), ltF_G hg (by decide), ltF_G hg (by decide), ltF_G hg (by decide), ltF_G hg (by decide), ltF_G hg (by decide), ltF_G hg (by decide), er 0 (by decide), er 1 (by decide), er 2 (by decide), er 3 (by decide), er 4 (by decide), er 5 (by decide), er 6 (by decide)]
    rw [ltF_G hg (by decide)] at q1 q2 q4 q5 q6 q7
    rw [ltF_G hg (by decide), ltF_G hg (by decide)] at q3
    refine ⟨ob_up q0 (by decide), q1, ?_, q3, q4, q5, q6, q7, vt_up_self⟩
    rw [if_pos rfl] at q2 ⊢
    rw [q2]
    show _ = sG f g 2 + (if g = g then v else l g) - v
    rw [if_pos rfl]
    omega
/-- another draw -/
theorem CLd.drawn {x : Int} (h : CLd Lw S o F wr gr l) (n0 : 0 ≤ F 0 ∧ F 0 ≤ 14) (n1 : 0 ≤ F 1 ∧ F 1 ≤ 6) : CLd Lw (vt_up S o 5 x) o F wr gr (fun u => if u = -1 then x - F 7 else l u) := by
  refine h.ownL (by decide) (fun _ _ _ _ _ _ _ _ => rfl) n0 n1 ?_ ?_ ?_ (fun u hu => if_neg (by omega)) ?_ ?_
  · rw [up_ne (Or.inr (by decide))]; exact h.2.2.2.2.2.1
  · rw [up_ne (Or.inr (by decide))]; exact h.2.2.2.2.2.2.1
  · rw [up_ne (Or.inr (by decide))]; exact h.2.2.2.2.2.2.2.1
  · rw [vt_up_self]
    show x = F 7 + (if (-1 : Int) = -1 then x - F 7 else l (-1))
    rw [if_pos rfl]
    omega
  · rw [up_ne (Or.inr (by decide))]; exact h.2.2.2.2.2.2.2.2.2
theorem CLd.lc {lt' : Int → Int} (h : CLd Lw S o f wr gr lt) (hlt : ∀ u, -1 ≤ u → u < f 1 → lt' u = lt u) (n1 : 0 ≤ f 1) : CLd Lw S o f wr gr lt' := by
  obtain ⟨h1, h2, h3, h4, h5, h6, h7, h8, h9, h10⟩ := h
  refine ⟨h1, h2, h3, h4, fun g g0 g1 => ?_, h6, h7, h8, ?_, h10⟩
  · rw [hlt g (by omega) g1]; exact h5 g g0 g1
  · rw [hlt (-1) (by omega) (by omega)]; exact h9
theorem CKc.ltf (h : CKc S kr f) (n0 : 0 ≤ f 0 ∧ f 0 ≤ 14) : CKc S kr (ltF f l) := by
  obtain ⟨k1, k2, k3, k4, k5, k6⟩ := h
  have f0 : ltF f l 0 = f 0 := ltF_x (by decide)
  have f1 : ltF f l 1 = f 1 := ltF_x (by decide)
  refine ⟨fun g g0 g1 => ?_, fun w w0 w1 => ?_, ?_, ?_, ?_, ?_⟩
  · rw [f1] at g1
    rw [ltF_G ⟨g0, g1⟩ (by decide), ltF_G ⟨g0, g1⟩ (by decide), ltF_G ⟨g0, g1⟩ (by decide), ltF_G ⟨g0, g1⟩ (by decide), ltF_G ⟨g0, g1⟩ (by decide)]
    exact k1 g g0 g1
  · rw [f0] at w1
    have e : ∀ k, 0 ≤ k → k ≤ 4 → sW (ltF f l) w k = sW f w k := fun k a b => ltF_x (by omega)
    rw [e 3 (by decide) (by decide), e 4 (by decide) (by decide)]
    exact k2 w w0 w1
  · rw [ltF_x (by decide)]; exact k3
  · rw [ltF_x (by decide)]; exact k4
  · rw [ltF_x (by decide)]; exact k5
  · rw [ltF_x (by decide)]; exact k6
theorem CKc.ltb (h : CKc S kr (ltF f l)) (n0 : 0 ≤ f 0 ∧ f 0 ≤ 14) : CKc S kr f := by
  obtain ⟨k1, k2, k3, k4, k5, k6⟩ := h
  have f0 : ltF f l 0 = f 0 := ltF_x (by decide)
  have f1 : ltF f l 1 = f 1 := ltF_x (by decide)
  rw [ltF_x (by decide)] at k3 k4 k5 k6
  refine ⟨fun g g0 g1 => ?_, fun w w0 w1 => ?_, k3, k4, k5, k6⟩
  · have := k1 g g0 (by rw [f1]; exact g1)
    rw [ltF_G ⟨g0, g1⟩ (by decide), ltF_G ⟨g0, g1⟩ (by decide), ltF_G ⟨g0, g1⟩ (by decide), ltF_G ⟨g0, g1⟩ (by decide), ltF_G ⟨g0, g1⟩ (by decide)] at this
    exact this
  · have := k2 w w0 (by rw [f0]; exact w1)
    have e : ∀ k, 0 ≤ k → k ≤ 4 → sW (ltF f l) w k = sW f w k := fun k a b => ltF_x (by omega)
    rw [e 3 (by decide) (by decide), e 4 (by decide) (by decide)] at this
    exact this
/-- the goers' delays too -/
def dW (S0 : SS) (o : Nat) (τ : Nat → Nat) (f : Int → Int) (gr : Int → Nat) (r : Nat) (i : Int) : Prop := qW S0 o τ r i ∨ (S0 r (-2) = 5 ∧ i = 7 ∧ ∃ g, 0 ≤ g ∧ g < f 1 ∧ r = gr g)
theorem dW.fr : FrW S0 o τ (dW S0 o τ f gr) := ⟨fun r i z => by
  rcases z with z | ⟨z1, z2, -⟩
  · exact z.p
  · exact Or.inr (Or.inr (Or.inr (Or.inl ⟨z1, by omega, by omega⟩))), fun _ _ z => Or.inl z⟩
theorem KpI.later {g v : Int} (h : KpI (dW S0 o τ f gr) Lw S0 o τ (ltF f l) wr gr l (ltF f l) S) (hsh : CSh Lw S0 o τ) (hj : CIj f wr gr) (n0 : 0 ≤ f 0 ∧ f 0 ≤ 14) (n1 : 0 ≤ f 1 ∧ f 1 ≤ 6) (hg : 0 ≤ g ∧ g < f 1) : KpI (dW S0 o τ f gr) Lw S0 o τ (ltF f (fun u => if u = g then v else l u)) wr gr (fun u => if u = g then v else l u) (ltF f (fun u => if u = g then v else l u)) (vt_up S (gr g) 7 v) := by
  have hG := h.2.1.2.2.2.2.1 g hg.1 (by rw [ltF_x (by decide)]; exact hg.2)
  have e5 : S0 (gr g) (-2) = 5 := by rw [← h.1 (gr g) (-2) (fun z => pW.neg (by decide) (dW.fr.1 _ _ z))]; exact hG.1.2
  have hK := (h.kp dW.fr hsh).1
  have hne : ∀ q c, vc_ob Lw S q c → c ≠ 5 → ∀ i, vt_up S (gr g) 7 v q i = S q i := fun q c hq hc i => up_ne (Or.inl (ob_ne hq hG.1 hc))
  refine ⟨h.1.up (Or.inr ⟨e5, rfl, g, hg.1, hg.2, rfl⟩), h.2.1.later hj n0 n1 hg, CKc.ltf ?_ n0⟩
  obtain ⟨k1, k2, k3, k4, k5, k6⟩ := h.2.2.ltb n0
  obtain ⟨hk, ⟨a0, a1, a2, a3, a4, a5, a6⟩, -⟩ := h.kp dW.fr hsh
  have o0 : vc_ob Lw S (S (S0 o 32).toNat 0).toNat 100 := a0.1
  have o1 : vc_ob Lw S (S (S0 o 32).toNat 1).toNat 100 := a1.1
  have o2 : vc_ob Lw S (S (S0 o 32).toNat 2).toNat 100 := a2.1
  have o3 : vc_ob Lw S (S (S0 o 32).toNat 3).toNat 100 := a3.1
  have o4 : vc_ob Lw S (S (S0 o 32).toNat 4).toNat 100 := a4.1
  have o5 : vc_ob Lw S (S (S0 o 32).toNat 5).toNat 100 := a5.1
  have o6 : vc_ob Lw S (S (S0 o 32).toNat 6).toNat 100 := a6.1
  have ek := hne _ 2 hk (by decide)
  have ea : ∀ q, vc_ob Lw S q 100 → ∀ i, vt_up S (gr g) 7 v q i = S q i := fun q hq => hne q 100 hq (by decide)
  refine ⟨fun g g0 g1 => ?_, fun w w0 w1 => ?_, ?_, ?_, ?_, ?_⟩
  · rw [ek, ek, ek, ek, ek, ea _ o0, ea _ o1, ea _ o2, ea _ o3, ea _ o4]
    exact k1 g g0 g1
  · rw [ek, ek, ea _ o5, ea _ o6]
    exact k2 w w0 w1
  · rw [ek]; exact k3
  · rw [ek]; exact k4
  · rw [ek]; exact k5
  · rw [ek]; exact k6
theorem KpI.drawn {x : Int} (h : KpI (dW S0 o τ f gr) Lw S0 o τ (ltF f l) wr gr l (ltF f l) S) (hsh : CSh Lw S0 o τ) (n0 : 0 ≤ f 0 ∧ f 0 ≤ 14) (n1 : 0 ≤ f 1 ∧ f 1 ≤ 6) : KpI (dW S0 o τ f gr) Lw S0 o τ (ltF f (fun u => if u = -1 then x - f 7 else l u)) wr gr (fun u => if u = -1 then x - f 7 else l u) (ltF f (fun u => if u = -1 then x - f 7 else l u)) (vt_up S o 5 x) := by
  have A : Ag (uW S o) S (vt_up S o 5 x) := Ag.rf.up (Or.inr (Or.inl ⟨rfl, by decide, by decide⟩))
  have e : ltF f (fun u => if u = -1 then x - f 7 else l u) = ltF f l := ltF_c (fun u u0 _ => if_neg (by omega))
  have hd := h.2.1.drawn (x := x) (by rw [ltF_x (by decide)]; exact n0) (by rw [ltF_x (by decide)]; exact n1)
  rw [ltF_x (i := 7) (by decide)] at hd
  rw [e]
  exact ⟨dW.fr.utr h.1 A, hd, h.2.2.u (h.kp dW.fr hsh) h.2.1.1.2 A⟩
end CNH
