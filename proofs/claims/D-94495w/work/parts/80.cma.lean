/-! THE COMPONENT's methods: small ones -/
set_option maxRecDepth 100000
def vc_eq (r : Option AV) (Lw : List Nat) (S : SS) (B : SB) : vc_Po := fun o Lw' S' B' => o = .inl r ∧ Lw' = Lw ∧ S' = S ∧ B' = B
def vc_eu (r : Option AV) (Lw : List Nat) (S : SS) (B : SB) : Option AV → List Nat → SS → SB → Prop := fun o Lw' S' B' => o = r ∧ Lw' = Lw ∧ S' = S ∧ B' = B
section CMA
variable {Lw : List Nat} {S : SS} {B : SB} {d : Nat}
theorem vc_eq_up {mc ms mt : Nat} {as : List AV} {r : Option AV} {Lw1 : List Nat} {S1 : SS} {B1 : SB} (h : vc_M d mc ms mt as Lw S B (vc_eq r Lw1 S1 B1)) : vc_M d mc ms mt as Lw S B (vc_up (vc_eu r Lw1 S1 B1)) := by
  refine h.mono ?_
  rintro o L1 S1 B1 ⟨rfl, rfl, rfl, rfl⟩
  exact ⟨rfl, rfl, rfl, rfl⟩
/-- a static call (or a nest mate's) of a method that leaves a known state -/
theorem vc_k {mt : Nat} {as : List AV} {r : Option AV} {Lw1 : List Nat} {S1 : SS} {B1 : SB} {mc' ms' cc sl mc ms : Nat} {Q : Option AV → List Nat → SS → SB → Nat → Nat → Prop} (h : vc_M d mc' ms' mt as Lw S B (vc_eq r Lw1 S1 B1)) (hb : cc + mc' ≤ mc ∧ sl + ms' ≤ ms) (k : Q r Lw1 S1 B1 (cc + mc') (sl + ms')) : ∃ mc' ms' P', vc_M d mc' ms' mt as Lw S B (vc_up P') ∧ (cc + mc' ≤ mc ∧ sl + ms' ≤ ms) ∧ ∀ v Lw' S' B', P' v Lw' S' B' → Q v Lw' S' B' (cc + mc') (sl + ms') :=
  ⟨mc', ms', _, vc_eq_up h, hb, by rintro _ _ _ _ ⟨rfl, rfl, rfl, rfl⟩; exact k⟩
theorem cm_in {x lo hi : Int} (hx : -9223372036854775808 ≤ x ∧ x ≤ 9223372036854775807) (hl : -9223372036854775808 ≤ lo ∧ lo ≤ 9223372036854775807) (hh : -9223372036854775808 ≤ hi ∧ hi ≤ 9223372036854775807) : vc_M d 0 0 5 [ll (Int64.ofInt x), ll (Int64.ofInt lo), ll (Int64.ofInt hi)] Lw S B (vc_eq (some (ii (bI (sIn x lo hi)))) Lw S B) := by
  refine vc_start rfl rfl (Nat.le_of_ble_eq_true rfl) (fun X hX hd => ?_)
  refine vc_walk hX ck_X0_in [] 40 hd ?_
  have r1 := cmp_rg (Int64.ofInt x) (Int64.ofInt lo)
  have r2 := cmp_rg (Int64.ofInt x) (Int64.ofInt hi)
  have e1 : vt_cmp (Int64.ofInt x) (Int64.ofInt lo) < 0 ↔ ¬ lo ≤ x := by rw [cmp_lt0, ← lg_le hl hx]; exact Int64.not_le.symm
  have e2 : 0 < vt_cmp (Int64.ofInt x) (Int64.ofInt hi) ↔ ¬ x ≤ hi := by rw [cmp_gt0, ← lg_le hx hh]; exact Int64.not_le.symm
  refine ⟨by omega, fun c => ?_, fun c => ?_⟩
  · rw [show sIn x lo hi = false from decide_eq_false (fun z => e1.mp c z.1)]
    exact ⟨⟨Or.inl rfl, Nat.le_refl _, Nat.le_refl _⟩, rfl, rfl, rfl, rfl⟩
  · refine ⟨by omega, fun c2 => ?_, fun c2 => ?_⟩
    · rw [show sIn x lo hi = false from decide_eq_false (fun z => e2.mp c2 z.2)]
      exact ⟨⟨Or.inl rfl, Nat.le_refl _, Nat.le_refl _⟩, rfl, rfl, rfl, rfl⟩
    · rw [show sIn x lo hi = true from decide_eq_true ⟨by omega, by omega⟩]
      exact ⟨⟨Or.inr rfl, Nat.le_refl _, Nat.le_refl _⟩, rfl, rfl, rfl, rfl⟩
theorem cm_size {r : Nat} (h : vc_ob Lw S r 15) : vc_M d 0 0 139 [.inr (.inr r)] Lw S B (vc_eq (some (ii (S r 2))) Lw S B) := by
  refine vc_start rfl rfl (Nat.le_of_ble_eq_true rfl) (fun X hX hd => ?_)
  refine vc_walk hX ck_J2_size [] 40 hd ?_
  exact ⟨h, ⟨Nat.le_refl _, Nat.le_refl _⟩, rfl, rfl, rfl, rfl⟩
theorem cm_from {r : Nat} (h : vc_ob Lw S r 4) (h5 : S r 5 = 0 ∨ S r 5 = 1) : vc_M d 0 0 110 [.inr (.inr r)] Lw S B (vc_eq (some (ii (if S r 5 = 0 then S r 0 else S r 1))) Lw S B) := by
  refine vc_start rfl rfl (Nat.le_of_ble_eq_true rfl) (fun X hX hd => ?_)
  refine vc_walk hX ck_X5_from [] 40 hd ?_
  refine ⟨h, by omega, fun c => ?_, fun c => ?_⟩
  · rw [if_pos c]
    exact ⟨h, ⟨Nat.le_refl _, Nat.le_refl _⟩, rfl, rfl, rfl, rfl⟩
  · rw [if_neg c]
    exact ⟨h, ⟨Nat.le_refl _, Nat.le_refl _⟩, rfl, rfl, rfl, rfl⟩
theorem cm_to {r : Nat} (h : vc_ob Lw S r 4) (h5 : S r 5 = 0 ∨ S r 5 = 1) : vc_M d 0 0 111 [.inr (.inr r)] Lw S B (vc_eq (some (ii (if S r 5 = 0 then S r 1 else S r 0))) Lw S B) := by
  refine vc_start rfl rfl (Nat.le_of_ble_eq_true rfl) (fun X hX hd => ?_)
  refine vc_walk hX ck_X5_to [] 40 hd ?_
  refine ⟨h, by omega, fun c => ?_, fun c => ?_⟩
  · rw [if_pos c]
    exact ⟨h, ⟨Nat.le_refl _, Nat.le_refl _⟩, rfl, rfl, rfl, rfl⟩
  · rw [if_neg c]
    exact ⟨h, ⟨Nat.le_refl _, Nat.le_refl _⟩, rfl, rfl, rfl, rfl⟩
end CMA
