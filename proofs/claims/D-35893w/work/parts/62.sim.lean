set_option maxRecDepth 100000
abbrev cI : Type := cG → mS → (Nat → Nat → Int32) → Prop
/-- the law's invariant, over what the values obey -/
def lInv (I : cI) (z mo ao : Nat) (W : jW) : Prop := ∃ g m x, lSh z mo ao g (m, x) m W ∧ I g m x
theorem m_thrown {mo : Nat} {m : mS} {W : jW} : f_X2_thrown (some mo) (ov mo m W) = some (m.1 31 0, ov mo m W) := by
  simp only [f_X2_thrown, ov_get]
theorem sim_of {α : Type} {I : cI} {z mo ao : Nat} {F1 : jW → Option ((α ⊕ Nat) × jW)} {F2 : jW → Option (α × jW)} {codes : List (Nat × Int32)}
    (H : ∀ g m x W, lSh z mo ao g (m, x) m W → I g m x → jWF W → ∃ res W1 c g' m' x' v, F1 W = some (res, W1) ∧ cSt g g' (m', x') W W1 ∧ lC codes res c ∧ (∀ W2, F2 (ov mo m W2) = some (v, ov mo m' W2)) ∧ m'.1 31 0 = c ∧ I g' m' x' ∧ (∀ r, res = .inl r → v = r)) : lSim (lInv I z mo ao) mo ao F1 F2 codes := by
  rintro M ⟨g, m, x, hS, hI⟩ hW
  obtain ⟨res, W1, c, g', m', x', v, h1, hst, hc, h2, h3, hI', hv⟩ := H g m x M hS hI hW
  have hS1 := hS.step hst
  refine ⟨res, W1, c, h1, hc, hS1.2.2.1, ⟨mobj mo m, hS1.2.1 0 (by decide)⟩, fun M2 a1 a2 a3 a4 => ?_⟩
  have hS2 := hS1.out a1 a2 a3 a4
  have e := h2 M2
  rw [← hS2.ovl] at e
  refine ⟨v, ov mo m' M2, e, ⟨g', m', x', hS2.ref, hI'⟩, ov_off hS2.2.2.2.2.2.2.2.2.1, ?_, hv⟩
  rw [m_thrown, h3]
theorem ans_of {I : cI} {z mo ao : Nat} {F1 F2 : jW → Option (Int32 × jW)}
    (H : ∀ g m x W, lSh z mo ao g (m, x) m W → I g m x → jWF W → ∃ W1 g' m' x' v, F1 W = some (v, W1) ∧ cSt g g' (m', x') W W1 ∧ (∀ W2, F2 (ov mo m W2) = some (v, ov mo m' W2)) ∧ I g' m' x' ∧ cSt g g' (m, x') W W1 ∧ I g' m x') : lAns (lInv I z mo ao) F1 F2 := by
  rintro M ⟨g, m, x, hS, hI⟩ hW
  obtain ⟨W1, g', m', x', v, h1, hst, h2, hI', hst2, hI2⟩ := H g m x M hS hI hW
  refine ⟨v, W1, h1, ⟨g', m, x', hS.step hst2, hI2⟩, fun hW1 => ?_⟩
  have hS1 := hS.step hst
  have e := h2 W1
  rw [← hS1.ovl] at e
  exact ⟨ov mo m' W1, e, g', m', x', hS1.ref, hI'⟩
