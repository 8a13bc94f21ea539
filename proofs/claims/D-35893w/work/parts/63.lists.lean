set_option maxRecDepth 100000
/-- the row of the list l, in the class's memory -/
def gRo (g : cG) (kc : Nat → Nat) (l : Nat) : Nat := if gCap g l = 0 then kc 3 else gAd g 2 l
def gEl (g : cG) (l : Nat) : Nat → Option Nat := fun j => if j < gN g l then some (gAd g (ek l) j) else none
theorem ek_lt {l : Nat} : ek l = 3 ∨ ek l = 4 ∨ ek l = 9 ∨ ek l = 12 ∨ ek l = 13 := by
  unfold ek
  split
  · exact Or.inl rfl
  · exact Or.inr (Or.inl rfl)
  · exact Or.inr (Or.inr (Or.inl rfl))
  · exact Or.inr (Or.inr (Or.inr (Or.inl rfl)))
  · exact Or.inr (Or.inr (Or.inr (Or.inr rfl)))
theorem cR_lIs {g : cG} {s : cS} {W : jW} (R : cR g s W) (hg : gOk g) (h3 : W.1 (W.2.2 3) = none) {l : Nat} (hl : l < 5) : lIs W (gAd g 1 l) (gRo g W.2.2 l) (gN g l) (gCap g l) (gEl g l) := by
  refine ⟨⟨s.2 0 l, R.2 1 l hl⟩, ?_, (hg.1 l hl).1, (hg.1 l hl).2, fun j hj => ?_⟩
  · by_cases hc : gCap g l = 0
    · exact Or.inl ⟨hc, by unfold gRo; rw [if_pos hc]⟩
    · have h2 : W.1 (gAd g 2 l) = some (jrow (gCap g l) (gEl g l)) := R.2 2 l ⟨hl, hc⟩
      refine Or.inr ⟨hc, ?_, ?_⟩
      · unfold gRo
        rw [if_neg hc]
        intro w
        rw [w, h3] at h2
        cases h2
      · unfold gRo
        rw [if_neg hc]
        exact h2
  · unfold gEl
    rw [if_neg (by omega)]
theorem cE_12a {g : cG} {kc : Nat → Nat} {s : cS} {j : Nat} (h : s.1.1 19 j = 7) : cE g kc s 12 j = .inr (5, [.int (s.1.1 18 j), .int (s.1.1 20 j), .int (s.1.1 21 j), .int (s.1.1 22 j)]) := if_pos h
theorem cE_12b {g : cG} {kc : Nat → Nat} {s : cS} {j : Nat} (h : ¬ s.1.1 19 j = 7) : cE g kc s 12 j = .inr (4, [.int (s.1.1 18 j), .int (s.1.1 19 j), .int (s.1.1 20 j)]) := if_neg h
theorem cR_jel {g : cG} {s : cS} {W : jW} (R : cR g s W) {l j : Nat} (h : cLv g (ek l) j) : jel W 3 (some (gAd g (ek l) j)) = true := by
  rw [jel_some, R.2 _ _ h]
  rcases (ek_lt (l := l)) with e | e | e | e | e <;> rw [e]
  · rfl
  · rfl
  · rfl
  · by_cases h7 : s.1.1 19 j = 7
    · rw [cE_12a h7]; rfl
    · rw [cE_12b h7]; rfl
  · rfl
