set_option maxRecDepth 100000
/-- a list l has a row ro of cap places, and n elements -/
def gLst (g : cG) (l ro n cap : Nat) : cG := (fun k i => if k = 2 ∧ i = l then ro else gAd g k i, fun j => if j = l then n else gN g j, fun j => if j = l then cap else gCap g j, gRl g)
def xLst (x : Nat → Nat → Int32) (l : Nat) (mc : Int32) : Nat → Nat → Int32 := fun k i => if k = 0 ∧ i = l then mc else x k i
theorem gLst_ad {g : cG} {l ro n cap k i : Nat} (h : ¬ (k = 2 ∧ i = l)) : gAd (gLst g l ro n cap) k i = gAd g k i := if_neg h
theorem gLst_n {g : cG} {l ro n cap j : Nat} (h : j ≠ l) : gN (gLst g l ro n cap) j = gN g j := if_neg h
theorem gLst_c {g : cG} {l ro n cap j : Nat} (h : j ≠ l) : gCap (gLst g l ro n cap) j = gCap g j := if_neg h
theorem xLst_k {x : Nat → Nat → Int32} {l : Nat} {mc : Int32} {k : Nat} (h : k ≠ 0) : xLst x l mc k = x k := funext fun i => if_neg (fun w => h w.1)
theorem gLst_lv {g : cG} {l ro n cap k i : Nat} (hl : l < 5) (h : ¬ (k = 2 ∧ i = l)) : cLv (gLst g l ro n cap) k i ↔ cLv g k i := by
  have e : ∀ j, 5 ≤ j → gN (gLst g l ro n cap) j = gN g j := fun j hj => gLst_n (by omega)
  by_cases hk : k = 2
  · subst hk
    show (i < 5 ∧ gCap (gLst g l ro n cap) i ≠ 0) ↔ (i < 5 ∧ gCap g i ≠ 0)
    rw [gLst_c (fun w => h ⟨rfl, w⟩)]
  · unfold cLv
    split
    all_goals first | exact absurd rfl hk | exact Iff.rfl | simp only [e 5 (by decide), e 6 (by decide), e 7 (by decide), e 8 (by decide), e 9 (by decide)]
theorem gLst_cE {g : cG} {kc : Nat → Nat} {m : mS} {x : Nat → Nat → Int32} {l ro n cap k i : Nat} {mc : Int32} (h1 : ¬ (k = 1 ∧ i = l)) (h2 : ¬ (k = 2 ∧ i = l)) : cE (gLst g l ro n cap) kc (m, xLst x l mc) k i = cE g kc (m, x) k i := by
  have a : ∀ k', k' ≠ 2 → gAd (gLst g l ro n cap) k' = gAd g k' := fun k' hk' => funext fun i' => gLst_ad (fun w => hk' w.1)
  have a1 := a 1 (by decide)
  have a4 := a 4 (by decide)
  have a5 := a 5 (by decide)
  have a9 := a 9 (by decide)
  have a6 := a 6 (by decide)
  have a7 := a 7 (by decide)
  have a8 := a 8 (by decide)
  have a0 := a 0 (by decide)
  have a3 := a 3 (by decide)
  have a10 := a 10 (by decide)
  have a11 := a 11 (by decide)
  have hek : ∀ i', gAd (gLst g l ro n cap) (ek i') = gAd g (ek i') := fun i' => a _ (by rcases (ek_lt (l := i')) with e | e | e | e | e <;> omega)
  have x1 : xLst x l mc 1 = x 1 := xLst_k (by decide)
  have x2 : xLst x l mc 2 = x 2 := xLst_k (by decide)
  have x3 : xLst x l mc 3 = x 3 := xLst_k (by decide)
  have x4 : xLst x l mc 4 = x 4 := xLst_k (by decide)
  have x5 : xLst x l mc 5 = x 5 := xLst_k (by decide)
  have x6 : xLst x l mc 6 = x 6 := xLst_k (by decide)
  have x7 : xLst x l mc 7 = x 7 := xLst_k (by decide)
  have x8 : xLst x l mc 8 = x 8 := xLst_k (by decide)
  have x9 : xLst x l mc 9 = x 9 := xLst_k (by decide)
  have r : gRl (gLst g l ro n cap) = gRl g := rfl
  by_cases hk1 : k = 1
  · subst hk1
    have hi : i ≠ l := fun w => h1 ⟨rfl, w⟩
    have x0 : xLst x l mc 0 i = x 0 i := if_neg (fun w => hi w.2)
    have a2 : gAd (gLst g l ro n cap) 2 i = gAd g 2 i := gLst_ad (fun w => hi w.2)
    simp only [cE, x0, a2, gLst_n hi, gLst_c hi]
  · by_cases hk2 : k = 2
    · subst hk2
      have hi : i ≠ l := fun w => h2 ⟨rfl, w⟩
      simp only [cE, gLst_n hi, gLst_c hi, hek]
    · unfold cE
      split
      all_goals first | exact absurd rfl hk1 | exact absurd rfl hk2 | simp only [a0, a1, a3, a4, a5, a6, a7, a8, a9, a10, a11, x1, x2, x3, x4, x5, x6, x7, x8, x9, r]
