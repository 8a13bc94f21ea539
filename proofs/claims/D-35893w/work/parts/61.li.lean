/-! THE INVARIANT of the whole -/
set_option maxRecDepth 100000
abbrev cUse : List Nat := [2, 4, 5, 6, 7, 8, 9, 10, 11, 12, 13, 18, 19, 20, 21, 22, 24]
theorem cE_congr {g : cG} {kc : Nat → Nat} {m m' : mS} {x x' : Nat → Nat → Int32} (h2 : m'.2 = m.2) (hm : ∀ k, k ∈ cUse → m'.1 k = m.1 k) (hx : ∀ k, k < 10 → x' k = x k) (k i : Nat) : cE g kc (m', x') k i = cE g kc (m, x) k i := by
  have e2 := hm 2 (by decide)
  have e4 := hm 4 (by decide)
  have e5 := hm 5 (by decide)
  have e6 := hm 6 (by decide)
  have e7 := hm 7 (by decide)
  have e8 := hm 8 (by decide)
  have e9 := hm 9 (by decide)
  have e10 := hm 10 (by decide)
  have e11 := hm 11 (by decide)
  have e12 := hm 12 (by decide)
  have e13 := hm 13 (by decide)
  have e18 := hm 18 (by decide)
  have e19 := hm 19 (by decide)
  have e20 := hm 20 (by decide)
  have e21 := hm 21 (by decide)
  have e22 := hm 22 (by decide)
  have e24 := hm 24 (by decide)
  have x0 := hx 0 (by decide)
  have x1 := hx 1 (by decide)
  have x2 := hx 2 (by decide)
  have x3 := hx 3 (by decide)
  have x4 := hx 4 (by decide)
  have x5 := hx 5 (by decide)
  have x6 := hx 6 (by decide)
  have x7 := hx 7 (by decide)
  have x8 := hx 8 (by decide)
  have x9 := hx 9 (by decide)
  unfold cE
  simp only [h2, e2, e4, e5, e6, e7, e8, e9, e10, e11, e12, e13, e18, e19, e20, e21, e22, e24, x0, x1, x2, x3, x4, x5, x6, x7, x8, x9]
/-- all cells lie at z or above -/
def lo (z : Nat) (W : jW) : Prop := ∀ q e, W.1 q = some e → z ≤ q
/-- the lists' rows hold what the lists have -/
def gOk (g : cG) : Prop := (∀ l, l < 5 → gN g l ≤ gCap g l ∧ gCap g l ≤ 128) ∧ ∀ r, gRl g r ≤ 32
/-- the shape: the class's cells, the reference's block, the answer's array; no word about the values -/
def lSh (z mo ao : Nat) (g : cG) (s : cS) (mb : mS) (W : jW) : Prop := cR g s W ∧ (∀ j, j < 22 → W.1 (mo + j) = some (mcell mo mb j)) ∧ (∃ A, W.1 ao = some (.inl (2, (1, .inr (.inl A))))) ∧ (∀ k i, cLv g k i → ¬ (mo ≤ gAd g k i ∧ gAd g k i < mo + 22) ∧ gAd g k i ≠ ao) ∧ gAd g 0 0 = z ∧ kOk z W.2.2 ∧ lo z W ∧ (z ≤ W.2.1 ∧ mo + 22 ≤ W.2.1 ∧ ao < W.2.1) ∧ ¬ (mo ≤ ao ∧ ao < mo + 22) ∧ gOk g
/-- cells with a tag -/
def gIn (g : cG) (q : Nat) : Prop := ∃ k i, cLv g k i ∧ gAd g k i = q
/-- the class's step: only tagged cells change; tags stay, or go to new cells -/
def cSt (g g' : cG) (s' : cS) (W W1 : jW) : Prop := cR g' s' W1 ∧ jFr (gIn g) W W1 ∧ (∀ k i, cLv g' k i → (cLv g k i ∧ gAd g' k i = gAd g k i) ∨ W.2.1 ≤ gAd g' k i) ∧ gAd g' 0 0 = gAd g 0 0 ∧ gOk g'
theorem lo_fr {z : Nat} {F : Nat → Prop} {W W1 : jW} (h : lo z W) (hz : z ≤ W.2.1) (hF : ∀ q, F q → z ≤ q) (f : jFr F W W1) : lo z W1 := by
  intro q e hq
  by_cases h1 : q < W.2.1
  · by_cases h2 : F q
    · exact hF q h2
    · rw [f.1 q h1 h2] at hq
      exact h q e hq
  · omega
/-- the shape behind the class's step -/
theorem lSh.step {z mo ao : Nat} {g g' : cG} {s s' : cS} {mb : mS} {W W1 : jW} (h : lSh z mo ao g s mb W) (t : cSt g g' s' W W1) : lSh z mo ao g' s' mb W1 := by
  obtain ⟨hR, hb, ⟨A, hA⟩, hd, hz, hk, hl, ⟨hn1, hn2, hn3⟩, hao, hg⟩ := h
  obtain ⟨tR, tf, ta, tz, tg⟩ := t
  have hin : ∀ q, gIn g q → ¬ (mo ≤ q ∧ q < mo + 22) ∧ q ≠ ao := by
    rintro q ⟨k, i, h1, h2⟩
    rw [← h2]; exact hd k i h1
  refine ⟨tR, fun j hj => ?_, ⟨A, ?_⟩, fun k i hki => ?_, by rw [tz]; exact hz, by rw [tf.2.2.1]; exact hk, lo_fr hl hn1 (fun q hq => ?_) tf, ⟨?_, ?_, ?_⟩, hao, tg⟩
  · rw [tf.1 (mo + j) (by omega) (fun w => (hin _ w).1 ⟨by omega, by omega⟩)]; exact hb j hj
  · rw [tf.1 ao hn3 (fun w => (hin _ w).2 rfl)]; exact hA
  · rcases ta k i hki with ⟨h1, h2⟩ | h1
    · rw [h2]; exact hd k i h1
    · exact ⟨by omega, by omega⟩
  · obtain ⟨k, i, h1, h2⟩ := hq
    rw [← h2]
    exact hl _ _ (hR.2 k i h1)
  · exact Nat.le_trans hn1 tf.2.1
  · exact Nat.le_trans hn2 tf.2.1
  · exact Nat.lt_of_lt_of_le hn3 tf.2.1
/-- the reference's block as an overlay -/
theorem lSh.ovl {z mo ao : Nat} {g : cG} {s : cS} {mb : mS} {W : jW} (h : lSh z mo ao g s mb W) : W = ov mo mb W := by
  refine Prod.ext (funext fun q => ?_) rfl
  by_cases hq : mo ≤ q ∧ q < mo + 22
  · obtain ⟨j, rfl⟩ : ∃ j, q = mo + j := ⟨q - mo, by omega⟩
    rw [ov_at j (by omega), h.2.1 j (by omega)]
  · rw [ov_off hq]
/-- the shape behind a change of the answer's array -/
theorem lSh.out {z mo ao : Nat} {g : cG} {s : cS} {mb : mS} {W W2 : jW} (h : lSh z mo ao g s mb W) (h1 : ∀ q, q ≠ ao → W2.1 q = W.1 q) (h2 : W2.2.2 = W.2.2) (hw : jWF W2) (h3 : ∃ A, W2.1 ao = some (.inl (2, (1, .inr (.inl A))))) : lSh z mo ao g s mb W2 := by
  obtain ⟨hR, hb, ⟨A, hA⟩, hd, hz, hk, hl, ⟨hn1, hn2, hn3⟩, hao, hg⟩ := h
  have hc : ∀ k i, cLv g k i → W2.1 (gAd g k i) = some (cE g W2.2.2 s k i) := fun k i hki => by rw [h1 _ (hd k i hki).2, h2]; exact hR.2 k i hki
  have hb2 : ∀ j, j < 22 → W2.1 (mo + j) = some (mcell mo mb j) := fun j hj => by rw [h1 _ (fun w => hao ⟨by omega, by omega⟩)]; exact hb j hj
  have h21 := hw _ _ (hb2 21 (by decide))
  obtain ⟨A2, hA2⟩ := h3
  have hzl := hw _ _ (hc 0 0 rfl)
  refine ⟨⟨⟨hR.1.1, fun k i hki => hw _ _ (hc k i hki)⟩, hc⟩, hb2, ⟨A2, hA2⟩, hd, hz, by rw [h2]; exact hk, fun q e hq => ?_, ⟨by rw [hz] at hzl; omega, by omega, hw _ _ hA2⟩, hao, hg⟩
  by_cases hqa : q = ao
  · rw [hqa]; exact hl _ _ hA
  · rw [h1 q hqa] at hq; exact hl q e hq
/-- the shape behind the reference's step -/
theorem lSh.ref {z mo ao : Nat} {g : cG} {s : cS} {mb mb' : mS} {W : jW} (h : lSh z mo ao g s mb W) : lSh z mo ao g s mb' (ov mo mb' W) := by
  obtain ⟨hR, hb, ⟨A, hA⟩, hd, hz, hk, hl, hn, hao, hg⟩ := h
  refine ⟨⟨hR.1, fun k i hki => by rw [ov_off (hd k i hki).1]; exact hR.2 k i hki⟩, fun j hj => ov_at j hj, ⟨A, by rw [ov_off hao]; exact hA⟩, hd, hz, hk, fun q e hq => ?_, hn, hao, hg⟩
  by_cases hq2 : mo ≤ q ∧ q < mo + 22
  · obtain ⟨j, rfl⟩ : ∃ j, q = mo + j := ⟨q - mo, by omega⟩
    exact hl _ _ (hb j (by omega))
  · rw [ov_off hq2] at hq; exact hl q e hq
