set_option maxRecDepth 100000
theorem cSt.trans {g g1 g2 : cG} {s1 s2 : cS} {W W1 W2 : jW} (a : cSt g g1 s1 W W1) (b : cSt g1 g2 s2 W1 W2) : cSt g g2 s2 W W2 := by
  obtain ⟨a1, a2, a3, a4, a5⟩ := a
  obtain ⟨b1, b2, b3, b4, b5⟩ := b
  refine ⟨b1, jFr.trans a2 b2 (fun q hq ⟨k, i, h1, h2⟩ => ?_), fun k i h => ?_, b4.trans a4, b5⟩
  · rcases a3 k i h1 with ⟨c1, c2⟩ | c1
    · exact ⟨k, i, c1, by rw [← c2]; exact h2⟩
    · omega
  · rcases b3 k i h with ⟨c1, c2⟩ | c1
    · rcases a3 k i c1 with ⟨d1, d2⟩ | d1
      · exact Or.inl ⟨d1, c2.trans d2⟩
      · exact Or.inr (by rw [c2]; exact d1)
    · exact Or.inr (Nat.le_trans a2.2.1 c1)
theorem cSt.refl {g : cG} {s : cS} {W : jW} (R : cR g s W) (hW : jWF W) (hg : gOk g) : cSt g g s W W := ⟨R, jFr.refl hW, fun _ _ h => Or.inl ⟨h, rfl⟩, rfl, hg⟩
/-- values change -/
theorem cSt.mut {g : cG} {s s' : cS} {W : jW} (R : cR g s W) (hW : jWF W) (hg : gOk g) : cSt g g s' W (cv g s' W) := by
  refine ⟨cv_R R.1, ⟨fun q _ hq => ?_, Nat.le_refl _, rfl, fun q e hq => ?_⟩, fun _ _ h => Or.inl ⟨h, rfl⟩, rfl, hg⟩
  · exact cv_off (gTg_n fun k i h1 h2 => hq ⟨k, i, h1, h2⟩)
  · cases ht : gTg g q with
    | none => rw [cv_off ht] at hq; exact hW q e hq
    | some t => exact R.1.lt ht
/-- the same values by another name -/
theorem cSt.eqs {g g' : cG} {s s' : cS} {W W1 : jW} (a : cSt g g' s W W1) (h : ∀ k i, cLv g' k i → cE g' W1.2.2 s' k i = cE g' W1.2.2 s k i) : cSt g g' s' W W1 :=
  ⟨⟨a.1.1, fun k i hl => by rw [h k i hl]; exact a.1.2 k i hl⟩, a.2⟩
/-- cells without a tag -/
theorem cR.fr {g : cG} {s : cS} {F : Nat → Prop} {W W1 : jW} (R : cR g s W) (f : jFr F W W1) (h : ∀ k i, cLv g k i → ¬ F (gAd g k i)) : cR g s W1 :=
  ⟨R.1.up f.2.1, fun k i hl => by rw [f.1 _ (R.1.2 k i hl) (h k i hl), f.2.2.1]; exact R.2 k i hl⟩
theorem cSt.cR {g g' : cG} {s : cS} {W W1 : jW} (a : cSt g g' s W W1) : cR g' s W1 := a.1
theorem cSt.wf {g g' : cG} {s : cS} {W W1 : jW} (a : cSt g g' s W W1) : jWF W1 := a.2.1.2.2.2
theorem cSt.ok {g g' : cG} {s : cS} {W W1 : jW} (a : cSt g g' s W W1) : gOk g' := a.2.2.2.2
theorem cSt.kc {g g' : cG} {s : cS} {W W1 : jW} (a : cSt g g' s W W1) : W1.2.2 = W.2.2 := a.2.1.2.2.1
theorem cSt.le {g g' : cG} {s : cS} {W W1 : jW} (a : cSt g g' s W W1) : W.2.1 ≤ W1.2.1 := a.2.1.2.1
/-- what the constants' places give, in the class's worlds -/
theorem kOk.no {z : Nat} {W : jW} (h : kOk z W.2.2) (hl : lo z W) : W.1 (W.2.2 3) = none := by
  cases hq : W.1 (W.2.2 3) with
  | none => rfl
  | some e => exact absurd (hl _ _ hq) (by have := h.2.1.2.2.2.1; omega)
theorem kOk.kB {z : Nat} {W : jW} (h : kOk z W.2.2) (hz : z ≤ W.2.1) : kB W := ⟨Nat.lt_of_lt_of_le h.2.1.2.2.2.1 hz, fun i hi => Nat.lt_of_lt_of_le (h.2.2.1 i hi) hz⟩
/-- an element that has its tag comes behind the list's -/
theorem cR_add {g : cG} {m : mS} {x : Nat → Nat → Int32} {W : jW} (R : cR g (m, x) W) (hW : jWF W) (hg : gOk g) (h3 : W.1 (W.2.2 3) = none) (hk : kB W) {l : Nat} (hl : l < 5) (hn : gN g l < 84) (hlv : ∀ j, j ≤ gN g l → cLv g (ek l) j) :
    ∃ W' ro cap mc, f_J2_add (some (gAd g 1 l)) (some (gAd g (ek l) (gN g l))) W = some (1, W') ∧ cSt g (gLst g l ro (gN g l + 1) cap) (m, xLst x l mc) W W' := by
  have hL := cR_lIs R hg h3 hl
  obtain ⟨W', ro, cap, h1, h2, h4, h5, h6⟩ := l_add hW hk hL hn (fun j hj => by unfold gEl; rw [if_pos hj]; exact cR_jel R (hlv j (by omega))) (cR_jel R (hlv _ (Nat.le_refl _))) (R.1.2 _ _ (hlv _ (Nat.le_refl _)))
  obtain ⟨mc, h7⟩ := cR_lst R hg hl h4 h2 (h6.elim Or.inl (fun q => Or.inr (Or.inl q))) (fun j => by
    unfold va_up gEl
    by_cases hj : j = gN g l
    · subst hj; rw [if_pos rfl, if_pos (by omega)]
    · rw [if_neg hj]
      by_cases hj2 : j < gN g l
      · rw [if_pos hj2, if_pos (by omega)]
      · rw [if_neg hj2, if_neg (by omega)])
  exact ⟨W', ro, cap, mc, h1, h7⟩
theorem cR_clear {g : cG} {m : mS} {x : Nat → Nat → Int32} {W : jW} (R : cR g (m, x) W) (hW : jWF W) (hg : gOk g) (h3 : W.1 (W.2.2 3) = none) {l : Nat} (hl : l < 5) :
    ∃ W' ro cap mc, f_J2_clear (some (gAd g 1 l)) W = some ((), W') ∧ cSt g (gLst g l ro 0 cap) (m, xLst x l mc) W W' := by
  obtain ⟨W', h1, h2, h4, h5⟩ := l_clear hW (cR_lIs R hg h3 hl)
  obtain ⟨mc, h7⟩ := cR_lst R hg hl h4 h2 (by
    by_cases hc : gCap g l = 0
    · exact Or.inr (Or.inr hc)
    · exact Or.inl ⟨hc, rfl⟩) (fun j => by rw [if_neg (by omega)])
  exact ⟨W', _, _, mc, h1, h7⟩
theorem cR_size {g : cG} {s : cS} {W : jW} (R : cR g s W) {l : Nat} (hl : l < 5) : f_J2_size (some (gAd g 1 l)) W = some (i32 (gN g l), W) := l_size (R.2 1 l hl)
theorem cR_get {g : cG} {s : cS} {W : jW} (R : cR g s W) (hg : gOk g) {l k : Nat} (hl : l < 5) (hk : k < gN g l) : f_J2_get (some (gAd g 1 l)) (i32 k) W = some (some (gAd g (ek l) k), W) := by
  have hc := hg.1 l hl
  have h0 : gCap g l ≠ 0 := by omega
  have hla : W.1 (gAd g 1 l) = some (jlist (s.2 0 l) (gAd g 2 l) (gN g l)) := by
    rw [R.2 1 l hl]
    show some (Sum.inr (9, [.int (s.2 0 l), .ref (if gCap g l = 0 then W.2.2 3 else gAd g 2 l), .int (i32 (gN g l))]) : jE) = _
    rw [if_neg h0]
  have := l_get (by omega) hla (show W.1 (gAd g 2 l) = some (jrow (gCap g l) (gEl g l)) from R.2 2 l ⟨hl, h0⟩) hk hc.1
  rw [this]
  unfold gEl
  rw [if_pos hk]
