set_option maxRecDepth 100000
/-- a step of the list l, raw, is a step of the class -/
theorem cR_lst {g : cG} {m : mS} {x : Nat → Nat → Int32} {W W' : jW} (R : cR g (m, x) W) (hg : gOk g) {l ro n cap : Nat} {f : Nat → Option Nat} (hl : l < 5) (fr : jFr (fun p => p = gAd g 1 l ∨ (gCap g l ≠ 0 ∧ p = gRo g W.2.2 l)) W W') (hL : lIs W' (gAd g 1 l) ro n cap f) (hro : (gCap g l ≠ 0 ∧ ro = gRo g W.2.2 l) ∨ (W.2.1 ≤ ro ∧ ro < W'.2.1) ∨ cap = 0) (hf : ∀ j, f j = if j < n then some (gAd g (ek l) j) else none) : ∃ mc, cSt g (gLst g l ro n cap) (m, xLst x l mc) W W' := by
  obtain ⟨⟨mc, h⟩, hr, hnc, hc, -⟩ := hL
  have hgro : gCap g l ≠ 0 → gRo g W.2.2 l = gAd g 2 l := fun hcl => if_neg hcl
  have hek : ek l ≠ 2 := by rcases (ek_lt (l := l)) with e | e | e | e | e <;> omega
  have hro2 : cap ≠ 0 → (cLv g 2 l ∧ ro = gAd g 2 l) ∨ (W.2.1 ≤ ro ∧ ro < W'.2.1) := by
    intro hc0
    rcases hro with ⟨q1, q2⟩ | q | q
    · exact Or.inl ⟨⟨hl, q1⟩, by rw [q2, hgro q1]⟩
    · exact Or.inr q
    · exact absurd q hc0
  have hlv2 : cLv (gLst g l ro n cap) 2 l → cap ≠ 0 := by
    intro q
    have := q.2
    rwa [show gCap (gLst g l ro n cap) l = cap from if_pos rfl] at this
  have a2 : gAd (gLst g l ro n cap) 2 l = ro := if_pos ⟨rfl, rfl⟩
  have hold : ∀ k i, cLv (gLst g l ro n cap) k i → ¬ (k = 2 ∧ i = l) → cLv g k i ∧ gAd (gLst g l ro n cap) k i = gAd g k i := fun k i q1 q2 => ⟨(gLst_lv hl q2).mp q1, gLst_ad q2⟩
  have sep : ∀ k i, cLv (gLst g l ro n cap) k i → ¬ (k = 2 ∧ i = l) → cLv (gLst g l ro n cap) 2 l → gAd g k i ≠ ro := by
    intro k i q1 q2 q3 w
    have q4 := (hold k i q1 q2).1
    rcases hro2 (hlv2 q3) with ⟨b1, b2⟩ | ⟨b1, -⟩
    · rw [b2] at w
      exact q2 (R.1.1 k i 2 l q4 b1 w)
    · have := R.1.2 k i q4
      omega
  have hkc : W'.2.2 = W.2.2 := fr.2.2.1
  refine ⟨mc, ⟨⟨⟨fun k i k' i' h1 h2 he => ?_, fun k i h1 => ?_⟩, fun k i h1 => ?_⟩, fr.weak ?_, fun k i h1 => ?_, gLst_ad (by omega), ⟨fun j hj => ?_, hg.2⟩⟩⟩
  · by_cases q1 : k = 2 ∧ i = l
    · by_cases q2 : k' = 2 ∧ i' = l
      · exact ⟨by rw [q1.1, q2.1], by rw [q1.2, q2.2]⟩
      · obtain ⟨rfl, rfl⟩ := q1
        rw [a2, gLst_ad q2] at he
        exact absurd he.symm (sep k' i' h2 q2 h1)
    · by_cases q2 : k' = 2 ∧ i' = l
      · obtain ⟨rfl, rfl⟩ := q2
        rw [a2, gLst_ad q1] at he
        exact absurd he (sep k i h1 q1 h2)
      · rw [gLst_ad q1, gLst_ad q2] at he
        exact R.1.1 k i k' i' (hold k i h1 q1).1 (hold k' i' h2 q2).1 he
  · by_cases q1 : k = 2 ∧ i = l
    · obtain ⟨rfl, rfl⟩ := q1
      rw [a2]
      rcases hro2 (hlv2 h1) with ⟨b1, b2⟩ | ⟨-, b1⟩
      · rw [b2]; exact Nat.lt_of_lt_of_le (R.1.2 2 i b1) fr.2.1
      · exact b1
    · rw [gLst_ad q1]
      exact Nat.lt_of_lt_of_le (R.1.2 k i (hold k i h1 q1).1) fr.2.1
  · by_cases q1 : k = 2 ∧ i = l
    · obtain ⟨rfl, rfl⟩ := q1
      have hc0 := hlv2 h1
      rw [a2]
      rcases hr with ⟨b1, -⟩ | ⟨-, -, b3⟩
      · exact absurd b1 hc0
      · rw [b3]
        show some (jrow cap f) = some (.inl (3, (gCap (gLst g i ro n cap) i, .inr (.inr (.inr (.inr fun j => if j < gN (gLst g i ro n cap) i then some (gAd (gLst g i ro n cap) (ek i) j) else none))))))
        rw [show gCap (gLst g i ro n cap) i = cap from if_pos rfl, show gN (gLst g i ro n cap) i = n from if_pos rfl]
        refine congrArg (fun f => some (jrow cap f)) (funext fun j => ?_)
        rw [hf j, gLst_ad (fun w => hek w.1)]
    · rw [gLst_ad q1]
      have q2 := (hold k i h1 q1).1
      by_cases q3 : k = 1 ∧ i = l
      · obtain ⟨rfl, rfl⟩ := q3
        rw [h]
        show some (jlist mc ro n) = some (.inr (9, [.int (xLst x i mc 0 i), .ref (if gCap (gLst g i ro n cap) i = 0 then W'.2.2 3 else gAd (gLst g i ro n cap) 2 i), .int (i32 (gN (gLst g i ro n cap) i))]))
        rw [show gCap (gLst g i ro n cap) i = cap from if_pos rfl, show gN (gLst g i ro n cap) i = n from if_pos rfl, a2, show xLst x i mc 0 i = mc from if_pos ⟨rfl, rfl⟩]
        rcases hr with ⟨b1, b2⟩ | ⟨b1, -⟩
        · rw [if_pos b1, b2]
        · rw [if_neg b1]
      · rw [gLst_cE q3 q1, hkc, fr.1 _ (R.1.2 k i q2)]
        · exact R.2 k i q2
        · rintro (w | ⟨w1, w2⟩)
          · exact q3 (R.1.1 k i 1 l q2 hl w)
          · rw [hgro w1] at w2
            exact q1 (R.1.1 k i 2 l q2 ⟨hl, w1⟩ w2)
  · rintro p (w | ⟨w1, w2⟩)
    · exact ⟨1, l, hl, w.symm⟩
    · exact ⟨2, l, ⟨hl, w1⟩, by rw [w2, hgro w1]⟩
  · by_cases q1 : k = 2 ∧ i = l
    · obtain ⟨rfl, rfl⟩ := q1
      rcases hro2 (hlv2 h1) with ⟨b1, b2⟩ | ⟨b1, -⟩
      · exact Or.inl ⟨b1, by rw [a2, b2]⟩
      · exact Or.inr (by rw [a2]; exact b1)
    · exact Or.inl (hold k i h1 q1)
  · by_cases hjl : j = l
    · subst hjl
      rw [show gCap (gLst g j ro n cap) j = cap from if_pos rfl, show gN (gLst g j ro n cap) j = n from if_pos rfl]
      exact ⟨hnc, hc⟩
    · rw [gLst_n hjl, gLst_c hjl]
      exact hg.1 j hj
