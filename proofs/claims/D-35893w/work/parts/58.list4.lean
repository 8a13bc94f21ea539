set_option maxRecDepth 100000
theorem l_clear_loop {ro n cap : Nat} (hn : n < 1000) (hc : n ≤ cap) : ∀ (d i fuel : Nat) (W : jW) (f : Nat → Option Nat), i + d = n → d < fuel → W.1 ro = some (jrow cap f) →
    ∃ W', f_J2_clear_b27 fuel (some ro) (i32 n) (i32 i) W = some ((), W') ∧ W'.1 ro = some (jrow cap (fun j => if i ≤ j ∧ j < n then none else f j)) ∧ (∀ p, p ≠ ro → W'.1 p = W.1 p) ∧ W'.2 = W.2 := by
  intro d
  induction d with
  | zero =>
    intro i fuel W f hi hfu hr
    obtain ⟨k, rfl⟩ : ∃ k, fuel = k + 1 := ⟨fuel - 1, by omega⟩
    refine ⟨W, ?_, ?_, fun _ _ => rfl, rfl⟩
    · unfold f_J2_clear_b27
      rw [if_pos ((i32_le (by omega) (by omega)).mpr (by omega))]
    · rw [hr]
      refine congrArg (fun g => some (jrow cap g)) (funext fun j => ?_)
      rw [if_neg (by omega)]
  | succ d ih =>
    intro i fuel W f hi hfu hr
    obtain ⟨k, rfl⟩ : ∃ k, fuel = k + 1 := ⟨fuel - 1, by omega⟩
    obtain ⟨W', h1, h2, h3, h4⟩ := ih (i + 1) k (jU W ro (jrow cap (va_up f i none))) (va_up f i none) (by omega) (by omega) jU_same
    refine ⟨W', ?_, ?_, fun p hp => by rw [h3 p hp, jU_ne hp], h4⟩
    · unfold f_J2_clear_b27
      rw [if_neg (fun w => by have := (i32_le (by omega) (by omega)).mp w; omega), pSR_at hr (by omega) (by omega) rfl, i32_add1]
      exact h1
    · rw [h2]
      refine congrArg (fun g => some (jrow cap g)) (funext fun j => ?_)
      unfold va_up
      by_cases hj : j = i
      · subst hj
        rw [if_neg (by omega), if_pos rfl, if_pos (by omega)]
      · by_cases h5 : i + 1 ≤ j ∧ j < n
        · rw [if_pos h5, if_pos (by omega)]
        · rw [if_neg h5, if_neg hj, if_neg (by omega)]
theorem l_clear {W : jW} (hW : jWF W) {la ro n cap : Nat} {f : Nat → Option Nat} (hL : lIs W la ro n cap f) :
    ∃ W', f_J2_clear (some la) W = some ((), W') ∧ lIs W' la ro 0 cap (fun _ => none) ∧ jFr (fun p => p = la ∨ (cap ≠ 0 ∧ p = ro)) W W' ∧ W'.2 = W.2 := by
  obtain ⟨⟨mc, h⟩, hr, hnc, hc, hf⟩ := hL
  generalize hW2 : jU (jU W la (jlist (mc + 1) ro n)) la (jlist (mc + 1) ro 0) = W2
  have a1 : W2.1 la = some (jlist (mc + 1) ro 0) := by rw [← hW2]; exact jU_same
  have a2 : W2.2 = W.2 := by rw [← hW2]; rfl
  have a3 : ∀ p, p ≠ la → W2.1 p = W.1 p := fun p hp => by rw [← hW2, jU_ne hp, jU_ne hp]
  have a4 : jWF W2 := by rw [← hW2]; exact (hW.updp h).updp jU_same
  have e0 : f_J2_clear (some la) W = f_J2_clear_b27 1000 (some ro) (i32 n) 0 W2 := by
    unfold f_J2_clear
    rw [pI_at h rfl, pP_at (fs' := [.int (mc + 1), .ref ro, .int (i32 n)]) h (by simp) rfl, pR_at jU_same rfl, pI_at jU_same rfl, pP_at (fs' := [.int (mc + 1), .ref ro, .int (i32 0)]) jU_same (by simp) rfl]
    show f_J2_clear_b27 1000 (some ro) (i32 n) 0 (jU (jU W la (jlist (mc + 1) ro n)) la (jlist (mc + 1) ro 0)) = _
    rw [hW2]
  have fr : ∀ W' : jW, (∀ p, p ≠ ro → W'.1 p = W2.1 p) → W'.2 = W2.2 → (cap = 0 → W'.1 = W2.1) → jWF W' → jFr (fun p => p = la ∨ (cap ≠ 0 ∧ p = ro)) W W' := by
    intro W' h1 h2 h3 h4
    refine ⟨fun p hp hF => ?_, by rw [h2, a2]; exact Nat.le_refl _, by rw [h2, a2], h4⟩
    by_cases hc0 : cap = 0
    · rw [h3 hc0, a3 p (fun w => hF (Or.inl w))]
    · rw [h1 p (fun w => hF (Or.inr ⟨hc0, w⟩)), a3 p (fun w => hF (Or.inl w))]
  rcases hr with ⟨h0, hro⟩ | ⟨h0, h3, hr⟩
  · have hn0 : n = 0 := by omega
    refine ⟨W2, ?_, ⟨⟨mc + 1, a1⟩, Or.inl ⟨h0, by rw [a2]; exact hro⟩, by omega, hc, fun _ _ => rfl⟩, fr W2 (fun _ _ => rfl) rfl (fun _ => rfl) a4, a2⟩
    rw [e0, hn0]
    rfl
  · have hne : ro ≠ la := fun w => by rw [w, h] at hr; cases hr
    have hr2 : W2.1 ro = some (jrow cap f) := by rw [a3 ro hne]; exact hr
    obtain ⟨W', h1, h2, h3', h4⟩ := l_clear_loop (by omega) hnc n 0 1000 W2 f (by omega) (by omega) hr2
    have hz : (fun j => if 0 ≤ j ∧ j < n then none else f j) = fun _ => none := by
      funext j
      by_cases hj : j < n
      · rw [if_pos ⟨by omega, hj⟩]
      · rw [if_neg (fun w => hj w.2)]; exact hf j (by omega)
    rw [hz] at h2
    have hwf : jWF W' := by
      intro p e hp
      rw [h4]
      by_cases hpr : p = ro
      · rw [hpr]; exact a4 _ _ hr2
      · rw [h3' p hpr] at hp; exact a4 p e hp
    exact ⟨W', by rw [e0]; exact h1, ⟨⟨mc + 1, by rw [h3' la (Ne.symm hne)]; exact a1⟩, Or.inr ⟨h0, by rw [h4, a2]; exact h3, h2⟩, by omega, hc, fun _ _ => rfl⟩, fr W' h3' h4 (fun w => absurd w h0) hwf, h4.trans a2⟩
/-- an iterator: of the list la, at k -/
abbrev jitr (k lr mc : Int32) (la : Nat) : jE := .inr (10, [.int k, .int lr, .int mc, .ref la])
theorem l_iterator {W : jW} (hW : jWF W) {la ro n : Nat} {mc : Int32} (h : W.1 la = some (jlist mc ro n)) :
    ∃ W', f_J2_iterator (some la) W = some (some W.2.1, W') ∧ W'.1 W.2.1 = some (jitr 0 (-1) mc la) ∧ jFr (fun _ => False) W W' ∧ W'.2.1 = W.2.1 + 1 := by
  have hla : la ≠ W.2.1 := fun w => by rw [w, hW.no] at h; cases h
  generalize hW1 : jN W (.inr (10, [.int 0, .int 0, .int 0, .null])) = W1
  have a1 : W1.1 W.2.1 = some (.inr (10, [.int 0, .int 0, .int 0, .null])) := by rw [← hW1]; exact jN_same
  have a2 : ∀ p, p ≠ W.2.1 → W1.1 p = W.1 p := fun p hp => by rw [← hW1, jN_ne hp]
  refine ⟨jU (jU (jU W1 W.2.1 (.inr (10, [.int 0, .int 0, .int 0, .ref la]))) W.2.1 (.inr (10, [.int 0, .int (-1), .int 0, .ref la]))) W.2.1 (jitr 0 (-1) mc la), ?_, jU_same, ⟨fun p hp _ => ?_, ?_, ?_, ?_⟩, ?_⟩
  · have e : f_J19_init (some W.2.1) (some la) W1 = some ((), jU (jU (jU W1 W.2.1 (.inr (10, [.int 0, .int 0, .int 0, .ref la]))) W.2.1 (.inr (10, [.int 0, .int (-1), .int 0, .ref la]))) W.2.1 (jitr 0 (-1) mc la)) := by
      unfold f_J19_init
      rw [pP_at (fs' := [.int 0, .int 0, .int 0, .ref la]) a1 (by simp) rfl]
      unfold pSm
      rw [pP_at (fs' := [.int 0, .int (-1), .int 0, .ref la]) jU_same (by simp) rfl, pR_at jU_same rfl, pI_at (by rw [jU_ne hla, jU_ne hla, a2 la hla]; exact h) rfl, pP_at (fs' := [.int 0, .int (-1), .int mc, .ref la]) jU_same (by simp) rfl]
    unfold f_J2_iterator pN pSm
    rw [hW1]
    show pB (f_J19_init (some W.2.1) (some la) W1) _ = _
    rw [e, pB_some]
  · rw [jU_ne (by omega), jU_ne (by omega), jU_ne (by omega), a2 p (by omega)]
  · show W.2.1 ≤ W1.2.1
    rw [← hW1]; exact Nat.le_succ _
  · show W1.2.2 = _
    rw [← hW1]; rfl
  · exact (((by rw [← hW1]; exact hW.newp : jWF W1).updp a1).updp jU_same).updp jU_same
  · show W1.2.1 = _
    rw [← hW1]; rfl
