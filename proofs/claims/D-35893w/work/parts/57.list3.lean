set_option maxRecDepth 100000
/-- the constants lie below the new -/
def kB (W : jW) : Prop := W.2.2 3 < W.2.1 ∧ ∀ i, i < 256 → W.2.2 (16 + i) < W.2.1
theorem kB.to {W W' : jW} (h : kB W) (h1 : W.2.1 ≤ W'.2.1) (h2 : W'.2.2 = W.2.2) : kB W' := ⟨by rw [h2]; exact Nat.lt_of_lt_of_le h.1 h1, fun i hi => by rw [h2]; exact Nat.lt_of_lt_of_le (h.2 i hi) h1⟩
theorem kB.fr {F : Nat → Prop} {W W' : jW} (h : kB W) (f : jFr F W W') : kB W' := h.to f.2.1 f.2.2.1
theorem jel_kind {M : jW} (b : Nat) (t : Nat) {e : jE} (h : M.1 b = some e) {M' : jW} {e' : jE} (h' : M'.1 b = some e') (hk : jkd e' = jkd e) : jel M' t (some b) = jel M t (some b) := by
  rw [jel_some, jel_some, h, h']
  rcases e with ⟨c0, _⟩ | ⟨c0, _⟩ <;> rcases e' with ⟨c, _⟩ | ⟨c, _⟩ <;> simp [jkd] at hk
  · simp only [hk]
  · simp only [hk]
set_option maxHeartbeats 1000000 in
theorem l_add {W : jW} (hW : jWF W) (hk : kB W) {la ro n cap q : Nat} {f : Nat → Option Nat} (hL : lIs W la ro n cap f) (hn : n < 84) (hel : ∀ j, j < n → jel W 3 (f j) = true) (hq : jel W 3 (some q) = true) (hq2 : q < W.2.1) :
    ∃ W' ro' cap', f_J2_add (some la) (some q) W = some (1, W') ∧ lIs W' la ro' (n + 1) cap' (va_up f n (some q)) ∧ jFr (fun p => p = la ∨ (cap ≠ 0 ∧ p = ro)) W W' ∧ cap' ≠ 0 ∧ ((cap ≠ 0 ∧ ro' = ro) ∨ (W.2.1 ≤ ro' ∧ ro' < W'.2.1)) := by
  obtain ⟨⟨mc, h⟩, hr, hnc, hc, hf⟩ := hL
  by_cases hroom : n < cap
  · rcases hr with ⟨h0, -⟩ | ⟨h0, h3, hr⟩
    · omega
    · have hne : ro ≠ la := fun w => by rw [w, h] at hr; cases hr
      refine ⟨_, ro, cap, l_add_room (by omega) h hr h3 hroom (by omega) hq, ⟨⟨mc + 1, jU_same⟩, Or.inr ⟨h0, h3, ?_⟩, hroom, hc, va_up_n hf⟩, ?_, h0, Or.inl ⟨h0, rfl⟩⟩
      · rw [jU_ne hne, jU_same]
      · refine jFr.trans (jFr.upd hW h (Or.inl rfl)) (jFr.trans (jFr.upd (hW.updp h) (by rw [jU_ne hne]; exact hr) (Or.inr ⟨h0, rfl⟩)) (jFr.upd ((hW.updp h).updp (by rw [jU_ne hne]; exact hr)) (a := la) (by rw [jU_ne (Ne.symm hne)]; exact jU_same) (Or.inl rfl)) (fun _ _ w => w)) (fun _ _ w => w)
  · have hnc2 : n = cap := by omega
    have hla : la < W.2.1 := hW _ _ h
    generalize hW1 : jU W la (jlist (mc + 1) ro n) = W1
    have a0 : jWF W1 := by rw [← hW1]; exact hW.updp h
    have a1 : W1.1 la = some (jlist (mc + 1) ro n) := by rw [← hW1]; exact jU_same
    have a2 : W1.2 = W.2 := by rw [← hW1]; rfl
    have a3 : ∀ p, p ≠ la → W1.1 p = W.1 p := fun p hp => by rw [← hW1, jU_ne hp]
    have a4 : ∀ v, jel W1 3 v = jel W 3 v := fun v => by rw [← hW1]; exact jel_jU (e := jlist (mc + 1) ro n) h rfl 3 v
    have hr1 : (cap = 0 ∧ ro = W1.2.2 3) ∨ (cap ≠ 0 ∧ ro ≠ W1.2.2 3 ∧ W1.1 ro = some (jrow cap f)) := by
      rw [a2]
      rcases hr with hr | ⟨b1, b2, b3⟩
      · exact Or.inl hr
      · exact Or.inr ⟨b1, b2, by rw [a3 ro (fun w => by rw [w, h] at b3; cases b3)]; exact b3⟩
    obtain ⟨cap', hc1, hc2, hg⟩ := l_grow a0 (fun i hi => by rw [a2]; exact hk.2 i hi) a1 hr1 hnc2 (by omega) (fun j hj => by rw [a4]; exact hel j hj) hf
    rw [show W1.2.1 = W.2.1 by rw [a2]] at hg
    have hlan : la ≠ W1.2.1 := by rw [a2]; omega
    generalize hW2 : jU (jN W1 (jrow cap' f)) la (jlist (mc + 1) W.2.1 n) = W2 at hg
    have b0 : jWF W2 := by rw [← hW2]; exact (a0.newp).updp (by rw [jN_ne hlan]; exact a1)
    have b1 : W2.1 la = some (jlist (mc + 1) W.2.1 n) := by rw [← hW2]; exact jU_same
    have b2 : W2.1 W.2.1 = some (jrow cap' f) := by
      rw [← hW2, jU_ne (by omega), ← show W1.2.1 = W.2.1 by rw [a2], jN_same]
    have b3 : ∀ p, p ≠ la → p ≠ W.2.1 → W2.1 p = W.1 p := fun p hp hp2 => by rw [← hW2, jU_ne hp, jN_ne (by rw [a2]; exact hp2), a3 p hp]
    have b4 : W2.2.1 = W.2.1 + 1 := by rw [← hW2]; show W1.2.1 + 1 = _; rw [a2]
    have b5 : W2.2.2 = W.2.2 := by rw [← hW2]; show W1.2.2 = _; rw [a2]
    have b6 : jel W2 3 (some q) = true := by
      by_cases hqla : q = la
      · subst hqla
        rw [jel_kind q 3 h b1 rfl]; exact hq
      · rw [jel_some, b3 q hqla (by omega)]
        rw [jel_some] at hq
        rw [show jbx W2 q = jbx W q by unfold jbx; rw [b5]]
        exact hq
    have hne2 : la ≠ W.2.1 := by omega
    have e3 : f_J2_add_2_b11 (some la) (some q) (some W.2.1) (i32 n) W2 = some ((), jU (jU W2 W.2.1 (jrow cap' (va_up f n (some q)))) la (jlist (mc + 1) W.2.1 (n + 1))) := by
      unfold f_J2_add_2_b11
      rw [pSR_at b2 hc1 (by omega) b6, pP_at (fs := [.int (mc + 1), .ref W.2.1, .int (i32 n)]) (by rw [jU_ne hne2]; exact b1) (by simp) rfl, i32_add1]
      rfl
    have e2 : f_J2_add_2 (some la) (some q) (some ro) (i32 n) W1 = some ((), jU (jU W2 W.2.1 (jrow cap' (va_up f n (some q)))) la (jlist (mc + 1) W.2.1 (n + 1))) := by
      unfold f_J2_add_2
      rcases hr1 with ⟨c0, c1⟩ | ⟨c0, c1, c2⟩
      · rw [c1, pLen_3, if_pos (show i32 n = 0 by rw [hnc2, c0]; rfl), pO_at a1, hg, pB_some, e3]
      · rw [pLen_at c2 (by decide) c1, if_pos (show i32 n = i32 cap by rw [hnc2]), pO_at a1, hg, pB_some, e3]
    refine ⟨jU (jU W2 W.2.1 (jrow cap' (va_up f n (some q)))) la (jlist (mc + 1) W.2.1 (n + 1)), W.2.1, cap', ?_, ⟨⟨mc + 1, jU_same⟩, Or.inr ⟨by omega, ?_, ?_⟩, hc1, hc2, va_up_n hf⟩, ⟨fun p hp hF => ?_, ?_, ?_, ?_⟩, by omega, Or.inr ⟨Nat.le_refl _, ?_⟩⟩
    · unfold f_J2_add
      rw [pI_at h rfl, pP_at (fs' := [.int (mc + 1), .ref ro, .int (i32 n)]) h (by simp) rfl]
      show pR (jU W la (jlist (mc + 1) ro n)) (some la) 9 1 _ = _
      rw [hW1, pR_at a1 rfl, pI_at a1 rfl, pO_at a1, e2]
      rfl
    · show W.2.1 ≠ W2.2.2 3
      rw [b5]
      have := hk.1
      omega
    · rw [jU_ne (Ne.symm hne2), jU_same]
    · rw [jU_ne (fun w => hF (Or.inl w)), jU_ne (by omega), b3 p (fun w => hF (Or.inl w)) (by omega)]
    · show W.2.1 ≤ W2.2.1
      omega
    · exact b5
    · exact (b0.updp b2).updp (by rw [jU_ne hne2]; exact b1)
    · show W.2.1 < W2.2.1
      omega
