set_option maxRecDepth 100000
/-- an element put at the place k -/
def fins (f : Nat → Option Nat) (k : Nat) (q : Nat) : Nat → Option Nat := fun j => if j < k then f j else if j = k then some q else f (j - 1)
theorem fins_n {f : Nat → Option Nat} {n k q : Nat} (hk : k ≤ n) (h : ∀ j, n ≤ j → f j = none) : ∀ j, n + 1 ≤ j → fins f k q j = none := by
  intro j hj
  unfold fins
  rw [if_neg (by omega), if_neg (by omega)]
  exact h (j - 1) (by omega)
theorem fins_cpy {f : Nat → Option Nat} {n k q : Nat} (hk : k ≤ n) (h : ∀ j, n ≤ j → f j = none) : va_up (va_cpy f f k (k + 1) (n - k)) k (some q) = fins f k q := by
  funext j
  unfold va_up va_cpy fins
  by_cases h1 : j = k
  · rw [if_pos h1, if_neg (by omega), if_pos h1]
  · rw [if_neg h1]
    by_cases h2 : j < k
    · rw [if_neg (by omega), if_pos h2]
    · rw [if_neg h2, if_neg h1]
      by_cases h3 : j < n + 1
      · rw [if_pos (by omega), show k + (j - (k + 1)) = j - 1 by omega]
      · rw [if_neg (by omega), h j (by omega), h (j - 1) (by omega)]
/-- the last steps of an insertion, in a world with room -/
theorem l_ins_b38 {W : jW} {la ro n cap q k : Nat} {mc : Int32} {f : Nat → Option Nat} (hk : k ≤ n) (hn : n < cap) (hcap : cap ≤ 128) (h : W.1 la = some (jlist mc ro n)) (hr : W.1 ro = some (jrow cap f)) (hf : ∀ j, n ≤ j → f j = none) (hel : ∀ j, j < n → jel W 3 (f j) = true) (hq : jel W 3 (some q) = true) :
    f_J2_add_3_b38 (some la) (i32 k) (some q) (i32 n) (some ro) W = some ((), jU (jU (jU W ro (jrow cap (va_cpy f f k (k + 1) (n - k)))) ro (jrow cap (fins f k q))) la (jlist mc ro (n + 1))) := by
  have hne : la ≠ ro := fun w => by rw [w, hr] at h; cases h
  unfold f_J2_add_3_b38
  have e : ∀ {β : Type} (K : jW → Option β), pAC W (some ro) (i32 k) (some ro) (i32 k + 1) (i32 n - i32 k) K = K (jU W ro (jrow cap (va_cpy f f k (k + 1) (n - k)))) := by
    intro β K
    rw [i32_add1, i32_sub hk]
    simp only [pAC, pA, hr, if_true]
    rw [i32_nat (show k < 2147483648 by omega), i32_nat (show k + 1 < 2147483648 by omega), i32_nat (show n - k < 2147483648 by omega), if_pos]
    refine ⟨i32_nn (by omega), i32_nn (by omega), i32_nn (by omega), by omega, by omega, ?_⟩
    rw [List.all_eq_true]
    intro j hj
    have hj := List.mem_range.mp hj
    exact hel _ (by omega)
  rw [e, pSR_at jU_same (by omega) (by omega) ((jel_jU (e := jrow cap (va_cpy f f k (k + 1) (n - k))) hr rfl 3 _).trans hq), fins_cpy hk hf, pP_at (fs := [.int mc, .ref ro, .int (i32 n)]) (by rw [jU_ne hne, jU_ne hne]; exact h) (by simp) rfl, i32_add1]
  rfl
set_option maxHeartbeats 1000000 in
theorem l_ins {W : jW} (hW : jWF W) (hk : kB W) {la ro n cap q k : Nat} {f : Nat → Option Nat} (hL : lIs W la ro n cap f) (hkn : k ≤ n) (hn : n < 84) (hel : ∀ j, j < n → jel W 3 (f j) = true) (hq : jel W 3 (some q) = true) (hel2 : ∀ j b, f j = some b → b < W.2.1) (hq2 : q < W.2.1) :
    ∃ W' ro' cap', f_J2_add_3 (some la) (i32 k) (some q) W = some ((), W') ∧ lIs W' la ro' (n + 1) cap' (fins f k q) ∧ jFr (fun p => p = la ∨ (cap ≠ 0 ∧ p = ro)) W W' ∧ cap' ≠ 0 ∧ ((cap ≠ 0 ∧ ro' = ro) ∨ (W.2.1 ≤ ro' ∧ ro' < W'.2.1)) := by
  obtain ⟨⟨mc, h⟩, hr, hnc, hc, hf⟩ := hL
  have hla : la < W.2.1 := hW _ _ h
  have erc : f_J2_rangeCheckForAdd (some la) (i32 k) W = some ((), W) := by
    unfold f_J2_rangeCheckForAdd
    rw [pI_at h rfl, if_neg (fun w => by have := (i32_lt (by omega) (by omega)).mp w; omega), if_pos (show (0 : Int32) ≤ i32 k from (i32_le (a := 0) (by decide) (by omega)).mpr (by omega))]
  generalize hW1 : jU W la (jlist (mc + 1) ro n) = W1
  have a0 : jWF W1 := by rw [← hW1]; exact hW.updp h
  have a1 : W1.1 la = some (jlist (mc + 1) ro n) := by rw [← hW1]; exact jU_same
  have a2 : W1.2 = W.2 := by rw [← hW1]; rfl
  have a3 : ∀ p, p ≠ la → W1.1 p = W.1 p := fun p hp => by rw [← hW1, jU_ne hp]
  have a4 : ∀ v, jel W1 3 v = jel W 3 v := fun v => by rw [← hW1]; exact jel_jU (e := jlist (mc + 1) ro n) h rfl 3 v
  have e0 : f_J2_add_3 (some la) (i32 k) (some q) W = pLen W1 (some ro) (fun v28 => if i32 n = v28 then (pO W1 (some la) 9 fun b33 _ => pB (f_J2_grow (some b33) W1) fun r33 M33 => f_J2_add_3_b38 (some la) (i32 k) (some q) (i32 n) r33 M33) else (f_J2_add_3_b38 (some la) (i32 k) (some q) (i32 n) (some ro) W1)) := by
    unfold f_J2_add_3
    rw [pO_at h, erc, pB_some, pI_at h rfl, pP_at (fs' := [.int (mc + 1), .ref ro, .int (i32 n)]) h (by simp) rfl]
    show pI (jU W la (jlist (mc + 1) ro n)) (some la) 9 2 _ = _
    rw [hW1, pI_at a1 rfl, pR_at a1 rfl]
  by_cases hroom : n < cap
  · rcases hr with ⟨h0, -⟩ | ⟨h0, h3, hr⟩
    · omega
    · have hne : ro ≠ la := fun w => by rw [w, h] at hr; cases hr
      have hr1 : W1.1 ro = some (jrow cap f) := by rw [a3 ro hne]; exact hr
      have eb := l_ins_b38 (q := q) hkn hroom hc a1 hr1 hf (fun j hj => by rw [a4]; exact hel j hj) (by rw [a4]; exact hq)
      refine ⟨jU (jU (jU W1 ro (jrow cap (va_cpy f f k (k + 1) (n - k)))) ro (jrow cap (fins f k q))) la (jlist (mc + 1) ro (n + 1)), ro, cap, ?_, ⟨⟨mc + 1, jU_same⟩, Or.inr ⟨h0, ?_, ?_⟩, hroom, hc, fins_n hkn hf⟩, ⟨fun p hp hF => ?_, ?_, ?_, ?_⟩, h0, Or.inl ⟨h0, rfl⟩⟩
      · rw [e0, pLen_at hr1 (by decide) (by rw [a2]; exact h3), if_neg (fun w => by have := (i32_inj (by omega) (by omega)).mp (show i32 n = i32 cap from w); omega)]
        exact eb
      · show ro ≠ W1.2.2 3
        rw [a2]; exact h3
      · rw [jU_ne hne, jU_same]
      · rw [jU_ne (fun w => hF (Or.inl w)), jU_ne (fun w => hF (Or.inr ⟨h0, w⟩)), jU_ne (fun w => hF (Or.inr ⟨h0, w⟩)), a3 p (fun w => hF (Or.inl w))]
      · show W.2.1 ≤ W1.2.1
        rw [a2]; exact Nat.le_refl _
      · show W1.2.2 = _
        rw [a2]
      · exact ((a0.updp hr1).updp jU_same).updp (by rw [jU_ne (Ne.symm hne), jU_ne (Ne.symm hne)]; exact a1)
  · have hnc2 : n = cap := by omega
    have hr1 : (cap = 0 ∧ ro = W1.2.2 3) ∨ (cap ≠ 0 ∧ ro ≠ W1.2.2 3 ∧ W1.1 ro = some (jrow cap f)) := by
      rw [a2]
      rcases hr with hr | ⟨b1, b2, b3⟩
      · exact Or.inl hr
      · exact Or.inr ⟨b1, b2, by rw [a3 ro (fun w => by rw [w, h] at b3; cases b3)]; exact b3⟩
    obtain ⟨cap', hc1, hc2, hg⟩ := l_grow a0 (fun i hi => by rw [a2]; exact hk.2 i hi) a1 hr1 hnc2 (by omega) (fun j hj => by rw [a4]; exact hel j hj) hf
    rw [show W1.2.1 = W.2.1 by rw [a2]] at hg
    have hlan : la ≠ W1.2.1 := by rw [a2]; omega
    generalize hW2 : jU (jN W1 (jrow cap' f)) la (jlist (mc + 1) W.2.1 n) = W2 at hg
    have b0 : jWF W2 := by rw [← hW2]; exact (a0.newp).updp (by rw [jN_ne hlan]; exact a1)
    have b1 : W2.1 la = some (jlist (mc + 1) W.2.1 n) := by rw [← hW2]; exact jU_same
    have b2 : W2.1 W.2.1 = some (jrow cap' f) := by
      rw [← hW2, jU_ne (by omega), ← show W1.2.1 = W.2.1 by rw [a2], jN_same]
    have b3 : ∀ p, p ≠ la → p ≠ W.2.1 → W2.1 p = W.1 p := fun p hp hp2 => by rw [← hW2, jU_ne hp, jN_ne (by rw [a2]; exact hp2), a3 p hp]
    have b4 : W2.2.1 = W.2.1 + 1 := by rw [← hW2]; show W1.2.1 + 1 = _; rw [a2]
    have b5 : W2.2.2 = W.2.2 := by rw [← hW2]; show W1.2.2 = _; rw [a2]
    have b6 : ∀ p, p < W.2.1 → jel W 3 (some p) = true → jel W2 3 (some p) = true := by
      intro p hp hq
      by_cases hqla : p = la
      · subst hqla
        rw [jel_kind p 3 h b1 rfl]; exact hq
      · rw [jel_some, b3 p hqla (by omega)]
        rw [jel_some] at hq
        rw [show jbx W2 p = jbx W p by unfold jbx; rw [b5]]
        exact hq
    have b7 : ∀ j, j < n → jel W2 3 (f j) = true := by
      intro j hj
      cases hfj : f j with
      | none => rfl
      | some b => exact b6 b (hel2 j b hfj) (by have := hel j hj; rw [hfj] at this; exact this)
    have hne2 : la ≠ W.2.1 := by omega
    have eb := l_ins_b38 (q := q) hkn hc1 hc2 b1 b2 hf b7 (b6 q hq2 hq)
    refine ⟨jU (jU (jU W2 W.2.1 (jrow cap' (va_cpy f f k (k + 1) (n - k)))) W.2.1 (jrow cap' (fins f k q))) la (jlist (mc + 1) W.2.1 (n + 1)), W.2.1, cap', ?_, ⟨⟨mc + 1, jU_same⟩, Or.inr ⟨by omega, ?_, ?_⟩, hc1, hc2, fins_n hkn hf⟩, ⟨fun p hp hF => ?_, ?_, ?_, ?_⟩, by omega, Or.inr ⟨Nat.le_refl _, ?_⟩⟩
    · rw [e0]
      rcases hr1 with ⟨c0, c1⟩ | ⟨c0, c1, c2⟩
      · rw [c1, pLen_3, if_pos (show i32 n = 0 by rw [hnc2, c0]; rfl), pO_at a1, hg, pB_some]; exact eb
      · rw [pLen_at c2 (by decide) c1, if_pos (show i32 n = i32 cap by rw [hnc2]), pO_at a1, hg, pB_some]; exact eb
    · show W.2.1 ≠ W2.2.2 3
      rw [b5]
      have := hk.1
      omega
    · rw [jU_ne (Ne.symm hne2), jU_same]
    · rw [jU_ne (fun w => hF (Or.inl w)), jU_ne (by omega), jU_ne (by omega), b3 p (fun w => hF (Or.inl w)) (by omega)]
    · show W.2.1 ≤ W2.2.1
      omega
    · exact b5
    · exact ((b0.updp b2).updp jU_same).updp (by rw [jU_ne hne2, jU_ne hne2]; exact b1)
    · show W.2.1 < W2.2.1
      omega
