set_option maxRecDepth 100000
/-- the list la, its row ro of cap places (0: none yet), its n elements by f -/
def lIs (W : jW) (la ro n cap : Nat) (f : Nat → Option Nat) : Prop := (∃ mc, W.1 la = some (jlist mc ro n)) ∧ ((cap = 0 ∧ ro = W.2.2 3) ∨ (cap ≠ 0 ∧ ro ≠ W.2.2 3 ∧ W.1 ro = some (jrow cap f))) ∧ n ≤ cap ∧ cap ≤ 128 ∧ ∀ j, n ≤ j → f j = none
theorem va_up_n {f : Nat → Option Nat} {n : Nat} {q : Option Nat} (h : ∀ j, n ≤ j → f j = none) : ∀ j, n + 1 ≤ j → va_up f n q j = none := by
  intro j hj
  unfold va_up
  rw [if_neg (by omega)]
  exact h j (by omega)
/-- the row grows: from the world W1, whose list has mc -/
theorem l_grow {W : jW} (hW : jWF W) (hk : ∀ i, i < 256 → W.2.2 (16 + i) < W.2.1) {la ro n cap : Nat} {mc : Int32} {f : Nat → Option Nat} (h : W.1 la = some (jlist mc ro n)) (hr : (cap = 0 ∧ ro = W.2.2 3) ∨ (cap ≠ 0 ∧ ro ≠ W.2.2 3 ∧ W.1 ro = some (jrow cap f))) (hn : n = cap) (hc : cap < 84) (hel : ∀ j, j < n → jel W 3 (f j) = true) (hf : ∀ j, n ≤ j → f j = none) :
    ∃ cap', n < cap' ∧ cap' ≤ 128 ∧ f_J2_grow (some la) W = some (some W.2.1, jU (jN W (jrow cap' f)) la (jlist mc W.2.1 n)) := by
  have hla : la ≠ W.2.1 := fun w => by rw [w, hW.no] at h; cases h
  rcases hr with ⟨h0, hro⟩ | ⟨h0, hro, hr⟩
  · subst h0
    have hf0 : f = fun _ => none := funext fun j => hf j (by omega)
    subst hf0
    subst hro
    refine ⟨10, by omega, by omega, ?_⟩
    subst hn
    have e2 : f_J2_grow_2 (some la) (i32 0 + 1) W = some (some W.2.1, jU (jN W (jrow 10 fun _ => none)) la (jlist mc W.2.1 0)) := by
      unfold f_J2_grow_2
      rw [pR_at h rfl, pLen_3, if_neg (by decide), pR_at h rfl, if_pos rfl]
      show pNA W 3 16 10 _ = _
      simp only [pNA]
      rw [if_neg (by decide), if_neg (by decide)]
      show pP (jN W (jrow 10 fun _ => none)) (some la) 9 1 (jR (some W.2.1)) _ = _
      rw [pP_at (fs := [.int mc, .ref (W.2.2 3), .int (i32 0)]) (by rw [jN_ne hla]; exact h) (by simp) rfl]
      rfl
    unfold f_J2_grow
    rw [pI_at h rfl, pO_at h, e2]
    rfl
  · have hne : ro ≠ la := fun w => by rw [w, h] at hr; cases hr
    have hron : ro ≠ W.2.1 := fun w => by rw [w, hW.no] at hr; cases hr
    have hcap1 : 1 ≤ cap := by omega
    subst hn
    have hsh : i32 n >>> ((1 : Int32) &&& 31) = i32 (n / 2) := by
      have : ∀ k : Fin 84, i32 k.1 >>> ((1 : Int32) &&& 31) = i32 (k.1 / 2) := by decide +kernel
      exact this ⟨n, hc⟩
    generalize hN : n + (if n / 2 < 1 then 1 else n / 2) = N
    have hN1 : n < N ∧ N ≤ 128 := by
      rw [← hN]
      by_cases hq : n / 2 < 1
      · rw [if_pos hq]; omega
      · rw [if_neg hq]; omega
    have e7 : f_J7_newLength (i32 n) (i32 n + 1 - i32 n) (i32 n >>> ((1 : Int32) &&& 31)) W = some (i32 N, W) := by
      have e1 : i32 n + (if i32 n + 1 - i32 n < i32 (n / 2) then i32 (n / 2) else i32 n + 1 - i32 n) = i32 N := by
        rw [i32_add1, i32_sub (by omega), show n + 1 - n = 1 by omega]
        by_cases hq : 1 < n / 2
        · rw [if_pos ((i32_lt (by omega) (by omega)).mpr hq), i32_add, ← hN, if_neg (by omega)]
        · rw [if_neg (fun w => hq ((i32_lt (by omega) (by omega)).mp w)), i32_add, ← hN]
          by_cases hz : n / 2 < 1
          · rw [if_pos hz]
          · rw [if_neg hz, show n / 2 = 1 by omega]
      unfold f_J7_newLength pLt
      rw [hsh, e1]
      show (if i32 N ≤ 0 then none else if (2147483639 : Int32) < i32 N then none else some (i32 N, W)) = _
      rw [if_neg (show ¬ i32 N ≤ 0 from fun w => by have := (i32_le (by omega) (by decide)).mp (show i32 N ≤ i32 0 from w); omega), if_neg (show ¬ (2147483639 : Int32) < i32 N from fun w => by have := (i32_lt (a := 2147483639) (by decide) (by omega)).mp w; omega)]
    have e9 : f_J9_copyOf (some ro) (i32 N) W = some (some W.2.1, jN W (jrow N f)) := by
      have hro1 : (jN W (jrow N fun _ => none)).1 ro = some (jrow n f) := by rw [jN_ne hron]; exact hr
      have hcpy : va_cpy f (fun _ => none) 0 0 n = f := by
        funext j
        unfold va_cpy
        by_cases hj : j < n
        · simp [hj]
        · simp [hj, hf j (by omega)]
      have e : f_J9_copyOf_2 (some ro) (i32 N) (some (W.2.2 4)) W = some (some W.2.1, jN W (jrow N f)) := by
        unfold f_J9_copyOf_2
        rw [if_pos rfl]
        simp only [pNA]
        rw [if_neg (i32_nn (by omega)), if_neg (by rw [i32_nat (by omega)]; omega)]
        show pLen (jN W (jrow (i32 N).toNatClampNeg fun _ => none)) (some ro) _ = _
        rw [i32_nat (by omega), pLen_at hro1 (by decide) hro, if_neg (fun w => by have := (i32_lt (a := N) (b := n) (by omega) (by omega)).mp w; omega)]
        show pAC (jN W (jrow N fun _ => none)) (some ro) 0 (some W.2.1) 0 (i32 n) _ = _
        simp only [pAC, pA, hro1, jN_same, if_true]
        rw [show (0 : Int32).toNatClampNeg = 0 from rfl, i32_nat (by omega), if_pos, hcpy]
        · refine congrArg (fun w => some (some W.2.1, w)) (Prod.ext (funext fun p => ?_) rfl)
          by_cases hp : p = W.2.1
          · subst hp; rw [jU_same, jN_same]
          · rw [jU_ne hp, jN_ne hp, jN_ne hp]
        · refine ⟨by decide, by decide, i32_nn (by omega), by omega, by omega, ?_⟩
          rw [List.all_eq_true]
          intro j hj
          have hj := List.mem_range.mp hj
          have := hel j hj
          rw [Nat.zero_add]
          cases hfj : f j with
          | none => rfl
          | some b =>
            rw [hfj] at this
            by_cases hb : b = W.2.1
            · rw [jel_some, hb, jN_same]
              rw [jel_some, hb, hW.no] at this
              have hb2 : jbx W b = true := by rw [hb]; simpa using this
              unfold jbx at hb2
              rw [List.any_eq_true] at hb2
              obtain ⟨i, hi, he⟩ := hb2
              have h1 := hk i (List.mem_range.mp hi)
              have h2 : b = W.2.2 (16 + i) := by simpa using he
              omega
            · rw [jel_jN hW hb]; exact this
      unfold f_J9_copyOf pGC
      simp only [pA, hr, if_true]
      rw [e]
      rfl
    refine ⟨N, hN1.1, hN1.2, ?_⟩
    have e20 : f_J2_grow_2_b20 (some la) (i32 n + 1) (i32 n) W = some (some W.2.1, jU (jN W (jrow N f)) la (jlist mc W.2.1 n)) := by
      unfold f_J2_grow_2_b20
      rw [e7, pB_some, pR_at h rfl, e9, pB_some, pP_at (fs := [.int mc, .ref ro, .int (i32 n)]) (by rw [jN_ne hla]; exact h) (by simp) rfl]
      rfl
    unfold f_J2_grow
    rw [pI_at h rfl, pO_at h]
    have e2 : f_J2_grow_2 (some la) (i32 n + 1) W = some (some W.2.1, jU (jN W (jrow N f)) la (jlist mc W.2.1 n)) := by
      unfold f_J2_grow_2
      rw [pR_at h rfl, pLen_at hr (by decide) hro, if_pos (show (0 : Int32) < i32 n from (i32_lt (a := 0) (by decide) (by omega)).mpr (by omega)), e20]
    rw [e2]
    rfl
