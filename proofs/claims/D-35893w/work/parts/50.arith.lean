/-! PURE SIDE: int32 of naturals -/
set_option maxRecDepth 100000
abbrev i32 (n : Nat) : Int32 := Int32.ofNat n
theorem i32_int {n : Nat} (h : n < 2147483648) : (i32 n).toInt = n := by
  rw [Int32.toInt_ofNat', Int.bmod_eq_of_le (by simp only [show Int32.size = 4294967296 from rfl]; omega) (by simp only [show Int32.size = 4294967296 from rfl]; omega)]
theorem i32_nat {n : Nat} (h : n < 2147483648) : (i32 n).toNatClampNeg = n := by
  show (i32 n).toInt.toNat = n
  rw [i32_int h]; rfl
theorem i32_lt {a b : Nat} (ha : a < 2147483648) (hb : b < 2147483648) : (i32 a < i32 b) ↔ a < b := by
  rw [Int32.lt_iff_toInt_lt, i32_int ha, i32_int hb]; omega
theorem i32_le {a b : Nat} (ha : a < 2147483648) (hb : b < 2147483648) : (i32 a ≤ i32 b) ↔ a ≤ b := by
  rw [Int32.le_iff_toInt_le, i32_int ha, i32_int hb]; omega
theorem i32_inj {a b : Nat} (ha : a < 2147483648) (hb : b < 2147483648) : (i32 a = i32 b) ↔ a = b := by
  rw [← Int32.toInt_inj, i32_int ha, i32_int hb]; omega
theorem i32_add (a b : Nat) : i32 a + i32 b = i32 (a + b) := (Int32.ofNat_add a b).symm
theorem i32_add1 (a : Nat) : i32 a + 1 = i32 (a + 1) := i32_add a 1
theorem i32_mul (a b : Nat) : i32 a * i32 b = i32 (a * b) := (Int32.ofNat_mul a b).symm
theorem i32_sub {a b : Nat} (h : b ≤ a) : i32 a - i32 b = i32 (a - b) := by
  have := i32_add (a - b) b
  rw [Nat.sub_add_cancel h] at this
  rw [← this]
  exact Int32.add_sub_cancel _ _
theorem i32_sub1 {a : Nat} (h : 1 ≤ a) : i32 a - 1 = i32 (a - 1) := i32_sub h
theorem i32_nn {n : Nat} (h : n < 2147483648) : ¬ i32 n < 0 := by
  rw [Int32.lt_iff_toInt_lt, i32_int h, show (0 : Int32).toInt = 0 from rfl]; omega
theorem i32_m1 {n : Nat} (h : n < 2147483648) : ¬ i32 n = -1 := by
  rw [← Int32.toInt_inj, i32_int h, show (-1 : Int32).toInt = -1 from rfl]; omega
theorem jin_i32 {k n : Nat} (h : k < 2147483648) : jin (i32 k) n = decide (k < n) := by
  unfold jin
  rw [i32_nat h]
  simp only [i32_nn h, decide_false, Bool.not_false, Bool.true_and]
/-- what an int between 0 and a bound is -/
theorem i32_of {a : Int32} (h : ¬ a < 0) : ∃ k, k < 2147483648 ∧ a = i32 k ∧ a.toInt = k := by
  have h0 : 0 ≤ a.toInt := by
    have : ¬ a.toInt < 0 := fun q => h (Int32.lt_iff_toInt_lt.mpr q)
    omega
  have h1 : a.toInt < 2147483648 := Int32.toInt_lt a
  refine ⟨a.toInt.toNat, by omega, ?_, by omega⟩
  rw [← Int32.toInt_inj, i32_int (by omega)]
  omega
theorem jWF.newp {M : jW} {e : jE} (h : jWF M) : jWF (jN M e) := by
  intro a x hx
  have hx : (if a = M.2.1 then some e else M.1 a) = some x := hx
  show a < M.2.1 + 1
  by_cases ha : a = M.2.1
  · omega
  · rw [if_neg ha] at hx
    have := h a x hx
    omega
theorem jWF.updp {M : jW} {a : Nat} {e0 e : jE} (h : jWF M) (ha : M.1 a = some e0) : jWF (jU M a e) := by
  intro b x hx
  have hx : (if b = a then some e else M.1 b) = some x := hx
  show b < M.2.1
  by_cases hb : b = a
  · rw [hb]; exact h a e0 ha
  · rw [if_neg hb] at hx
    exact h b x hx
theorem jU_same {M : jW} {a : Nat} {e : jE} : (jU M a e).1 a = some e := if_pos rfl
theorem jU_ne {M : jW} {a b : Nat} {e : jE} (h : b ≠ a) : (jU M a e).1 b = M.1 b := if_neg h
theorem jN_same {M : jW} {e : jE} : (jN M e).1 M.2.1 = some e := if_pos rfl
theorem jN_ne {M : jW} {b : Nat} {e : jE} (h : b ≠ M.2.1) : (jN M e).1 b = M.1 b := if_neg h
theorem jWF.no {M : jW} (h : jWF M) : M.1 M.2.1 = none := by
  cases hq : M.1 M.2.1 with
  | none => rfl
  | some e => exact absurd (h _ _ hq) (Nat.lt_irrefl _)
/-- the same world, but for some cells: those that F names, and new ones -/
def jFr (F : Nat → Prop) (M M' : jW) : Prop := (∀ q, q < M.2.1 → ¬ F q → M'.1 q = M.1 q) ∧ M.2.1 ≤ M'.2.1 ∧ M'.2.2 = M.2.2 ∧ jWF M'
theorem jFr.refl {F : Nat → Prop} {M : jW} (h : jWF M) : jFr F M M := ⟨fun _ _ _ => rfl, Nat.le_refl _, rfl, h⟩
theorem jFr.trans {F G : Nat → Prop} {M M1 M2 : jW} (h : jFr F M M1) (h2 : jFr G M1 M2) (hG : ∀ q, q < M.2.1 → G q → F q) : jFr F M M2 :=
  ⟨fun q hq hF => (h2.1 q (Nat.lt_of_lt_of_le hq h.2.1) (fun g => hF (hG q hq g))).trans (h.1 q hq hF), Nat.le_trans h.2.1 h2.2.1, h2.2.2.1.trans h.2.2.1, h2.2.2.2⟩
theorem jFr.weak {F G : Nat → Prop} {M M1 : jW} (h : jFr F M M1) (hG : ∀ q, F q → G q) : jFr G M M1 := ⟨fun q hq hF => h.1 q hq (fun g => hF (hG q g)), h.2⟩
theorem jFr.upd {F : Nat → Prop} {M : jW} (h : jWF M) {a : Nat} {e0 e : jE} (ha : M.1 a = some e0) (hF : F a) : jFr F M (jU M a e) :=
  ⟨fun q _ hq => jU_ne (fun w => hq (w ▸ hF)), Nat.le_refl _, rfl, h.updp ha⟩
theorem jFr.new {F : Nat → Prop} {M : jW} (h : jWF M) {e : jE} : jFr F M (jN M e) :=
  ⟨fun q hq _ => jN_ne (by omega), Nat.le_succ _, rfl, h.newp⟩
theorem jFr.wf {F : Nat → Prop} {M M1 : jW} (h : jFr F M M1) : jWF M1 := h.2.2.2
theorem jFr.at {F : Nat → Prop} {M M1 : jW} (h : jFr F M M1) (hM : jWF M) {q : Nat} {e : jE} (hq : M.1 q = some e) (hF : ¬ F q) : M1.1 q = some e := by
  rw [h.1 q (hM q e hq) hF]; exact hq
