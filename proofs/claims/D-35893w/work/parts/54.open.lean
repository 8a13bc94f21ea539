set_option maxRecDepth 100000
theorem cE_o {g : cG} {m : mS} {x : Nat → Nat → Int32} {kc : Nat → Nat} {v : Int32} {k i : Nat} (hl : cLv g k i) (hk : ¬ (k = 0 ∧ i = 0)) : cE g kc (mset m 4 0 v, x) k i = cE g kc (m, x) k i := by
  have h14 := cLv_lt hl
  rcases (show k = 0 ∨ k = 1 ∨ k = 2 ∨ k = 3 ∨ k = 4 ∨ k = 5 ∨ k = 6 ∨ k = 7 ∨ k = 8 ∨ k = 9 ∨ k = 10 ∨ k = 11 ∨ k = 12 ∨ k = 13 by omega) with rfl | rfl | rfl | rfl | rfl | rfl | rfl | rfl | rfl | rfl | rfl | rfl | rfl | rfl
  · exact absurd ⟨rfl, hl⟩ hk
  all_goals simp only [cE, mset_o (m := m) (k := 4) (i := 0) (v := v) (show (5 : Nat) ≠ 4 by decide), mset_o (m := m) (k := 4) (i := 0) (v := v) (show (6 : Nat) ≠ 4 by decide), mset_o (m := m) (k := 4) (i := 0) (v := v) (show (7 : Nat) ≠ 4 by decide), mset_o (m := m) (k := 4) (i := 0) (v := v) (show (8 : Nat) ≠ 4 by decide), mset_o (m := m) (k := 4) (i := 0) (v := v) (show (9 : Nat) ≠ 4 by decide), mset_o (m := m) (k := 4) (i := 0) (v := v) (show (10 : Nat) ≠ 4 by decide), mset_o (m := m) (k := 4) (i := 0) (v := v) (show (11 : Nat) ≠ 4 by decide), mset_o (m := m) (k := 4) (i := 0) (v := v) (show (12 : Nat) ≠ 4 by decide), mset_o (m := m) (k := 4) (i := 0) (v := v) (show (13 : Nat) ≠ 4 by decide), mset_o (m := m) (k := 4) (i := 0) (v := v) (show (18 : Nat) ≠ 4 by decide), mset_o (m := m) (k := 4) (i := 0) (v := v) (show (19 : Nat) ≠ 4 by decide), mset_o (m := m) (k := 4) (i := 0) (v := v) (show (20 : Nat) ≠ 4 by decide), mset_o (m := m) (k := 4) (i := 0) (v := v) (show (21 : Nat) ≠ 4 by decide), mset_o (m := m) (k := 4) (i := 0) (v := v) (show (22 : Nat) ≠ 4 by decide), mset_o (m := m) (k := 4) (i := 0) (v := v) (show (24 : Nat) ≠ 4 by decide)]
theorem cE_o0 {g : cG} {m : mS} {x : Nat → Nat → Int32} {kc : Nat → Nat} {b : Nat} {v : Int32} (hb1 : ¬ v = -1) (hb2 : v.toNatClampNeg = b) : cE g kc (mset m 4 0 v, x) 0 0 = .inr (0, [.ref (gAd g 1 0), .ref (gAd g 1 1), .ref (gAd g 1 2), .ref (gAd g 1 3), .ref (gAd g 4 b), .int (m.1 2 0), .long m.2, .ref (gAd g 1 4)]) := by
  have e : (mset m 4 0 v).1 4 0 = v := by rw [mset_s]; exact if_pos rfl
  have e1 : (mset m 4 0 v).1 2 0 = m.1 2 0 := by rw [mset_o (by decide)]
  have e4 : (if (mset m 4 0 v).1 4 0 = -1 then Value.null else Value.ref (gAd g 4 ((mset m 4 0 v).1 4 0).toNatClampNeg)) = Value.ref (gAd g 4 b) := by rw [e, if_neg hb1, hb2]
  show (Sum.inr (0, [.ref (gAd g 1 0), .ref (gAd g 1 1), .ref (gAd g 1 2), .ref (gAd g 1 3), (if (mset m 4 0 v).1 4 0 = -1 then Value.null else Value.ref (gAd g 4 ((mset m 4 0 v).1 4 0).toNatClampNeg)), .int ((mset m 4 0 v).1 2 0), .long (mset m 4 0 v).2, .ref (gAd g 1 4)]) : jE) = _
  rw [e4, e1]
  rfl
theorem cv_pOpen1 {β : Type} {g : cG} {m : mS} {x : Nat → Nat → Int32} {M : jW} {n : Nat} (G : cOk g n) {b : Nat} {v : Int32} (hb1 : ¬ v = -1) (hb2 : v.toNatClampNeg = b) (K : jW → Option β) : pP (cv g (m, x) M) (some (gAd g 0 0)) 0 4 (jR (some (gAd g 4 b))) K = K (cv g (mset m 4 0 v, x) M) := by
  simp only [pP, pO, cv_at (k := 0) G (show cLv g 0 0 from rfl)]
  show (if _ then (if _ < _ then K (jU _ _ _) else none) else none) = _
  rw [if_pos rfl, if_pos (by simp)]
  refine congrArg K (cv_jU (s' := (mset m 4 0 v, x)) (k := 0) G (show cLv g 0 0 from rfl) ?_ (fun k' i' hl' hne => cE_o hl' hne))
  rw [cE_o0 hb1 hb2]
  rfl
