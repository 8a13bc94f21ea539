/-! the words on the class's memory (printed by gen/cvgen.py) -/
set_option maxRecDepth 100000
def xset (x : Nat → Nat → Int32) (k i : Nat) (v : Int32) : Nat → Nat → Int32 := fun k' => if k' = k then upd (x k) i v else x k'
theorem cLv_lt {g : cG} {k i : Nat} (h : cLv g k i) : k < 14 := by
  by_cases hk : k < 14
  · exact hk
  · obtain ⟨j, rfl⟩ : ∃ j, k = j + 14 := ⟨k - 14, by omega⟩
    exact h.elim
theorem jin_lt {j : Int32} {n : Nat} (h : jin j n = true) : j.toNatClampNeg < n := by
  unfold jin at h
  simp only [Bool.and_eq_true, decide_eq_true_eq] at h
  exact h.2
section cvw
variable {β : Type} {g : cG} {m : mS} {x : Nat → Nat → Int32} {M : jW} {n i : Nat}
theorem cv_g0 (G : cOk g n) : (∀ K : Option Nat → Option β, pR (cv g (m, x) M) (some (gAd g 0 0)) 0 0 K = K (some (gAd g 1 0))) ∧
  (∀ K : Option Nat → Option β, pR (cv g (m, x) M) (some (gAd g 0 0)) 0 1 K = K (some (gAd g 1 1))) ∧
  (∀ K : Option Nat → Option β, pR (cv g (m, x) M) (some (gAd g 0 0)) 0 2 K = K (some (gAd g 1 2))) ∧
  (∀ K : Option Nat → Option β, pR (cv g (m, x) M) (some (gAd g 0 0)) 0 3 K = K (some (gAd g 1 3))) ∧
  (∀ K : Option Nat → Option β, pR (cv g (m, x) M) (some (gAd g 0 0)) 0 7 K = K (some (gAd g 1 4))) ∧
  (∀ K : Int32 → Option β, pI (cv g (m, x) M) (some (gAd g 0 0)) 0 5 K = K (m.1 2 0)) ∧
  (∀ K : Int64 → Option β, pL (cv g (m, x) M) (some (gAd g 0 0)) 0 6 K = K (m.2)) ∧
  (∀ (K : Nat → Option β), pO (cv g (m, x) M) (some (gAd g 0 0)) 0 (fun b _ => K b) = K (gAd g 0 0)) := by
  refine ⟨?_, ?_, ?_, ?_, ?_, ?_, ?_, ?_⟩
  all_goals (intro K; simp only [pI, pL, pR, pO, cv_at (k := 0) G (show cLv g 0 0 from rfl)]; try rfl)
theorem cv_g1 (G : cOk g n) (h : i < 5) : (∀ K : Int32 → Option β, pI (cv g (m, x) M) (some (gAd g 1 i)) 9 0 K = K (x 0 i)) ∧
  (∀ K : Option Nat → Option β, pR (cv g (m, x) M) (some (gAd g 1 i)) 9 1 K = K (some (if gCap g i = 0 then M.2.2 3 else gAd g 2 i))) ∧
  (∀ K : Int32 → Option β, pI (cv g (m, x) M) (some (gAd g 1 i)) 9 2 K = K (i32 (gN g i))) ∧
  (∀ (K : Nat → Option β), pO (cv g (m, x) M) (some (gAd g 1 i)) 9 (fun b _ => K b) = K (gAd g 1 i)) := by
  refine ⟨?_, ?_, ?_, ?_⟩
  all_goals (intro K; simp only [pI, pL, pR, pO, cv_at (k := 1) G (show cLv g 1 i from h)]; try rfl)
theorem cv_g3 (G : cOk g n) (h : i < gN g 5) : (∀ K : Int32 → Option β, pI (cv g (m, x) M) (some (gAd g 3 i)) 2 0 K = K (i32 i)) ∧
  (∀ (K : Nat → Option β), pO (cv g (m, x) M) (some (gAd g 3 i)) 2 (fun b _ => K b) = K (gAd g 3 i)) := by
  refine ⟨?_, ?_⟩
  all_goals (intro K; simp only [pI, pL, pR, pO, cv_at (k := 3) G (show cLv g 3 i from h)]; try rfl)
theorem cv_g4 (G : cOk g n) (h : i < gN g 6) : (∀ K : Option Nat → Option β, pR (cv g (m, x) M) (some (gAd g 4 i)) 3 0 K = K (some (gAd g 5 i))) ∧
  (∀ K : Option Nat → Option β, pR (cv g (m, x) M) (some (gAd g 4 i)) 3 1 K = K (some (M.2.2 (m.1 7 i).toNatClampNeg))) ∧
  (∀ K : Int32 → Option β, pI (cv g (m, x) M) (some (gAd g 4 i)) 3 2 K = K (m.1 8 i)) ∧
  (∀ K : Option Nat → Option β, pR (cv g (m, x) M) (some (gAd g 4 i)) 3 4 K = K (some (gAd g 6 i))) ∧
  (∀ K : Option Nat → Option β, pR (cv g (m, x) M) (some (gAd g 4 i)) 3 5 K = K (some (gAd g 7 i))) ∧
  (∀ K : Option Nat → Option β, pR (cv g (m, x) M) (some (gAd g 4 i)) 3 6 K = K (some (gAd g 8 i))) ∧
  (∀ K : Int32 → Option β, pI (cv g (m, x) M) (some (gAd g 4 i)) 3 7 K = K (m.1 10 i)) ∧
  (∀ K : Int32 → Option β, pI (cv g (m, x) M) (some (gAd g 4 i)) 3 8 K = K (m.1 11 i)) ∧
  (∀ K : Int32 → Option β, pI (cv g (m, x) M) (some (gAd g 4 i)) 3 9 K = K (x 3 i)) ∧
  (∀ K : Int32 → Option β, pI (cv g (m, x) M) (some (gAd g 4 i)) 3 10 K = K (m.1 12 i)) ∧
  (∀ K : Int32 → Option β, pI (cv g (m, x) M) (some (gAd g 4 i)) 3 11 K = K (m.1 13 i)) ∧
  (∀ K : Option Nat → Option β, pR (cv g (m, x) M) (some (gAd g 4 i)) 3 12 K = K (some (gAd g 0 0))) ∧
  (∀ (K : Nat → Option β), pO (cv g (m, x) M) (some (gAd g 4 i)) 3 (fun b _ => K b) = K (gAd g 4 i)) := by
  refine ⟨?_, ?_, ?_, ?_, ?_, ?_, ?_, ?_, ?_, ?_, ?_, ?_, ?_⟩
  all_goals (intro K; simp only [pI, pL, pR, pO, cv_at (k := 4) G (show cLv g 4 i from h)]; try rfl)
theorem cv_g9 (G : cOk g n) (h : i < gN g 7) : (∀ K : Int32 → Option β, pI (cv g (m, x) M) (some (gAd g 9 i)) 7 0 K = K (m.1 24 i)) ∧
  (∀ K : Option Nat → Option β, pR (cv g (m, x) M) (some (gAd g 9 i)) 7 1 K = K (some (gAd g 10 i))) ∧
  (∀ (K : Nat → Option β), pO (cv g (m, x) M) (some (gAd g 9 i)) 7 (fun b _ => K b) = K (gAd g 9 i)) := by
  refine ⟨?_, ?_, ?_⟩
  all_goals (intro K; simp only [pI, pL, pR, pO, cv_at (k := 9) G (show cLv g 9 i from h)]; try rfl)
theorem cv_g11 (G : cOk g n) (h : i < 12 * gN g 7) : (∀ K : Int32 → Option β, pI (cv g (m, x) M) (some (gAd g 11 i)) 8 0 K = K (x 4 i)) ∧
  (∀ K : Int32 → Option β, pI (cv g (m, x) M) (some (gAd g 11 i)) 8 1 K = K (x 5 i)) ∧
  (∀ K : Int32 → Option β, pI (cv g (m, x) M) (some (gAd g 11 i)) 8 2 K = K (x 6 i)) ∧
  (∀ K : Int32 → Option β, pI (cv g (m, x) M) (some (gAd g 11 i)) 8 3 K = K (x 7 i)) ∧
  (∀ K : Int32 → Option β, pI (cv g (m, x) M) (some (gAd g 11 i)) 8 4 K = K (x 8 i)) ∧
  (∀ (K : Nat → Option β), pO (cv g (m, x) M) (some (gAd g 11 i)) 8 (fun b _ => K b) = K (gAd g 11 i)) := by
  refine ⟨?_, ?_, ?_, ?_, ?_, ?_⟩
  all_goals (intro K; simp only [pI, pL, pR, pO, cv_at (k := 11) G (show cLv g 11 i from h)]; try rfl)
theorem cv_gOpen (G : cOk g n) (K : Option Nat → Option β) : pR (cv g (m, x) M) (some (gAd g 0 0)) 0 4 K = if m.1 4 0 = -1 then K none else K (some (gAd g 4 (m.1 4 0).toNatClampNeg)) := by
  simp only [pR, pO, cv_at (k := 0) G (show cLv g 0 0 from rfl)]
  show (match some (if m.1 4 0 = -1 then Value.null else Value.ref (gAd g 4 (m.1 4 0).toNatClampNeg)) with | some (Value.ref a) => K (some a) | some Value.null => K none | _ => none) = _
  by_cases h : m.1 4 0 = -1
  · rw [if_pos h, if_pos h]
  · rw [if_neg h, if_neg h]
theorem cv_gPool (G : cOk g n) (h : i < gN g 6) (K : Option Nat → Option β) : pR (cv g (m, x) M) (some (gAd g 4 i)) 3 3 K = if m.1 9 i = -1 then K none else K (some (gAd g 9 (m.1 9 i).toNatClampNeg)) := by
  simp only [pR, pO, cv_at (k := 4) G (show cLv g 4 i from h)]
  show (match some (if m.1 9 i = -1 then Value.null else Value.ref (gAd g 9 (m.1 9 i).toNatClampNeg)) with | some (Value.ref a) => K (some a) | some Value.null => K none | _ => none) = _
  by_cases h : m.1 9 i = -1
  · rw [if_pos h, if_pos h]
  · rw [if_neg h, if_neg h]
theorem cv_a6 (G : cOk g n) (h : i < gN g 6) (j : Int32) (K : Int32 → Option β) : pAI (cv g (m, x) M) (some (gAd g 6 i)) 0 j K = if jin j (2) = true then K (m.1 6 (2 * i + j.toNatClampNeg)) else none := by
  simp only [pAI, pA, cv_at (k := 6) G (show cLv g 6 i from h)]
  show (if jin j (2) = true then K (if j.toNatClampNeg < 2 then m.1 6 (2 * i + j.toNatClampNeg) else 0) else none) = _
  by_cases hj : jin j (2) = true
  · have := jin_lt hj
    rw [if_pos hj, if_pos hj, if_pos this]
  · rw [if_neg hj, if_neg hj]
theorem cv_a7 (G : cOk g n) (h : i < gN g 6) (j : Int32) (K : Int32 → Option β) : pAI (cv g (m, x) M) (some (gAd g 7 i)) 0 j K = if jin j (2) = true then K (x 1 (2 * i + j.toNatClampNeg)) else none := by
  simp only [pAI, pA, cv_at (k := 7) G (show cLv g 7 i from h)]
  show (if jin j (2) = true then K (if j.toNatClampNeg < 2 then x 1 (2 * i + j.toNatClampNeg) else 0) else none) = _
  by_cases hj : jin j (2) = true
  · have := jin_lt hj
    rw [if_pos hj, if_pos hj, if_pos this]
  · rw [if_neg hj, if_neg hj]
theorem cv_a8 (G : cOk g n) (h : i < gN g 6) (j : Int32) (K : Int32 → Option β) : pAI (cv g (m, x) M) (some (gAd g 8 i)) 1 j K = if jin j (2) = true then K (x 2 (2 * i + j.toNatClampNeg)) else none := by
  simp only [pAI, pA, cv_at (k := 8) G (show cLv g 8 i from h)]
  show (if jin j (2) = true then K (if j.toNatClampNeg < 2 then x 2 (2 * i + j.toNatClampNeg) else 0) else none) = _
  by_cases hj : jin j (2) = true
  · have := jin_lt hj
    rw [if_pos hj, if_pos hj, if_pos this]
  · rw [if_neg hj, if_neg hj]
theorem cv_a13 (G : cOk g n) (h : i < gN g 9) (j : Int32) (K : Int32 → Option β) : pAI (cv g (m, x) M) (some (gAd g 13 i)) 0 j K = if jin j (gRl g i) = true then K (x 9 (32 * i + j.toNatClampNeg)) else none := by
  simp only [pAI, pA, cv_at (k := 13) G (show cLv g 13 i from h)]
  show (if jin j (gRl g i) = true then K (if j.toNatClampNeg < gRl g i then x 9 (32 * i + j.toNatClampNeg) else 0) else none) = _
  by_cases hj : jin j (gRl g i) = true
  · have := jin_lt hj
    rw [if_pos hj, if_pos hj, if_pos this]
  · rw [if_neg hj, if_neg hj]
theorem cv_a5 (G : cOk g n) (h : i < gN g 6) (j : Int32) (K : Option Nat → Option β) : pAR (cv g (m, x) M) (some (gAd g 5 i)) 4 j K = if jin j 2 = true then K (some (gAd g 3 (m.1 5 (2 * i + j.toNatClampNeg)).toNatClampNeg)) else none := by
  simp only [pAR, pA, cv_at (k := 5) G (show cLv g 5 i from h)]
  show (if jin j 2 = true then K (if j.toNatClampNeg < 2 then some (gAd g 3 (m.1 5 (2 * i + j.toNatClampNeg)).toNatClampNeg) else none) else none) = _
  by_cases hj : jin j 2 = true
  · have := jin_lt hj
    rw [if_pos hj, if_pos hj, if_pos this]
  · rw [if_neg hj, if_neg hj]
theorem cv_a10 (G : cOk g n) (h : i < gN g 7) (j : Int32) (K : Option Nat → Option β) : pAR (cv g (m, x) M) (some (gAd g 10 i)) 5 j K = if jin j 12 = true then K (some (gAd g 11 (12 * i + j.toNatClampNeg))) else none := by
  simp only [pAR, pA, cv_at (k := 10) G (show cLv g 10 i from h)]
  show (if jin j 12 = true then K (if j.toNatClampNeg < 12 then some (gAd g 11 (12 * i + j.toNatClampNeg)) else none) else none) = _
  by_cases hj : jin j 12 = true
  · have := jin_lt hj
    rw [if_pos hj, if_pos hj, if_pos this]
  · rw [if_neg hj, if_neg hj]
theorem cv_pReason (G : cOk g n) (v : Int32) (K : jW → Option β) : pP (cv g (m, x) M) (some (gAd g 0 0)) 0 5 (jI v) K = K (cv g (mset m 2 0 v, x) M) := by
  simp only [pP, pO, cv_at (k := 0) G (show cLv g 0 0 from rfl)]
  show (if _ then (if _ < _ then K (jU _ _ _) else none) else none) = _
  rw [if_pos rfl, if_pos (by simp)]
  refine congrArg K (cv_jU (s' := (mset m 2 0 v, x)) (k := 0) G (show cLv g 0 0 from rfl) ?_ (fun k' i' hl' hne => ?_))
  · rfl
  · skip
    by_cases hk : k' = 0
    · subst hk
      exact absurd ⟨rfl, hl'⟩ hne
    · have h14 := cLv_lt hl'
      rcases (show k' = 0 ∨ k' = 1 ∨ k' = 2 ∨ k' = 3 ∨ k' = 4 ∨ k' = 5 ∨ k' = 6 ∨ k' = 7 ∨ k' = 8 ∨ k' = 9 ∨ k' = 10 ∨ k' = 11 ∨ k' = 12 ∨ k' = 13 by omega) with rfl | rfl | rfl | rfl | rfl | rfl | rfl | rfl | rfl | rfl | rfl | rfl | rfl | rfl
      all_goals first | rfl | exact absurd rfl hk
theorem cv_pSeed (G : cOk g n) (v : Int64) (K : jW → Option β) : pP (cv g (m, x) M) (some (gAd g 0 0)) 0 6 (jL v) K = K (cv g ((m.1, v), x) M) := by
  simp only [pP, pO, cv_at (k := 0) G (show cLv g 0 0 from rfl)]
  show (if _ then (if _ < _ then K (jU _ _ _) else none) else none) = _
  rw [if_pos rfl, if_pos (by simp)]
  refine congrArg K (cv_jU (s' := ((m.1, v), x)) (k := 0) G (show cLv g 0 0 from rfl) ?_ (fun k' i' hl' hne => ?_))
  · rfl
  · skip
    by_cases hk : k' = 0
    · subst hk
      exact absurd ⟨rfl, hl'⟩ hne
    · have h14 := cLv_lt hl'
      rcases (show k' = 0 ∨ k' = 1 ∨ k' = 2 ∨ k' = 3 ∨ k' = 4 ∨ k' = 5 ∨ k' = 6 ∨ k' = 7 ∨ k' = 8 ∨ k' = 9 ∨ k' = 10 ∨ k' = 11 ∨ k' = 12 ∨ k' = 13 by omega) with rfl | rfl | rfl | rfl | rfl | rfl | rfl | rfl | rfl | rfl | rfl | rfl | rfl | rfl
      all_goals first | rfl | exact absurd rfl hk
theorem cv_pB7 (G : cOk g n) (h : i < gN g 6) (v : Int32) (K : jW → Option β) : pP (cv g (m, x) M) (some (gAd g 4 i)) 3 7 (jI v) K = K (cv g (mset m 10 i v, x) M) := by
  simp only [pP, pO, cv_at (k := 4) G (show cLv g 4 i from h)]
  show (if _ then (if _ < _ then K (jU _ _ _) else none) else none) = _
  rw [if_pos rfl, if_pos (by simp)]
  refine congrArg K (cv_jU (s' := (mset m 10 i v, x)) (k := 4) G (show cLv g 4 i from h) ?_ (fun k' i' hl' hne => ?_))
  · simp [cE, mset, xset, upd, jv]
  · skip
    by_cases hk : k' = 4
    · subst hk
      have hi : ¬ i' = i := fun w => hne ⟨rfl, w⟩
      simp [cE, mset, xset, upd, hi]
    · have h14 := cLv_lt hl'
      rcases (show k' = 0 ∨ k' = 1 ∨ k' = 2 ∨ k' = 3 ∨ k' = 4 ∨ k' = 5 ∨ k' = 6 ∨ k' = 7 ∨ k' = 8 ∨ k' = 9 ∨ k' = 10 ∨ k' = 11 ∨ k' = 12 ∨ k' = 13 by omega) with rfl | rfl | rfl | rfl | rfl | rfl | rfl | rfl | rfl | rfl | rfl | rfl | rfl | rfl
      all_goals first | rfl | exact absurd rfl hk
theorem cv_pB8 (G : cOk g n) (h : i < gN g 6) (v : Int32) (K : jW → Option β) : pP (cv g (m, x) M) (some (gAd g 4 i)) 3 8 (jI v) K = K (cv g (mset m 11 i v, x) M) := by
  simp only [pP, pO, cv_at (k := 4) G (show cLv g 4 i from h)]
  show (if _ then (if _ < _ then K (jU _ _ _) else none) else none) = _
  rw [if_pos rfl, if_pos (by simp)]
  refine congrArg K (cv_jU (s' := (mset m 11 i v, x)) (k := 4) G (show cLv g 4 i from h) ?_ (fun k' i' hl' hne => ?_))
  · simp [cE, mset, xset, upd, jv]
  · skip
    by_cases hk : k' = 4
    · subst hk
      have hi : ¬ i' = i := fun w => hne ⟨rfl, w⟩
      simp [cE, mset, xset, upd, hi]
    · have h14 := cLv_lt hl'
      rcases (show k' = 0 ∨ k' = 1 ∨ k' = 2 ∨ k' = 3 ∨ k' = 4 ∨ k' = 5 ∨ k' = 6 ∨ k' = 7 ∨ k' = 8 ∨ k' = 9 ∨ k' = 10 ∨ k' = 11 ∨ k' = 12 ∨ k' = 13 by omega) with rfl | rfl | rfl | rfl | rfl | rfl | rfl | rfl | rfl | rfl | rfl | rfl | rfl | rfl
      all_goals first | rfl | exact absurd rfl hk
theorem cv_pB10 (G : cOk g n) (h : i < gN g 6) (v : Int32) (K : jW → Option β) : pP (cv g (m, x) M) (some (gAd g 4 i)) 3 10 (jI v) K = K (cv g (mset m 12 i v, x) M) := by
  simp only [pP, pO, cv_at (k := 4) G (show cLv g 4 i from h)]
  show (if _ then (if _ < _ then K (jU _ _ _) else none) else none) = _
  rw [if_pos rfl, if_pos (by simp)]
  refine congrArg K (cv_jU (s' := (mset m 12 i v, x)) (k := 4) G (show cLv g 4 i from h) ?_ (fun k' i' hl' hne => ?_))
  · simp [cE, mset, xset, upd, jv]
  · skip
    by_cases hk : k' = 4
    · subst hk
      have hi : ¬ i' = i := fun w => hne ⟨rfl, w⟩
      simp [cE, mset, xset, upd, hi]
    · have h14 := cLv_lt hl'
      rcases (show k' = 0 ∨ k' = 1 ∨ k' = 2 ∨ k' = 3 ∨ k' = 4 ∨ k' = 5 ∨ k' = 6 ∨ k' = 7 ∨ k' = 8 ∨ k' = 9 ∨ k' = 10 ∨ k' = 11 ∨ k' = 12 ∨ k' = 13 by omega) with rfl | rfl | rfl | rfl | rfl | rfl | rfl | rfl | rfl | rfl | rfl | rfl | rfl | rfl
      all_goals first | rfl | exact absurd rfl hk
theorem cv_pB11 (G : cOk g n) (h : i < gN g 6) (v : Int32) (K : jW → Option β) : pP (cv g (m, x) M) (some (gAd g 4 i)) 3 11 (jI v) K = K (cv g (mset m 13 i v, x) M) := by
  simp only [pP, pO, cv_at (k := 4) G (show cLv g 4 i from h)]
  show (if _ then (if _ < _ then K (jU _ _ _) else none) else none) = _
  rw [if_pos rfl, if_pos (by simp)]
  refine congrArg K (cv_jU (s' := (mset m 13 i v, x)) (k := 4) G (show cLv g 4 i from h) ?_ (fun k' i' hl' hne => ?_))
  · simp [cE, mset, xset, upd, jv]
  · skip
    by_cases hk : k' = 4
    · subst hk
      have hi : ¬ i' = i := fun w => hne ⟨rfl, w⟩
      simp [cE, mset, xset, upd, hi]
    · have h14 := cLv_lt hl'
      rcases (show k' = 0 ∨ k' = 1 ∨ k' = 2 ∨ k' = 3 ∨ k' = 4 ∨ k' = 5 ∨ k' = 6 ∨ k' = 7 ∨ k' = 8 ∨ k' = 9 ∨ k' = 10 ∨ k' = 11 ∨ k' = 12 ∨ k' = 13 by omega) with rfl | rfl | rfl | rfl | rfl | rfl | rfl | rfl | rfl | rfl | rfl | rfl | rfl | rfl
      all_goals first | rfl | exact absurd rfl hk
theorem cv_pB9 (G : cOk g n) (h : i < gN g 6) (v : Int32) (K : jW → Option β) : pP (cv g (m, x) M) (some (gAd g 4 i)) 3 9 (jI v) K = K (cv g (m, xset x 3 i v) M) := by
  simp only [pP, pO, cv_at (k := 4) G (show cLv g 4 i from h)]
  show (if _ then (if _ < _ then K (jU _ _ _) else none) else none) = _
  rw [if_pos rfl, if_pos (by simp)]
  refine congrArg K (cv_jU (s' := (m, xset x 3 i v)) (k := 4) G (show cLv g 4 i from h) ?_ (fun k' i' hl' hne => ?_))
  · simp [cE, mset, xset, upd, jv]
  · skip
    by_cases hk : k' = 4
    · subst hk
      have hi : ¬ i' = i := fun w => hne ⟨rfl, w⟩
      simp [cE, mset, xset, upd, hi]
    · have h14 := cLv_lt hl'
      rcases (show k' = 0 ∨ k' = 1 ∨ k' = 2 ∨ k' = 3 ∨ k' = 4 ∨ k' = 5 ∨ k' = 6 ∨ k' = 7 ∨ k' = 8 ∨ k' = 9 ∨ k' = 10 ∨ k' = 11 ∨ k' = 12 ∨ k' = 13 by omega) with rfl | rfl | rfl | rfl | rfl | rfl | rfl | rfl | rfl | rfl | rfl | rfl | rfl | rfl
      all_goals first | rfl | exact absurd rfl hk
theorem cv_pT0 (G : cOk g n) (h : i < 12 * gN g 7) (v : Int32) (K : jW → Option β) : pP (cv g (m, x) M) (some (gAd g 11 i)) 8 0 (jI v) K = K (cv g (m, xset x 4 i v) M) := by
  simp only [pP, pO, cv_at (k := 11) G (show cLv g 11 i from h)]
  show (if _ then (if _ < _ then K (jU _ _ _) else none) else none) = _
  rw [if_pos rfl, if_pos (by simp)]
  refine congrArg K (cv_jU (s' := (m, xset x 4 i v)) (k := 11) G (show cLv g 11 i from h) ?_ (fun k' i' hl' hne => ?_))
  · simp [cE, mset, xset, upd, jv]
  · skip
    by_cases hk : k' = 11
    · subst hk
      have hi : ¬ i' = i := fun w => hne ⟨rfl, w⟩
      simp [cE, mset, xset, upd, hi]
    · have h14 := cLv_lt hl'
      rcases (show k' = 0 ∨ k' = 1 ∨ k' = 2 ∨ k' = 3 ∨ k' = 4 ∨ k' = 5 ∨ k' = 6 ∨ k' = 7 ∨ k' = 8 ∨ k' = 9 ∨ k' = 10 ∨ k' = 11 ∨ k' = 12 ∨ k' = 13 by omega) with rfl | rfl | rfl | rfl | rfl | rfl | rfl | rfl | rfl | rfl | rfl | rfl | rfl | rfl
      all_goals first | rfl | exact absurd rfl hk
theorem cv_pT1 (G : cOk g n) (h : i < 12 * gN g 7) (v : Int32) (K : jW → Option β) : pP (cv g (m, x) M) (some (gAd g 11 i)) 8 1 (jI v) K = K (cv g (m, xset x 5 i v) M) := by
  simp only [pP, pO, cv_at (k := 11) G (show cLv g 11 i from h)]
  show (if _ then (if _ < _ then K (jU _ _ _) else none) else none) = _
  rw [if_pos rfl, if_pos (by simp)]
  refine congrArg K (cv_jU (s' := (m, xset x 5 i v)) (k := 11) G (show cLv g 11 i from h) ?_ (fun k' i' hl' hne => ?_))
  · simp [cE, mset, xset, upd, jv]
  · skip
    by_cases hk : k' = 11
    · subst hk
      have hi : ¬ i' = i := fun w => hne ⟨rfl, w⟩
      simp [cE, mset, xset, upd, hi]
    · have h14 := cLv_lt hl'
      rcases (show k' = 0 ∨ k' = 1 ∨ k' = 2 ∨ k' = 3 ∨ k' = 4 ∨ k' = 5 ∨ k' = 6 ∨ k' = 7 ∨ k' = 8 ∨ k' = 9 ∨ k' = 10 ∨ k' = 11 ∨ k' = 12 ∨ k' = 13 by omega) with rfl | rfl | rfl | rfl | rfl | rfl | rfl | rfl | rfl | rfl | rfl | rfl | rfl | rfl
      all_goals first | rfl | exact absurd rfl hk
theorem cv_pT2 (G : cOk g n) (h : i < 12 * gN g 7) (v : Int32) (K : jW → Option β) : pP (cv g (m, x) M) (some (gAd g 11 i)) 8 2 (jI v) K = K (cv g (m, xset x 6 i v) M) := by
  simp only [pP, pO, cv_at (k := 11) G (show cLv g 11 i from h)]
  show (if _ then (if _ < _ then K (jU _ _ _) else none) else none) = _
  rw [if_pos rfl, if_pos (by simp)]
  refine congrArg K (cv_jU (s' := (m, xset x 6 i v)) (k := 11) G (show cLv g 11 i from h) ?_ (fun k' i' hl' hne => ?_))
  · simp [cE, mset, xset, upd, jv]
  · skip
    by_cases hk : k' = 11
    · subst hk
      have hi : ¬ i' = i := fun w => hne ⟨rfl, w⟩
      simp [cE, mset, xset, upd, hi]
    · have h14 := cLv_lt hl'
      rcases (show k' = 0 ∨ k' = 1 ∨ k' = 2 ∨ k' = 3 ∨ k' = 4 ∨ k' = 5 ∨ k' = 6 ∨ k' = 7 ∨ k' = 8 ∨ k' = 9 ∨ k' = 10 ∨ k' = 11 ∨ k' = 12 ∨ k' = 13 by omega) with rfl | rfl | rfl | rfl | rfl | rfl | rfl | rfl | rfl | rfl | rfl | rfl | rfl | rfl
      all_goals first | rfl | exact absurd rfl hk
theorem cv_pT3 (G : cOk g n) (h : i < 12 * gN g 7) (v : Int32) (K : jW → Option β) : pP (cv g (m, x) M) (some (gAd g 11 i)) 8 3 (jI v) K = K (cv g (m, xset x 7 i v) M) := by
  simp only [pP, pO, cv_at (k := 11) G (show cLv g 11 i from h)]
  show (if _ then (if _ < _ then K (jU _ _ _) else none) else none) = _
  rw [if_pos rfl, if_pos (by simp)]
  refine congrArg K (cv_jU (s' := (m, xset x 7 i v)) (k := 11) G (show cLv g 11 i from h) ?_ (fun k' i' hl' hne => ?_))
  · simp [cE, mset, xset, upd, jv]
  · skip
    by_cases hk : k' = 11
    · subst hk
      have hi : ¬ i' = i := fun w => hne ⟨rfl, w⟩
      simp [cE, mset, xset, upd, hi]
    · have h14 := cLv_lt hl'
      rcases (show k' = 0 ∨ k' = 1 ∨ k' = 2 ∨ k' = 3 ∨ k' = 4 ∨ k' = 5 ∨ k' = 6 ∨ k' = 7 ∨ k' = 8 ∨ k' = 9 ∨ k' = 10 ∨ k' = 11 ∨ k' = 12 ∨ k' = 13 by omega) with rfl | rfl | rfl | rfl | rfl | rfl | rfl | rfl | rfl | rfl | rfl | rfl | rfl | rfl
      all_goals first | rfl | exact absurd rfl hk
theorem cv_pT4 (G : cOk g n) (h : i < 12 * gN g 7) (v : Int32) (K : jW → Option β) : pP (cv g (m, x) M) (some (gAd g 11 i)) 8 4 (jI v) K = K (cv g (m, xset x 8 i v) M) := by
  simp only [pP, pO, cv_at (k := 11) G (show cLv g 11 i from h)]
  show (if _ then (if _ < _ then K (jU _ _ _) else none) else none) = _
  rw [if_pos rfl, if_pos (by simp)]
  refine congrArg K (cv_jU (s' := (m, xset x 8 i v)) (k := 11) G (show cLv g 11 i from h) ?_ (fun k' i' hl' hne => ?_))
  · simp [cE, mset, xset, upd, jv]
  · skip
    by_cases hk : k' = 11
    · subst hk
      have hi : ¬ i' = i := fun w => hne ⟨rfl, w⟩
      simp [cE, mset, xset, upd, hi]
    · have h14 := cLv_lt hl'
      rcases (show k' = 0 ∨ k' = 1 ∨ k' = 2 ∨ k' = 3 ∨ k' = 4 ∨ k' = 5 ∨ k' = 6 ∨ k' = 7 ∨ k' = 8 ∨ k' = 9 ∨ k' = 10 ∨ k' = 11 ∨ k' = 12 ∨ k' = 13 by omega) with rfl | rfl | rfl | rfl | rfl | rfl | rfl | rfl | rfl | rfl | rfl | rfl | rfl | rfl
      all_goals first | rfl | exact absurd rfl hk
theorem cv_pOpen0 (G : cOk g n) (K : jW → Option β) : pP (cv g (m, x) M) (some (gAd g 0 0)) 0 4 (jR none) K = K (cv g (mset m 4 0 (-1), x) M) := by
  simp only [pP, pO, cv_at (k := 0) G (show cLv g 0 0 from rfl)]
  show (if _ then (if _ < _ then K (jU _ _ _) else none) else none) = _
  rw [if_pos rfl, if_pos (by simp)]
  refine congrArg K (cv_jU (s' := (mset m 4 0 (-1), x)) (k := 0) G (show cLv g 0 0 from rfl) ?_ (fun k' i' hl' hne => ?_))
  · rfl
  · skip
    by_cases hk : k' = 0
    · subst hk
      exact absurd ⟨rfl, hl'⟩ hne
    · have h14 := cLv_lt hl'
      rcases (show k' = 0 ∨ k' = 1 ∨ k' = 2 ∨ k' = 3 ∨ k' = 4 ∨ k' = 5 ∨ k' = 6 ∨ k' = 7 ∨ k' = 8 ∨ k' = 9 ∨ k' = 10 ∨ k' = 11 ∨ k' = 12 ∨ k' = 13 by omega) with rfl | rfl | rfl | rfl | rfl | rfl | rfl | rfl | rfl | rfl | rfl | rfl | rfl | rfl
      all_goals first | rfl | exact absurd rfl hk
theorem cv_s6 (G : cOk g n) (h : i < gN g 6) {j : Nat} (hj : j < 2) (hj2 : j < 2147483648) (v : Int32) (K : jW → Option β) : pSI (cv g (m, x) M) (some (gAd g 6 i)) (i32 j) v K = K (cv g (mset m 6 (2 * i + j) v, x) M) := by
  simp only [pSI, pA, cv_at (k := 6) G (show cLv g 6 i from h)]
  show (if jin (i32 j) (2) = true then K (jU _ _ _) else none) = _
  rw [jin_i32 hj2, if_pos (by simpa using hj)]
  refine congrArg K (cv_jU (s' := (mset m 6 (2 * i + j) v, x)) (k := 6) G (show cLv g 6 i from h) ?_ (fun k' i' hl' hne => ?_))
  · simp only [cE, i32_nat hj2]
    refine congrArg (fun f => (Sum.inl (0, (2, Sum.inl f)) : jE)) (funext fun j' => ?_)
    simp only [mset, xset, upd, if_true]
    by_cases h1 : j' = j
    · subst h1; simp [hj]
    · by_cases h2 : j' < 2
      · rw [if_pos h2, if_neg h1, if_pos h2, if_neg (by omega)]
      · rw [if_neg h2, if_neg h1, if_neg h2]
  · skip
    by_cases hk : k' = 6
    · subst hk
      have hi : ¬ i' = i := fun w => hne ⟨rfl, w⟩
      simp only [cE]
      refine congrArg (fun f => (Sum.inl (0, (2, Sum.inl f)) : jE)) (funext fun j' => ?_)
      simp only [mset, xset, upd, if_true]
      by_cases h2 : j' < 2
      · rw [if_pos h2, if_pos h2, if_neg (by omega)]
      · rw [if_neg h2, if_neg h2]
    · have h14 := cLv_lt hl'
      rcases (show k' = 0 ∨ k' = 1 ∨ k' = 2 ∨ k' = 3 ∨ k' = 4 ∨ k' = 5 ∨ k' = 6 ∨ k' = 7 ∨ k' = 8 ∨ k' = 9 ∨ k' = 10 ∨ k' = 11 ∨ k' = 12 ∨ k' = 13 by omega) with rfl | rfl | rfl | rfl | rfl | rfl | rfl | rfl | rfl | rfl | rfl | rfl | rfl | rfl
      all_goals first | rfl | exact absurd rfl hk
theorem cv_s7 (G : cOk g n) (h : i < gN g 6) {j : Nat} (hj : j < 2) (hj2 : j < 2147483648) (v : Int32) (K : jW → Option β) : pSI (cv g (m, x) M) (some (gAd g 7 i)) (i32 j) v K = K (cv g (m, xset x 1 (2 * i + j) v) M) := by
  simp only [pSI, pA, cv_at (k := 7) G (show cLv g 7 i from h)]
  show (if jin (i32 j) (2) = true then K (jU _ _ _) else none) = _
  rw [jin_i32 hj2, if_pos (by simpa using hj)]
  refine congrArg K (cv_jU (s' := (m, xset x 1 (2 * i + j) v)) (k := 7) G (show cLv g 7 i from h) ?_ (fun k' i' hl' hne => ?_))
  · simp only [cE, i32_nat hj2]
    refine congrArg (fun f => (Sum.inl (0, (2, Sum.inl f)) : jE)) (funext fun j' => ?_)
    simp only [mset, xset, upd, if_true]
    by_cases h1 : j' = j
    · subst h1; simp [hj]
    · by_cases h2 : j' < 2
      · rw [if_pos h2, if_neg h1, if_pos h2, if_neg (by omega)]
      · rw [if_neg h2, if_neg h1, if_neg h2]
  · skip
    by_cases hk : k' = 7
    · subst hk
      have hi : ¬ i' = i := fun w => hne ⟨rfl, w⟩
      simp only [cE]
      refine congrArg (fun f => (Sum.inl (0, (2, Sum.inl f)) : jE)) (funext fun j' => ?_)
      simp only [mset, xset, upd, if_true]
      by_cases h2 : j' < 2
      · rw [if_pos h2, if_pos h2, if_neg (by omega)]
      · rw [if_neg h2, if_neg h2]
    · have h14 := cLv_lt hl'
      rcases (show k' = 0 ∨ k' = 1 ∨ k' = 2 ∨ k' = 3 ∨ k' = 4 ∨ k' = 5 ∨ k' = 6 ∨ k' = 7 ∨ k' = 8 ∨ k' = 9 ∨ k' = 10 ∨ k' = 11 ∨ k' = 12 ∨ k' = 13 by omega) with rfl | rfl | rfl | rfl | rfl | rfl | rfl | rfl | rfl | rfl | rfl | rfl | rfl | rfl
      all_goals first | rfl | exact absurd rfl hk
theorem cv_s8 (G : cOk g n) (h : i < gN g 6) {j : Nat} (hj : j < 2) (hj2 : j < 2147483648) (v : Int32) (K : jW → Option β) : pSZ (cv g (m, x) M) (some (gAd g 8 i)) (i32 j) v K = K (cv g (m, xset x 2 (2 * i + j) (vp_nar .boolean v)) M) := by
  simp only [pSZ, pA, cv_at (k := 8) G (show cLv g 8 i from h)]
  show (if jin (i32 j) (2) = true then K (jU _ _ _) else none) = _
  rw [jin_i32 hj2, if_pos (by simpa using hj)]
  refine congrArg K (cv_jU (s' := (m, xset x 2 (2 * i + j) (vp_nar .boolean v))) (k := 8) G (show cLv g 8 i from h) ?_ (fun k' i' hl' hne => ?_))
  · simp only [cE, i32_nat hj2]
    refine congrArg (fun f => (Sum.inl (1, (2, Sum.inl f)) : jE)) (funext fun j' => ?_)
    simp only [mset, xset, upd, if_true]
    by_cases h1 : j' = j
    · subst h1; simp [hj]
    · by_cases h2 : j' < 2
      · rw [if_pos h2, if_neg h1, if_pos h2, if_neg (by omega)]
      · rw [if_neg h2, if_neg h1, if_neg h2]
  · skip
    by_cases hk : k' = 8
    · subst hk
      have hi : ¬ i' = i := fun w => hne ⟨rfl, w⟩
      simp only [cE]
      refine congrArg (fun f => (Sum.inl (1, (2, Sum.inl f)) : jE)) (funext fun j' => ?_)
      simp only [mset, xset, upd, if_true]
      by_cases h2 : j' < 2
      · rw [if_pos h2, if_pos h2, if_neg (by omega)]
      · rw [if_neg h2, if_neg h2]
    · have h14 := cLv_lt hl'
      rcases (show k' = 0 ∨ k' = 1 ∨ k' = 2 ∨ k' = 3 ∨ k' = 4 ∨ k' = 5 ∨ k' = 6 ∨ k' = 7 ∨ k' = 8 ∨ k' = 9 ∨ k' = 10 ∨ k' = 11 ∨ k' = 12 ∨ k' = 13 by omega) with rfl | rfl | rfl | rfl | rfl | rfl | rfl | rfl | rfl | rfl | rfl | rfl | rfl | rfl
      all_goals first | rfl | exact absurd rfl hk
theorem cv_s13 (G : cOk g n) (h : i < gN g 9) (hR : ∀ r, gRl g r ≤ 32) {j : Nat} (hj : j < gRl g i) (hj2 : j < 2147483648) (v : Int32) (K : jW → Option β) : pSI (cv g (m, x) M) (some (gAd g 13 i)) (i32 j) v K = K (cv g (m, xset x 9 (32 * i + j) v) M) := by
  simp only [pSI, pA, cv_at (k := 13) G (show cLv g 13 i from h)]
  show (if jin (i32 j) (gRl g i) = true then K (jU _ _ _) else none) = _
  rw [jin_i32 hj2, if_pos (by simpa using hj)]
  refine congrArg K (cv_jU (s' := (m, xset x 9 (32 * i + j) v)) (k := 13) G (show cLv g 13 i from h) ?_ (fun k' i' hl' hne => ?_))
  · simp only [cE, i32_nat hj2]
    refine congrArg (fun f => (Sum.inl (0, (gRl g i, Sum.inl f)) : jE)) (funext fun j' => ?_)
    simp only [mset, xset, upd, if_true]
    by_cases h1 : j' = j
    · subst h1; simp [hj]
    · by_cases h2 : j' < gRl g i
      · rw [if_pos h2, if_neg h1, if_pos h2, if_neg (by omega)]
      · rw [if_neg h2, if_neg h1, if_neg h2]
  · skip
    by_cases hk : k' = 13
    · subst hk
      have hi : ¬ i' = i := fun w => hne ⟨rfl, w⟩
      simp only [cE]
      refine congrArg (fun f => (Sum.inl (0, (gRl g i', Sum.inl f)) : jE)) (funext fun j' => ?_)
      simp only [mset, xset, upd, if_true]
      by_cases h2 : j' < gRl g i'
      · have := hR i; have := hR i'
        rw [if_pos h2, if_pos h2, if_neg (by omega)]
      · rw [if_neg h2, if_neg h2]
    · have h14 := cLv_lt hl'
      rcases (show k' = 0 ∨ k' = 1 ∨ k' = 2 ∨ k' = 3 ∨ k' = 4 ∨ k' = 5 ∨ k' = 6 ∨ k' = 7 ∨ k' = 8 ∨ k' = 9 ∨ k' = 10 ∨ k' = 11 ∨ k' = 12 ∨ k' = 13 by omega) with rfl | rfl | rfl | rfl | rfl | rfl | rfl | rfl | rfl | rfl | rfl | rfl | rfl | rfl
      all_goals first | rfl | exact absurd rfl hk
end cvw
