set_option maxRecDepth 100000
theorem l_hasNext {W : jW} {it la ro n k : Nat} {lr mc mc' : Int32} (hn : n < 2147483648) (hk : k < 2147483648) (h1 : W.1 it = some (jitr (i32 k) lr mc la)) (h2 : W.1 la = some (jlist mc' ro n)) : f_J19_hasNext (some it) W = some (if k = n then 0 else 1, W) := by
  unfold f_J19_hasNext
  rw [pI_at h1 rfl, pR_at h1 rfl, pI_at h2 rfl]
  by_cases hkn : k = n
  · rw [if_pos (by rw [hkn]), if_pos hkn]; rfl
  · rw [if_neg (fun w => hkn ((i32_inj hk hn).mp w)), if_neg hkn]; rfl
theorem l_next {W : jW} (hW : jWF W) {it la ro n cap k : Nat} {lr mc : Int32} {f : Nat → Option Nat} (hn : n < 2147483647) (hc : n ≤ cap) (hcap : cap < 2147483648) (hk : k < n) (h1 : W.1 it = some (jitr (i32 k) lr mc la)) (h2 : W.1 la = some (jlist mc ro n)) (h3 : ro ≠ W.2.2 3) (hr : W.1 ro = some (jrow cap f)) :
    ∃ W', f_J19_next (some it) W = some (f k, W') ∧ W'.1 it = some (jitr (i32 (k + 1)) (i32 k) mc la) ∧ jFr (fun p => p = it) W W' ∧ W'.2 = W.2 := by
  have hil : la ≠ it := fun w => by rw [w, h1] at h2; cases h2
  have hir : ro ≠ it := fun w => by rw [w, h1] at hr; cases hr
  have ec : f_J19_checkForComodification (some it) W = some ((), W) := by
    unfold f_J19_checkForComodification
    rw [pR_at h1 rfl, pI_at h2 rfl, pI_at h1 rfl, if_pos rfl]
  refine ⟨jU (jU W it (jitr (i32 (k + 1)) lr mc la)) it (jitr (i32 (k + 1)) (i32 k) mc la), ?_, jU_same, jFr.trans (F := fun p => p = it) (G := fun p => p = it) (jFr.upd hW h1 rfl) (jFr.upd (hW.updp h1) jU_same rfl) (fun _ _ w => w), rfl⟩
  unfold f_J19_next
  rw [pO_at h1, ec, pB_some, pI_at h1 rfl, pR_at h1 rfl, pI_at h2 rfl, if_pos ((i32_lt (by omega) (by omega)).mpr hk), pR_at h1 rfl, pR_at h2 rfl, pLen_at hr (by decide) h3, if_pos (show i32 k < i32 cap from (i32_lt (by omega) hcap).mpr (by omega)), i32_add1, pP_at (fs' := [.int (i32 (k + 1)), .int lr, .int mc, .ref la]) h1 (by simp) rfl, pP_at (fs' := [.int (i32 (k + 1)), .int (i32 k), .int mc, .ref la]) jU_same (by simp) rfl, pAR_at (by rw [jU_ne hir, jU_ne hir]; exact hr) (by omega) (by omega)]
