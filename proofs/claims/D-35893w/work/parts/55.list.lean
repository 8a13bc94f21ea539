/-! LISTS, raw: what ArrayList's methods do to the heap -/
set_option maxRecDepth 100000
section pat
variable {β : Type} {M : jW} {a ci k : Nat} {fs : List Value}
theorem pB_some {α : Type} {v : α} {K : α → jW → Option β} : pB (some (v, M)) K = K v M := rfl
theorem pX_inl {α γ : Type} {v : α} {K : α → jW → Option ((γ ⊕ Nat) × jW)} : pX (some (.inl v, M)) K = K v M := rfl
theorem pX_inr {α γ : Type} {e : Nat} {K : α → jW → Option ((γ ⊕ Nat) × jW)} : pX (some (.inr e, M)) K = some (.inr e, M) := rfl
theorem pO_at {K : Nat → List Value → Option β} (h : M.1 a = some (.inr (ci, fs))) : pO M (some a) ci K = K a fs := by
  simp only [pO, h, if_true]
theorem pI_at {v : Int32} {K : Int32 → Option β} (h : M.1 a = some (.inr (ci, fs))) (hv : fs[k]? = some (.int v)) : pI M (some a) ci k K = K v := by
  simp only [pI, pO_at h, hv]
theorem pL_at {v : Int64} {K : Int64 → Option β} (h : M.1 a = some (.inr (ci, fs))) (hv : fs[k]? = some (.long v)) : pL M (some a) ci k K = K v := by
  simp only [pL, pO_at h, hv]
theorem pR_at {v : Nat} {K : Option Nat → Option β} (h : M.1 a = some (.inr (ci, fs))) (hv : fs[k]? = some (.ref v)) : pR M (some a) ci k K = K (some v) := by
  simp only [pR, pO_at h, hv]
theorem pR_n {K : Option Nat → Option β} (h : M.1 a = some (.inr (ci, fs))) (hv : fs[k]? = some .null) : pR M (some a) ci k K = K none := by
  simp only [pR, pO_at h, hv]
theorem pP_at {v : jV} {fs' : List Value} {K : jW → Option β} (h : M.1 a = some (.inr (ci, fs))) (hk : k < fs.length) (he : fs.set k (jv v) = fs') : pP M (some a) ci k v K = K (jU M a (.inr (ci, fs'))) := by
  simp only [pP, pO_at h, if_pos hk, he]
theorem pAI_at {t n j : Nat} {f : Nat → Int32} {K : Int32 → Option β} (h : M.1 a = some (.inl (t, (n, .inl f)))) (hj : j < n) (hj2 : j < 2147483648) : pAI M (some a) t (i32 j) K = K (f j) := by
  simp only [pAI, pA, h, if_true, jin_i32 hj2, decide_eq_true hj, i32_nat hj2]
theorem pAR_at {t n j : Nat} {f : Nat → Option Nat} {K : Option Nat → Option β} (h : M.1 a = some (.inl (t, (n, .inr (.inr (.inr (.inr f))))))) (hj : j < n) (hj2 : j < 2147483648) : pAR M (some a) t (i32 j) K = K (f j) := by
  simp only [pAR, pA, h, if_true, jin_i32 hj2, decide_eq_true hj, i32_nat hj2]
theorem pSI_at {n j : Nat} {v : Int32} {f : Nat → Int32} {K : jW → Option β} (h : M.1 a = some (.inl (0, (n, .inl f)))) (hj : j < n) (hj2 : j < 2147483648) : pSI M (some a) (i32 j) v K = K (jU M a (.inl (0, (n, .inl (upd f j v))))) := by
  simp only [pSI, pA, h, if_true, jin_i32 hj2, decide_eq_true hj, i32_nat hj2]
theorem pSR_at {t n j : Nat} {v : Option Nat} {f : Nat → Option Nat} {K : jW → Option β} (h : M.1 a = some (.inl (t, (n, .inr (.inr (.inr (.inr f))))))) (hj : j < n) (hj2 : j < 2147483648) (he : jel M t v = true) : pSR M (some a) t (i32 j) v K = K (jU M a (.inl (t, (n, .inr (.inr (.inr (.inr (va_up f j v)))))))) := by
  simp only [pSR, pA, h, if_true, jin_i32 hj2, decide_eq_true hj, i32_nat hj2, he, and_self]
theorem pLen_at {t : Nat} {A : vp_A} {K : Int32 → Option β} (h : M.1 a = some (.inl (t, A))) (ht : t < 6) (h3 : a ≠ M.2.2 3) : pLen M (some a) K = K (i32 A.1) := by
  simp only [pLen, if_neg h3, h, if_pos ht]
theorem pLen_3 {K : Int32 → Option β} : pLen M (some (M.2.2 3)) K = K 0 := by
  simp only [pLen, if_true]
end pat
/-- the kind of a cell -/
def jkd : jE → Nat × Nat
  | .inl a => (0, a.1)
  | .inr o => (1, o.1)
theorem jel_some {M : jW} {t b : Nat} : jel M t (some b) = match M.1 b with
    | some (.inr (c, _)) => (t == 3 && (c == 2 || c == 3 || c == 4 || c == 5 || c == 7)) || (t == 4 && c == 2) || (t == 5 && c == 8)
    | some (.inl (c, _)) => t == 3 && c == 0
    | none => t == 3 && jbx M b := rfl
theorem jel_jU {M : jW} {a : Nat} {e0 e : jE} (h0 : M.1 a = some e0) (hk : jkd e = jkd e0) (t : Nat) (v : Option Nat) : jel (jU M a e) t v = jel M t v := by
  cases v with
  | none => rfl
  | some b =>
    by_cases hb : b = a
    · subst hb
      rw [jel_some, jel_some, jU_same, h0]
      rcases e0 with ⟨c0, _⟩ | ⟨c0, _⟩ <;> rcases e with ⟨c, _⟩ | ⟨c, _⟩ <;> simp [jkd] at hk
      · simp only [hk]
      · simp only [hk]
    · rw [jel_some, jel_some, jU_ne hb]
      rfl
theorem jel_jN {M : jW} (hW : jWF M) {e : jE} {t b : Nat} (hb : b ≠ M.2.1) : jel (jN M e) t (some b) = jel M t (some b) := by
  rw [jel_some, jel_some, jN_ne hb]
  rfl
/-- the row of a list -/
abbrev jrow (cap : Nat) (f : Nat → Option Nat) : jE := .inl (3, (cap, .inr (.inr (.inr (.inr f)))))
abbrev jlist (mc : Int32) (ro n : Nat) : jE := .inr (9, [.int mc, .ref ro, .int (i32 n)])
theorem l_size {W : jW} {la ro n : Nat} {mc : Int32} (h : W.1 la = some (jlist mc ro n)) : f_J2_size (some la) W = some (i32 n, W) := by
  simp only [f_J2_size, pI, pO, h]
  rfl
theorem l_isEmpty {W : jW} {la ro n : Nat} {mc : Int32} (hn : n < 2147483648) (h : W.1 la = some (jlist mc ro n)) : f_J2_isEmpty (some la) W = some (if n = 0 then 1 else 0, W) := by
  simp only [f_J2_isEmpty, pI, pO, h]
  show (if i32 n = 0 then pRZ 1 W else pRZ 0 W) = _
  by_cases h0 : n = 0
  · subst h0; rfl
  · rw [if_neg (show ¬ i32 n = 0 from fun q => h0 ((i32_inj hn (by decide)).mp q)), if_neg h0]; rfl
theorem l_get {W : jW} {la ro n cap : Nat} {mc : Int32} {f : Nat → Option Nat} {k : Nat} (hn : n < 2147483648) (h : W.1 la = some (jlist mc ro n)) (hr : W.1 ro = some (jrow cap f)) (hk : k < n) (hc : n ≤ cap) : f_J2_get (some la) (i32 k) W = some (f k, W) := by
  have hk2 : k < 2147483648 := by omega
  have e1 : f_J13_checkIndex (i32 k) (i32 n) W = some (i32 k, W) := by
    simp only [f_J13_checkIndex, f_J14_checkIndex, if_neg (i32_nn hk2), if_pos ((i32_lt hk2 hn).mpr hk), pB]
  have e2 : f_J2_elementData (some la) (i32 k) W = some (f k, W) := by
    simp only [f_J2_elementData, pR, pO, h]
    show pAR W (some ro) 3 (i32 k) (fun v5 => some (v5, W)) = _
    simp only [pAR, pA, hr]
    show (if jin (i32 k) cap = true then some (f (i32 k).toNatClampNeg, W) else none) = _
    rw [jin_i32 hk2, if_pos (by simpa using by omega), i32_nat hk2]
  simp only [f_J2_get, pI, pO, h]
  show pB (f_J13_checkIndex (i32 k) (i32 n) W) _ = _
  rw [e1]
  simp only [pB, h, if_true, e2]
/-- an element more, where the row has room -/
theorem l_add_room {W : jW} {la ro n cap q : Nat} {mc : Int32} {f : Nat → Option Nat} (hn : n < 2147483647) (h : W.1 la = some (jlist mc ro n)) (hr : W.1 ro = some (jrow cap f)) (h3 : ro ≠ W.2.2 3) (hc : n < cap) (hcap : cap < 2147483648) (hq : jel W 3 (some q) = true) :
    f_J2_add (some la) (some q) W = some (1, jU (jU (jU W la (jlist (mc + 1) ro n)) ro (jrow cap (va_up f n (some q)))) la (jlist (mc + 1) ro (n + 1))) := by
  have hne : ro ≠ la := by
    intro w; rw [w, h] at hr; cases hr
  generalize hW1 : jU W la (jlist (mc + 1) ro n) = W1
  have a1 : W1.1 la = some (jlist (mc + 1) ro n) := by rw [← hW1]; exact jU_same
  have a2 : W1.1 ro = some (jrow cap f) := by rw [← hW1, jU_ne hne]; exact hr
  have a3 : W1.2.2 = W.2.2 := by rw [← hW1]; rfl
  have a4 : jel W1 3 (some q) = true := by rw [← hW1]; exact (jel_jU (e := jlist (mc + 1) ro n) h rfl 3 (some q)).trans hq
  have e3 : f_J2_add_2_b11 (some la) (some q) (some ro) (i32 n) W1 = some ((), jU (jU W1 ro (jrow cap (va_up f n (some q)))) la (jlist (mc + 1) ro (n + 1))) := by
    unfold f_J2_add_2_b11
    rw [pSR_at a2 hc (by omega) a4, pP_at (fs := [.int (mc + 1), .ref ro, .int (i32 n)]) (by rw [jU_ne (Ne.symm hne)]; exact a1) (by simp) rfl, i32_add1]
    rfl
  have e2 : f_J2_add_2 (some la) (some q) (some ro) (i32 n) W1 = some ((), jU (jU W1 ro (jrow cap (va_up f n (some q)))) la (jlist (mc + 1) ro (n + 1))) := by
    unfold f_J2_add_2
    rw [pLen_at a2 (by decide) (by rw [a3]; exact h3), if_neg (fun w => by have := (i32_inj (by omega) hcap).mp w; omega), e3]
  unfold f_J2_add
  rw [pI_at h rfl, pP_at (fs' := [.int (mc + 1), .ref ro, .int (i32 n)]) h (by simp) rfl]
  show pR (jU W la (jlist (mc + 1) ro n)) (some la) 9 1 _ = _
  rw [hW1, pR_at a1 rfl, pI_at a1 rfl, pO_at a1, e2]
  rfl
