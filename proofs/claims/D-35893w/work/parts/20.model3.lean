set_option maxRecDepth 100000
/-! PhrasehallModel.end()I -/
def rm_X2_end : Room := ({ frames := 2, cells := 0, slots := 0, locals := 86 } : Room)
theorem hd_X2_end : yX2_end.cls ≠ "java/lang/invoke/MethodHandle" ∧ yX2_end.cls ≠ "java/lang/invoke/VarHandle" ∧ (parseMethodDescriptor yX2_end.desc).map (fun d => d.parameters.length) = some 0 := ⟨by decide, by decide, by decide +kernel⟩
def f_X2_end_b14 (l0 : Option Nat) (s0 : Option Nat) (s1 : Int32) (M : jW) : Option (Int32 × jW) := pP M s0 1 31 (jI s1) fun M14 =>
  pI M14 l0 1 31 fun v18 =>
  if v18 ≤ 0 then (pO M14 l0 1 fun b27 _ => pB (f_X2_ahead (some b27)  M14) fun r27 M27 =>
  pO M27 l0 1 fun b33 _ => pB (f_X2_ends (some b33) r27 M27) fun _ M33 =>
  some (r27, M33))
  else (some ((0 : Int32), M14))
set_option maxHeartbeats 4000000 in
theorem w_X2_end_b14 {x : jX} (C : jOk x cX2_end RX2 rm_X2_end (some .int)) (hxn : xn x = 2) {v0 : Int32} {M0 : jW} (hQ : jEnd x rm_X2_end (some (jI v0)) M0) {l0 : Option Nat} {s0 : Option Nat} {s1 : Int32} {M : jW} (hF : f_X2_end_b14 l0 s0 s1 M = some (v0, M0)) : jJ x 14 [(0, jR l0)] [jI s1, jR s0] M 0 0 := by
  unfold f_X2_end_b14 at hF
  refine jj_pP (f := 31) C jcs_1 (Nat.le_of_ble_eq_true rfl) (jLk.of C q1264 rfl) (Or.inl rfl) dX2_end_14 (jfit_i _) hF (fun M14 hF => ?_)
  refine jj_aload_n C 0 rfl dX2_end_17 rfl ?_
  refine jj_pI (f := 31) C jcs_1 (Nat.le_of_ble_eq_true rfl) (jLk.of C q1264 rfl) dX2_end_18 hF (fun v18 hF => ?_)
  refine jj_if_le (tgt := 26) C dX2_end_21 (by decide) hF (fun hF => ?_) (fun hF => ?_)
  · refine jj_aload_n C 0 rfl dX2_end_26 rfl ?_
    obtain ⟨b27, fs27, he27, hb27, hF⟩ := pO_spec hF
    obtain ⟨r27, M27, hG, hF⟩ := pB_spec hF
    refine jj_callV (k' := 0) (n' := 0) C [] [] [jI r27] he27 (m_X2_ahead _ _ hG) hb27 rfl q1402 q1404 qs30 q46 q1405 ⟨rfl, hd_X2_ahead⟩ rfl (Nat.le_of_ble_eq_true rfl) ⟨Nat.le_of_ble_eq_true rfl, Nat.le_of_ble_eq_true rfl⟩ ⟨Nat.le_refl _, Nat.le_refl _, Nat.le_refl _, Nat.le_refl _⟩ dX2_end_27 rfl ?_
    refine jj_istore_n (L' := [(1, jI r27), (0, jR l0)]) C rfl (by rw [hxn]; decide) dX2_end_30 rfl ?_
    refine jj_aload_n C 1 rfl dX2_end_31 rfl ?_
    refine jj_iload_n C 0 rfl dX2_end_32 rfl ?_
    obtain ⟨b33, fs33, he33, hb33, hF⟩ := pO_spec hF
    obtain ⟨r33, M33, hG, hF⟩ := pB_spec hF
    refine jj_callV (k' := 0) (n' := 0) C [jI r27] [] [] he33 (m_X2_ends _ _ hG) hb33 rfl q1406 q1408 qs31 q46 q1409 ⟨rfl, hd_X2_ends⟩ rfl (Nat.le_of_ble_eq_true rfl) ⟨Nat.le_of_ble_eq_true rfl, Nat.le_of_ble_eq_true rfl⟩ ⟨Nat.le_refl _, Nat.le_refl _, Nat.le_refl _, Nat.le_refl _⟩ dX2_end_33 rfl ?_
    refine jj_iload_n C 0 rfl dX2_end_36 rfl ?_
    exact jj_iret C hQ dX2_end_37 hF (Nat.zero_le _) (Nat.zero_le _)
  · refine jj_iconst (v := 0) C dX2_end_24 (by decide) ?_
    exact jj_iret C hQ dX2_end_25 hF (Nat.zero_le _) (Nat.zero_le _)
def f_X2_end (a0 : Option Nat) (M : jW) : Option (Int32 × jW) := pI M a0 1 4 fun v2 =>
  if v2 = (-1 : Int32) then (f_X2_end_b14 a0 a0 (1 : Int32) M)
  else (f_X2_end_b14 a0 a0 (0 : Int32) M)
set_option maxHeartbeats 4000000 in
theorem m_X2_end (l : Launch) (g : jG) {a0 : Option Nat} {M M0 : jW} {v0 : Int32} (hF : f_X2_end a0 M = some (v0, M0)) : jMet l g yX2_end cX2_end 2 (some .int) rm_X2_end [jR a0] M (some (jI v0)) M0 := by
  refine jMet.of (L := [(0, jR a0)]) (by decide) rfl (Nat.le_of_ble_eq_true rfl) (fun x C hxn hg hl hQ hin => ?_)
  subst hg
  unfold f_X2_end at hF
  refine jj_aload_n C 0 rfl dX2_end_0 rfl ?_
  refine jj_aload_n C 0 rfl dX2_end_1 rfl ?_
  refine jj_pI (f := 4) C jcs_1 (Nat.le_of_ble_eq_true rfl) (jLk.of C q1237 rfl) dX2_end_2 hF (fun v2 hF => ?_)
  refine jj_iconst (v := -1) C dX2_end_5 (by decide) ?_
  refine jj_icmp_ne (tgt := 13) C dX2_end_6 (by decide) hF (fun hF => ?_) (fun hF => ?_)
  · refine jj_iconst (v := 0) C dX2_end_13 (by decide) ?_
    refine jj_sub [0] rfl ?_
    exact w_X2_end_b14 C hxn hQ hF
  · refine jj_iconst (v := 1) C dX2_end_9 (by decide) ?_
    refine jj_goto (tgt := 14) C dX2_end_10 (by decide) ?_
    refine jj_sub [0] rfl ?_
    exact w_X2_end_b14 C hxn hQ hF
/-! PhrasehallModel.seed(I)V -/
def rm_X2_seed : Room := ({ frames := 1, cells := 0, slots := 0, locals := 64 } : Room)
theorem hd_X2_seed : yX2_seed.cls ≠ "java/lang/invoke/MethodHandle" ∧ yX2_seed.cls ≠ "java/lang/invoke/VarHandle" ∧ (parseMethodDescriptor yX2_seed.desc).map (fun d => d.parameters.length) = some 1 := ⟨by decide, by decide, by decide +kernel⟩
def f_X2_seed_b27 (s0 : Option Nat) (s1 : Int64) (M : jW) : Option (Unit × jW) := pP M s0 1 1 (jL s1) fun M27 =>
  some ((), M27)
set_option maxHeartbeats 4000000 in
theorem w_X2_seed_b27 {x : jX} (C : jOk x cX2_seed RX2 rm_X2_seed none) (hxn : xn x = 2) {v0 : Unit} {M0 : jW} (hQ : jEnd x rm_X2_seed none M0) {s0 : Option Nat} {s1 : Int64} {M : jW} (hF : f_X2_seed_b27 s0 s1 M = some (v0, M0)) : jJ x 27 [] [jL s1, jR s0] M 0 0 := by
  unfold f_X2_seed_b27 at hF
  refine jj_pP (f := 1) C jcs_1 (Nat.le_of_ble_eq_true rfl) (jLk.of C q1234 rfl) (Or.inl rfl) dX2_seed_27 (jfit_l _) hF (fun M27 hF => ?_)
  exact jj_vret C hQ dX2_seed_30 hF (Nat.zero_le _) (Nat.zero_le _)
def f_X2_seed_b10 (l0 : Option Nat) (l1 : Int32) (s0 : Option Nat) (s1 : Int32) (M : jW) : Option (Unit × jW) := pP M s0 1 31 (jI s1) fun M10 =>
  if 0 ≤ l1 then (f_X2_seed_b27 l0 l1.toInt64 M10)
  else (pL M10 l0 1 1 fun v19 =>
  f_X2_seed_b27 l0 v19 M10)
set_option maxHeartbeats 4000000 in
theorem w_X2_seed_b10 {x : jX} (C : jOk x cX2_seed RX2 rm_X2_seed none) (hxn : xn x = 2) {v0 : Unit} {M0 : jW} (hQ : jEnd x rm_X2_seed none M0) {l0 : Option Nat} {l1 : Int32} {s0 : Option Nat} {s1 : Int32} {M : jW} (hF : f_X2_seed_b10 l0 l1 s0 s1 M = some (v0, M0)) : jJ x 10 [(0, jR l0), (1, jI l1)] [jI s1, jR s0] M 0 0 := by
  unfold f_X2_seed_b10 at hF
  refine jj_pP (f := 31) C jcs_1 (Nat.le_of_ble_eq_true rfl) (jLk.of C q1264 rfl) (Or.inl rfl) dX2_seed_10 (jfit_i _) hF (fun M10 hF => ?_)
  refine jj_aload_n C 0 rfl dX2_seed_13 rfl ?_
  refine jj_iload_n C 1 rfl dX2_seed_14 rfl ?_
  refine jj_if_ge (tgt := 25) C dX2_seed_15 (by decide) hF (fun hF => ?_) (fun hF => ?_)
  · refine jj_iload_n C 1 rfl dX2_seed_25 rfl ?_
    refine jj_i2l C dX2_seed_26 ?_
    refine jj_sub [] rfl ?_
    exact w_X2_seed_b27 C hxn hQ hF
  · refine jj_aload_n C 0 rfl dX2_seed_18 rfl ?_
    refine jj_pL (f := 1) C jcs_1 (Nat.le_of_ble_eq_true rfl) (jLk.of C q1234 rfl) dX2_seed_19 hF (fun v19 hF => ?_)
    refine jj_goto (tgt := 27) C dX2_seed_22 (by decide) ?_
    refine jj_sub [] rfl ?_
    exact w_X2_seed_b27 C hxn hQ hF
def f_X2_seed (a0 : Option Nat) (a1 : Int32) (M : jW) : Option (Unit × jW) := if 0 ≤ a1 then (f_X2_seed_b10 a0 a1 a0 (0 : Int32) M)
  else (f_X2_seed_b10 a0 a1 a0 (1 : Int32) M)
set_option maxHeartbeats 4000000 in
theorem m_X2_seed (l : Launch) (g : jG) {a0 : Option Nat} {a1 : Int32} {M M0 : jW} {v0 : Unit} (hF : f_X2_seed a0 a1 M = some (v0, M0)) : jMet l g yX2_seed cX2_seed 2 none rm_X2_seed [jR a0, jI a1] M none M0 := by
  refine jMet.of (L := [(0, jR a0), (1, jI a1)]) (by decide) rfl (Nat.le_of_ble_eq_true rfl) (fun x C hxn hg hl hQ hin => ?_)
  subst hg
  unfold f_X2_seed at hF
  refine jj_aload_n C 0 rfl dX2_seed_0 rfl ?_
  refine jj_iload_n C 1 rfl dX2_seed_1 rfl ?_
  refine jj_if_ge (tgt := 9) C dX2_seed_2 (by decide) hF (fun hF => ?_) (fun hF => ?_)
  · refine jj_iconst (v := 0) C dX2_seed_9 (by decide) ?_
    refine jj_sub [0, 1] rfl ?_
    exact w_X2_seed_b10 C hxn hQ hF
  · refine jj_iconst (v := 1) C dX2_seed_5 (by decide) ?_
    refine jj_goto (tgt := 10) C dX2_seed_6 (by decide) ?_
    refine jj_sub [0, 1] rfl ?_
    exact w_X2_seed_b10 C hxn hQ hF
/-! PhrasehallModel.many(I)I -/
def rm_X2_many : Room := ({ frames := 1, cells := 0, slots := 0, locals := 64 } : Room)
theorem hd_X2_many : yX2_many.cls ≠ "java/lang/invoke/MethodHandle" ∧ yX2_many.cls ≠ "java/lang/invoke/VarHandle" ∧ (parseMethodDescriptor yX2_many.desc).map (fun d => d.parameters.length) = some 1 := ⟨by decide, by decide, by decide +kernel⟩
def f_X2_many_b4 : Nat → Int32 → Int32 → Int32 → jW → Option (Int32 × jW)
  | 0, _, _, _, _ => none
  | q + 1, l0, l1, l2, M => if (32 : Int32) ≤ l2 then (some (l1, M))
  else (pLt (l1 + ((l0 >>> (l2 &&& 31)) &&& (1 : Int32))) fun t17 =>
  (f_X2_many_b4 q) l0 t17 (l2 + (1 : Int32)) M)
theorem f_X2_many_b4_s (q : Nat) (l0 : Int32) (l1 : Int32) (l2 : Int32) (M : jW) : f_X2_many_b4 (q + 1) l0 l1 l2 M = (if (32 : Int32) ≤ l2 then (some (l1, M))
  else (pLt (l1 + ((l0 >>> (l2 &&& 31)) &&& (1 : Int32))) fun t17 =>
  (f_X2_many_b4 q) l0 t17 (l2 + (1 : Int32)) M)) := rfl
set_option maxHeartbeats 4000000 in
theorem w_X2_many_b4 {x : jX} (C : jOk x cX2_many RX2 rm_X2_many (some .int)) (hxn : xn x = 3) {v0 : Int32} {M0 : jW} (hQ : jEnd x rm_X2_many (some (jI v0)) M0) : ∀ (n4 : Nat) (l0 : Int32) (l1 : Int32) (l2 : Int32) (M : jW), f_X2_many_b4 n4 l0 l1 l2 M = some (v0, M0) → jJ x 4 [(0, jI l0), (1, jI l1), (2, jI l2)] [] M 0 0 := by
  intro n4
  induction n4 with
  | zero =>
    intro l0 l1 l2 M hF
    cases hF
  | succ n4 hK4 =>
    intro l0 l1 l2 M hF
    rw [f_X2_many_b4_s] at hF
    refine jj_iload_n C 2 rfl dX2_many_4 rfl ?_
    refine jj_bipush (v := 32) C dX2_many_5 (by decide) ?_
    refine jj_icmp_ge (tgt := 24) C dX2_many_7 (by decide) hF (fun hF => ?_) (fun hF => ?_)
    · refine jj_iload_n C 1 rfl dX2_many_24 rfl ?_
      exact jj_iret C hQ dX2_many_25 hF (Nat.zero_le _) (Nat.zero_le _)
    · refine jj_iload_n C 1 rfl dX2_many_10 rfl ?_
      refine jj_iload_n C 0 rfl dX2_many_11 rfl ?_
      refine jj_iload_n C 2 rfl dX2_many_12 rfl ?_
      refine jj_ishr C dX2_many_13 ?_
      refine jj_iconst (v := 1) C dX2_many_14 (by decide) ?_
      refine jj_iand C dX2_many_15 ?_
      refine jj_iadd C dX2_many_16 ?_
      refine jj_letI hF (fun t17 hF => ?_)
      refine jj_istore_n (L' := [(1, jI t17), (0, jI l0), (2, jI l2)]) C rfl (by rw [hxn]; decide) dX2_many_17 rfl ?_
      refine jj_iinc (c := 1) (L' := [(2, jI (l2 + (1 : Int32))), (1, jI t17), (0, jI l0)]) C 2 rfl (by decide) rfl (by rw [hxn]; decide) dX2_many_18 ?_
      refine jj_goto (tgt := 4) C dX2_many_21 (by decide) ?_
      refine jj_sub [2, 1, 0] rfl ?_
      exact hK4 _ _ _ _ hF
def f_X2_many (a0 : Int32) (M : jW) : Option (Int32 × jW) := f_X2_many_b4 1000 a0 (0 : Int32) (0 : Int32) M
set_option maxHeartbeats 4000000 in
theorem m_X2_many (l : Launch) (g : jG) {a0 : Int32} {M M0 : jW} {v0 : Int32} (hF : f_X2_many a0 M = some (v0, M0)) : jMet l g yX2_many cX2_many 3 (some .int) rm_X2_many [jI a0] M (some (jI v0)) M0 := by
  refine jMet.of (L := [(0, jI a0)]) (by decide) rfl (Nat.le_of_ble_eq_true rfl) (fun x C hxn hg hl hQ hin => ?_)
  subst hg
  unfold f_X2_many at hF
  refine jj_iconst (v := 0) C dX2_many_0 (by decide) ?_
  refine jj_istore_n (L' := [(1, jI (0 : Int32)), (0, jI a0)]) C rfl (by rw [hxn]; decide) dX2_many_1 rfl ?_
  refine jj_iconst (v := 0) C dX2_many_2 (by decide) ?_
  refine jj_istore_n (L' := [(2, jI (0 : Int32)), (1, jI (0 : Int32)), (0, jI a0)]) C rfl (by rw [hxn]; decide) dX2_many_3 rfl ?_
  refine jj_sub [2, 1, 0] rfl ?_
  exact w_X2_many_b4 C hxn hQ 1000 _ _ _ _ hF
/-! PhrasehallModel.pool(I)I -/
def rm_X2_pool : Room := ({ frames := 2, cells := 0, slots := 0, locals := 86 } : Room)
theorem hd_X2_pool : yX2_pool.cls ≠ "java/lang/invoke/MethodHandle" ∧ yX2_pool.cls ≠ "java/lang/invoke/VarHandle" ∧ (parseMethodDescriptor yX2_pool.desc).map (fun d => d.parameters.length) = some 1 := ⟨by decide, by decide, by decide +kernel⟩
def f_X2_pool_b41 (l0 : Option Nat) (l1 : Int32) (s0 : Option Nat) (s1 : Int32) (M : jW) : Option (Int32 × jW) := pP M s0 1 31 (jI s1) fun M41 =>
  pI M41 l0 1 31 fun v45 =>
  if v45 ≤ 0 then (pR M41 l0 1 24 fun v54 =>
  pI M41 l0 1 23 fun v58 =>
  pSI M41 v54 v58 l1 fun M62 =>
  pI M62 l0 1 23 fun v65 =>
  pP M62 l0 1 23 (jI (v65 + (1 : Int32))) fun M70 =>
  pI M70 l0 1 23 fun v74 =>
  some ((v74 - (1 : Int32)), M70))
  else (some ((0 : Int32), M41))
set_option maxHeartbeats 4000000 in
theorem w_X2_pool_b41 {x : jX} (C : jOk x cX2_pool RX2 rm_X2_pool (some .int)) (hxn : xn x = 2) {v0 : Int32} {M0 : jW} (hQ : jEnd x rm_X2_pool (some (jI v0)) M0) {l0 : Option Nat} {l1 : Int32} {s0 : Option Nat} {s1 : Int32} {M : jW} (hF : f_X2_pool_b41 l0 l1 s0 s1 M = some (v0, M0)) : jJ x 41 [(0, jR l0), (1, jI l1)] [jI s1, jR s0] M 0 0 := by
  unfold f_X2_pool_b41 at hF
  refine jj_pP (f := 31) C jcs_1 (Nat.le_of_ble_eq_true rfl) (jLk.of C q1264 rfl) (Or.inl rfl) dX2_pool_41 (jfit_i _) hF (fun M41 hF => ?_)
  refine jj_aload_n C 0 rfl dX2_pool_44 rfl ?_
  refine jj_pI (f := 31) C jcs_1 (Nat.le_of_ble_eq_true rfl) (jLk.of C q1264 rfl) dX2_pool_45 hF (fun v45 hF => ?_)
  refine jj_if_le (tgt := 53) C dX2_pool_48 (by decide) hF (fun hF => ?_) (fun hF => ?_)
  · refine jj_aload_n C 0 rfl dX2_pool_53 rfl ?_
    refine jj_pR (f := 24) C jcs_1 (Nat.le_of_ble_eq_true rfl) (jLk.of C q1257 rfl) dX2_pool_54 hF (fun v54 hF => ?_)
    refine jj_aload_n C 0 rfl dX2_pool_57 rfl ?_
    refine jj_pI (f := 23) C jcs_1 (Nat.le_of_ble_eq_true rfl) (jLk.of C q1256 rfl) dX2_pool_58 hF (fun v58 hF => ?_)
    refine jj_iload_n C 1 rfl dX2_pool_61 rfl ?_
    refine jj_iast C dX2_pool_62 hF (fun M62 hF => ?_)
    refine jj_aload_n C 0 rfl dX2_pool_63 rfl ?_
    refine jj_dup C dX2_pool_64 rfl ?_
    refine jj_pI (f := 23) C jcs_1 (Nat.le_of_ble_eq_true rfl) (jLk.of C q1256 rfl) dX2_pool_65 hF (fun v65 hF => ?_)
    refine jj_iconst (v := 1) C dX2_pool_68 (by decide) ?_
    refine jj_iadd C dX2_pool_69 ?_
    refine jj_pP (f := 23) C jcs_1 (Nat.le_of_ble_eq_true rfl) (jLk.of C q1256 rfl) (Or.inl rfl) dX2_pool_70 (jfit_i _) hF (fun M70 hF => ?_)
    refine jj_aload_n C 0 rfl dX2_pool_73 rfl ?_
    refine jj_pI (f := 23) C jcs_1 (Nat.le_of_ble_eq_true rfl) (jLk.of C q1256 rfl) dX2_pool_74 hF (fun v74 hF => ?_)
    refine jj_iconst (v := 1) C dX2_pool_77 (by decide) ?_
    refine jj_isub C dX2_pool_78 ?_
    exact jj_iret C hQ dX2_pool_79 hF (Nat.zero_le _) (Nat.zero_le _)
  · refine jj_iconst (v := 0) C dX2_pool_51 (by decide) ?_
    exact jj_iret C hQ dX2_pool_52 hF (Nat.zero_le _) (Nat.zero_le _)
def f_X2_pool_b23 (l0 : Option Nat) (l1 : Int32) (s0 : Option Nat) (M : jW) : Option (Int32 × jW) := f_X2_pool_b41 l0 l1 s0 (1 : Int32) M
set_option maxHeartbeats 4000000 in
theorem w_X2_pool_b23 {x : jX} (C : jOk x cX2_pool RX2 rm_X2_pool (some .int)) (hxn : xn x = 2) {v0 : Int32} {M0 : jW} (hQ : jEnd x rm_X2_pool (some (jI v0)) M0) {l0 : Option Nat} {l1 : Int32} {s0 : Option Nat} {M : jW} (hF : f_X2_pool_b23 l0 l1 s0 M = some (v0, M0)) : jJ x 23 [(0, jR l0), (1, jI l1)] [jR s0] M 0 0 := by
  unfold f_X2_pool_b23 at hF
  refine jj_iconst (v := 1) C dX2_pool_23 (by decide) ?_
  refine jj_goto (tgt := 41) C dX2_pool_24 (by decide) ?_
  refine jj_sub [0, 1] rfl ?_
  exact w_X2_pool_b41 C hxn hQ hF
def f_X2_pool (a0 : Option Nat) (a1 : Int32) (M : jW) : Option (Int32 × jW) := if a1 < 0 then (f_X2_pool_b23 a0 a1 a0 M)
  else (pI M a0 1 0 fun v8 =>
  if ((1 : Int32) <<< (v8 &&& 31)) ≤ a1 then (f_X2_pool_b23 a0 a1 a0 M)
  else (pB (f_X2_many a1 M) fun r16 M16 =>
  if (2 : Int32) ≤ r16 then (pI M16 a0 1 23 fun v28 =>
  if v28 = (6 : Int32) then (f_X2_pool_b41 a0 a1 a0 (2 : Int32) M16)
  else (f_X2_pool_b41 a0 a1 a0 (0 : Int32) M16))
  else (f_X2_pool_b23 a0 a1 a0 M16)))
set_option maxHeartbeats 4000000 in
theorem m_X2_pool (l : Launch) (g : jG) {a0 : Option Nat} {a1 : Int32} {M M0 : jW} {v0 : Int32} (hF : f_X2_pool a0 a1 M = some (v0, M0)) : jMet l g yX2_pool cX2_pool 2 (some .int) rm_X2_pool [jR a0, jI a1] M (some (jI v0)) M0 := by
  refine jMet.of (L := [(0, jR a0), (1, jI a1)]) (by decide) rfl (Nat.le_of_ble_eq_true rfl) (fun x C hxn hg hl hQ hin => ?_)
  subst hg
  unfold f_X2_pool at hF
  refine jj_aload_n C 0 rfl dX2_pool_0 rfl ?_
  refine jj_iload_n C 1 rfl dX2_pool_1 rfl ?_
  refine jj_if_lt (tgt := 23) C dX2_pool_2 (by decide) hF (fun hF => ?_) (fun hF => ?_)
  · refine jj_sub [0, 1] rfl ?_
    exact w_X2_pool_b23 C hxn hQ hF
  · refine jj_iload_n C 1 rfl dX2_pool_5 rfl ?_
    refine jj_iconst (v := 1) C dX2_pool_6 (by decide) ?_
    refine jj_aload_n C 0 rfl dX2_pool_7 rfl ?_
    refine jj_pI (f := 0) C jcs_1 (Nat.le_of_ble_eq_true rfl) (jLk.of C q1233 rfl) dX2_pool_8 hF (fun v8 hF => ?_)
    refine jj_ishl C dX2_pool_11 ?_
    refine jj_icmp_ge (tgt := 23) C dX2_pool_12 (by decide) hF (fun hF => ?_) (fun hF => ?_)
    · refine jj_sub [0, 1] rfl ?_
      exact w_X2_pool_b23 C hxn hQ hF
    · refine jj_iload_n C 1 rfl dX2_pool_15 rfl ?_
      obtain ⟨r16, M16, hG, hF⟩ := pB_spec hF
      refine jj_callS (k' := 0) (n' := 0) C [jI a1] [jR a0] [jI r16, jR a0] (m_X2_many _ _ hG) q1442 q1443 q46 q1444 hd_X2_many rfl (Nat.le_of_ble_eq_true rfl) ⟨Nat.le_of_ble_eq_true rfl, Nat.le_of_ble_eq_true rfl⟩ ⟨Nat.le_refl _, Nat.le_refl _, Nat.le_refl _, Nat.le_refl _⟩ dX2_pool_16 rfl ?_
      refine jj_iconst (v := 2) C dX2_pool_19 (by decide) ?_
      refine jj_icmp_ge (tgt := 27) C dX2_pool_20 (by decide) hF (fun hF => ?_) (fun hF => ?_)
      · refine jj_aload_n C 0 rfl dX2_pool_27 rfl ?_
        refine jj_pI (f := 23) C jcs_1 (Nat.le_of_ble_eq_true rfl) (jLk.of C q1256 rfl) dX2_pool_28 hF (fun v28 hF => ?_)
        refine jj_bipush (v := 6) C dX2_pool_31 (by decide) ?_
        refine jj_icmp_ne (tgt := 40) C dX2_pool_33 (by decide) hF (fun hF => ?_) (fun hF => ?_)
        · refine jj_iconst (v := 0) C dX2_pool_40 (by decide) ?_
          refine jj_sub [0, 1] rfl ?_
          exact w_X2_pool_b41 C hxn hQ hF
        · refine jj_iconst (v := 2) C dX2_pool_36 (by decide) ?_
          refine jj_goto (tgt := 41) C dX2_pool_37 (by decide) ?_
          refine jj_sub [0, 1] rfl ?_
          exact w_X2_pool_b41 C hxn hQ hF
      · refine jj_sub [0, 1] rfl ?_
        exact w_X2_pool_b23 C hxn hQ hF
/-! PhrasehallModel.isMember(II)Z -/
def rm_X2_isMember : Room := ({ frames := 3, cells := 0, slots := 0, locals := 107 } : Room)
theorem hd_X2_isMember : yX2_isMember.cls ≠ "java/lang/invoke/MethodHandle" ∧ yX2_isMember.cls ≠ "java/lang/invoke/VarHandle" ∧ (parseMethodDescriptor yX2_isMember.desc).map (fun d => d.parameters.length) = some 2 := ⟨by decide, by decide, by decide +kernel⟩
def f_X2_isMember (a0 : Option Nat) (a1 : Int32) (a2 : Int32) (M : jW) : Option (Int32 × jW) := pO M a0 1 fun b2 _ => pB (f_X2_isPool (some b2) a1 M) fun r2 M2 =>
  if r2 = 0 then (pRZ (0 : Int32) M2)
  else (pO M2 a0 1 fun b10 _ => pB (f_X2_isFencer (some b10) a2 M2) fun r10 M10 =>
  if r10 = 0 then (pRZ (0 : Int32) M10)
  else (pR M10 a0 1 24 fun v17 =>
  pAI M10 v17 0 a1 fun v21 =>
  pB (f_X2_has v21 a2 M10) fun r23 M23 =>
  if r23 = 0 then (pRZ (0 : Int32) M23)
  else (pRZ (1 : Int32) M23)))
set_option maxHeartbeats 4000000 in
theorem m_X2_isMember (l : Launch) (g : jG) {a0 : Option Nat} {a1 : Int32} {a2 : Int32} {M M0 : jW} {v0 : Int32} (hF : f_X2_isMember a0 a1 a2 M = some (v0, M0)) : jMet l g yX2_isMember cX2_isMember 3 (some .boolean) rm_X2_isMember [jR a0, jI a1, jI a2] M (some (jI v0)) M0 := by
  refine jMet.of (L := [(0, jR a0), (1, jI a1), (2, jI a2)]) (by decide) rfl (Nat.le_of_ble_eq_true rfl) (fun x C hxn hg hl hQ hin => ?_)
  subst hg
  unfold f_X2_isMember at hF
  refine jj_aload_n C 0 rfl dX2_isMember_0 rfl ?_
  refine jj_iload_n C 1 rfl dX2_isMember_1 rfl ?_
  obtain ⟨b2, fs2, he2, hb2, hF⟩ := pO_spec hF
  obtain ⟨r2, M2, hG, hF⟩ := pB_spec hF
  refine jj_callV (k' := 0) (n' := 0) C [jI a1] [] [jI r2] he2 (m_X2_isPool _ _ hG) hb2 rfl q1349 q1351 qs23 q46 q1352 ⟨rfl, hd_X2_isPool⟩ rfl (Nat.le_of_ble_eq_true rfl) ⟨Nat.le_of_ble_eq_true rfl, Nat.le_of_ble_eq_true rfl⟩ ⟨Nat.le_refl _, Nat.le_refl _, Nat.le_refl _, Nat.le_refl _⟩ dX2_isMember_2 rfl ?_
  refine jj_if_eq (tgt := 33) C dX2_isMember_5 (by decide) hF (fun hF => ?_) (fun hF => ?_)
  · refine jj_iconst (v := 0) C dX2_isMember_33 (by decide) ?_
    exact jj_zret C hQ dX2_isMember_34 hF (Nat.zero_le _) (Nat.zero_le _)
  · refine jj_aload_n C 0 rfl dX2_isMember_8 rfl ?_
    refine jj_iload_n C 2 rfl dX2_isMember_9 rfl ?_
    obtain ⟨b10, fs10, he10, hb10, hF⟩ := pO_spec hF
    obtain ⟨r10, M10, hG, hF⟩ := pB_spec hF
    refine jj_callV (k' := 0) (n' := 0) C [jI a2] [] [jI r10] he10 (m_X2_isFencer _ _ hG) hb10 rfl q1342 q1344 qs22 q46 q1345 ⟨rfl, hd_X2_isFencer⟩ rfl (Nat.le_of_ble_eq_true rfl) ⟨Nat.le_of_ble_eq_true rfl, Nat.le_of_ble_eq_true rfl⟩ ⟨Nat.le_refl _, Nat.le_refl _, Nat.le_refl _, Nat.le_refl _⟩ dX2_isMember_10 rfl ?_
    refine jj_if_eq (tgt := 33) C dX2_isMember_13 (by decide) hF (fun hF => ?_) (fun hF => ?_)
    · refine jj_iconst (v := 0) C dX2_isMember_33 (by decide) ?_
      exact jj_zret C hQ dX2_isMember_34 hF (Nat.zero_le _) (Nat.zero_le _)
    · refine jj_aload_n C 0 rfl dX2_isMember_16 rfl ?_
      refine jj_pR (f := 24) C jcs_1 (Nat.le_of_ble_eq_true rfl) (jLk.of C q1257 rfl) dX2_isMember_17 hF (fun v17 hF => ?_)
      refine jj_iload_n C 1 rfl dX2_isMember_20 rfl ?_
      refine jj_iald C dX2_isMember_21 hF (fun v21 hF => ?_)
      refine jj_iload_n C 2 rfl dX2_isMember_22 rfl ?_
      obtain ⟨r23, M23, hG, hF⟩ := pB_spec hF
      refine jj_callS (k' := 0) (n' := 0) C [jI v21, jI a2] [] [jI r23] (m_X2_has _ _ hG) q1353 q1354 q46 q1355 hd_X2_has rfl (Nat.le_of_ble_eq_true rfl) ⟨Nat.le_of_ble_eq_true rfl, Nat.le_of_ble_eq_true rfl⟩ ⟨Nat.le_refl _, Nat.le_refl _, Nat.le_refl _, Nat.le_refl _⟩ dX2_isMember_23 rfl ?_
      refine jj_if_eq (tgt := 33) C dX2_isMember_26 (by decide) hF (fun hF => ?_) (fun hF => ?_)
      · refine jj_iconst (v := 0) C dX2_isMember_33 (by decide) ?_
        exact jj_zret C hQ dX2_isMember_34 hF (Nat.zero_le _) (Nat.zero_le _)
      · refine jj_iconst (v := 1) C dX2_isMember_29 (by decide) ?_
        refine jj_goto (tgt := 34) C dX2_isMember_30 (by decide) ?_
        exact jj_zret C hQ dX2_isMember_34 hF (Nat.zero_le _) (Nat.zero_le _)
/-! PhrasehallModel.sideIn(III)I -/
def rm_X2_sideIn : Room := ({ frames := 2, cells := 0, slots := 0, locals := 85 } : Room)
theorem hd_X2_sideIn : yX2_sideIn.cls ≠ "java/lang/invoke/MethodHandle" ∧ yX2_sideIn.cls ≠ "java/lang/invoke/VarHandle" ∧ (parseMethodDescriptor yX2_sideIn.desc).map (fun d => d.parameters.length) = some 3 := ⟨by decide, by decide, by decide +kernel⟩
def f_X2_sideIn_b75 (l3 : Int32) (l4 : Int32) (l5 : Int32) (s0 : Int32) (M : jW) : Option (Int32 × jW) := if s0 = 0 then (some ((-1 : Int32), M))
  else (if l4 = l3 then (some ((0 : Int32), M))
  else (if l5 = l3 then (some ((1 : Int32), M))
  else (some ((-1 : Int32), M))))
set_option maxHeartbeats 4000000 in
theorem w_X2_sideIn_b75 {x : jX} (C : jOk x cX2_sideIn RX2 rm_X2_sideIn (some .int)) (hxn : xn x = 7) {v0 : Int32} {M0 : jW} (hQ : jEnd x rm_X2_sideIn (some (jI v0)) M0) {l3 : Int32} {l4 : Int32} {l5 : Int32} {s0 : Int32} {M : jW} (hF : f_X2_sideIn_b75 l3 l4 l5 s0 M = some (v0, M0)) : jJ x 75 [(3, jI l3), (4, jI l4), (5, jI l5)] [jI s0] M 0 0 := by
  unfold f_X2_sideIn_b75 at hF
  refine jj_istore (L' := [(6, jI s0), (3, jI l3), (4, jI l4), (5, jI l5)]) C rfl (by rw [hxn]; decide) dX2_sideIn_75 ?_
  refine jj_iload C 0 rfl dX2_sideIn_77 ?_
  refine jj_if_ne (tgt := 86) C dX2_sideIn_79 (by decide) hF (fun hF => ?_) (fun hF => ?_)
  · refine jj_iload C 2 rfl dX2_sideIn_86 ?_
    refine jj_iload_n C 1 rfl dX2_sideIn_88 rfl ?_
    refine jj_icmp_ne (tgt := 96) C dX2_sideIn_89 (by decide) hF (fun hF => ?_) (fun hF => ?_)
    · refine jj_iload C 3 rfl dX2_sideIn_96 ?_
      refine jj_iload_n C 1 rfl dX2_sideIn_98 rfl ?_
      refine jj_icmp_ne (tgt := 106) C dX2_sideIn_99 (by decide) hF (fun hF => ?_) (fun hF => ?_)
      · refine jj_iconst (v := -1) C dX2_sideIn_106 (by decide) ?_
        exact jj_iret C hQ dX2_sideIn_107 hF (Nat.zero_le _) (Nat.zero_le _)
      · refine jj_iconst (v := 1) C dX2_sideIn_102 (by decide) ?_
        refine jj_goto (tgt := 107) C dX2_sideIn_103 (by decide) ?_
        exact jj_iret C hQ dX2_sideIn_107 hF (Nat.zero_le _) (Nat.zero_le _)
    · refine jj_iconst (v := 0) C dX2_sideIn_92 (by decide) ?_
      refine jj_goto (tgt := 107) C dX2_sideIn_93 (by decide) ?_
      exact jj_iret C hQ dX2_sideIn_107 hF (Nat.zero_le _) (Nat.zero_le _)
  · refine jj_iconst (v := -1) C dX2_sideIn_82 (by decide) ?_
    refine jj_goto (tgt := 107) C dX2_sideIn_83 (by decide) ?_
    exact jj_iret C hQ dX2_sideIn_107 hF (Nat.zero_le _) (Nat.zero_le _)
def f_X2_sideIn_b74 (l3 : Int32) (l4 : Int32) (l5 : Int32) (M : jW) : Option (Int32 × jW) := f_X2_sideIn_b75 l3 l4 l5 (0 : Int32) M
set_option maxHeartbeats 4000000 in
theorem w_X2_sideIn_b74 {x : jX} (C : jOk x cX2_sideIn RX2 rm_X2_sideIn (some .int)) (hxn : xn x = 7) {v0 : Int32} {M0 : jW} (hQ : jEnd x rm_X2_sideIn (some (jI v0)) M0) {l3 : Int32} {l4 : Int32} {l5 : Int32} {M : jW} (hF : f_X2_sideIn_b74 l3 l4 l5 M = some (v0, M0)) : jJ x 74 [(3, jI l3), (4, jI l4), (5, jI l5)] [] M 0 0 := by
  unfold f_X2_sideIn_b74 at hF
  refine jj_iconst (v := 0) C dX2_sideIn_74 (by decide) ?_
  refine jj_sub [0, 1, 2] rfl ?_
  exact w_X2_sideIn_b75 C hxn hQ hF
def f_X2_sideIn (a0 : Option Nat) (a1 : Int32) (a2 : Int32) (a3 : Int32) (M : jW) : Option (Int32 × jW) := pR M a0 1 5 fun v1 =>
  pAI M v1 0 ((2 : Int32) * a1) fun v7 =>
  pR M a0 1 5 fun v11 =>
  pAI M v11 0 (((2 : Int32) * a1) + (1 : Int32)) fun v19 =>
  pR M a0 1 9 fun v23 =>
  pAI M v23 0 a1 fun v27 =>
  if v27 = a2 then (pR M a0 1 10 fun v33 =>
  pAI M v33 0 a1 fun v37 =>
  if v37 = (-1 : Int32) then (f_X2_sideIn_b74 a3 v7 v19 M)
  else (pR M a0 1 25 fun v43 =>
  pAI M v43 0 a2 fun v47 =>
  pB (f_X2_has v47 v7 M) fun r50 M50 =>
  if r50 = 0 then (pR M50 a0 1 25 fun v57 =>
  pAI M50 v57 0 a2 fun v61 =>
  pB (f_X2_has v61 v19 M50) fun r64 M64 =>
  if r64 = 0 then (f_X2_sideIn_b75 a3 v7 v19 (1 : Int32) M64)
  else (f_X2_sideIn_b74 a3 v7 v19 M64))
  else (f_X2_sideIn_b74 a3 v7 v19 M50)))
  else (f_X2_sideIn_b74 a3 v7 v19 M)
set_option maxHeartbeats 4000000 in
theorem m_X2_sideIn (l : Launch) (g : jG) {a0 : Option Nat} {a1 : Int32} {a2 : Int32} {a3 : Int32} {M M0 : jW} {v0 : Int32} (hF : f_X2_sideIn a0 a1 a2 a3 M = some (v0, M0)) : jMet l g yX2_sideIn cX2_sideIn 7 (some .int) rm_X2_sideIn [jR a0, jI a1, jI a2, jI a3] M (some (jI v0)) M0 := by
  refine jMet.of (L := [(0, jR a0), (1, jI a1), (2, jI a2), (3, jI a3)]) (by decide) rfl (Nat.le_of_ble_eq_true rfl) (fun x C hxn hg hl hQ hin => ?_)
  subst hg
  unfold f_X2_sideIn at hF
  refine jj_aload_n C 0 rfl dX2_sideIn_0 rfl ?_
  refine jj_pR (f := 5) C jcs_1 (Nat.le_of_ble_eq_true rfl) (jLk.of C q1238 rfl) dX2_sideIn_1 hF (fun v1 hF => ?_)
  refine jj_iconst (v := 2) C dX2_sideIn_4 (by decide) ?_
  refine jj_iload_n C 1 rfl dX2_sideIn_5 rfl ?_
  refine jj_imul C dX2_sideIn_6 ?_
  refine jj_iald C dX2_sideIn_7 hF (fun v7 hF => ?_)
  refine jj_istore (L' := [(4, jI v7), (0, jR a0), (1, jI a1), (2, jI a2), (3, jI a3)]) C rfl (by rw [hxn]; decide) dX2_sideIn_8 ?_
  refine jj_aload_n C 1 rfl dX2_sideIn_10 rfl ?_
  refine jj_pR (f := 5) C jcs_1 (Nat.le_of_ble_eq_true rfl) (jLk.of C q1238 rfl) dX2_sideIn_11 hF (fun v11 hF => ?_)
  refine jj_iconst (v := 2) C dX2_sideIn_14 (by decide) ?_
  refine jj_iload_n C 2 rfl dX2_sideIn_15 rfl ?_
  refine jj_imul C dX2_sideIn_16 ?_
  refine jj_iconst (v := 1) C dX2_sideIn_17 (by decide) ?_
  refine jj_iadd C dX2_sideIn_18 ?_
  refine jj_iald C dX2_sideIn_19 hF (fun v19 hF => ?_)
  refine jj_istore (L' := [(5, jI v19), (4, jI v7), (0, jR a0), (1, jI a1), (2, jI a2), (3, jI a3)]) C rfl (by rw [hxn]; decide) dX2_sideIn_20 ?_
  refine jj_aload_n C 2 rfl dX2_sideIn_22 rfl ?_
  refine jj_pR (f := 9) C jcs_1 (Nat.le_of_ble_eq_true rfl) (jLk.of C q1242 rfl) dX2_sideIn_23 hF (fun v23 hF => ?_)
  refine jj_iload_n C 3 rfl dX2_sideIn_26 rfl ?_
  refine jj_iald C dX2_sideIn_27 hF (fun v27 hF => ?_)
  refine jj_iload_n C 4 rfl dX2_sideIn_28 rfl ?_
  refine jj_icmp_ne (tgt := 74) C dX2_sideIn_29 (by decide) hF (fun hF => ?_) (fun hF => ?_)
  · refine jj_sub [5, 1, 0] rfl ?_
    exact w_X2_sideIn_b74 C hxn hQ hF
  · refine jj_aload_n C 2 rfl dX2_sideIn_32 rfl ?_
    refine jj_pR (f := 10) C jcs_1 (Nat.le_of_ble_eq_true rfl) (jLk.of C q1243 rfl) dX2_sideIn_33 hF (fun v33 hF => ?_)
    refine jj_iload_n C 3 rfl dX2_sideIn_36 rfl ?_
    refine jj_iald C dX2_sideIn_37 hF (fun v37 hF => ?_)
    refine jj_iconst (v := -1) C dX2_sideIn_38 (by decide) ?_
    refine jj_icmp_eq (tgt := 74) C dX2_sideIn_39 (by decide) hF (fun hF => ?_) (fun hF => ?_)
    · refine jj_sub [5, 1, 0] rfl ?_
      exact w_X2_sideIn_b74 C hxn hQ hF
    · refine jj_aload_n C 2 rfl dX2_sideIn_42 rfl ?_
      refine jj_pR (f := 25) C jcs_1 (Nat.le_of_ble_eq_true rfl) (jLk.of C q1258 rfl) dX2_sideIn_43 hF (fun v43 hF => ?_)
      refine jj_iload_n C 4 rfl dX2_sideIn_46 rfl ?_
      refine jj_iald C dX2_sideIn_47 hF (fun v47 hF => ?_)
      refine jj_iload C 1 rfl dX2_sideIn_48 ?_
      obtain ⟨r50, M50, hG, hF⟩ := pB_spec hF
      refine jj_callS (k' := 0) (n' := 0) C [jI v47, jI v7] [] [jI r50] (m_X2_has _ _ hG) q1353 q1354 q46 q1355 hd_X2_has rfl (Nat.le_of_ble_eq_true rfl) ⟨Nat.le_of_ble_eq_true rfl, Nat.le_of_ble_eq_true rfl⟩ ⟨Nat.le_refl _, Nat.le_refl _, Nat.le_refl _, Nat.le_refl _⟩ dX2_sideIn_50 rfl ?_
      refine jj_if_ne (tgt := 74) C dX2_sideIn_53 (by decide) hF (fun hF => ?_) (fun hF => ?_)
      · refine jj_sub [5, 1, 0] rfl ?_
        exact w_X2_sideIn_b74 C hxn hQ hF
      · refine jj_aload_n C 2 rfl dX2_sideIn_56 rfl ?_
        refine jj_pR (f := 25) C jcs_1 (Nat.le_of_ble_eq_true rfl) (jLk.of C q1258 rfl) dX2_sideIn_57 hF (fun v57 hF => ?_)
        refine jj_iload_n C 4 rfl dX2_sideIn_60 rfl ?_
        refine jj_iald C dX2_sideIn_61 hF (fun v61 hF => ?_)
        refine jj_iload C 0 rfl dX2_sideIn_62 ?_
        obtain ⟨r64, M64, hG, hF⟩ := pB_spec hF
        refine jj_callS (k' := 0) (n' := 0) C [jI v61, jI v19] [] [jI r64] (m_X2_has _ _ hG) q1353 q1354 q46 q1355 hd_X2_has rfl (Nat.le_of_ble_eq_true rfl) ⟨Nat.le_of_ble_eq_true rfl, Nat.le_of_ble_eq_true rfl⟩ ⟨Nat.le_refl _, Nat.le_refl _, Nat.le_refl _, Nat.le_refl _⟩ dX2_sideIn_64 rfl ?_
        refine jj_if_ne (tgt := 74) C dX2_sideIn_67 (by decide) hF (fun hF => ?_) (fun hF => ?_)
        · refine jj_sub [5, 1, 0] rfl ?_
          exact w_X2_sideIn_b74 C hxn hQ hF
        · refine jj_iconst (v := 1) C dX2_sideIn_70 (by decide) ?_
          refine jj_goto (tgt := 75) C dX2_sideIn_71 (by decide) ?_
          refine jj_sub [5, 1, 0] rfl ?_
          exact w_X2_sideIn_b75 C hxn hQ hF
/-! PhrasehallModel.tells(III)I -/
def rm_X2_tells : Room := ({ frames := 3, cells := 0, slots := 0, locals := 111 } : Room)
theorem hd_X2_tells : yX2_tells.cls ≠ "java/lang/invoke/MethodHandle" ∧ yX2_tells.cls ≠ "java/lang/invoke/VarHandle" ∧ (parseMethodDescriptor yX2_tells.desc).map (fun d => d.parameters.length) = some 3 := ⟨by decide, by decide, by decide +kernel⟩
def f_X2_tells_b93 (K6 : Option Nat → Int32 → Int32 → Int32 → Int32 → Int32 → jW → Option (Int32 × jW)) (l0 : Option Nat) (l1 : Int32) (l2 : Int32) (l3 : Int32) (l4 : Int32) (l5 : Int32) (M : jW) : Option (Int32 × jW) := K6 l0 l1 l2 l3 l4 (l5 + (1 : Int32)) M
set_option maxHeartbeats 4000000 in
theorem w_X2_tells_b93 {x : jX} (C : jOk x cX2_tells RX2 rm_X2_tells (some .int)) (hxn : xn x = 7) {v0 : Int32} {M0 : jW} (hQ : jEnd x rm_X2_tells (some (jI v0)) M0) {K6 : Option Nat → Int32 → Int32 → Int32 → Int32 → Int32 → jW → Option (Int32 × jW)} (hK6 : ∀ (l0 : Option Nat) (l1 : Int32) (l2 : Int32) (l3 : Int32) (l4 : Int32) (l5 : Int32) (M : jW), K6 l0 l1 l2 l3 l4 l5 M = some (v0, M0) → jJ x 6 [(0, jR l0), (1, jI l1), (2, jI l2), (3, jI l3), (4, jI l4), (5, jI l5)] [] M 0 0) {l0 : Option Nat} {l1 : Int32} {l2 : Int32} {l3 : Int32} {l4 : Int32} {l5 : Int32} {M : jW} (hF : f_X2_tells_b93 K6 l0 l1 l2 l3 l4 l5 M = some (v0, M0)) : jJ x 93 [(0, jR l0), (1, jI l1), (2, jI l2), (3, jI l3), (4, jI l4), (5, jI l5)] [] M 0 0 := by
  unfold f_X2_tells_b93 at hF
  refine jj_iinc (c := 1) (L' := [(5, jI (l5 + (1 : Int32))), (0, jR l0), (1, jI l1), (2, jI l2), (3, jI l3), (4, jI l4)]) C 5 rfl (by decide) rfl (by rw [hxn]; decide) dX2_tells_93 ?_
  refine jj_goto (tgt := 6) C dX2_tells_96 (by decide) ?_
  refine jj_sub [1, 2, 3, 4, 5, 0] rfl ?_
  exact hK6 _ _ _ _ _ _ _ hF
def f_X2_tells_b90 (K6 : Option Nat → Int32 → Int32 → Int32 → Int32 → Int32 → jW → Option (Int32 × jW)) (l0 : Option Nat) (l1 : Int32) (l2 : Int32) (l3 : Int32) (l5 : Int32) (s0 : Int32) (s1 : Int32) (M : jW) : Option (Int32 × jW) := pLt (s0 + s1) fun t91 =>
  f_X2_tells_b93 K6 l0 l1 l2 l3 t91 l5 M
set_option maxHeartbeats 4000000 in
theorem w_X2_tells_b90 {x : jX} (C : jOk x cX2_tells RX2 rm_X2_tells (some .int)) (hxn : xn x = 7) {v0 : Int32} {M0 : jW} (hQ : jEnd x rm_X2_tells (some (jI v0)) M0) {K6 : Option Nat → Int32 → Int32 → Int32 → Int32 → Int32 → jW → Option (Int32 × jW)} (hK6 : ∀ (l0 : Option Nat) (l1 : Int32) (l2 : Int32) (l3 : Int32) (l4 : Int32) (l5 : Int32) (M : jW), K6 l0 l1 l2 l3 l4 l5 M = some (v0, M0) → jJ x 6 [(0, jR l0), (1, jI l1), (2, jI l2), (3, jI l3), (4, jI l4), (5, jI l5)] [] M 0 0) {l0 : Option Nat} {l1 : Int32} {l2 : Int32} {l3 : Int32} {l5 : Int32} {s0 : Int32} {s1 : Int32} {M : jW} (hF : f_X2_tells_b90 K6 l0 l1 l2 l3 l5 s0 s1 M = some (v0, M0)) : jJ x 90 [(0, jR l0), (1, jI l1), (2, jI l2), (3, jI l3), (5, jI l5)] [jI s1, jI s0] M 0 0 := by
  unfold f_X2_tells_b90 at hF
  refine jj_iadd C dX2_tells_90 ?_
  refine jj_letI hF (fun t91 hF => ?_)
  refine jj_istore (L' := [(4, jI t91), (0, jR l0), (1, jI l1), (2, jI l2), (3, jI l3), (5, jI l5)]) C rfl (by rw [hxn]; decide) dX2_tells_91 ?_
  refine jj_sub [1, 2, 3, 4, 0, 5] rfl ?_
  exact w_X2_tells_b93 C hxn hQ hK6 hF
def f_X2_tells_b88 (K6 : Option Nat → Int32 → Int32 → Int32 → Int32 → Int32 → jW → Option (Int32 × jW)) (l0 : Option Nat) (l1 : Int32) (l2 : Int32) (l3 : Int32) (l5 : Int32) (s0 : Int32) (s1 : Option Nat) (s2 : Int32) (s3 : Int32) (M : jW) : Option (Int32 × jW) := pAI M s1 0 (s2 + s3) fun v89 =>
  f_X2_tells_b90 K6 l0 l1 l2 l3 l5 s0 v89 M
set_option maxHeartbeats 4000000 in
theorem w_X2_tells_b88 {x : jX} (C : jOk x cX2_tells RX2 rm_X2_tells (some .int)) (hxn : xn x = 7) {v0 : Int32} {M0 : jW} (hQ : jEnd x rm_X2_tells (some (jI v0)) M0) {K6 : Option Nat → Int32 → Int32 → Int32 → Int32 → Int32 → jW → Option (Int32 × jW)} (hK6 : ∀ (l0 : Option Nat) (l1 : Int32) (l2 : Int32) (l3 : Int32) (l4 : Int32) (l5 : Int32) (M : jW), K6 l0 l1 l2 l3 l4 l5 M = some (v0, M0) → jJ x 6 [(0, jR l0), (1, jI l1), (2, jI l2), (3, jI l3), (4, jI l4), (5, jI l5)] [] M 0 0) {l0 : Option Nat} {l1 : Int32} {l2 : Int32} {l3 : Int32} {l5 : Int32} {s0 : Int32} {s1 : Option Nat} {s2 : Int32} {s3 : Int32} {M : jW} (hF : f_X2_tells_b88 K6 l0 l1 l2 l3 l5 s0 s1 s2 s3 M = some (v0, M0)) : jJ x 88 [(0, jR l0), (1, jI l1), (2, jI l2), (3, jI l3), (5, jI l5)] [jI s3, jI s2, jR s1, jI s0] M 0 0 := by
  unfold f_X2_tells_b88 at hF
  refine jj_iadd C dX2_tells_88 ?_
  refine jj_iald C dX2_tells_89 hF (fun v89 hF => ?_)
  refine jj_sub [0, 1, 2, 3, 4] rfl ?_
  exact w_X2_tells_b90 C hxn hQ hK6 hF
def f_X2_tells_b6 : Nat → Option Nat → Int32 → Int32 → Int32 → Int32 → Int32 → jW → Option (Int32 × jW)
  | 0, _, _, _, _, _, _, _ => none
  | q + 1, l0, l1, l2, l3, l4, l5, M => pI M l0 1 3 fun v9 =>
  if v9 ≤ l5 then (some (l4, M))
  else (pO M l0 1 fun b20 _ => pB (f_X2_sideIn (some b20) l5 l1 l2 M) fun r20 M20 =>
  if r20 = (-1 : Int32) then (f_X2_tells_b93 (f_X2_tells_b6 q) l0 l1 l2 l3 l4 l5 M20)
  else (if l3 = 0 then (f_X2_tells_b90 (f_X2_tells_b6 q) l0 l1 l2 l3 l5 l4 (1 : Int32) M20)
  else (if l3 = (1 : Int32) then (pR M20 l0 1 10 fun v47 =>
  pAI M20 v47 0 l5 fun v52 =>
  if v52 = r20 then (f_X2_tells_b90 (f_X2_tells_b6 q) l0 l1 l2 l3 l5 l4 (1 : Int32) M20)
  else (f_X2_tells_b90 (f_X2_tells_b6 q) l0 l1 l2 l3 l5 l4 (0 : Int32) M20))
  else (pR M20 l0 1 6 fun v67 =>
  if l3 = (2 : Int32) then (f_X2_tells_b88 (f_X2_tells_b6 q) l0 l1 l2 l3 l5 l4 v67 ((2 : Int32) * l5) r20 M20)
  else (f_X2_tells_b88 (f_X2_tells_b6 q) l0 l1 l2 l3 l5 l4 v67 ((2 : Int32) * l5) ((1 : Int32) - r20) M20)))))
theorem f_X2_tells_b6_s (q : Nat) (l0 : Option Nat) (l1 : Int32) (l2 : Int32) (l3 : Int32) (l4 : Int32) (l5 : Int32) (M : jW) : f_X2_tells_b6 (q + 1) l0 l1 l2 l3 l4 l5 M = (pI M l0 1 3 fun v9 =>
  if v9 ≤ l5 then (some (l4, M))
  else (pO M l0 1 fun b20 _ => pB (f_X2_sideIn (some b20) l5 l1 l2 M) fun r20 M20 =>
  if r20 = (-1 : Int32) then (f_X2_tells_b93 (f_X2_tells_b6 q) l0 l1 l2 l3 l4 l5 M20)
  else (if l3 = 0 then (f_X2_tells_b90 (f_X2_tells_b6 q) l0 l1 l2 l3 l5 l4 (1 : Int32) M20)
  else (if l3 = (1 : Int32) then (pR M20 l0 1 10 fun v47 =>
  pAI M20 v47 0 l5 fun v52 =>
  if v52 = r20 then (f_X2_tells_b90 (f_X2_tells_b6 q) l0 l1 l2 l3 l5 l4 (1 : Int32) M20)
  else (f_X2_tells_b90 (f_X2_tells_b6 q) l0 l1 l2 l3 l5 l4 (0 : Int32) M20))
  else (pR M20 l0 1 6 fun v67 =>
  if l3 = (2 : Int32) then (f_X2_tells_b88 (f_X2_tells_b6 q) l0 l1 l2 l3 l5 l4 v67 ((2 : Int32) * l5) r20 M20)
  else (f_X2_tells_b88 (f_X2_tells_b6 q) l0 l1 l2 l3 l5 l4 v67 ((2 : Int32) * l5) ((1 : Int32) - r20) M20)))))) := rfl
set_option maxHeartbeats 4000000 in
theorem w_X2_tells_b6 {x : jX} (C : jOk x cX2_tells RX2 rm_X2_tells (some .int)) (hxn : xn x = 7) {v0 : Int32} {M0 : jW} (hQ : jEnd x rm_X2_tells (some (jI v0)) M0) : ∀ (n6 : Nat) (l0 : Option Nat) (l1 : Int32) (l2 : Int32) (l3 : Int32) (l4 : Int32) (l5 : Int32) (M : jW), f_X2_tells_b6 n6 l0 l1 l2 l3 l4 l5 M = some (v0, M0) → jJ x 6 [(0, jR l0), (1, jI l1), (2, jI l2), (3, jI l3), (4, jI l4), (5, jI l5)] [] M 0 0 := by
  intro n6
  induction n6 with
  | zero =>
    intro l0 l1 l2 l3 l4 l5 M hF
    cases hF
  | succ n6 hK6 =>
    intro l0 l1 l2 l3 l4 l5 M hF
    rw [f_X2_tells_b6_s] at hF
    refine jj_iload C 5 rfl dX2_tells_6 ?_
    refine jj_aload_n C 0 rfl dX2_tells_8 rfl ?_
    refine jj_pI (f := 3) C jcs_1 (Nat.le_of_ble_eq_true rfl) (jLk.of C q1236 rfl) dX2_tells_9 hF (fun v9 hF => ?_)
    refine jj_icmp_ge (tgt := 99) C dX2_tells_12 (by decide) hF (fun hF => ?_) (fun hF => ?_)
    · refine jj_iload C 4 rfl dX2_tells_99 ?_
      exact jj_iret C hQ dX2_tells_101 hF (Nat.zero_le _) (Nat.zero_le _)
    · refine jj_aload_n C 0 rfl dX2_tells_15 rfl ?_
      refine jj_iload C 5 rfl dX2_tells_16 ?_
      refine jj_iload_n C 1 rfl dX2_tells_18 rfl ?_
      refine jj_iload_n C 2 rfl dX2_tells_19 rfl ?_
      obtain ⟨b20, fs20, he20, hb20, hF⟩ := pO_spec hF
      obtain ⟨r20, M20, hG, hF⟩ := pB_spec hF
      refine jj_callV (k' := 0) (n' := 0) C [jI l5, jI l1, jI l2] [] [jI r20] he20 (m_X2_sideIn _ _ hG) hb20 rfl q1457 q1459 qs35 q46 q1460 ⟨rfl, hd_X2_sideIn⟩ rfl (Nat.le_of_ble_eq_true rfl) ⟨Nat.le_of_ble_eq_true rfl, Nat.le_of_ble_eq_true rfl⟩ ⟨Nat.le_refl _, Nat.le_refl _, Nat.le_refl _, Nat.le_refl _⟩ dX2_tells_20 rfl ?_
      refine jj_istore (L' := [(6, jI r20), (0, jR l0), (1, jI l1), (2, jI l2), (3, jI l3), (4, jI l4), (5, jI l5)]) C rfl (by rw [hxn]; decide) dX2_tells_23 ?_
      refine jj_iload C 0 rfl dX2_tells_25 ?_
      refine jj_iconst (v := -1) C dX2_tells_27 (by decide) ?_
      refine jj_icmp_eq (tgt := 93) C dX2_tells_28 (by decide) hF (fun hF => ?_) (fun hF => ?_)
      · refine jj_sub [1, 2, 3, 4, 5, 6] rfl ?_
        exact w_X2_tells_b93 C hxn hQ hK6 hF
      · refine jj_iload C 5 rfl dX2_tells_31 ?_
        refine jj_iload_n C 4 rfl dX2_tells_33 rfl ?_
        refine jj_if_ne (tgt := 41) C dX2_tells_34 (by decide) hF (fun hF => ?_) (fun hF => ?_)
        · refine jj_iload_n C 4 rfl dX2_tells_41 rfl ?_
          refine jj_iconst (v := 1) C dX2_tells_42 (by decide) ?_
          refine jj_icmp_ne (tgt := 66) C dX2_tells_43 (by decide) hF (fun hF => ?_) (fun hF => ?_)
          · refine jj_aload_n C 1 rfl dX2_tells_66 rfl ?_
            refine jj_pR (f := 6) C jcs_1 (Nat.le_of_ble_eq_true rfl) (jLk.of C q1239 rfl) dX2_tells_67 hF (fun v67 hF => ?_)
            refine jj_iconst (v := 2) C dX2_tells_70 (by decide) ?_
            refine jj_iload C 6 rfl dX2_tells_71 ?_
            refine jj_imul C dX2_tells_73 ?_
            refine jj_iload_n C 4 rfl dX2_tells_74 rfl ?_
            refine jj_iconst (v := 2) C dX2_tells_75 (by decide) ?_
            refine jj_icmp_ne (tgt := 84) C dX2_tells_76 (by decide) hF (fun hF => ?_) (fun hF => ?_)
            · refine jj_iconst (v := 1) C dX2_tells_84 (by decide) ?_
              refine jj_iload C 0 rfl dX2_tells_85 ?_
              refine jj_isub C dX2_tells_87 ?_
              refine jj_sub [1, 2, 3, 4, 6] rfl ?_
              exact w_X2_tells_b88 C hxn hQ hK6 hF
            · refine jj_iload C 0 rfl dX2_tells_79 ?_
              refine jj_goto (tgt := 88) C dX2_tells_81 (by decide) ?_
              refine jj_sub [1, 2, 3, 4, 6] rfl ?_
              exact w_X2_tells_b88 C hxn hQ hK6 hF
          · refine jj_aload_n C 1 rfl dX2_tells_46 rfl ?_
            refine jj_pR (f := 10) C jcs_1 (Nat.le_of_ble_eq_true rfl) (jLk.of C q1243 rfl) dX2_tells_47 hF (fun v47 hF => ?_)
            refine jj_iload C 6 rfl dX2_tells_50 ?_
            refine jj_iald C dX2_tells_52 hF (fun v52 hF => ?_)
            refine jj_iload C 0 rfl dX2_tells_53 ?_
            refine jj_icmp_ne (tgt := 62) C dX2_tells_55 (by decide) hF (fun hF => ?_) (fun hF => ?_)
            · refine jj_iconst (v := 0) C dX2_tells_62 (by decide) ?_
              refine jj_goto (tgt := 90) C dX2_tells_63 (by decide) ?_
              refine jj_sub [1, 2, 3, 4, 6] rfl ?_
              exact w_X2_tells_b90 C hxn hQ hK6 hF
            · refine jj_iconst (v := 1) C dX2_tells_58 (by decide) ?_
              refine jj_goto (tgt := 90) C dX2_tells_59 (by decide) ?_
              refine jj_sub [1, 2, 3, 4, 6] rfl ?_
              exact w_X2_tells_b90 C hxn hQ hK6 hF
        · refine jj_iconst (v := 1) C dX2_tells_37 (by decide) ?_
          refine jj_goto (tgt := 90) C dX2_tells_38 (by decide) ?_
          refine jj_sub [1, 2, 3, 4, 6] rfl ?_
          exact w_X2_tells_b90 C hxn hQ hK6 hF
def f_X2_tells (a0 : Option Nat) (a1 : Int32) (a2 : Int32) (a3 : Int32) (M : jW) : Option (Int32 × jW) := f_X2_tells_b6 1000 a0 a1 a2 a3 (0 : Int32) (0 : Int32) M
set_option maxHeartbeats 4000000 in
theorem m_X2_tells (l : Launch) (g : jG) {a0 : Option Nat} {a1 : Int32} {a2 : Int32} {a3 : Int32} {M M0 : jW} {v0 : Int32} (hF : f_X2_tells a0 a1 a2 a3 M = some (v0, M0)) : jMet l g yX2_tells cX2_tells 7 (some .int) rm_X2_tells [jR a0, jI a1, jI a2, jI a3] M (some (jI v0)) M0 := by
  refine jMet.of (L := [(0, jR a0), (1, jI a1), (2, jI a2), (3, jI a3)]) (by decide) rfl (Nat.le_of_ble_eq_true rfl) (fun x C hxn hg hl hQ hin => ?_)
  subst hg
  unfold f_X2_tells at hF
  refine jj_iconst (v := 0) C dX2_tells_0 (by decide) ?_
  refine jj_istore (L' := [(4, jI (0 : Int32)), (0, jR a0), (1, jI a1), (2, jI a2), (3, jI a3)]) C rfl (by rw [hxn]; decide) dX2_tells_1 ?_
  refine jj_iconst (v := 0) C dX2_tells_3 (by decide) ?_
  refine jj_istore (L' := [(5, jI (0 : Int32)), (4, jI (0 : Int32)), (0, jR a0), (1, jI a1), (2, jI a2), (3, jI a3)]) C rfl (by rw [hxn]; decide) dX2_tells_4 ?_
  refine jj_sub [2, 3, 4, 5, 1, 0] rfl ?_
  exact w_X2_tells_b6 C hxn hQ 1000 _ _ _ _ _ _ _ hF
/-! PhrasehallModel.withdraw(II)I -/
def rm_X2_withdraw : Room := ({ frames := 4, cells := 0, slots := 0, locals := 137 } : Room)
theorem hd_X2_withdraw : yX2_withdraw.cls ≠ "java/lang/invoke/MethodHandle" ∧ yX2_withdraw.cls ≠ "java/lang/invoke/VarHandle" ∧ (parseMethodDescriptor yX2_withdraw.desc).map (fun d => d.parameters.length) = some 2 := ⟨by decide, by decide, by decide +kernel⟩
def f_X2_withdraw_b109 (l0 : Option Nat) (l1 : Int32) (l2 : Int32) (s0 : Option Nat) (s1 : Int32) (M : jW) : Option (Int32 × jW) := pP M s0 1 31 (jI s1) fun M109 =>
  pI M109 l0 1 31 fun v113 =>
  if v113 ≤ 0 then (pO M109 l0 1 fun b125 _ => pB (f_X2_tells (some b125) l1 l2 (0 : Int32) M109) fun r125 M125 =>
  pR M125 l0 1 25 fun v131 =>
  pAI M125 v131 0 l1 fun v136 =>
  pSI M125 v131 l1 (v136 ||| ((1 : Int32) <<< (l2 &&& 31))) fun M141 =>
  some (r125, M141))
  else (some ((0 : Int32), M109))
set_option maxHeartbeats 4000000 in
theorem w_X2_withdraw_b109 {x : jX} (C : jOk x cX2_withdraw RX2 rm_X2_withdraw (some .int)) (hxn : xn x = 5) {v0 : Int32} {M0 : jW} (hQ : jEnd x rm_X2_withdraw (some (jI v0)) M0) {l0 : Option Nat} {l1 : Int32} {l2 : Int32} {s0 : Option Nat} {s1 : Int32} {M : jW} (hF : f_X2_withdraw_b109 l0 l1 l2 s0 s1 M = some (v0, M0)) : jJ x 109 [(0, jR l0), (1, jI l1), (2, jI l2)] [jI s1, jR s0] M 0 0 := by
  unfold f_X2_withdraw_b109 at hF
  refine jj_pP (f := 31) C jcs_1 (Nat.le_of_ble_eq_true rfl) (jLk.of C q1264 rfl) (Or.inl rfl) dX2_withdraw_109 (jfit_i _) hF (fun M109 hF => ?_)
  refine jj_aload_n C 0 rfl dX2_withdraw_112 rfl ?_
  refine jj_pI (f := 31) C jcs_1 (Nat.le_of_ble_eq_true rfl) (jLk.of C q1264 rfl) dX2_withdraw_113 hF (fun v113 hF => ?_)
  refine jj_if_le (tgt := 121) C dX2_withdraw_116 (by decide) hF (fun hF => ?_) (fun hF => ?_)
  · refine jj_aload_n C 0 rfl dX2_withdraw_121 rfl ?_
    refine jj_iload_n C 1 rfl dX2_withdraw_122 rfl ?_
    refine jj_iload_n C 2 rfl dX2_withdraw_123 rfl ?_
    refine jj_iconst (v := 0) C dX2_withdraw_124 (by decide) ?_
    obtain ⟨b125, fs125, he125, hb125, hF⟩ := pO_spec hF
    obtain ⟨r125, M125, hG, hF⟩ := pB_spec hF
    refine jj_callV (k' := 0) (n' := 0) C [jI l1, jI l2, jI (0 : Int32)] [] [jI r125] he125 (m_X2_tells _ _ hG) hb125 rfl q1453 q1455 qs34 q46 q1456 ⟨rfl, hd_X2_tells⟩ rfl (Nat.le_of_ble_eq_true rfl) ⟨Nat.le_of_ble_eq_true rfl, Nat.le_of_ble_eq_true rfl⟩ ⟨Nat.le_refl _, Nat.le_refl _, Nat.le_refl _, Nat.le_refl _⟩ dX2_withdraw_125 rfl ?_
    refine jj_istore (L' := [(4, jI r125), (0, jR l0), (1, jI l1), (2, jI l2)]) C rfl (by rw [hxn]; decide) dX2_withdraw_128 ?_
    refine jj_aload_n C 1 rfl dX2_withdraw_130 rfl ?_
    refine jj_pR (f := 25) C jcs_1 (Nat.le_of_ble_eq_true rfl) (jLk.of C q1258 rfl) dX2_withdraw_131 hF (fun v131 hF => ?_)
    refine jj_iload_n C 2 rfl dX2_withdraw_134 rfl ?_
    refine jj_dup2 C dX2_withdraw_135 rfl rfl ?_
    refine jj_iald C dX2_withdraw_136 hF (fun v136 hF => ?_)
    refine jj_iconst (v := 1) C dX2_withdraw_137 (by decide) ?_
    refine jj_iload_n C 3 rfl dX2_withdraw_138 rfl ?_
    refine jj_ishl C dX2_withdraw_139 ?_
    refine jj_ior C dX2_withdraw_140 ?_
    refine jj_iast C dX2_withdraw_141 hF (fun M141 hF => ?_)
    refine jj_iload C 0 rfl dX2_withdraw_142 ?_
    exact jj_iret C hQ dX2_withdraw_144 hF (Nat.zero_le _) (Nat.zero_le _)
  · refine jj_iconst (v := 0) C dX2_withdraw_119 (by decide) ?_
    exact jj_iret C hQ dX2_withdraw_120 hF (Nat.zero_le _) (Nat.zero_le _)
def f_X2_withdraw_b104 (l0 : Option Nat) (l1 : Int32) (l2 : Int32) (s0 : Option Nat) (M : jW) : Option (Int32 × jW) := f_X2_withdraw_b109 l0 l1 l2 s0 (2 : Int32) M
set_option maxHeartbeats 4000000 in
theorem w_X2_withdraw_b104 {x : jX} (C : jOk x cX2_withdraw RX2 rm_X2_withdraw (some .int)) (hxn : xn x = 5) {v0 : Int32} {M0 : jW} (hQ : jEnd x rm_X2_withdraw (some (jI v0)) M0) {l0 : Option Nat} {l1 : Int32} {l2 : Int32} {s0 : Option Nat} {M : jW} (hF : f_X2_withdraw_b104 l0 l1 l2 s0 M = some (v0, M0)) : jJ x 104 [(0, jR l0), (1, jI l1), (2, jI l2)] [jR s0] M 0 0 := by
  unfold f_X2_withdraw_b104 at hF
  refine jj_iconst (v := 2) C dX2_withdraw_104 (by decide) ?_
  refine jj_goto (tgt := 109) C dX2_withdraw_105 (by decide) ?_
  refine jj_sub [0, 1, 2] rfl ?_
  exact w_X2_withdraw_b109 C hxn hQ hF
def f_X2_withdraw_b85 (l0 : Option Nat) (l1 : Int32) (l2 : Int32) (s0 : Int32) (M : jW) : Option (Int32 × jW) := if s0 = 0 then (pR M l0 1 25 fun v92 =>
  pAI M v92 0 l1 fun v96 =>
  pB (f_X2_has v96 l2 M) fun r98 M98 =>
  if r98 = 0 then (f_X2_withdraw_b109 l0 l1 l2 l0 (0 : Int32) M98)
  else (f_X2_withdraw_b104 l0 l1 l2 l0 M98))
  else (f_X2_withdraw_b104 l0 l1 l2 l0 M)
set_option maxHeartbeats 4000000 in
theorem w_X2_withdraw_b85 {x : jX} (C : jOk x cX2_withdraw RX2 rm_X2_withdraw (some .int)) (hxn : xn x = 5) {v0 : Int32} {M0 : jW} (hQ : jEnd x rm_X2_withdraw (some (jI v0)) M0) {l0 : Option Nat} {l1 : Int32} {l2 : Int32} {s0 : Int32} {M : jW} (hF : f_X2_withdraw_b85 l0 l1 l2 s0 M = some (v0, M0)) : jJ x 85 [(0, jR l0), (1, jI l1), (2, jI l2)] [jI s0] M 0 0 := by
  unfold f_X2_withdraw_b85 at hF
  refine jj_istore_n (L' := [(3, jI s0), (0, jR l0), (1, jI l1), (2, jI l2)]) C rfl (by rw [hxn]; decide) dX2_withdraw_85 rfl ?_
  refine jj_aload_n C 1 rfl dX2_withdraw_86 rfl ?_
  refine jj_iload_n C 0 rfl dX2_withdraw_87 rfl ?_
  refine jj_if_ne (tgt := 104) C dX2_withdraw_88 (by decide) hF (fun hF => ?_) (fun hF => ?_)
  · refine jj_sub [1, 2, 3] rfl ?_
    exact w_X2_withdraw_b104 C hxn hQ hF
  · refine jj_aload_n C 1 rfl dX2_withdraw_91 rfl ?_
    refine jj_pR (f := 25) C jcs_1 (Nat.le_of_ble_eq_true rfl) (jLk.of C q1258 rfl) dX2_withdraw_92 hF (fun v92 hF => ?_)
    refine jj_iload_n C 2 rfl dX2_withdraw_95 rfl ?_
    refine jj_iald C dX2_withdraw_96 hF (fun v96 hF => ?_)
    refine jj_iload_n C 3 rfl dX2_withdraw_97 rfl ?_
    obtain ⟨r98, M98, hG, hF⟩ := pB_spec hF
    refine jj_callS (k' := 0) (n' := 0) C [jI v96, jI l2] [jR l0] [jI r98, jR l0] (m_X2_has _ _ hG) q1353 q1354 q46 q1355 hd_X2_has rfl (Nat.le_of_ble_eq_true rfl) ⟨Nat.le_of_ble_eq_true rfl, Nat.le_of_ble_eq_true rfl⟩ ⟨Nat.le_refl _, Nat.le_refl _, Nat.le_refl _, Nat.le_refl _⟩ dX2_withdraw_98 rfl ?_
    refine jj_if_eq (tgt := 108) C dX2_withdraw_101 (by decide) hF (fun hF => ?_) (fun hF => ?_)
    · refine jj_iconst (v := 0) C dX2_withdraw_108 (by decide) ?_
      refine jj_sub [1, 2, 3] rfl ?_
      exact w_X2_withdraw_b109 C hxn hQ hF
    · refine jj_sub [1, 2, 3] rfl ?_
      exact w_X2_withdraw_b104 C hxn hQ hF
def f_X2_withdraw_b84 (l0 : Option Nat) (l1 : Int32) (l2 : Int32) (M : jW) : Option (Int32 × jW) := f_X2_withdraw_b85 l0 l1 l2 (0 : Int32) M
set_option maxHeartbeats 4000000 in
theorem w_X2_withdraw_b84 {x : jX} (C : jOk x cX2_withdraw RX2 rm_X2_withdraw (some .int)) (hxn : xn x = 5) {v0 : Int32} {M0 : jW} (hQ : jEnd x rm_X2_withdraw (some (jI v0)) M0) {l0 : Option Nat} {l1 : Int32} {l2 : Int32} {M : jW} (hF : f_X2_withdraw_b84 l0 l1 l2 M = some (v0, M0)) : jJ x 84 [(0, jR l0), (1, jI l1), (2, jI l2)] [] M 0 0 := by
  unfold f_X2_withdraw_b84 at hF
  refine jj_iconst (v := 0) C dX2_withdraw_84 (by decide) ?_
  refine jj_sub [0, 1, 2] rfl ?_
  exact w_X2_withdraw_b85 C hxn hQ hF
def f_X2_withdraw_b80 (l0 : Option Nat) (l1 : Int32) (l2 : Int32) (M : jW) : Option (Int32 × jW) := f_X2_withdraw_b85 l0 l1 l2 (1 : Int32) M
set_option maxHeartbeats 4000000 in
theorem w_X2_withdraw_b80 {x : jX} (C : jOk x cX2_withdraw RX2 rm_X2_withdraw (some .int)) (hxn : xn x = 5) {v0 : Int32} {M0 : jW} (hQ : jEnd x rm_X2_withdraw (some (jI v0)) M0) {l0 : Option Nat} {l1 : Int32} {l2 : Int32} {M : jW} (hF : f_X2_withdraw_b80 l0 l1 l2 M = some (v0, M0)) : jJ x 80 [(0, jR l0), (1, jI l1), (2, jI l2)] [] M 0 0 := by
  unfold f_X2_withdraw_b80 at hF
  refine jj_iconst (v := 1) C dX2_withdraw_80 (by decide) ?_
  refine jj_goto (tgt := 85) C dX2_withdraw_81 (by decide) ?_
  refine jj_sub [0, 1, 2] rfl ?_
  exact w_X2_withdraw_b85 C hxn hQ hF
def f_X2_withdraw_b15 (l0 : Option Nat) (l1 : Int32) (l2 : Int32) (s0 : Option Nat) (s1 : Int32) (M : jW) : Option (Int32 × jW) := pP M s0 1 31 (jI s1) fun M15 =>
  pI M15 l0 1 31 fun v19 =>
  if v19 ≤ 0 then (pI M15 l0 1 4 fun v28 =>
  if v28 = (-1 : Int32) then (f_X2_withdraw_b84 l0 l1 l2 M15)
  else (pR M15 l0 1 9 fun v36 =>
  pI M15 l0 1 4 fun v40 =>
  pAI M15 v36 0 v40 fun v43 =>
  if v43 = l1 then (pR M15 l0 1 5 fun v49 =>
  pI M15 l0 1 4 fun v54 =>
  pAI M15 v49 0 ((2 : Int32) * v54) fun v58 =>
  if v58 = l2 then (f_X2_withdraw_b80 l0 l1 l2 M15)
  else (pR M15 l0 1 5 fun v64 =>
  pI M15 l0 1 4 fun v69 =>
  pAI M15 v64 0 (((2 : Int32) * v69) + (1 : Int32)) fun v75 =>
  if v75 = l2 then (f_X2_withdraw_b80 l0 l1 l2 M15)
  else (f_X2_withdraw_b84 l0 l1 l2 M15)))
  else (f_X2_withdraw_b84 l0 l1 l2 M15)))
  else (some ((0 : Int32), M15))
set_option maxHeartbeats 4000000 in
theorem w_X2_withdraw_b15 {x : jX} (C : jOk x cX2_withdraw RX2 rm_X2_withdraw (some .int)) (hxn : xn x = 5) {v0 : Int32} {M0 : jW} (hQ : jEnd x rm_X2_withdraw (some (jI v0)) M0) {l0 : Option Nat} {l1 : Int32} {l2 : Int32} {s0 : Option Nat} {s1 : Int32} {M : jW} (hF : f_X2_withdraw_b15 l0 l1 l2 s0 s1 M = some (v0, M0)) : jJ x 15 [(0, jR l0), (1, jI l1), (2, jI l2)] [jI s1, jR s0] M 0 0 := by
  unfold f_X2_withdraw_b15 at hF
  refine jj_pP (f := 31) C jcs_1 (Nat.le_of_ble_eq_true rfl) (jLk.of C q1264 rfl) (Or.inl rfl) dX2_withdraw_15 (jfit_i _) hF (fun M15 hF => ?_)
  refine jj_aload_n C 0 rfl dX2_withdraw_18 rfl ?_
  refine jj_pI (f := 31) C jcs_1 (Nat.le_of_ble_eq_true rfl) (jLk.of C q1264 rfl) dX2_withdraw_19 hF (fun v19 hF => ?_)
  refine jj_if_le (tgt := 27) C dX2_withdraw_22 (by decide) hF (fun hF => ?_) (fun hF => ?_)
  · refine jj_aload_n C 0 rfl dX2_withdraw_27 rfl ?_
    refine jj_pI (f := 4) C jcs_1 (Nat.le_of_ble_eq_true rfl) (jLk.of C q1237 rfl) dX2_withdraw_28 hF (fun v28 hF => ?_)
    refine jj_iconst (v := -1) C dX2_withdraw_31 (by decide) ?_
    refine jj_icmp_eq (tgt := 84) C dX2_withdraw_32 (by decide) hF (fun hF => ?_) (fun hF => ?_)
    · refine jj_sub [0, 1, 2] rfl ?_
      exact w_X2_withdraw_b84 C hxn hQ hF
    · refine jj_aload_n C 0 rfl dX2_withdraw_35 rfl ?_
      refine jj_pR (f := 9) C jcs_1 (Nat.le_of_ble_eq_true rfl) (jLk.of C q1242 rfl) dX2_withdraw_36 hF (fun v36 hF => ?_)
      refine jj_aload_n C 0 rfl dX2_withdraw_39 rfl ?_
      refine jj_pI (f := 4) C jcs_1 (Nat.le_of_ble_eq_true rfl) (jLk.of C q1237 rfl) dX2_withdraw_40 hF (fun v40 hF => ?_)
      refine jj_iald C dX2_withdraw_43 hF (fun v43 hF => ?_)
      refine jj_iload_n C 1 rfl dX2_withdraw_44 rfl ?_
      refine jj_icmp_ne (tgt := 84) C dX2_withdraw_45 (by decide) hF (fun hF => ?_) (fun hF => ?_)
      · refine jj_sub [0, 1, 2] rfl ?_
        exact w_X2_withdraw_b84 C hxn hQ hF
      · refine jj_aload_n C 0 rfl dX2_withdraw_48 rfl ?_
        refine jj_pR (f := 5) C jcs_1 (Nat.le_of_ble_eq_true rfl) (jLk.of C q1238 rfl) dX2_withdraw_49 hF (fun v49 hF => ?_)
        refine jj_iconst (v := 2) C dX2_withdraw_52 (by decide) ?_
        refine jj_aload_n C 0 rfl dX2_withdraw_53 rfl ?_
        refine jj_pI (f := 4) C jcs_1 (Nat.le_of_ble_eq_true rfl) (jLk.of C q1237 rfl) dX2_withdraw_54 hF (fun v54 hF => ?_)
        refine jj_imul C dX2_withdraw_57 ?_
        refine jj_iald C dX2_withdraw_58 hF (fun v58 hF => ?_)
        refine jj_iload_n C 2 rfl dX2_withdraw_59 rfl ?_
        refine jj_icmp_eq (tgt := 80) C dX2_withdraw_60 (by decide) hF (fun hF => ?_) (fun hF => ?_)
        · refine jj_sub [0, 1, 2] rfl ?_
          exact w_X2_withdraw_b80 C hxn hQ hF
        · refine jj_aload_n C 0 rfl dX2_withdraw_63 rfl ?_
          refine jj_pR (f := 5) C jcs_1 (Nat.le_of_ble_eq_true rfl) (jLk.of C q1238 rfl) dX2_withdraw_64 hF (fun v64 hF => ?_)
          refine jj_iconst (v := 2) C dX2_withdraw_67 (by decide) ?_
          refine jj_aload_n C 0 rfl dX2_withdraw_68 rfl ?_
          refine jj_pI (f := 4) C jcs_1 (Nat.le_of_ble_eq_true rfl) (jLk.of C q1237 rfl) dX2_withdraw_69 hF (fun v69 hF => ?_)
          refine jj_imul C dX2_withdraw_72 ?_
          refine jj_iconst (v := 1) C dX2_withdraw_73 (by decide) ?_
          refine jj_iadd C dX2_withdraw_74 ?_
          refine jj_iald C dX2_withdraw_75 hF (fun v75 hF => ?_)
          refine jj_iload_n C 2 rfl dX2_withdraw_76 rfl ?_
          refine jj_icmp_ne (tgt := 84) C dX2_withdraw_77 (by decide) hF (fun hF => ?_) (fun hF => ?_)
          · refine jj_sub [0, 1, 2] rfl ?_
            exact w_X2_withdraw_b84 C hxn hQ hF
          · refine jj_sub [0, 1, 2] rfl ?_
            exact w_X2_withdraw_b80 C hxn hQ hF
  · refine jj_iconst (v := 0) C dX2_withdraw_25 (by decide) ?_
    exact jj_iret C hQ dX2_withdraw_26 hF (Nat.zero_le _) (Nat.zero_le _)
def f_X2_withdraw (a0 : Option Nat) (a1 : Int32) (a2 : Int32) (M : jW) : Option (Int32 × jW) := pO M a0 1 fun b4 _ => pB (f_X2_isMember (some b4) a1 a2 M) fun r4 M4 =>
  if r4 = 0 then (f_X2_withdraw_b15 a0 a1 a2 a0 (1 : Int32) M4)
  else (f_X2_withdraw_b15 a0 a1 a2 a0 (0 : Int32) M4)
set_option maxHeartbeats 4000000 in
theorem m_X2_withdraw (l : Launch) (g : jG) {a0 : Option Nat} {a1 : Int32} {a2 : Int32} {M M0 : jW} {v0 : Int32} (hF : f_X2_withdraw a0 a1 a2 M = some (v0, M0)) : jMet l g yX2_withdraw cX2_withdraw 5 (some .int) rm_X2_withdraw [jR a0, jI a1, jI a2] M (some (jI v0)) M0 := by
  refine jMet.of (L := [(0, jR a0), (1, jI a1), (2, jI a2)]) (by decide) rfl (Nat.le_of_ble_eq_true rfl) (fun x C hxn hg hl hQ hin => ?_)
  subst hg
  unfold f_X2_withdraw at hF
  refine jj_aload_n C 0 rfl dX2_withdraw_0 rfl ?_
  refine jj_aload_n C 0 rfl dX2_withdraw_1 rfl ?_
  refine jj_iload_n C 1 rfl dX2_withdraw_2 rfl ?_
  refine jj_iload_n C 2 rfl dX2_withdraw_3 rfl ?_
  obtain ⟨b4, fs4, he4, hb4, hF⟩ := pO_spec hF
  obtain ⟨r4, M4, hG, hF⟩ := pB_spec hF
  refine jj_callV (k' := 0) (n' := 0) C [jI a1, jI a2] [jR a0] [jI r4, jR a0] he4 (m_X2_isMember _ _ hG) hb4 rfl q1449 q1451 qs33 q46 q1452 ⟨rfl, hd_X2_isMember⟩ rfl (Nat.le_of_ble_eq_true rfl) ⟨Nat.le_of_ble_eq_true rfl, Nat.le_of_ble_eq_true rfl⟩ ⟨Nat.le_refl _, Nat.le_refl _, Nat.le_refl _, Nat.le_refl _⟩ dX2_withdraw_4 rfl ?_
  refine jj_if_ne (tgt := 14) C dX2_withdraw_7 (by decide) hF (fun hF => ?_) (fun hF => ?_)
  · refine jj_iconst (v := 0) C dX2_withdraw_14 (by decide) ?_
    refine jj_sub [0, 1, 2] rfl ?_
    exact w_X2_withdraw_b15 C hxn hQ hF
  · refine jj_iconst (v := 1) C dX2_withdraw_10 (by decide) ?_
    refine jj_goto (tgt := 15) C dX2_withdraw_11 (by decide) ?_
    refine jj_sub [0, 1, 2] rfl ?_
    exact w_X2_withdraw_b15 C hxn hQ hF
/-! PhrasehallModel.isBetter(III)Z -/
def rm_X2_isBetter : Room := ({ frames := 4, cells := 0, slots := 0, locals := 137 } : Room)
theorem hd_X2_isBetter : yX2_isBetter.cls ≠ "java/lang/invoke/MethodHandle" ∧ yX2_isBetter.cls ≠ "java/lang/invoke/VarHandle" ∧ (parseMethodDescriptor yX2_isBetter.desc).map (fun d => d.parameters.length) = some 3 := ⟨by decide, by decide, by decide +kernel⟩
def f_X2_isBetter_b55 (l0 : Option Nat) (l1 : Int32) (l2 : Int32) (l3 : Int32) (s0 : Int32) (s1 : Int32) (s2 : Int32) (M : jW) : Option (Int32 × jW) := pLt (s0 - (s1 * s2)) fun t57 =>
  if t57 = 0 then (pO M l0 1 fun b79 _ => pB (f_X2_tells (some b79) l1 l2 (2 : Int32) M) fun r79 M79 =>
  pO M79 l0 1 fun b88 _ => pB (f_X2_tells (some b88) l1 l3 (2 : Int32) M79) fun r88 M88 =>
  pO M88 l0 1 fun b99 _ => pB (f_X2_tells (some b99) l1 l2 (3 : Int32) M88) fun r99 M99 =>
  pO M99 l0 1 fun b110 _ => pB (f_X2_tells (some b110) l1 l3 (3 : Int32) M99) fun r110 M110 =>
  pLt (((r79 - r99) - r88) + r110) fun t114 =>
  if t114 = 0 then (if r79 = r88 then (if l3 ≤ l2 then (pRZ (0 : Int32) M110)
  else (pRZ (1 : Int32) M110))
  else (if r79 ≤ r88 then (pRZ (0 : Int32) M110)
  else (pRZ (1 : Int32) M110)))
  else (if t114 ≤ 0 then (pRZ (0 : Int32) M110)
  else (pRZ (1 : Int32) M110)))
  else (if t57 ≤ 0 then (pRZ (0 : Int32) M)
  else (pRZ (1 : Int32) M))
set_option maxHeartbeats 4000000 in
theorem w_X2_isBetter_b55 {x : jX} (C : jOk x cX2_isBetter RX2 rm_X2_isBetter (some .boolean)) (hxn : xn x = 10) {v0 : Int32} {M0 : jW} (hQ : jEnd x rm_X2_isBetter (some (jI v0)) M0) {l0 : Option Nat} {l1 : Int32} {l2 : Int32} {l3 : Int32} {s0 : Int32} {s1 : Int32} {s2 : Int32} {M : jW} (hF : f_X2_isBetter_b55 l0 l1 l2 l3 s0 s1 s2 M = some (v0, M0)) : jJ x 55 [(0, jR l0), (1, jI l1), (2, jI l2), (3, jI l3)] [jI s2, jI s1, jI s0] M 0 0 := by
  unfold f_X2_isBetter_b55 at hF
  refine jj_imul C dX2_isBetter_55 ?_
  refine jj_isub C dX2_isBetter_56 ?_
  refine jj_letI hF (fun t57 hF => ?_)
  refine jj_istore (L' := [(6, jI t57), (0, jR l0), (1, jI l1), (2, jI l2), (3, jI l3)]) C rfl (by rw [hxn]; decide) dX2_isBetter_57 ?_
  refine jj_iload C 0 rfl dX2_isBetter_59 ?_
  refine jj_if_eq (tgt := 75) C dX2_isBetter_61 (by decide) hF (fun hF => ?_) (fun hF => ?_)
  · refine jj_aload_n C 1 rfl dX2_isBetter_75 rfl ?_
    refine jj_iload_n C 2 rfl dX2_isBetter_76 rfl ?_
    refine jj_iload_n C 3 rfl dX2_isBetter_77 rfl ?_
    refine jj_iconst (v := 2) C dX2_isBetter_78 (by decide) ?_
    obtain ⟨b79, fs79, he79, hb79, hF⟩ := pO_spec hF
    obtain ⟨r79, M79, hG, hF⟩ := pB_spec hF
    refine jj_callV (k' := 0) (n' := 0) C [jI l1, jI l2, jI (2 : Int32)] [] [jI r79] he79 (m_X2_tells _ _ hG) hb79 rfl q1453 q1455 qs34 q46 q1456 ⟨rfl, hd_X2_tells⟩ rfl (Nat.le_of_ble_eq_true rfl) ⟨Nat.le_of_ble_eq_true rfl, Nat.le_of_ble_eq_true rfl⟩ ⟨Nat.le_refl _, Nat.le_refl _, Nat.le_refl _, Nat.le_refl _⟩ dX2_isBetter_79 rfl ?_
    refine jj_istore (L' := [(7, jI r79), (6, jI t57), (0, jR l0), (1, jI l1), (2, jI l2), (3, jI l3)]) C rfl (by rw [hxn]; decide) dX2_isBetter_82 ?_
    refine jj_aload_n C 2 rfl dX2_isBetter_84 rfl ?_
    refine jj_iload_n C 3 rfl dX2_isBetter_85 rfl ?_
    refine jj_iload_n C 5 rfl dX2_isBetter_86 rfl ?_
    refine jj_iconst (v := 2) C dX2_isBetter_87 (by decide) ?_
    obtain ⟨b88, fs88, he88, hb88, hF⟩ := pO_spec hF
    obtain ⟨r88, M88, hG, hF⟩ := pB_spec hF
    refine jj_callV (k' := 0) (n' := 0) C [jI l1, jI l3, jI (2 : Int32)] [] [jI r88] he88 (m_X2_tells _ _ hG) hb88 rfl q1453 q1455 qs34 q46 q1456 ⟨rfl, hd_X2_tells⟩ rfl (Nat.le_of_ble_eq_true rfl) ⟨Nat.le_of_ble_eq_true rfl, Nat.le_of_ble_eq_true rfl⟩ ⟨Nat.le_refl _, Nat.le_refl _, Nat.le_refl _, Nat.le_refl _⟩ dX2_isBetter_88 rfl ?_
    refine jj_istore (L' := [(8, jI r88), (7, jI r79), (6, jI t57), (0, jR l0), (1, jI l1), (2, jI l2), (3, jI l3)]) C rfl (by rw [hxn]; decide) dX2_isBetter_91 ?_
    refine jj_iload C 1 rfl dX2_isBetter_93 ?_
    refine jj_aload_n C 3 rfl dX2_isBetter_95 rfl ?_
    refine jj_iload_n C 4 rfl dX2_isBetter_96 rfl ?_
    refine jj_iload_n C 5 rfl dX2_isBetter_97 rfl ?_
    refine jj_iconst (v := 3) C dX2_isBetter_98 (by decide) ?_
    obtain ⟨b99, fs99, he99, hb99, hF⟩ := pO_spec hF
    obtain ⟨r99, M99, hG, hF⟩ := pB_spec hF
    refine jj_callV (k' := 0) (n' := 0) C [jI l1, jI l2, jI (3 : Int32)] [jI r79] [jI r99, jI r79] he99 (m_X2_tells _ _ hG) hb99 rfl q1453 q1455 qs34 q46 q1456 ⟨rfl, hd_X2_tells⟩ rfl (Nat.le_of_ble_eq_true rfl) ⟨Nat.le_of_ble_eq_true rfl, Nat.le_of_ble_eq_true rfl⟩ ⟨Nat.le_refl _, Nat.le_refl _, Nat.le_refl _, Nat.le_refl _⟩ dX2_isBetter_99 rfl ?_
    refine jj_isub C dX2_isBetter_102 ?_
    refine jj_iload C 0 rfl dX2_isBetter_103 ?_
    refine jj_isub C dX2_isBetter_105 ?_
    refine jj_aload_n C 3 rfl dX2_isBetter_106 rfl ?_
    refine jj_iload_n C 4 rfl dX2_isBetter_107 rfl ?_
    refine jj_iload_n C 6 rfl dX2_isBetter_108 rfl ?_
    refine jj_iconst (v := 3) C dX2_isBetter_109 (by decide) ?_
    obtain ⟨b110, fs110, he110, hb110, hF⟩ := pO_spec hF
    obtain ⟨r110, M110, hG, hF⟩ := pB_spec hF
    refine jj_callV (k' := 0) (n' := 0) C [jI l1, jI l3, jI (3 : Int32)] [jI ((r79 - r99) - r88)] [jI r110, jI ((r79 - r99) - r88)] he110 (m_X2_tells _ _ hG) hb110 rfl q1453 q1455 qs34 q46 q1456 ⟨rfl, hd_X2_tells⟩ rfl (Nat.le_of_ble_eq_true rfl) ⟨Nat.le_of_ble_eq_true rfl, Nat.le_of_ble_eq_true rfl⟩ ⟨Nat.le_refl _, Nat.le_refl _, Nat.le_refl _, Nat.le_refl _⟩ dX2_isBetter_110 rfl ?_
    refine jj_iadd C dX2_isBetter_113 ?_
    refine jj_letI hF (fun t114 hF => ?_)
    refine jj_istore (L' := [(9, jI t114), (8, jI r88), (7, jI r79), (6, jI t57), (0, jR l0), (1, jI l1), (2, jI l2), (3, jI l3)]) C rfl (by rw [hxn]; decide) dX2_isBetter_114 ?_
    refine jj_iload C 0 rfl dX2_isBetter_116 ?_
    refine jj_if_eq (tgt := 134) C dX2_isBetter_118 (by decide) hF (fun hF => ?_) (fun hF => ?_)
    · refine jj_iload C 2 rfl dX2_isBetter_134 ?_
      refine jj_iload C 1 rfl dX2_isBetter_136 ?_
      refine jj_icmp_eq (tgt := 156) C dX2_isBetter_138 (by decide) hF (fun hF => ?_) (fun hF => ?_)
      · refine jj_iload_n C 6 rfl dX2_isBetter_156 rfl ?_
        refine jj_iload_n C 7 rfl dX2_isBetter_157 rfl ?_
        refine jj_icmp_ge (tgt := 165) C dX2_isBetter_158 (by decide) hF (fun hF => ?_) (fun hF => ?_)
        · refine jj_iconst (v := 0) C dX2_isBetter_165 (by decide) ?_
          exact jj_zret C hQ dX2_isBetter_166 hF (Nat.zero_le _) (Nat.zero_le _)
        · refine jj_iconst (v := 1) C dX2_isBetter_161 (by decide) ?_
          refine jj_goto (tgt := 166) C dX2_isBetter_162 (by decide) ?_
          exact jj_zret C hQ dX2_isBetter_166 hF (Nat.zero_le _) (Nat.zero_le _)
      · refine jj_iload C 2 rfl dX2_isBetter_141 ?_
        refine jj_iload C 1 rfl dX2_isBetter_143 ?_
        refine jj_icmp_le (tgt := 152) C dX2_isBetter_145 (by decide) hF (fun hF => ?_) (fun hF => ?_)
        · refine jj_iconst (v := 0) C dX2_isBetter_152 (by decide) ?_
          refine jj_goto (tgt := 166) C dX2_isBetter_153 (by decide) ?_
          exact jj_zret C hQ dX2_isBetter_166 hF (Nat.zero_le _) (Nat.zero_le _)
        · refine jj_iconst (v := 1) C dX2_isBetter_148 (by decide) ?_
          refine jj_goto (tgt := 166) C dX2_isBetter_149 (by decide) ?_
          exact jj_zret C hQ dX2_isBetter_166 hF (Nat.zero_le _) (Nat.zero_le _)
    · refine jj_iload C 0 rfl dX2_isBetter_121 ?_
      refine jj_if_le (tgt := 130) C dX2_isBetter_123 (by decide) hF (fun hF => ?_) (fun hF => ?_)
      · refine jj_iconst (v := 0) C dX2_isBetter_130 (by decide) ?_
        refine jj_goto (tgt := 166) C dX2_isBetter_131 (by decide) ?_
        exact jj_zret C hQ dX2_isBetter_166 hF (Nat.zero_le _) (Nat.zero_le _)
      · refine jj_iconst (v := 1) C dX2_isBetter_126 (by decide) ?_
        refine jj_goto (tgt := 166) C dX2_isBetter_127 (by decide) ?_
        exact jj_zret C hQ dX2_isBetter_166 hF (Nat.zero_le _) (Nat.zero_le _)
  · refine jj_iload C 0 rfl dX2_isBetter_64 ?_
    refine jj_if_le (tgt := 73) C dX2_isBetter_66 (by decide) hF (fun hF => ?_) (fun hF => ?_)
    · refine jj_iconst (v := 0) C dX2_isBetter_73 (by decide) ?_
      exact jj_zret C hQ dX2_isBetter_74 hF (Nat.zero_le _) (Nat.zero_le _)
    · refine jj_iconst (v := 1) C dX2_isBetter_69 (by decide) ?_
      refine jj_goto (tgt := 74) C dX2_isBetter_70 (by decide) ?_
      exact jj_zret C hQ dX2_isBetter_74 hF (Nat.zero_le _) (Nat.zero_le _)
def f_X2_isBetter_b36 (l0 : Option Nat) (l1 : Int32) (l2 : Int32) (l3 : Int32) (l4 : Int32) (s0 : Int32) (s1 : Int32) (M : jW) : Option (Int32 × jW) := pO M l0 1 fun b41 _ => pB (f_X2_tells (some b41) l1 l3 (1 : Int32) M) fun r41 M41 =>
  if l4 = 0 then (f_X2_isBetter_b55 l0 l1 l2 l3 (s0 * s1) r41 (1 : Int32) M41)
  else (f_X2_isBetter_b55 l0 l1 l2 l3 (s0 * s1) r41 l4 M41)
set_option maxHeartbeats 4000000 in
theorem w_X2_isBetter_b36 {x : jX} (C : jOk x cX2_isBetter RX2 rm_X2_isBetter (some .boolean)) (hxn : xn x = 10) {v0 : Int32} {M0 : jW} (hQ : jEnd x rm_X2_isBetter (some (jI v0)) M0) {l0 : Option Nat} {l1 : Int32} {l2 : Int32} {l3 : Int32} {l4 : Int32} {s0 : Int32} {s1 : Int32} {M : jW} (hF : f_X2_isBetter_b36 l0 l1 l2 l3 l4 s0 s1 M = some (v0, M0)) : jJ x 36 [(0, jR l0), (1, jI l1), (2, jI l2), (3, jI l3), (4, jI l4)] [jI s1, jI s0] M 0 0 := by
  unfold f_X2_isBetter_b36 at hF
  refine jj_imul C dX2_isBetter_36 ?_
  refine jj_aload_n C 0 rfl dX2_isBetter_37 rfl ?_
  refine jj_iload_n C 1 rfl dX2_isBetter_38 rfl ?_
  refine jj_iload_n C 3 rfl dX2_isBetter_39 rfl ?_
  refine jj_iconst (v := 1) C dX2_isBetter_40 (by decide) ?_
  obtain ⟨b41, fs41, he41, hb41, hF⟩ := pO_spec hF
  obtain ⟨r41, M41, hG, hF⟩ := pB_spec hF
  refine jj_callV (k' := 0) (n' := 0) C [jI l1, jI l3, jI (1 : Int32)] [jI (s0 * s1)] [jI r41, jI (s0 * s1)] he41 (m_X2_tells _ _ hG) hb41 rfl q1453 q1455 qs34 q46 q1456 ⟨rfl, hd_X2_tells⟩ rfl (Nat.le_of_ble_eq_true rfl) ⟨Nat.le_of_ble_eq_true rfl, Nat.le_of_ble_eq_true rfl⟩ ⟨Nat.le_refl _, Nat.le_refl _, Nat.le_refl _, Nat.le_refl _⟩ dX2_isBetter_41 rfl ?_
  refine jj_iload C 4 rfl dX2_isBetter_44 ?_
  refine jj_if_ne (tgt := 53) C dX2_isBetter_46 (by decide) hF (fun hF => ?_) (fun hF => ?_)
  · refine jj_iload C 4 rfl dX2_isBetter_53 ?_
    refine jj_sub [0, 1, 2, 3] rfl ?_
    exact w_X2_isBetter_b55 C hxn hQ hF
  · refine jj_iconst (v := 1) C dX2_isBetter_49 (by decide) ?_
    refine jj_goto (tgt := 55) C dX2_isBetter_50 (by decide) ?_
    refine jj_sub [0, 1, 2, 3] rfl ?_
    exact w_X2_isBetter_b55 C hxn hQ hF
def f_X2_isBetter (a0 : Option Nat) (a1 : Int32) (a2 : Int32) (a3 : Int32) (M : jW) : Option (Int32 × jW) := pO M a0 1 fun b4 _ => pB (f_X2_tells (some b4) a1 a2 (0 : Int32) M) fun r4 M4 =>
  pO M4 a0 1 fun b13 _ => pB (f_X2_tells (some b13) a1 a3 (0 : Int32) M4) fun r13 M13 =>
  pO M13 a0 1 fun b22 _ => pB (f_X2_tells (some b22) a1 a2 (1 : Int32) M13) fun r22 M22 =>
  if r13 = 0 then (f_X2_isBetter_b36 a0 a1 a2 a3 r4 r22 (1 : Int32) M22)
  else (f_X2_isBetter_b36 a0 a1 a2 a3 r4 r22 r13 M22)
set_option maxHeartbeats 4000000 in
theorem m_X2_isBetter (l : Launch) (g : jG) {a0 : Option Nat} {a1 : Int32} {a2 : Int32} {a3 : Int32} {M M0 : jW} {v0 : Int32} (hF : f_X2_isBetter a0 a1 a2 a3 M = some (v0, M0)) : jMet l g yX2_isBetter cX2_isBetter 10 (some .boolean) rm_X2_isBetter [jR a0, jI a1, jI a2, jI a3] M (some (jI v0)) M0 := by
  refine jMet.of (L := [(0, jR a0), (1, jI a1), (2, jI a2), (3, jI a3)]) (by decide) rfl (Nat.le_of_ble_eq_true rfl) (fun x C hxn hg hl hQ hin => ?_)
  subst hg
  unfold f_X2_isBetter at hF
  refine jj_aload_n C 0 rfl dX2_isBetter_0 rfl ?_
  refine jj_iload_n C 1 rfl dX2_isBetter_1 rfl ?_
  refine jj_iload_n C 2 rfl dX2_isBetter_2 rfl ?_
  refine jj_iconst (v := 0) C dX2_isBetter_3 (by decide) ?_
  obtain ⟨b4, fs4, he4, hb4, hF⟩ := pO_spec hF
  obtain ⟨r4, M4, hG, hF⟩ := pB_spec hF
  refine jj_callV (k' := 0) (n' := 0) C [jI a1, jI a2, jI (0 : Int32)] [] [jI r4] he4 (m_X2_tells _ _ hG) hb4 rfl q1453 q1455 qs34 q46 q1456 ⟨rfl, hd_X2_tells⟩ rfl (Nat.le_of_ble_eq_true rfl) ⟨Nat.le_of_ble_eq_true rfl, Nat.le_of_ble_eq_true rfl⟩ ⟨Nat.le_refl _, Nat.le_refl _, Nat.le_refl _, Nat.le_refl _⟩ dX2_isBetter_4 rfl ?_
  refine jj_istore (L' := [(4, jI r4), (0, jR a0), (1, jI a1), (2, jI a2), (3, jI a3)]) C rfl (by rw [hxn]; decide) dX2_isBetter_7 ?_
  refine jj_aload_n C 1 rfl dX2_isBetter_9 rfl ?_
  refine jj_iload_n C 2 rfl dX2_isBetter_10 rfl ?_
  refine jj_iload_n C 4 rfl dX2_isBetter_11 rfl ?_
  refine jj_iconst (v := 0) C dX2_isBetter_12 (by decide) ?_
  obtain ⟨b13, fs13, he13, hb13, hF⟩ := pO_spec hF
  obtain ⟨r13, M13, hG, hF⟩ := pB_spec hF
  refine jj_callV (k' := 0) (n' := 0) C [jI a1, jI a3, jI (0 : Int32)] [] [jI r13] he13 (m_X2_tells _ _ hG) hb13 rfl q1453 q1455 qs34 q46 q1456 ⟨rfl, hd_X2_tells⟩ rfl (Nat.le_of_ble_eq_true rfl) ⟨Nat.le_of_ble_eq_true rfl, Nat.le_of_ble_eq_true rfl⟩ ⟨Nat.le_refl _, Nat.le_refl _, Nat.le_refl _, Nat.le_refl _⟩ dX2_isBetter_13 rfl ?_
  refine jj_istore (L' := [(5, jI r13), (4, jI r4), (0, jR a0), (1, jI a1), (2, jI a2), (3, jI a3)]) C rfl (by rw [hxn]; decide) dX2_isBetter_16 ?_
  refine jj_aload_n C 2 rfl dX2_isBetter_18 rfl ?_
  refine jj_iload_n C 3 rfl dX2_isBetter_19 rfl ?_
  refine jj_iload_n C 4 rfl dX2_isBetter_20 rfl ?_
  refine jj_iconst (v := 1) C dX2_isBetter_21 (by decide) ?_
  obtain ⟨b22, fs22, he22, hb22, hF⟩ := pO_spec hF
  obtain ⟨r22, M22, hG, hF⟩ := pB_spec hF
  refine jj_callV (k' := 0) (n' := 0) C [jI a1, jI a2, jI (1 : Int32)] [] [jI r22] he22 (m_X2_tells _ _ hG) hb22 rfl q1453 q1455 qs34 q46 q1456 ⟨rfl, hd_X2_tells⟩ rfl (Nat.le_of_ble_eq_true rfl) ⟨Nat.le_of_ble_eq_true rfl, Nat.le_of_ble_eq_true rfl⟩ ⟨Nat.le_refl _, Nat.le_refl _, Nat.le_refl _, Nat.le_refl _⟩ dX2_isBetter_22 rfl ?_
  refine jj_iload C 0 rfl dX2_isBetter_25 ?_
  refine jj_if_ne (tgt := 34) C dX2_isBetter_27 (by decide) hF (fun hF => ?_) (fun hF => ?_)
  · refine jj_iload C 0 rfl dX2_isBetter_34 ?_
    refine jj_sub [2, 3, 4, 5, 1] rfl ?_
    exact w_X2_isBetter_b36 C hxn hQ hF
  · refine jj_iconst (v := 1) C dX2_isBetter_30 (by decide) ?_
    refine jj_goto (tgt := 36) C dX2_isBetter_31 (by decide) ?_
    refine jj_sub [2, 3, 4, 5, 1] rfl ?_
    exact w_X2_isBetter_b36 C hxn hQ hF
/-! PhrasehallModel.ranks(I)I -/
def rm_X2_ranks : Room := ({ frames := 5, cells := 0, slots := 0, locals := 166 } : Room)
theorem hd_X2_ranks : yX2_ranks.cls ≠ "java/lang/invoke/MethodHandle" ∧ yX2_ranks.cls ≠ "java/lang/invoke/VarHandle" ∧ (parseMethodDescriptor yX2_ranks.desc).map (fun d => d.parameters.length) = some 1 := ⟨by decide, by decide, by decide +kernel⟩
def f_X2_ranks_b93 (K4 : Option Nat → Int32 → Int32 → Int32 → jW → Option (Int32 × jW)) (l0 : Option Nat) (l1 : Int32) (l2 : Int32) (l3 : Int32) (M : jW) : Option (Int32 × jW) := K4 l0 l1 l2 (l3 + (1 : Int32)) M
set_option maxHeartbeats 4000000 in
theorem w_X2_ranks_b93 {x : jX} (C : jOk x cX2_ranks RX2 rm_X2_ranks (some .int)) (hxn : xn x = 5) {v0 : Int32} {M0 : jW} (hQ : jEnd x rm_X2_ranks (some (jI v0)) M0) {K4 : Option Nat → Int32 → Int32 → Int32 → jW → Option (Int32 × jW)} (hK4 : ∀ (l0 : Option Nat) (l1 : Int32) (l2 : Int32) (l3 : Int32) (M : jW), K4 l0 l1 l2 l3 M = some (v0, M0) → jJ x 4 [(0, jR l0), (1, jI l1), (2, jI l2), (3, jI l3)] [] M 0 0) {l0 : Option Nat} {l1 : Int32} {l2 : Int32} {l3 : Int32} {M : jW} (hF : f_X2_ranks_b93 K4 l0 l1 l2 l3 M = some (v0, M0)) : jJ x 93 [(0, jR l0), (1, jI l1), (2, jI l2), (3, jI l3)] [] M 0 0 := by
  unfold f_X2_ranks_b93 at hF
  refine jj_iinc (c := 1) (L' := [(3, jI (l3 + (1 : Int32))), (0, jR l0), (1, jI l1), (2, jI l2)]) C 3 rfl (by decide) rfl (by rw [hxn]; decide) dX2_ranks_93 ?_
  refine jj_goto (tgt := 4) C dX2_ranks_96 (by decide) ?_
  refine jj_sub [1, 2, 3, 0] rfl ?_
  exact hK4 _ _ _ _ _ hF
def f_X2_ranks_b82 (K4 : Option Nat → Int32 → Int32 → Int32 → jW → Option (Int32 × jW)) (l0 : Option Nat) (l1 : Int32) (l2 : Int32) (l3 : Int32) (l4 : Int32) (M : jW) : Option (Int32 × jW) := pR M l0 1 26 fun v83 =>
  pSI M v83 l4 l3 fun M89 =>
  f_X2_ranks_b93 K4 l0 l1 (l2 + (1 : Int32)) l3 M89
set_option maxHeartbeats 4000000 in
theorem w_X2_ranks_b82 {x : jX} (C : jOk x cX2_ranks RX2 rm_X2_ranks (some .int)) (hxn : xn x = 5) {v0 : Int32} {M0 : jW} (hQ : jEnd x rm_X2_ranks (some (jI v0)) M0) {K4 : Option Nat → Int32 → Int32 → Int32 → jW → Option (Int32 × jW)} (hK4 : ∀ (l0 : Option Nat) (l1 : Int32) (l2 : Int32) (l3 : Int32) (M : jW), K4 l0 l1 l2 l3 M = some (v0, M0) → jJ x 4 [(0, jR l0), (1, jI l1), (2, jI l2), (3, jI l3)] [] M 0 0) {l0 : Option Nat} {l1 : Int32} {l2 : Int32} {l3 : Int32} {l4 : Int32} {M : jW} (hF : f_X2_ranks_b82 K4 l0 l1 l2 l3 l4 M = some (v0, M0)) : jJ x 82 [(0, jR l0), (1, jI l1), (2, jI l2), (3, jI l3), (4, jI l4)] [] M 0 0 := by
  unfold f_X2_ranks_b82 at hF
  refine jj_aload_n C 0 rfl dX2_ranks_82 rfl ?_
  refine jj_pR (f := 26) C jcs_1 (Nat.le_of_ble_eq_true rfl) (jLk.of C q1259 rfl) dX2_ranks_83 hF (fun v83 hF => ?_)
  refine jj_iload C 4 rfl dX2_ranks_86 ?_
  refine jj_iload_n C 3 rfl dX2_ranks_88 rfl ?_
  refine jj_iast C dX2_ranks_89 hF (fun M89 hF => ?_)
  refine jj_iinc (c := 1) (L' := [(2, jI (l2 + (1 : Int32))), (0, jR l0), (1, jI l1), (3, jI l3), (4, jI l4)]) C 2 rfl (by decide) rfl (by rw [hxn]; decide) dX2_ranks_90 ?_
  refine jj_sub [1, 2, 0, 3] rfl ?_
  exact w_X2_ranks_b93 C hxn hQ hK4 hF
def f_X2_ranks_b37 (K4 : Option Nat → Int32 → Int32 → Int32 → jW → Option (Int32 × jW)) : Nat → Option Nat → Int32 → Int32 → Int32 → Int32 → jW → Option (Int32 × jW)
  | 0, _, _, _, _, _, _ => none
  | q + 1, l0, l1, l2, l3, l4, M => if l4 ≤ 0 then (f_X2_ranks_b82 K4 l0 l1 l2 l3 l4 M)
  else (pR M l0 1 26 fun v46 =>
  pAI M v46 0 (l4 - (1 : Int32)) fun v53 =>
  pO M l0 1 fun b54 _ => pB (f_X2_isBetter (some b54) l1 l3 v53 M) fun r54 M54 =>
  if r54 = 0 then (f_X2_ranks_b82 K4 l0 l1 l2 l3 l4 M54)
  else (pR M54 l0 1 26 fun v61 =>
  pR M54 l0 1 26 fun v67 =>
  pAI M54 v67 0 (l4 - (1 : Int32)) fun v74 =>
  pSI M54 v61 l4 v74 fun M75 =>
  (f_X2_ranks_b37 K4 q) l0 l1 l2 l3 (l4 + (-1 : Int32)) M75))
theorem f_X2_ranks_b37_s (K4 : Option Nat → Int32 → Int32 → Int32 → jW → Option (Int32 × jW)) (q : Nat) (l0 : Option Nat) (l1 : Int32) (l2 : Int32) (l3 : Int32) (l4 : Int32) (M : jW) : f_X2_ranks_b37 K4 (q + 1) l0 l1 l2 l3 l4 M = (if l4 ≤ 0 then (f_X2_ranks_b82 K4 l0 l1 l2 l3 l4 M)
  else (pR M l0 1 26 fun v46 =>
  pAI M v46 0 (l4 - (1 : Int32)) fun v53 =>
  pO M l0 1 fun b54 _ => pB (f_X2_isBetter (some b54) l1 l3 v53 M) fun r54 M54 =>
  if r54 = 0 then (f_X2_ranks_b82 K4 l0 l1 l2 l3 l4 M54)
  else (pR M54 l0 1 26 fun v61 =>
  pR M54 l0 1 26 fun v67 =>
  pAI M54 v67 0 (l4 - (1 : Int32)) fun v74 =>
  pSI M54 v61 l4 v74 fun M75 =>
  (f_X2_ranks_b37 K4 q) l0 l1 l2 l3 (l4 + (-1 : Int32)) M75))) := rfl
set_option maxHeartbeats 4000000 in
theorem w_X2_ranks_b37 {x : jX} (C : jOk x cX2_ranks RX2 rm_X2_ranks (some .int)) (hxn : xn x = 5) {v0 : Int32} {M0 : jW} (hQ : jEnd x rm_X2_ranks (some (jI v0)) M0) {K4 : Option Nat → Int32 → Int32 → Int32 → jW → Option (Int32 × jW)} (hK4 : ∀ (l0 : Option Nat) (l1 : Int32) (l2 : Int32) (l3 : Int32) (M : jW), K4 l0 l1 l2 l3 M = some (v0, M0) → jJ x 4 [(0, jR l0), (1, jI l1), (2, jI l2), (3, jI l3)] [] M 0 0) : ∀ (n37 : Nat) (l0 : Option Nat) (l1 : Int32) (l2 : Int32) (l3 : Int32) (l4 : Int32) (M : jW), f_X2_ranks_b37 K4 n37 l0 l1 l2 l3 l4 M = some (v0, M0) → jJ x 37 [(0, jR l0), (1, jI l1), (2, jI l2), (3, jI l3), (4, jI l4)] [] M 0 0 := by
  intro n37
  induction n37 with
  | zero =>
    intro l0 l1 l2 l3 l4 M hF
    cases hF
  | succ n37 hK37 =>
    intro l0 l1 l2 l3 l4 M hF
    rw [f_X2_ranks_b37_s] at hF
    refine jj_iload C 4 rfl dX2_ranks_37 ?_
    refine jj_if_le (tgt := 82) C dX2_ranks_39 (by decide) hF (fun hF => ?_) (fun hF => ?_)
    · refine jj_sub [0, 1, 2, 3, 4] rfl ?_
      exact w_X2_ranks_b82 C hxn hQ hK4 hF
    · refine jj_aload_n C 0 rfl dX2_ranks_42 rfl ?_
      refine jj_iload_n C 1 rfl dX2_ranks_43 rfl ?_
      refine jj_iload_n C 3 rfl dX2_ranks_44 rfl ?_
      refine jj_aload_n C 0 rfl dX2_ranks_45 rfl ?_
      refine jj_pR (f := 26) C jcs_1 (Nat.le_of_ble_eq_true rfl) (jLk.of C q1259 rfl) dX2_ranks_46 hF (fun v46 hF => ?_)
      refine jj_iload C 4 rfl dX2_ranks_49 ?_
      refine jj_iconst (v := 1) C dX2_ranks_51 (by decide) ?_
      refine jj_isub C dX2_ranks_52 ?_
      refine jj_iald C dX2_ranks_53 hF (fun v53 hF => ?_)
      obtain ⟨b54, fs54, he54, hb54, hF⟩ := pO_spec hF
      obtain ⟨r54, M54, hG, hF⟩ := pB_spec hF
      refine jj_callV (k' := 0) (n' := 0) C [jI l1, jI l3, jI v53] [] [jI r54] he54 (m_X2_isBetter _ _ hG) hb54 rfl q1469 q1471 qs37 q46 q1472 ⟨rfl, hd_X2_isBetter⟩ rfl (Nat.le_of_ble_eq_true rfl) ⟨Nat.le_of_ble_eq_true rfl, Nat.le_of_ble_eq_true rfl⟩ ⟨Nat.le_refl _, Nat.le_refl _, Nat.le_refl _, Nat.le_refl _⟩ dX2_ranks_54 rfl ?_
      refine jj_if_eq (tgt := 82) C dX2_ranks_57 (by decide) hF (fun hF => ?_) (fun hF => ?_)
      · refine jj_sub [0, 1, 2, 3, 4] rfl ?_
        exact w_X2_ranks_b82 C hxn hQ hK4 hF
      · refine jj_aload_n C 0 rfl dX2_ranks_60 rfl ?_
        refine jj_pR (f := 26) C jcs_1 (Nat.le_of_ble_eq_true rfl) (jLk.of C q1259 rfl) dX2_ranks_61 hF (fun v61 hF => ?_)
        refine jj_iload C 4 rfl dX2_ranks_64 ?_
        refine jj_aload_n C 0 rfl dX2_ranks_66 rfl ?_
        refine jj_pR (f := 26) C jcs_1 (Nat.le_of_ble_eq_true rfl) (jLk.of C q1259 rfl) dX2_ranks_67 hF (fun v67 hF => ?_)
        refine jj_iload C 4 rfl dX2_ranks_70 ?_
        refine jj_iconst (v := 1) C dX2_ranks_72 (by decide) ?_
        refine jj_isub C dX2_ranks_73 ?_
        refine jj_iald C dX2_ranks_74 hF (fun v74 hF => ?_)
        refine jj_iast C dX2_ranks_75 hF (fun M75 hF => ?_)
        refine jj_iinc (c := -1) (L' := [(4, jI (l4 + (-1 : Int32))), (0, jR l0), (1, jI l1), (2, jI l2), (3, jI l3)]) C 4 rfl (by decide) rfl (by rw [hxn]; decide) dX2_ranks_76 ?_
        refine jj_goto (tgt := 37) C dX2_ranks_79 (by decide) ?_
        refine jj_sub [1, 2, 3, 4, 0] rfl ?_
        exact hK37 _ _ _ _ _ _ hF
def f_X2_ranks_b4 : Nat → Option Nat → Int32 → Int32 → Int32 → jW → Option (Int32 × jW)
  | 0, _, _, _, _, _ => none
  | q + 1, l0, l1, l2, l3, M => pI M l0 1 0 fun v6 =>
  if v6 ≤ l3 then (some (l2, M))
  else (pR M l0 1 24 fun v13 =>
  pAI M v13 0 l1 fun v17 =>
  pR M l0 1 25 fun v19 =>
  pAI M v19 0 l1 fun v23 =>
  pB (f_X2_has (v17 &&& (v23 ^^^ (-1 : Int32))) l3 M) fun r28 M28 =>
  if r28 = 0 then (f_X2_ranks_b93 (f_X2_ranks_b4 q) l0 l1 l2 l3 M28)
  else (f_X2_ranks_b37 (f_X2_ranks_b4 q) 1000 l0 l1 l2 l3 l2 M28))
theorem f_X2_ranks_b4_s (q : Nat) (l0 : Option Nat) (l1 : Int32) (l2 : Int32) (l3 : Int32) (M : jW) : f_X2_ranks_b4 (q + 1) l0 l1 l2 l3 M = (pI M l0 1 0 fun v6 =>
  if v6 ≤ l3 then (some (l2, M))
  else (pR M l0 1 24 fun v13 =>
  pAI M v13 0 l1 fun v17 =>
  pR M l0 1 25 fun v19 =>
  pAI M v19 0 l1 fun v23 =>
  pB (f_X2_has (v17 &&& (v23 ^^^ (-1 : Int32))) l3 M) fun r28 M28 =>
  if r28 = 0 then (f_X2_ranks_b93 (f_X2_ranks_b4 q) l0 l1 l2 l3 M28)
  else (f_X2_ranks_b37 (f_X2_ranks_b4 q) 1000 l0 l1 l2 l3 l2 M28))) := rfl
set_option maxHeartbeats 4000000 in
theorem w_X2_ranks_b4 {x : jX} (C : jOk x cX2_ranks RX2 rm_X2_ranks (some .int)) (hxn : xn x = 5) {v0 : Int32} {M0 : jW} (hQ : jEnd x rm_X2_ranks (some (jI v0)) M0) : ∀ (n4 : Nat) (l0 : Option Nat) (l1 : Int32) (l2 : Int32) (l3 : Int32) (M : jW), f_X2_ranks_b4 n4 l0 l1 l2 l3 M = some (v0, M0) → jJ x 4 [(0, jR l0), (1, jI l1), (2, jI l2), (3, jI l3)] [] M 0 0 := by
  intro n4
  induction n4 with
  | zero =>
    intro l0 l1 l2 l3 M hF
    cases hF
  | succ n4 hK4 =>
    intro l0 l1 l2 l3 M hF
    rw [f_X2_ranks_b4_s] at hF
    refine jj_iload_n C 3 rfl dX2_ranks_4 rfl ?_
    refine jj_aload_n C 0 rfl dX2_ranks_5 rfl ?_
    refine jj_pI (f := 0) C jcs_1 (Nat.le_of_ble_eq_true rfl) (jLk.of C q1233 rfl) dX2_ranks_6 hF (fun v6 hF => ?_)
    refine jj_icmp_ge (tgt := 99) C dX2_ranks_9 (by decide) hF (fun hF => ?_) (fun hF => ?_)
    · refine jj_iload_n C 2 rfl dX2_ranks_99 rfl ?_
      exact jj_iret C hQ dX2_ranks_100 hF (Nat.zero_le _) (Nat.zero_le _)
    · refine jj_aload_n C 0 rfl dX2_ranks_12 rfl ?_
      refine jj_pR (f := 24) C jcs_1 (Nat.le_of_ble_eq_true rfl) (jLk.of C q1257 rfl) dX2_ranks_13 hF (fun v13 hF => ?_)
      refine jj_iload_n C 1 rfl dX2_ranks_16 rfl ?_
      refine jj_iald C dX2_ranks_17 hF (fun v17 hF => ?_)
      refine jj_aload_n C 0 rfl dX2_ranks_18 rfl ?_
      refine jj_pR (f := 25) C jcs_1 (Nat.le_of_ble_eq_true rfl) (jLk.of C q1258 rfl) dX2_ranks_19 hF (fun v19 hF => ?_)
      refine jj_iload_n C 1 rfl dX2_ranks_22 rfl ?_
      refine jj_iald C dX2_ranks_23 hF (fun v23 hF => ?_)
      refine jj_iconst (v := -1) C dX2_ranks_24 (by decide) ?_
      refine jj_ixor C dX2_ranks_25 ?_
      refine jj_iand C dX2_ranks_26 ?_
      refine jj_iload_n C 3 rfl dX2_ranks_27 rfl ?_
      obtain ⟨r28, M28, hG, hF⟩ := pB_spec hF
      refine jj_callS (k' := 0) (n' := 0) C [jI (v17 &&& (v23 ^^^ (-1 : Int32))), jI l3] [] [jI r28] (m_X2_has _ _ hG) q1353 q1354 q46 q1355 hd_X2_has rfl (Nat.le_of_ble_eq_true rfl) ⟨Nat.le_of_ble_eq_true rfl, Nat.le_of_ble_eq_true rfl⟩ ⟨Nat.le_refl _, Nat.le_refl _, Nat.le_refl _, Nat.le_refl _⟩ dX2_ranks_28 rfl ?_
      refine jj_if_eq (tgt := 93) C dX2_ranks_31 (by decide) hF (fun hF => ?_) (fun hF => ?_)
      · refine jj_sub [0, 1, 2, 3] rfl ?_
        exact w_X2_ranks_b93 C hxn hQ hK4 hF
      · refine jj_iload_n C 2 rfl dX2_ranks_34 rfl ?_
        refine jj_istore (L' := [(4, jI l2), (0, jR l0), (1, jI l1), (2, jI l2), (3, jI l3)]) C rfl (by rw [hxn]; decide) dX2_ranks_35 ?_
        refine jj_sub [1, 2, 3, 4, 0] rfl ?_
        exact w_X2_ranks_b37 C hxn hQ hK4 1000 _ _ _ _ _ _ hF
def f_X2_ranks (a0 : Option Nat) (a1 : Int32) (M : jW) : Option (Int32 × jW) := f_X2_ranks_b4 1000 a0 a1 (0 : Int32) (0 : Int32) M
set_option maxHeartbeats 4000000 in
theorem m_X2_ranks (l : Launch) (g : jG) {a0 : Option Nat} {a1 : Int32} {M M0 : jW} {v0 : Int32} (hF : f_X2_ranks a0 a1 M = some (v0, M0)) : jMet l g yX2_ranks cX2_ranks 5 (some .int) rm_X2_ranks [jR a0, jI a1] M (some (jI v0)) M0 := by
  refine jMet.of (L := [(0, jR a0), (1, jI a1)]) (by decide) rfl (Nat.le_of_ble_eq_true rfl) (fun x C hxn hg hl hQ hin => ?_)
  subst hg
  unfold f_X2_ranks at hF
  refine jj_iconst (v := 0) C dX2_ranks_0 (by decide) ?_
  refine jj_istore_n (L' := [(2, jI (0 : Int32)), (0, jR a0), (1, jI a1)]) C rfl (by rw [hxn]; decide) dX2_ranks_1 rfl ?_
  refine jj_iconst (v := 0) C dX2_ranks_2 (by decide) ?_
  refine jj_istore_n (L' := [(3, jI (0 : Int32)), (2, jI (0 : Int32)), (0, jR a0), (1, jI a1)]) C rfl (by rw [hxn]; decide) dX2_ranks_3 rfl ?_
  refine jj_sub [2, 3, 1, 0] rfl ?_
  exact w_X2_ranks_b4 C hxn hQ 1000 _ _ _ _ _ hF
/-! PhrasehallModel.orderAt(II)I -/
def rm_X2_orderAt : Room := ({ frames := 1, cells := 0, slots := 0, locals := 64 } : Room)
theorem hd_X2_orderAt : yX2_orderAt.cls ≠ "java/lang/invoke/MethodHandle" ∧ yX2_orderAt.cls ≠ "java/lang/invoke/VarHandle" ∧ (parseMethodDescriptor yX2_orderAt.desc).map (fun d => d.parameters.length) = some 2 := ⟨by decide, by decide, by decide +kernel⟩
def f_X2_orderAt_b40 (K7 : Int32 → Int32 → Int32 → Int32 → Int32 → jW → Option (Int32 × jW)) (l0 : Int32) (l1 : Int32) (l3 : Int32) (l4 : Int32) (s0 : Int32) (M : jW) : Option (Int32 × jW) := K7 l0 l1 s0 l3 l4 M
set_option maxHeartbeats 4000000 in
theorem w_X2_orderAt_b40 {x : jX} (C : jOk x cX2_orderAt RX2 rm_X2_orderAt (some .int)) (hxn : xn x = 5) {v0 : Int32} {M0 : jW} (hQ : jEnd x rm_X2_orderAt (some (jI v0)) M0) {K7 : Int32 → Int32 → Int32 → Int32 → Int32 → jW → Option (Int32 × jW)} (hK7 : ∀ (l0 : Int32) (l1 : Int32) (l2 : Int32) (l3 : Int32) (l4 : Int32) (M : jW), K7 l0 l1 l2 l3 l4 M = some (v0, M0) → jJ x 7 [(0, jI l0), (1, jI l1), (2, jI l2), (3, jI l3), (4, jI l4)] [] M 0 0) {l0 : Int32} {l1 : Int32} {l3 : Int32} {l4 : Int32} {s0 : Int32} {M : jW} (hF : f_X2_orderAt_b40 K7 l0 l1 l3 l4 s0 M = some (v0, M0)) : jJ x 40 [(0, jI l0), (1, jI l1), (3, jI l3), (4, jI l4)] [jI s0] M 0 0 := by
  unfold f_X2_orderAt_b40 at hF
  refine jj_istore_n (L' := [(2, jI s0), (0, jI l0), (1, jI l1), (3, jI l3), (4, jI l4)]) C rfl (by rw [hxn]; decide) dX2_orderAt_40 rfl ?_
  refine jj_goto (tgt := 7) C dX2_orderAt_41 (by decide) ?_
  refine jj_sub [1, 2, 0, 3, 4] rfl ?_
  exact hK7 _ _ _ _ _ _ hF
def f_X2_orderAt_b7 : Nat → Int32 → Int32 → Int32 → Int32 → Int32 → jW → Option (Int32 × jW)
  | 0, _, _, _, _, _, _ => none
  | q + 1, l0, l1, l2, l3, l4, M => if l0 ≤ l3 then (some (l2, M))
  else (pLt (l3 * (2 : Int32)) fun t15 =>
  pLt (l4 / (2 : Int32)) fun t20 =>
  pDiv l1 t20 fun t25 =>
  if (t25 - t25 / (2 : Int32) * (2 : Int32)) = 0 then (f_X2_orderAt_b40 (f_X2_orderAt_b7 q) l0 l1 t15 t20 l2 M)
  else (f_X2_orderAt_b40 (f_X2_orderAt_b7 q) l0 l1 t15 t20 ((t15 - (1 : Int32)) - l2) M))
theorem f_X2_orderAt_b7_s (q : Nat) (l0 : Int32) (l1 : Int32) (l2 : Int32) (l3 : Int32) (l4 : Int32) (M : jW) : f_X2_orderAt_b7 (q + 1) l0 l1 l2 l3 l4 M = (if l0 ≤ l3 then (some (l2, M))
  else (pLt (l3 * (2 : Int32)) fun t15 =>
  pLt (l4 / (2 : Int32)) fun t20 =>
  pDiv l1 t20 fun t25 =>
  if (t25 - t25 / (2 : Int32) * (2 : Int32)) = 0 then (f_X2_orderAt_b40 (f_X2_orderAt_b7 q) l0 l1 t15 t20 l2 M)
  else (f_X2_orderAt_b40 (f_X2_orderAt_b7 q) l0 l1 t15 t20 ((t15 - (1 : Int32)) - l2) M))) := rfl
set_option maxHeartbeats 4000000 in
theorem w_X2_orderAt_b7 {x : jX} (C : jOk x cX2_orderAt RX2 rm_X2_orderAt (some .int)) (hxn : xn x = 5) {v0 : Int32} {M0 : jW} (hQ : jEnd x rm_X2_orderAt (some (jI v0)) M0) : ∀ (n7 : Nat) (l0 : Int32) (l1 : Int32) (l2 : Int32) (l3 : Int32) (l4 : Int32) (M : jW), f_X2_orderAt_b7 n7 l0 l1 l2 l3 l4 M = some (v0, M0) → jJ x 7 [(0, jI l0), (1, jI l1), (2, jI l2), (3, jI l3), (4, jI l4)] [] M 0 0 := by
  intro n7
  induction n7 with
  | zero =>
    intro l0 l1 l2 l3 l4 M hF
    cases hF
  | succ n7 hK7 =>
    intro l0 l1 l2 l3 l4 M hF
    rw [f_X2_orderAt_b7_s] at hF
    refine jj_iload_n C 3 rfl dX2_orderAt_7 rfl ?_
    refine jj_iload_n C 0 rfl dX2_orderAt_8 rfl ?_
    refine jj_icmp_ge (tgt := 44) C dX2_orderAt_9 (by decide) hF (fun hF => ?_) (fun hF => ?_)
    · refine jj_iload_n C 2 rfl dX2_orderAt_44 rfl ?_
      exact jj_iret C hQ dX2_orderAt_45 hF (Nat.zero_le _) (Nat.zero_le _)
    · refine jj_iload_n C 3 rfl dX2_orderAt_12 rfl ?_
      refine jj_iconst (v := 2) C dX2_orderAt_13 (by decide) ?_
      refine jj_imul C dX2_orderAt_14 ?_
      refine jj_letI hF (fun t15 hF => ?_)
      refine jj_istore_n (L' := [(3, jI t15), (0, jI l0), (1, jI l1), (2, jI l2), (4, jI l4)]) C rfl (by rw [hxn]; decide) dX2_orderAt_15 rfl ?_
      refine jj_iload C 4 rfl dX2_orderAt_16 ?_
      refine jj_iconst (v := 2) C dX2_orderAt_18 (by decide) ?_
      refine jj_idivL C dX2_orderAt_19 (by decide) ?_
      refine jj_letI hF (fun t20 hF => ?_)
      refine jj_istore (L' := [(4, jI t20), (3, jI t15), (0, jI l0), (1, jI l1), (2, jI l2)]) C rfl (by rw [hxn]; decide) dX2_orderAt_20 ?_
      refine jj_iload_n C 3 rfl dX2_orderAt_22 rfl ?_
      refine jj_iload C 0 rfl dX2_orderAt_23 ?_
      refine jj_idiv C dX2_orderAt_25 hF (fun t25 hF => ?_)
      refine jj_iconst (v := 2) C dX2_orderAt_26 (by decide) ?_
      refine jj_iremL C dX2_orderAt_27 (by decide) ?_
      refine jj_if_ne (tgt := 35) C dX2_orderAt_28 (by decide) hF (fun hF => ?_) (fun hF => ?_)
      · refine jj_iload_n C 1 rfl dX2_orderAt_35 rfl ?_
        refine jj_iconst (v := 1) C dX2_orderAt_36 (by decide) ?_
        refine jj_isub C dX2_orderAt_37 ?_
        refine jj_iload_n C 4 rfl dX2_orderAt_38 rfl ?_
        refine jj_isub C dX2_orderAt_39 ?_
        refine jj_sub [2, 3, 1, 0] rfl ?_
        exact w_X2_orderAt_b40 C hxn hQ hK7 hF
      · refine jj_iload_n C 4 rfl dX2_orderAt_31 rfl ?_
        refine jj_goto (tgt := 40) C dX2_orderAt_32 (by decide) ?_
        refine jj_sub [2, 3, 1, 0] rfl ?_
        exact w_X2_orderAt_b40 C hxn hQ hK7 hF
def f_X2_orderAt (a0 : Int32) (a1 : Int32) (M : jW) : Option (Int32 × jW) := f_X2_orderAt_b7 1000 a0 a1 (0 : Int32) (1 : Int32) a0 M
set_option maxHeartbeats 4000000 in
theorem m_X2_orderAt (l : Launch) (g : jG) {a0 : Int32} {a1 : Int32} {M M0 : jW} {v0 : Int32} (hF : f_X2_orderAt a0 a1 M = some (v0, M0)) : jMet l g yX2_orderAt cX2_orderAt 5 (some .int) rm_X2_orderAt [jI a0, jI a1] M (some (jI v0)) M0 := by
  refine jMet.of (L := [(0, jI a0), (1, jI a1)]) (by decide) rfl (Nat.le_of_ble_eq_true rfl) (fun x C hxn hg hl hQ hin => ?_)
  subst hg
  unfold f_X2_orderAt at hF
  refine jj_iconst (v := 0) C dX2_orderAt_0 (by decide) ?_
  refine jj_istore_n (L' := [(2, jI (0 : Int32)), (0, jI a0), (1, jI a1)]) C rfl (by rw [hxn]; decide) dX2_orderAt_1 rfl ?_
  refine jj_iconst (v := 1) C dX2_orderAt_2 (by decide) ?_
  refine jj_istore_n (L' := [(3, jI (1 : Int32)), (2, jI (0 : Int32)), (0, jI a0), (1, jI a1)]) C rfl (by rw [hxn]; decide) dX2_orderAt_3 rfl ?_
  refine jj_iload_n C 2 rfl dX2_orderAt_4 rfl ?_
  refine jj_istore (L' := [(4, jI a0), (3, jI (1 : Int32)), (2, jI (0 : Int32)), (0, jI a0), (1, jI a1)]) C rfl (by rw [hxn]; decide) dX2_orderAt_5 ?_
  refine jj_sub [3, 4, 2, 1, 0] rfl ?_
  exact w_X2_orderAt_b7 C hxn hQ 1000 _ _ _ _ _ _ hF
/-! PhrasehallModel.rounds(I)I -/
def rm_X2_rounds : Room := ({ frames := 1, cells := 0, slots := 0, locals := 64 } : Room)
theorem hd_X2_rounds : yX2_rounds.cls ≠ "java/lang/invoke/MethodHandle" ∧ yX2_rounds.cls ≠ "java/lang/invoke/VarHandle" ∧ (parseMethodDescriptor yX2_rounds.desc).map (fun d => d.parameters.length) = some 1 := ⟨by decide, by decide, by decide +kernel⟩
def f_X2_rounds (a0 : Int32) (M : jW) : Option (Int32 × jW) := if a0 = (16 : Int32) then (some ((4 : Int32), M))
  else (if a0 = (8 : Int32) then (some ((3 : Int32), M))
  else (if a0 = (4 : Int32) then (some ((2 : Int32), M))
  else (if a0 = (2 : Int32) then (some ((1 : Int32), M))
  else (some ((0 : Int32), M)))))
set_option maxHeartbeats 4000000 in
theorem m_X2_rounds (l : Launch) (g : jG) {a0 : Int32} {M M0 : jW} {v0 : Int32} (hF : f_X2_rounds a0 M = some (v0, M0)) : jMet l g yX2_rounds cX2_rounds 1 (some .int) rm_X2_rounds [jI a0] M (some (jI v0)) M0 := by
  refine jMet.of (L := [(0, jI a0)]) (by decide) rfl (Nat.le_of_ble_eq_true rfl) (fun x C hxn hg hl hQ hin => ?_)
  subst hg
  unfold f_X2_rounds at hF
  refine jj_iload_n C 0 rfl dX2_rounds_0 rfl ?_
  refine jj_bipush (v := 16) C dX2_rounds_1 (by decide) ?_
  refine jj_icmp_ne (tgt := 10) C dX2_rounds_3 (by decide) hF (fun hF => ?_) (fun hF => ?_)
  · refine jj_iload_n C 0 rfl dX2_rounds_10 rfl ?_
    refine jj_bipush (v := 8) C dX2_rounds_11 (by decide) ?_
    refine jj_icmp_ne (tgt := 20) C dX2_rounds_13 (by decide) hF (fun hF => ?_) (fun hF => ?_)
    · refine jj_iload_n C 0 rfl dX2_rounds_20 rfl ?_
      refine jj_iconst (v := 4) C dX2_rounds_21 (by decide) ?_
      refine jj_icmp_ne (tgt := 29) C dX2_rounds_22 (by decide) hF (fun hF => ?_) (fun hF => ?_)
      · refine jj_iload_n C 0 rfl dX2_rounds_29 rfl ?_
        refine jj_iconst (v := 2) C dX2_rounds_30 (by decide) ?_
        refine jj_icmp_ne (tgt := 38) C dX2_rounds_31 (by decide) hF (fun hF => ?_) (fun hF => ?_)
        · refine jj_iconst (v := 0) C dX2_rounds_38 (by decide) ?_
          exact jj_iret C hQ dX2_rounds_39 hF (Nat.zero_le _) (Nat.zero_le _)
        · refine jj_iconst (v := 1) C dX2_rounds_34 (by decide) ?_
          refine jj_goto (tgt := 39) C dX2_rounds_35 (by decide) ?_
          exact jj_iret C hQ dX2_rounds_39 hF (Nat.zero_le _) (Nat.zero_le _)
      · refine jj_iconst (v := 2) C dX2_rounds_25 (by decide) ?_
        refine jj_goto (tgt := 39) C dX2_rounds_26 (by decide) ?_
        exact jj_iret C hQ dX2_rounds_39 hF (Nat.zero_le _) (Nat.zero_le _)
    · refine jj_iconst (v := 3) C dX2_rounds_16 (by decide) ?_
      refine jj_goto (tgt := 39) C dX2_rounds_17 (by decide) ?_
      exact jj_iret C hQ dX2_rounds_39 hF (Nat.zero_le _) (Nat.zero_le _)
  · refine jj_iconst (v := 4) C dX2_rounds_6 (by decide) ?_
    refine jj_goto (tgt := 39) C dX2_rounds_7 (by decide) ?_
    exact jj_iret C hQ dX2_rounds_39 hF (Nat.zero_le _) (Nat.zero_le _)
/-! PhrasehallModel.isWon(III)V -/
def rm_X2_isWon : Room := ({ frames := 2, cells := 0, slots := 0, locals := 84 } : Room)
theorem hd_X2_isWon : yX2_isWon.cls ≠ "java/lang/invoke/MethodHandle" ∧ yX2_isWon.cls ≠ "java/lang/invoke/VarHandle" ∧ (parseMethodDescriptor yX2_isWon.desc).map (fun d => d.parameters.length) = some 3 := ⟨by decide, by decide, by decide +kernel⟩
def f_X2_isWon (a0 : Option Nat) (a1 : Int32) (a2 : Int32) (a3 : Int32) (M : jW) : Option (Unit × jW) := pR M a0 1 29 fun v1 =>
  pSI M v1 (((16 : Int32) * a1) + a2) a3 fun M11 =>
  pI M11 a0 1 27 fun v16 =>
  pB (f_X2_rounds v16 M11) fun r19 M19 =>
  if r19 ≤ (a1 + (1 : Int32)) then (some ((), M19))
  else (pR M19 a0 1 28 fun v26 =>
  pSI M19 v26 (((32 : Int32) * (a1 + (1 : Int32))) + a2) a3 fun M38 =>
  some ((), M38))
set_option maxHeartbeats 4000000 in
theorem m_X2_isWon (l : Launch) (g : jG) {a0 : Option Nat} {a1 : Int32} {a2 : Int32} {a3 : Int32} {M M0 : jW} {v0 : Unit} (hF : f_X2_isWon a0 a1 a2 a3 M = some (v0, M0)) : jMet l g yX2_isWon cX2_isWon 4 none rm_X2_isWon [jR a0, jI a1, jI a2, jI a3] M none M0 := by
  refine jMet.of (L := [(0, jR a0), (1, jI a1), (2, jI a2), (3, jI a3)]) (by decide) rfl (Nat.le_of_ble_eq_true rfl) (fun x C hxn hg hl hQ hin => ?_)
  subst hg
  unfold f_X2_isWon at hF
  refine jj_aload_n C 0 rfl dX2_isWon_0 rfl ?_
  refine jj_pR (f := 29) C jcs_1 (Nat.le_of_ble_eq_true rfl) (jLk.of C q1262 rfl) dX2_isWon_1 hF (fun v1 hF => ?_)
  refine jj_bipush (v := 16) C dX2_isWon_4 (by decide) ?_
  refine jj_iload_n C 1 rfl dX2_isWon_6 rfl ?_
  refine jj_imul C dX2_isWon_7 ?_
  refine jj_iload_n C 2 rfl dX2_isWon_8 rfl ?_
  refine jj_iadd C dX2_isWon_9 ?_
  refine jj_iload_n C 3 rfl dX2_isWon_10 rfl ?_
  refine jj_iast C dX2_isWon_11 hF (fun M11 hF => ?_)
  refine jj_iload_n C 1 rfl dX2_isWon_12 rfl ?_
  refine jj_iconst (v := 1) C dX2_isWon_13 (by decide) ?_
  refine jj_iadd C dX2_isWon_14 ?_
  refine jj_aload_n C 0 rfl dX2_isWon_15 rfl ?_
  refine jj_pI (f := 27) C jcs_1 (Nat.le_of_ble_eq_true rfl) (jLk.of C q1260 rfl) dX2_isWon_16 hF (fun v16 hF => ?_)
  obtain ⟨r19, M19, hG, hF⟩ := pB_spec hF
  refine jj_callS (k' := 0) (n' := 0) C [jI v16] [jI (a1 + (1 : Int32))] [jI r19, jI (a1 + (1 : Int32))] (m_X2_rounds _ _ hG) q1480 q1481 q46 q1482 hd_X2_rounds rfl (Nat.le_of_ble_eq_true rfl) ⟨Nat.le_of_ble_eq_true rfl, Nat.le_of_ble_eq_true rfl⟩ ⟨Nat.le_refl _, Nat.le_refl _, Nat.le_refl _, Nat.le_refl _⟩ dX2_isWon_19 rfl ?_
  refine jj_icmp_ge (tgt := 39) C dX2_isWon_22 (by decide) hF (fun hF => ?_) (fun hF => ?_)
  · exact jj_vret C hQ dX2_isWon_39 hF (Nat.zero_le _) (Nat.zero_le _)
  · refine jj_aload_n C 0 rfl dX2_isWon_25 rfl ?_
    refine jj_pR (f := 28) C jcs_1 (Nat.le_of_ble_eq_true rfl) (jLk.of C q1261 rfl) dX2_isWon_26 hF (fun v26 hF => ?_)
    refine jj_bipush (v := 32) C dX2_isWon_29 (by decide) ?_
    refine jj_iload_n C 1 rfl dX2_isWon_31 rfl ?_
    refine jj_iconst (v := 1) C dX2_isWon_32 (by decide) ?_
    refine jj_iadd C dX2_isWon_33 ?_
    refine jj_imul C dX2_isWon_34 ?_
    refine jj_iload_n C 2 rfl dX2_isWon_35 rfl ?_
    refine jj_iadd C dX2_isWon_36 ?_
    refine jj_iload_n C 3 rfl dX2_isWon_37 rfl ?_
    refine jj_iast C dX2_isWon_38 hF (fun M38 hF => ?_)
    exact jj_vret C hQ dX2_isWon_39 hF (Nat.zero_le _) (Nat.zero_le _)
