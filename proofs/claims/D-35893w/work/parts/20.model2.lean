set_option maxRecDepth 100000
/-! PhrasehallModel.least(I)I -/
def rm_X2_least : Room := ({ frames := 1, cells := 0, slots := 0, locals := 64 } : Room)
theorem hd_X2_least : yX2_least.cls ≠ "java/lang/invoke/MethodHandle" ∧ yX2_least.cls ≠ "java/lang/invoke/VarHandle" ∧ (parseMethodDescriptor yX2_least.desc).map (fun d => d.parameters.length) = some 1 := ⟨by decide, by decide, by decide +kernel⟩
def f_X2_least (a0 : Int32) (M : jW) : Option (Int32 × jW) := if a0 = 0 then (some ((14 : Int32), M))
  else (if a0 = (1 : Int32) then (some ((2 : Int32), M))
  else (some ((1 : Int32), M)))
set_option maxHeartbeats 4000000 in
theorem m_X2_least (l : Launch) (g : jG) {a0 : Int32} {M M0 : jW} {v0 : Int32} (hF : f_X2_least a0 M = some (v0, M0)) : jMet l g yX2_least cX2_least 1 (some .int) rm_X2_least [jI a0] M (some (jI v0)) M0 := by
  refine jMet.of (L := [(0, jI a0)]) (by decide) rfl (Nat.le_of_ble_eq_true rfl) (fun x C hxn hg hl hQ hin => ?_)
  subst hg
  unfold f_X2_least at hF
  refine jj_iload_n C 0 rfl dX2_least_0 rfl ?_
  refine jj_if_ne (tgt := 9) C dX2_least_1 (by decide) hF (fun hF => ?_) (fun hF => ?_)
  · refine jj_iload_n C 0 rfl dX2_least_9 rfl ?_
    refine jj_iconst (v := 1) C dX2_least_10 (by decide) ?_
    refine jj_icmp_ne (tgt := 18) C dX2_least_11 (by decide) hF (fun hF => ?_) (fun hF => ?_)
    · refine jj_iconst (v := 1) C dX2_least_18 (by decide) ?_
      exact jj_iret C hQ dX2_least_19 hF (Nat.zero_le _) (Nat.zero_le _)
    · refine jj_iconst (v := 2) C dX2_least_14 (by decide) ?_
      refine jj_goto (tgt := 19) C dX2_least_15 (by decide) ?_
      exact jj_iret C hQ dX2_least_19 hF (Nat.zero_le _) (Nat.zero_le _)
  · refine jj_bipush (v := 14) C dX2_least_4 (by decide) ?_
    refine jj_goto (tgt := 19) C dX2_least_6 (by decide) ?_
    exact jj_iret C hQ dX2_least_19 hF (Nat.zero_le _) (Nat.zero_le _)
/-! PhrasehallModel.locks(I)I -/
def rm_X2_locks : Room := ({ frames := 1, cells := 0, slots := 0, locals := 64 } : Room)
theorem hd_X2_locks : yX2_locks.cls ≠ "java/lang/invoke/MethodHandle" ∧ yX2_locks.cls ≠ "java/lang/invoke/VarHandle" ∧ (parseMethodDescriptor yX2_locks.desc).map (fun d => d.parameters.length) = some 1 := ⟨by decide, by decide, by decide +kernel⟩
def f_X2_locks (a0 : Int32) (M : jW) : Option (Int32 × jW) := if a0 = 0 then (some ((300 : Int32), M))
  else (if a0 = (1 : Int32) then (some ((45 : Int32), M))
  else (some ((170 : Int32), M)))
set_option maxHeartbeats 4000000 in
theorem m_X2_locks (l : Launch) (g : jG) {a0 : Int32} {M M0 : jW} {v0 : Int32} (hF : f_X2_locks a0 M = some (v0, M0)) : jMet l g yX2_locks cX2_locks 1 (some .int) rm_X2_locks [jI a0] M (some (jI v0)) M0 := by
  refine jMet.of (L := [(0, jI a0)]) (by decide) rfl (Nat.le_of_ble_eq_true rfl) (fun x C hxn hg hl hQ hin => ?_)
  subst hg
  unfold f_X2_locks at hF
  refine jj_iload_n C 0 rfl dX2_locks_0 rfl ?_
  refine jj_if_ne (tgt := 10) C dX2_locks_1 (by decide) hF (fun hF => ?_) (fun hF => ?_)
  · refine jj_iload_n C 0 rfl dX2_locks_10 rfl ?_
    refine jj_iconst (v := 1) C dX2_locks_11 (by decide) ?_
    refine jj_icmp_ne (tgt := 20) C dX2_locks_12 (by decide) hF (fun hF => ?_) (fun hF => ?_)
    · refine jj_sipush (v := 170) C dX2_locks_20 (by decide) ?_
      exact jj_iret C hQ dX2_locks_23 hF (Nat.zero_le _) (Nat.zero_le _)
    · refine jj_bipush (v := 45) C dX2_locks_15 (by decide) ?_
      refine jj_goto (tgt := 23) C dX2_locks_17 (by decide) ?_
      exact jj_iret C hQ dX2_locks_23 hF (Nat.zero_le _) (Nat.zero_le _)
  · refine jj_sipush (v := 300) C dX2_locks_4 (by decide) ?_
    refine jj_goto (tgt := 23) C dX2_locks_7 (by decide) ?_
    exact jj_iret C hQ dX2_locks_23 hF (Nat.zero_le _) (Nat.zero_le _)
/-! PhrasehallModel.registered(I)I -/
def rm_X2_registered : Room := ({ frames := 2, cells := 0, slots := 0, locals := 84 } : Room)
theorem hd_X2_registered : yX2_registered.cls ≠ "java/lang/invoke/MethodHandle" ∧ yX2_registered.cls ≠ "java/lang/invoke/VarHandle" ∧ (parseMethodDescriptor yX2_registered.desc).map (fun d => d.parameters.length) = some 1 := ⟨by decide, by decide, by decide +kernel⟩
def f_X2_registered_b210 (K28 : Option Nat → Int32 → Int32 → Int32 → Int32 → Int32 → jW → Option (Int32 × jW)) (l0 : Option Nat) (l1 : Int32) (l2 : Int32) (l3 : Int32) (l4 : Int32) (l5 : Int32) (M : jW) : Option (Int32 × jW) := K28 l0 l1 l2 l3 l4 (l5 + (1 : Int32)) M
set_option maxHeartbeats 4000000 in
theorem w_X2_registered_b210 {x : jX} (C : jOk x cX2_registered RX2 rm_X2_registered (some .int)) (hxn : xn x = 9) {v0 : Int32} {M0 : jW} (hQ : jEnd x rm_X2_registered (some (jI v0)) M0) {K28 : Option Nat → Int32 → Int32 → Int32 → Int32 → Int32 → jW → Option (Int32 × jW)} (hK28 : ∀ (l0 : Option Nat) (l1 : Int32) (l2 : Int32) (l3 : Int32) (l4 : Int32) (l5 : Int32) (M : jW), K28 l0 l1 l2 l3 l4 l5 M = some (v0, M0) → jJ x 28 [(0, jR l0), (1, jI l1), (2, jI l2), (3, jI l3), (4, jI l4), (5, jI l5)] [] M 0 0) {l0 : Option Nat} {l1 : Int32} {l2 : Int32} {l3 : Int32} {l4 : Int32} {l5 : Int32} {M : jW} (hF : f_X2_registered_b210 K28 l0 l1 l2 l3 l4 l5 M = some (v0, M0)) : jJ x 210 [(0, jR l0), (1, jI l1), (2, jI l2), (3, jI l3), (4, jI l4), (5, jI l5)] [] M 0 0 := by
  unfold f_X2_registered_b210 at hF
  refine jj_iinc (c := 1) (L' := [(5, jI (l5 + (1 : Int32))), (0, jR l0), (1, jI l1), (2, jI l2), (3, jI l3), (4, jI l4)]) C 5 rfl (by decide) rfl (by rw [hxn]; decide) dX2_registered_210 ?_
  refine jj_goto (tgt := 28) C dX2_registered_213 (by decide) ?_
  refine jj_sub [1, 2, 3, 4, 5, 0] rfl ?_
  exact hK28 _ _ _ _ _ _ _ hF
def f_X2_registered_b208 (K28 : Option Nat → Int32 → Int32 → Int32 → Int32 → Int32 → jW → Option (Int32 × jW)) (l0 : Option Nat) (l1 : Int32) (l2 : Int32) (l3 : Int32) (l5 : Int32) (s0 : Int32) (M : jW) : Option (Int32 × jW) := f_X2_registered_b210 K28 l0 l1 l2 l3 s0 l5 M
set_option maxHeartbeats 4000000 in
theorem w_X2_registered_b208 {x : jX} (C : jOk x cX2_registered RX2 rm_X2_registered (some .int)) (hxn : xn x = 9) {v0 : Int32} {M0 : jW} (hQ : jEnd x rm_X2_registered (some (jI v0)) M0) {K28 : Option Nat → Int32 → Int32 → Int32 → Int32 → Int32 → jW → Option (Int32 × jW)} (hK28 : ∀ (l0 : Option Nat) (l1 : Int32) (l2 : Int32) (l3 : Int32) (l4 : Int32) (l5 : Int32) (M : jW), K28 l0 l1 l2 l3 l4 l5 M = some (v0, M0) → jJ x 28 [(0, jR l0), (1, jI l1), (2, jI l2), (3, jI l3), (4, jI l4), (5, jI l5)] [] M 0 0) {l0 : Option Nat} {l1 : Int32} {l2 : Int32} {l3 : Int32} {l5 : Int32} {s0 : Int32} {M : jW} (hF : f_X2_registered_b208 K28 l0 l1 l2 l3 l5 s0 M = some (v0, M0)) : jJ x 208 [(0, jR l0), (1, jI l1), (2, jI l2), (3, jI l3), (5, jI l5)] [jI s0] M 0 0 := by
  unfold f_X2_registered_b208 at hF
  refine jj_istore (L' := [(4, jI s0), (0, jR l0), (1, jI l1), (2, jI l2), (3, jI l3), (5, jI l5)]) C rfl (by rw [hxn]; decide) dX2_registered_208 ?_
  refine jj_sub [1, 2, 3, 4, 0, 5] rfl ?_
  exact w_X2_registered_b210 C hxn hQ hK28 hF
def f_X2_registered_b189 (K28 : Option Nat → Int32 → Int32 → Int32 → Int32 → Int32 → jW → Option (Int32 × jW)) (l0 : Option Nat) (l1 : Int32) (l2 : Int32) (l4 : Int32) (l5 : Int32) (s0 : Int32) (M : jW) : Option (Int32 × jW) := pR M l0 1 18 fun v191 =>
  pAI M v191 0 l5 fun v196 =>
  if v196 = (1 : Int32) then (f_X2_registered_b208 K28 l0 l1 l2 s0 l5 l5 M)
  else (f_X2_registered_b208 K28 l0 l1 l2 s0 l5 l4 M)
set_option maxHeartbeats 4000000 in
theorem w_X2_registered_b189 {x : jX} (C : jOk x cX2_registered RX2 rm_X2_registered (some .int)) (hxn : xn x = 9) {v0 : Int32} {M0 : jW} (hQ : jEnd x rm_X2_registered (some (jI v0)) M0) {K28 : Option Nat → Int32 → Int32 → Int32 → Int32 → Int32 → jW → Option (Int32 × jW)} (hK28 : ∀ (l0 : Option Nat) (l1 : Int32) (l2 : Int32) (l3 : Int32) (l4 : Int32) (l5 : Int32) (M : jW), K28 l0 l1 l2 l3 l4 l5 M = some (v0, M0) → jJ x 28 [(0, jR l0), (1, jI l1), (2, jI l2), (3, jI l3), (4, jI l4), (5, jI l5)] [] M 0 0) {l0 : Option Nat} {l1 : Int32} {l2 : Int32} {l4 : Int32} {l5 : Int32} {s0 : Int32} {M : jW} (hF : f_X2_registered_b189 K28 l0 l1 l2 l4 l5 s0 M = some (v0, M0)) : jJ x 189 [(0, jR l0), (1, jI l1), (2, jI l2), (4, jI l4), (5, jI l5)] [jI s0] M 0 0 := by
  unfold f_X2_registered_b189 at hF
  refine jj_istore_n (L' := [(3, jI s0), (0, jR l0), (1, jI l1), (2, jI l2), (4, jI l4), (5, jI l5)]) C rfl (by rw [hxn]; decide) dX2_registered_189 rfl ?_
  refine jj_aload_n C 1 rfl dX2_registered_190 rfl ?_
  refine jj_pR (f := 18) C jcs_1 (Nat.le_of_ble_eq_true rfl) (jLk.of C q1251 rfl) dX2_registered_191 hF (fun v191 hF => ?_)
  refine jj_iload C 5 rfl dX2_registered_194 ?_
  refine jj_iald C dX2_registered_196 hF (fun v196 hF => ?_)
  refine jj_iconst (v := 1) C dX2_registered_197 (by decide) ?_
  refine jj_icmp_ne (tgt := 206) C dX2_registered_198 (by decide) hF (fun hF => ?_) (fun hF => ?_)
  · refine jj_iload C 4 rfl dX2_registered_206 ?_
    refine jj_sub [1, 2, 3, 0, 5] rfl ?_
    exact w_X2_registered_b208 C hxn hQ hK28 hF
  · refine jj_iload C 5 rfl dX2_registered_201 ?_
    refine jj_goto (tgt := 208) C dX2_registered_203 (by decide) ?_
    refine jj_sub [1, 2, 3, 0, 5] rfl ?_
    exact w_X2_registered_b208 C hxn hQ hK28 hF
def f_X2_registered_b173 (K28 : Option Nat → Int32 → Int32 → Int32 → Int32 → Int32 → jW → Option (Int32 × jW)) (l0 : Option Nat) (l1 : Int32) (l2 : Int32) (l3 : Int32) (l4 : Int32) (l5 : Int32) (M : jW) : Option (Int32 × jW) := pR M l0 1 18 fun v174 =>
  pAI M v174 0 l5 fun v179 =>
  if v179 = 0 then (f_X2_registered_b189 K28 l0 l1 l2 l4 l5 l5 M)
  else (f_X2_registered_b189 K28 l0 l1 l2 l4 l5 l3 M)
set_option maxHeartbeats 4000000 in
theorem w_X2_registered_b173 {x : jX} (C : jOk x cX2_registered RX2 rm_X2_registered (some .int)) (hxn : xn x = 9) {v0 : Int32} {M0 : jW} (hQ : jEnd x rm_X2_registered (some (jI v0)) M0) {K28 : Option Nat → Int32 → Int32 → Int32 → Int32 → Int32 → jW → Option (Int32 × jW)} (hK28 : ∀ (l0 : Option Nat) (l1 : Int32) (l2 : Int32) (l3 : Int32) (l4 : Int32) (l5 : Int32) (M : jW), K28 l0 l1 l2 l3 l4 l5 M = some (v0, M0) → jJ x 28 [(0, jR l0), (1, jI l1), (2, jI l2), (3, jI l3), (4, jI l4), (5, jI l5)] [] M 0 0) {l0 : Option Nat} {l1 : Int32} {l2 : Int32} {l3 : Int32} {l4 : Int32} {l5 : Int32} {M : jW} (hF : f_X2_registered_b173 K28 l0 l1 l2 l3 l4 l5 M = some (v0, M0)) : jJ x 173 [(0, jR l0), (1, jI l1), (2, jI l2), (3, jI l3), (4, jI l4), (5, jI l5)] [] M 0 0 := by
  unfold f_X2_registered_b173 at hF
  refine jj_aload_n C 0 rfl dX2_registered_173 rfl ?_
  refine jj_pR (f := 18) C jcs_1 (Nat.le_of_ble_eq_true rfl) (jLk.of C q1251 rfl) dX2_registered_174 hF (fun v174 hF => ?_)
  refine jj_iload C 5 rfl dX2_registered_177 ?_
  refine jj_iald C dX2_registered_179 hF (fun v179 hF => ?_)
  refine jj_if_ne (tgt := 188) C dX2_registered_180 (by decide) hF (fun hF => ?_) (fun hF => ?_)
  · refine jj_iload_n C 3 rfl dX2_registered_188 rfl ?_
    refine jj_sub [0, 1, 2, 4, 5] rfl ?_
    exact w_X2_registered_b189 C hxn hQ hK28 hF
  · refine jj_iload C 5 rfl dX2_registered_183 ?_
    refine jj_goto (tgt := 189) C dX2_registered_185 (by decide) ?_
    refine jj_sub [0, 1, 2, 4, 5] rfl ?_
    exact w_X2_registered_b189 C hxn hQ hK28 hF
def f_X2_registered_b133 (K28 : Option Nat → Int32 → Int32 → Int32 → Int32 → Int32 → jW → Option (Int32 × jW)) (l0 : Option Nat) (l1 : Int32) (l2 : Int32) (l3 : Int32) (l4 : Int32) (l5 : Int32) (l6 : Int32) (l7 : Int32) (s0 : Int32) (M : jW) : Option (Int32 × jW) := if l6 = 0 then (f_X2_registered_b210 K28 l0 l1 l2 l3 l4 l5 M)
  else (if s0 = 0 then (f_X2_registered_b210 K28 l0 l1 l2 l3 l4 l5 M)
  else (if l7 = (-1 : Int32) then (f_X2_registered_b173 K28 l0 l1 l2 l3 l4 l5 M)
  else (pR M l0 1 20 fun v152 =>
  pAI M v152 0 l5 fun v157 =>
  pR M l0 1 20 fun v159 =>
  pAI M v159 0 l7 fun v164 =>
  pB (f_X2_locks l2 M) fun r167 M167 =>
  if r167 < (v157 - v164) then (f_X2_registered_b210 K28 l0 l1 l2 l3 l4 l5 M167)
  else (f_X2_registered_b173 K28 l0 l1 l2 l3 l4 l5 M167))))
set_option maxHeartbeats 4000000 in
theorem w_X2_registered_b133 {x : jX} (C : jOk x cX2_registered RX2 rm_X2_registered (some .int)) (hxn : xn x = 9) {v0 : Int32} {M0 : jW} (hQ : jEnd x rm_X2_registered (some (jI v0)) M0) {K28 : Option Nat → Int32 → Int32 → Int32 → Int32 → Int32 → jW → Option (Int32 × jW)} (hK28 : ∀ (l0 : Option Nat) (l1 : Int32) (l2 : Int32) (l3 : Int32) (l4 : Int32) (l5 : Int32) (M : jW), K28 l0 l1 l2 l3 l4 l5 M = some (v0, M0) → jJ x 28 [(0, jR l0), (1, jI l1), (2, jI l2), (3, jI l3), (4, jI l4), (5, jI l5)] [] M 0 0) {l0 : Option Nat} {l1 : Int32} {l2 : Int32} {l3 : Int32} {l4 : Int32} {l5 : Int32} {l6 : Int32} {l7 : Int32} {s0 : Int32} {M : jW} (hF : f_X2_registered_b133 K28 l0 l1 l2 l3 l4 l5 l6 l7 s0 M = some (v0, M0)) : jJ x 133 [(0, jR l0), (1, jI l1), (2, jI l2), (3, jI l3), (4, jI l4), (5, jI l5), (6, jI l6), (7, jI l7)] [jI s0] M 0 0 := by
  unfold f_X2_registered_b133 at hF
  refine jj_istore (L' := [(8, jI s0), (0, jR l0), (1, jI l1), (2, jI l2), (3, jI l3), (4, jI l4), (5, jI l5), (6, jI l6), (7, jI l7)]) C rfl (by rw [hxn]; decide) dX2_registered_133 ?_
  refine jj_iload C 7 rfl dX2_registered_135 ?_
  refine jj_if_eq (tgt := 210) C dX2_registered_137 (by decide) hF (fun hF => ?_) (fun hF => ?_)
  · refine jj_sub [1, 2, 3, 4, 5, 6] rfl ?_
    exact w_X2_registered_b210 C hxn hQ hK28 hF
  · refine jj_iload C 0 rfl dX2_registered_140 ?_
    refine jj_if_eq (tgt := 210) C dX2_registered_142 (by decide) hF (fun hF => ?_) (fun hF => ?_)
    · refine jj_sub [1, 2, 3, 4, 5, 6] rfl ?_
      exact w_X2_registered_b210 C hxn hQ hK28 hF
    · refine jj_iload C 8 rfl dX2_registered_145 ?_
      refine jj_iconst (v := -1) C dX2_registered_147 (by decide) ?_
      refine jj_icmp_eq (tgt := 173) C dX2_registered_148 (by decide) hF (fun hF => ?_) (fun hF => ?_)
      · refine jj_sub [1, 2, 3, 4, 5, 6] rfl ?_
        exact w_X2_registered_b173 C hxn hQ hK28 hF
      · refine jj_aload_n C 1 rfl dX2_registered_151 rfl ?_
        refine jj_pR (f := 20) C jcs_1 (Nat.le_of_ble_eq_true rfl) (jLk.of C q1253 rfl) dX2_registered_152 hF (fun v152 hF => ?_)
        refine jj_iload C 6 rfl dX2_registered_155 ?_
        refine jj_iald C dX2_registered_157 hF (fun v157 hF => ?_)
        refine jj_aload_n C 1 rfl dX2_registered_158 rfl ?_
        refine jj_pR (f := 20) C jcs_1 (Nat.le_of_ble_eq_true rfl) (jLk.of C q1253 rfl) dX2_registered_159 hF (fun v159 hF => ?_)
        refine jj_iload C 8 rfl dX2_registered_162 ?_
        refine jj_iald C dX2_registered_164 hF (fun v164 hF => ?_)
        refine jj_isub C dX2_registered_165 ?_
        refine jj_iload_n C 3 rfl dX2_registered_166 rfl ?_
        obtain ⟨r167, M167, hG, hF⟩ := pB_spec hF
        refine jj_callS (k' := 0) (n' := 0) C [jI l2] [jI (v157 - v164)] [jI r167, jI (v157 - v164)] (m_X2_locks _ _ hG) q1391 q1392 q46 q1393 hd_X2_locks rfl (Nat.le_of_ble_eq_true rfl) ⟨Nat.le_of_ble_eq_true rfl, Nat.le_of_ble_eq_true rfl⟩ ⟨Nat.le_refl _, Nat.le_refl _, Nat.le_refl _, Nat.le_refl _⟩ dX2_registered_167 rfl ?_
        refine jj_icmp_gt (tgt := 210) C dX2_registered_170 (by decide) hF (fun hF => ?_) (fun hF => ?_)
        · refine jj_sub [1, 2, 3, 4, 5, 6] rfl ?_
          exact w_X2_registered_b210 C hxn hQ hK28 hF
        · refine jj_sub [1, 2, 3, 4, 5, 6] rfl ?_
          exact w_X2_registered_b173 C hxn hQ hK28 hF
def f_X2_registered_b124 (K28 : Option Nat → Int32 → Int32 → Int32 → Int32 → Int32 → jW → Option (Int32 × jW)) (l0 : Option Nat) (l1 : Int32) (l2 : Int32) (l3 : Int32) (l4 : Int32) (l5 : Int32) (l6 : Int32) (l7 : Int32) (s0 : Int32) (M : jW) : Option (Int32 × jW) := if s0 = (-1 : Int32) then (f_X2_registered_b133 K28 l0 l1 l2 l3 l4 l5 l6 l7 (1 : Int32) M)
  else (f_X2_registered_b133 K28 l0 l1 l2 l3 l4 l5 l6 l7 (0 : Int32) M)
set_option maxHeartbeats 4000000 in
theorem w_X2_registered_b124 {x : jX} (C : jOk x cX2_registered RX2 rm_X2_registered (some .int)) (hxn : xn x = 9) {v0 : Int32} {M0 : jW} (hQ : jEnd x rm_X2_registered (some (jI v0)) M0) {K28 : Option Nat → Int32 → Int32 → Int32 → Int32 → Int32 → jW → Option (Int32 × jW)} (hK28 : ∀ (l0 : Option Nat) (l1 : Int32) (l2 : Int32) (l3 : Int32) (l4 : Int32) (l5 : Int32) (M : jW), K28 l0 l1 l2 l3 l4 l5 M = some (v0, M0) → jJ x 28 [(0, jR l0), (1, jI l1), (2, jI l2), (3, jI l3), (4, jI l4), (5, jI l5)] [] M 0 0) {l0 : Option Nat} {l1 : Int32} {l2 : Int32} {l3 : Int32} {l4 : Int32} {l5 : Int32} {l6 : Int32} {l7 : Int32} {s0 : Int32} {M : jW} (hF : f_X2_registered_b124 K28 l0 l1 l2 l3 l4 l5 l6 l7 s0 M = some (v0, M0)) : jJ x 124 [(0, jR l0), (1, jI l1), (2, jI l2), (3, jI l3), (4, jI l4), (5, jI l5), (6, jI l6), (7, jI l7)] [jI s0] M 0 0 := by
  unfold f_X2_registered_b124 at hF
  refine jj_iconst (v := -1) C dX2_registered_124 (by decide) ?_
  refine jj_icmp_ne (tgt := 132) C dX2_registered_125 (by decide) hF (fun hF => ?_) (fun hF => ?_)
  · refine jj_iconst (v := 0) C dX2_registered_132 (by decide) ?_
    refine jj_sub [0, 1, 2, 3, 4, 5, 6, 7] rfl ?_
    exact w_X2_registered_b133 C hxn hQ hK28 hF
  · refine jj_iconst (v := 1) C dX2_registered_128 (by decide) ?_
    refine jj_goto (tgt := 133) C dX2_registered_129 (by decide) ?_
    refine jj_sub [0, 1, 2, 3, 4, 5, 6, 7] rfl ?_
    exact w_X2_registered_b133 C hxn hQ hK28 hF
def f_X2_registered_b106 (K28 : Option Nat → Int32 → Int32 → Int32 → Int32 → Int32 → jW → Option (Int32 × jW)) (l0 : Option Nat) (l1 : Int32) (l2 : Int32) (l3 : Int32) (l4 : Int32) (l5 : Int32) (l6 : Int32) (s0 : Int32) (M : jW) : Option (Int32 × jW) := pR M l0 1 18 fun v109 =>
  pAI M v109 0 l5 fun v114 =>
  if v114 = 0 then (f_X2_registered_b124 K28 l0 l1 l2 l3 l4 l5 l6 s0 l3 M)
  else (f_X2_registered_b124 K28 l0 l1 l2 l3 l4 l5 l6 s0 l4 M)
set_option maxHeartbeats 4000000 in
theorem w_X2_registered_b106 {x : jX} (C : jOk x cX2_registered RX2 rm_X2_registered (some .int)) (hxn : xn x = 9) {v0 : Int32} {M0 : jW} (hQ : jEnd x rm_X2_registered (some (jI v0)) M0) {K28 : Option Nat → Int32 → Int32 → Int32 → Int32 → Int32 → jW → Option (Int32 × jW)} (hK28 : ∀ (l0 : Option Nat) (l1 : Int32) (l2 : Int32) (l3 : Int32) (l4 : Int32) (l5 : Int32) (M : jW), K28 l0 l1 l2 l3 l4 l5 M = some (v0, M0) → jJ x 28 [(0, jR l0), (1, jI l1), (2, jI l2), (3, jI l3), (4, jI l4), (5, jI l5)] [] M 0 0) {l0 : Option Nat} {l1 : Int32} {l2 : Int32} {l3 : Int32} {l4 : Int32} {l5 : Int32} {l6 : Int32} {s0 : Int32} {M : jW} (hF : f_X2_registered_b106 K28 l0 l1 l2 l3 l4 l5 l6 s0 M = some (v0, M0)) : jJ x 106 [(0, jR l0), (1, jI l1), (2, jI l2), (3, jI l3), (4, jI l4), (5, jI l5), (6, jI l6)] [jI s0] M 0 0 := by
  unfold f_X2_registered_b106 at hF
  refine jj_istore (L' := [(7, jI s0), (0, jR l0), (1, jI l1), (2, jI l2), (3, jI l3), (4, jI l4), (5, jI l5), (6, jI l6)]) C rfl (by rw [hxn]; decide) dX2_registered_106 ?_
  refine jj_aload_n C 1 rfl dX2_registered_108 rfl ?_
  refine jj_pR (f := 18) C jcs_1 (Nat.le_of_ble_eq_true rfl) (jLk.of C q1251 rfl) dX2_registered_109 hF (fun v109 hF => ?_)
  refine jj_iload C 6 rfl dX2_registered_112 ?_
  refine jj_iald C dX2_registered_114 hF (fun v114 hF => ?_)
  refine jj_if_ne (tgt := 122) C dX2_registered_115 (by decide) hF (fun hF => ?_) (fun hF => ?_)
  · refine jj_iload C 5 rfl dX2_registered_122 ?_
    refine jj_sub [1, 2, 3, 4, 5, 6, 7, 0] rfl ?_
    exact w_X2_registered_b124 C hxn hQ hK28 hF
  · refine jj_iload_n C 4 rfl dX2_registered_118 rfl ?_
    refine jj_goto (tgt := 124) C dX2_registered_119 (by decide) ?_
    refine jj_sub [1, 2, 3, 4, 5, 6, 7, 0] rfl ?_
    exact w_X2_registered_b124 C hxn hQ hK28 hF
def f_X2_registered_b93 (K28 : Option Nat → Int32 → Int32 → Int32 → Int32 → Int32 → jW → Option (Int32 × jW)) (l0 : Option Nat) (l1 : Int32) (l2 : Int32) (l3 : Int32) (l4 : Int32) (l5 : Int32) (s0 : Int32) (M : jW) : Option (Int32 × jW) := if l3 = (-1 : Int32) then (f_X2_registered_b106 K28 l0 l1 l2 l3 l4 l5 s0 l4 M)
  else (f_X2_registered_b106 K28 l0 l1 l2 l3 l4 l5 s0 l3 M)
set_option maxHeartbeats 4000000 in
theorem w_X2_registered_b93 {x : jX} (C : jOk x cX2_registered RX2 rm_X2_registered (some .int)) (hxn : xn x = 9) {v0 : Int32} {M0 : jW} (hQ : jEnd x rm_X2_registered (some (jI v0)) M0) {K28 : Option Nat → Int32 → Int32 → Int32 → Int32 → Int32 → jW → Option (Int32 × jW)} (hK28 : ∀ (l0 : Option Nat) (l1 : Int32) (l2 : Int32) (l3 : Int32) (l4 : Int32) (l5 : Int32) (M : jW), K28 l0 l1 l2 l3 l4 l5 M = some (v0, M0) → jJ x 28 [(0, jR l0), (1, jI l1), (2, jI l2), (3, jI l3), (4, jI l4), (5, jI l5)] [] M 0 0) {l0 : Option Nat} {l1 : Int32} {l2 : Int32} {l3 : Int32} {l4 : Int32} {l5 : Int32} {s0 : Int32} {M : jW} (hF : f_X2_registered_b93 K28 l0 l1 l2 l3 l4 l5 s0 M = some (v0, M0)) : jJ x 93 [(0, jR l0), (1, jI l1), (2, jI l2), (3, jI l3), (4, jI l4), (5, jI l5)] [jI s0] M 0 0 := by
  unfold f_X2_registered_b93 at hF
  refine jj_istore (L' := [(6, jI s0), (0, jR l0), (1, jI l1), (2, jI l2), (3, jI l3), (4, jI l4), (5, jI l5)]) C rfl (by rw [hxn]; decide) dX2_registered_93 ?_
  refine jj_iload_n C 4 rfl dX2_registered_95 rfl ?_
  refine jj_iconst (v := -1) C dX2_registered_96 (by decide) ?_
  refine jj_icmp_eq (tgt := 104) C dX2_registered_97 (by decide) hF (fun hF => ?_) (fun hF => ?_)
  · refine jj_iload C 5 rfl dX2_registered_104 ?_
    refine jj_sub [1, 2, 3, 4, 5, 6, 0] rfl ?_
    exact w_X2_registered_b106 C hxn hQ hK28 hF
  · refine jj_iload_n C 4 rfl dX2_registered_100 rfl ?_
    refine jj_goto (tgt := 106) C dX2_registered_101 (by decide) ?_
    refine jj_sub [1, 2, 3, 4, 5, 6, 0] rfl ?_
    exact w_X2_registered_b106 C hxn hQ hK28 hF
def f_X2_registered_b92 (K28 : Option Nat → Int32 → Int32 → Int32 → Int32 → Int32 → jW → Option (Int32 × jW)) (l0 : Option Nat) (l1 : Int32) (l2 : Int32) (l3 : Int32) (l4 : Int32) (l5 : Int32) (M : jW) : Option (Int32 × jW) := f_X2_registered_b93 K28 l0 l1 l2 l3 l4 l5 (0 : Int32) M
set_option maxHeartbeats 4000000 in
theorem w_X2_registered_b92 {x : jX} (C : jOk x cX2_registered RX2 rm_X2_registered (some .int)) (hxn : xn x = 9) {v0 : Int32} {M0 : jW} (hQ : jEnd x rm_X2_registered (some (jI v0)) M0) {K28 : Option Nat → Int32 → Int32 → Int32 → Int32 → Int32 → jW → Option (Int32 × jW)} (hK28 : ∀ (l0 : Option Nat) (l1 : Int32) (l2 : Int32) (l3 : Int32) (l4 : Int32) (l5 : Int32) (M : jW), K28 l0 l1 l2 l3 l4 l5 M = some (v0, M0) → jJ x 28 [(0, jR l0), (1, jI l1), (2, jI l2), (3, jI l3), (4, jI l4), (5, jI l5)] [] M 0 0) {l0 : Option Nat} {l1 : Int32} {l2 : Int32} {l3 : Int32} {l4 : Int32} {l5 : Int32} {M : jW} (hF : f_X2_registered_b92 K28 l0 l1 l2 l3 l4 l5 M = some (v0, M0)) : jJ x 92 [(0, jR l0), (1, jI l1), (2, jI l2), (3, jI l3), (4, jI l4), (5, jI l5)] [] M 0 0 := by
  unfold f_X2_registered_b92 at hF
  refine jj_iconst (v := 0) C dX2_registered_92 (by decide) ?_
  refine jj_sub [0, 1, 2, 3, 4, 5] rfl ?_
  exact w_X2_registered_b93 C hxn hQ hK28 hF
def f_X2_registered_b88 (K28 : Option Nat → Int32 → Int32 → Int32 → Int32 → Int32 → jW → Option (Int32 × jW)) (l0 : Option Nat) (l1 : Int32) (l2 : Int32) (l3 : Int32) (l4 : Int32) (l5 : Int32) (M : jW) : Option (Int32 × jW) := f_X2_registered_b93 K28 l0 l1 l2 l3 l4 l5 (1 : Int32) M
set_option maxHeartbeats 4000000 in
theorem w_X2_registered_b88 {x : jX} (C : jOk x cX2_registered RX2 rm_X2_registered (some .int)) (hxn : xn x = 9) {v0 : Int32} {M0 : jW} (hQ : jEnd x rm_X2_registered (some (jI v0)) M0) {K28 : Option Nat → Int32 → Int32 → Int32 → Int32 → Int32 → jW → Option (Int32 × jW)} (hK28 : ∀ (l0 : Option Nat) (l1 : Int32) (l2 : Int32) (l3 : Int32) (l4 : Int32) (l5 : Int32) (M : jW), K28 l0 l1 l2 l3 l4 l5 M = some (v0, M0) → jJ x 28 [(0, jR l0), (1, jI l1), (2, jI l2), (3, jI l3), (4, jI l4), (5, jI l5)] [] M 0 0) {l0 : Option Nat} {l1 : Int32} {l2 : Int32} {l3 : Int32} {l4 : Int32} {l5 : Int32} {M : jW} (hF : f_X2_registered_b88 K28 l0 l1 l2 l3 l4 l5 M = some (v0, M0)) : jJ x 88 [(0, jR l0), (1, jI l1), (2, jI l2), (3, jI l3), (4, jI l4), (5, jI l5)] [] M 0 0 := by
  unfold f_X2_registered_b88 at hF
  refine jj_iconst (v := 1) C dX2_registered_88 (by decide) ?_
  refine jj_goto (tgt := 93) C dX2_registered_89 (by decide) ?_
  refine jj_sub [0, 1, 2, 3, 4, 5] rfl ?_
  exact w_X2_registered_b93 C hxn hQ hK28 hF
def f_X2_registered_b28 : Nat → Option Nat → Int32 → Int32 → Int32 → Int32 → Int32 → jW → Option (Int32 × jW)
  | 0, _, _, _, _, _, _, _ => none
  | q + 1, l0, l1, l2, l3, l4, l5, M => pI M l0 1 17 fun v31 =>
  if v31 ≤ l5 then (if l1 = 0 then (some (l3, M))
  else (some (l4, M)))
  else (pR M l0 1 19 fun v38 =>
  pAI M v38 0 l5 fun v43 =>
  if v43 = (7 : Int32) then (pR M l0 1 21 fun v50 =>
  pAI M v50 0 l5 fun v55 =>
  pB (f_X2_least l2 M) fun r57 M57 =>
  if v55 < r57 then (f_X2_registered_b92 (f_X2_registered_b28 q) l0 l1 l2 l3 l4 l5 M57)
  else (pR M57 l0 1 22 fun v64 =>
  pAI M57 v64 0 l5 fun v69 =>
  if v69 = 0 then (f_X2_registered_b88 (f_X2_registered_b28 q) l0 l1 l2 l3 l4 l5 M57)
  else (if l2 = 0 then (pR M57 l0 1 22 fun v78 =>
  pAI M57 v78 0 l5 fun v83 =>
  if v83 = (1 : Int32) then (f_X2_registered_b88 (f_X2_registered_b28 q) l0 l1 l2 l3 l4 l5 M57)
  else (f_X2_registered_b92 (f_X2_registered_b28 q) l0 l1 l2 l3 l4 l5 M57))
  else (f_X2_registered_b92 (f_X2_registered_b28 q) l0 l1 l2 l3 l4 l5 M57))))
  else (f_X2_registered_b92 (f_X2_registered_b28 q) l0 l1 l2 l3 l4 l5 M))
theorem f_X2_registered_b28_s (q : Nat) (l0 : Option Nat) (l1 : Int32) (l2 : Int32) (l3 : Int32) (l4 : Int32) (l5 : Int32) (M : jW) : f_X2_registered_b28 (q + 1) l0 l1 l2 l3 l4 l5 M = (pI M l0 1 17 fun v31 =>
  if v31 ≤ l5 then (if l1 = 0 then (some (l3, M))
  else (some (l4, M)))
  else (pR M l0 1 19 fun v38 =>
  pAI M v38 0 l5 fun v43 =>
  if v43 = (7 : Int32) then (pR M l0 1 21 fun v50 =>
  pAI M v50 0 l5 fun v55 =>
  pB (f_X2_least l2 M) fun r57 M57 =>
  if v55 < r57 then (f_X2_registered_b92 (f_X2_registered_b28 q) l0 l1 l2 l3 l4 l5 M57)
  else (pR M57 l0 1 22 fun v64 =>
  pAI M57 v64 0 l5 fun v69 =>
  if v69 = 0 then (f_X2_registered_b88 (f_X2_registered_b28 q) l0 l1 l2 l3 l4 l5 M57)
  else (if l2 = 0 then (pR M57 l0 1 22 fun v78 =>
  pAI M57 v78 0 l5 fun v83 =>
  if v83 = (1 : Int32) then (f_X2_registered_b88 (f_X2_registered_b28 q) l0 l1 l2 l3 l4 l5 M57)
  else (f_X2_registered_b92 (f_X2_registered_b28 q) l0 l1 l2 l3 l4 l5 M57))
  else (f_X2_registered_b92 (f_X2_registered_b28 q) l0 l1 l2 l3 l4 l5 M57))))
  else (f_X2_registered_b92 (f_X2_registered_b28 q) l0 l1 l2 l3 l4 l5 M))) := rfl
set_option maxHeartbeats 4000000 in
theorem w_X2_registered_b28 {x : jX} (C : jOk x cX2_registered RX2 rm_X2_registered (some .int)) (hxn : xn x = 9) {v0 : Int32} {M0 : jW} (hQ : jEnd x rm_X2_registered (some (jI v0)) M0) : ∀ (n28 : Nat) (l0 : Option Nat) (l1 : Int32) (l2 : Int32) (l3 : Int32) (l4 : Int32) (l5 : Int32) (M : jW), f_X2_registered_b28 n28 l0 l1 l2 l3 l4 l5 M = some (v0, M0) → jJ x 28 [(0, jR l0), (1, jI l1), (2, jI l2), (3, jI l3), (4, jI l4), (5, jI l5)] [] M 0 0 := by
  intro n28
  induction n28 with
  | zero =>
    intro l0 l1 l2 l3 l4 l5 M hF
    cases hF
  | succ n28 hK28 =>
    intro l0 l1 l2 l3 l4 l5 M hF
    rw [f_X2_registered_b28_s] at hF
    refine jj_iload C 5 rfl dX2_registered_28 ?_
    refine jj_aload_n C 0 rfl dX2_registered_30 rfl ?_
    refine jj_pI (f := 17) C jcs_1 (Nat.le_of_ble_eq_true rfl) (jLk.of C q1250 rfl) dX2_registered_31 hF (fun v31 hF => ?_)
    refine jj_icmp_ge (tgt := 216) C dX2_registered_34 (by decide) hF (fun hF => ?_) (fun hF => ?_)
    · refine jj_iload_n C 1 rfl dX2_registered_216 rfl ?_
      refine jj_if_ne (tgt := 224) C dX2_registered_217 (by decide) hF (fun hF => ?_) (fun hF => ?_)
      · refine jj_iload C 4 rfl dX2_registered_224 ?_
        exact jj_iret C hQ dX2_registered_226 hF (Nat.zero_le _) (Nat.zero_le _)
      · refine jj_iload_n C 3 rfl dX2_registered_220 rfl ?_
        refine jj_goto (tgt := 226) C dX2_registered_221 (by decide) ?_
        exact jj_iret C hQ dX2_registered_226 hF (Nat.zero_le _) (Nat.zero_le _)
    · refine jj_aload_n C 0 rfl dX2_registered_37 rfl ?_
      refine jj_pR (f := 19) C jcs_1 (Nat.le_of_ble_eq_true rfl) (jLk.of C q1252 rfl) dX2_registered_38 hF (fun v38 hF => ?_)
      refine jj_iload C 5 rfl dX2_registered_41 ?_
      refine jj_iald C dX2_registered_43 hF (fun v43 hF => ?_)
      refine jj_bipush (v := 7) C dX2_registered_44 (by decide) ?_
      refine jj_icmp_ne (tgt := 92) C dX2_registered_46 (by decide) hF (fun hF => ?_) (fun hF => ?_)
      · refine jj_sub [0, 1, 2, 3, 4, 5] rfl ?_
        exact w_X2_registered_b92 C hxn hQ hK28 hF
      · refine jj_aload_n C 0 rfl dX2_registered_49 rfl ?_
        refine jj_pR (f := 21) C jcs_1 (Nat.le_of_ble_eq_true rfl) (jLk.of C q1254 rfl) dX2_registered_50 hF (fun v50 hF => ?_)
        refine jj_iload C 5 rfl dX2_registered_53 ?_
        refine jj_iald C dX2_registered_55 hF (fun v55 hF => ?_)
        refine jj_iload_n C 2 rfl dX2_registered_56 rfl ?_
        obtain ⟨r57, M57, hG, hF⟩ := pB_spec hF
        refine jj_callS (k' := 0) (n' := 0) C [jI l2] [jI v55] [jI r57, jI v55] (m_X2_least _ _ hG) q1388 q1389 q46 q1390 hd_X2_least rfl (Nat.le_of_ble_eq_true rfl) ⟨Nat.le_of_ble_eq_true rfl, Nat.le_of_ble_eq_true rfl⟩ ⟨Nat.le_refl _, Nat.le_refl _, Nat.le_refl _, Nat.le_refl _⟩ dX2_registered_57 rfl ?_
        refine jj_icmp_lt (tgt := 92) C dX2_registered_60 (by decide) hF (fun hF => ?_) (fun hF => ?_)
        · refine jj_sub [0, 1, 2, 3, 4, 5] rfl ?_
          exact w_X2_registered_b92 C hxn hQ hK28 hF
        · refine jj_aload_n C 0 rfl dX2_registered_63 rfl ?_
          refine jj_pR (f := 22) C jcs_1 (Nat.le_of_ble_eq_true rfl) (jLk.of C q1255 rfl) dX2_registered_64 hF (fun v64 hF => ?_)
          refine jj_iload C 5 rfl dX2_registered_67 ?_
          refine jj_iald C dX2_registered_69 hF (fun v69 hF => ?_)
          refine jj_if_eq (tgt := 88) C dX2_registered_70 (by decide) hF (fun hF => ?_) (fun hF => ?_)
          · refine jj_sub [0, 1, 2, 3, 4, 5] rfl ?_
            exact w_X2_registered_b88 C hxn hQ hK28 hF
          · refine jj_iload_n C 2 rfl dX2_registered_73 rfl ?_
            refine jj_if_ne (tgt := 92) C dX2_registered_74 (by decide) hF (fun hF => ?_) (fun hF => ?_)
            · refine jj_sub [0, 1, 2, 3, 4, 5] rfl ?_
              exact w_X2_registered_b92 C hxn hQ hK28 hF
            · refine jj_aload_n C 0 rfl dX2_registered_77 rfl ?_
              refine jj_pR (f := 22) C jcs_1 (Nat.le_of_ble_eq_true rfl) (jLk.of C q1255 rfl) dX2_registered_78 hF (fun v78 hF => ?_)
              refine jj_iload C 5 rfl dX2_registered_81 ?_
              refine jj_iald C dX2_registered_83 hF (fun v83 hF => ?_)
              refine jj_iconst (v := 1) C dX2_registered_84 (by decide) ?_
              refine jj_icmp_ne (tgt := 92) C dX2_registered_85 (by decide) hF (fun hF => ?_) (fun hF => ?_)
              · refine jj_sub [0, 1, 2, 3, 4, 5] rfl ?_
                exact w_X2_registered_b92 C hxn hQ hK28 hF
              · refine jj_sub [0, 1, 2, 3, 4, 5] rfl ?_
                exact w_X2_registered_b88 C hxn hQ hK28 hF
def f_X2_registered (a0 : Option Nat) (a1 : Int32) (M : jW) : Option (Int32 × jW) := pI M a0 1 4 fun v1 =>
  if v1 = (-1 : Int32) then (some ((-1 : Int32), M))
  else (pR M a0 1 7 fun v11 =>
  pI M a0 1 4 fun v15 =>
  pAI M v11 0 v15 fun v18 =>
  f_X2_registered_b28 1000 a0 a1 v18 (-1 : Int32) (-1 : Int32) (0 : Int32) M)
set_option maxHeartbeats 4000000 in
theorem m_X2_registered (l : Launch) (g : jG) {a0 : Option Nat} {a1 : Int32} {M M0 : jW} {v0 : Int32} (hF : f_X2_registered a0 a1 M = some (v0, M0)) : jMet l g yX2_registered cX2_registered 9 (some .int) rm_X2_registered [jR a0, jI a1] M (some (jI v0)) M0 := by
  refine jMet.of (L := [(0, jR a0), (1, jI a1)]) (by decide) rfl (Nat.le_of_ble_eq_true rfl) (fun x C hxn hg hl hQ hin => ?_)
  subst hg
  unfold f_X2_registered at hF
  refine jj_aload_n C 0 rfl dX2_registered_0 rfl ?_
  refine jj_pI (f := 4) C jcs_1 (Nat.le_of_ble_eq_true rfl) (jLk.of C q1237 rfl) dX2_registered_1 hF (fun v1 hF => ?_)
  refine jj_iconst (v := -1) C dX2_registered_4 (by decide) ?_
  refine jj_icmp_ne (tgt := 10) C dX2_registered_5 (by decide) hF (fun hF => ?_) (fun hF => ?_)
  · refine jj_aload_n C 0 rfl dX2_registered_10 rfl ?_
    refine jj_pR (f := 7) C jcs_1 (Nat.le_of_ble_eq_true rfl) (jLk.of C q1240 rfl) dX2_registered_11 hF (fun v11 hF => ?_)
    refine jj_aload_n C 0 rfl dX2_registered_14 rfl ?_
    refine jj_pI (f := 4) C jcs_1 (Nat.le_of_ble_eq_true rfl) (jLk.of C q1237 rfl) dX2_registered_15 hF (fun v15 hF => ?_)
    refine jj_iald C dX2_registered_18 hF (fun v18 hF => ?_)
    refine jj_istore_n (L' := [(2, jI v18), (0, jR a0), (1, jI a1)]) C rfl (by rw [hxn]; decide) dX2_registered_19 rfl ?_
    refine jj_iconst (v := -1) C dX2_registered_20 (by decide) ?_
    refine jj_istore_n (L' := [(3, jI (-1 : Int32)), (2, jI v18), (0, jR a0), (1, jI a1)]) C rfl (by rw [hxn]; decide) dX2_registered_21 rfl ?_
    refine jj_iconst (v := -1) C dX2_registered_22 (by decide) ?_
    refine jj_istore (L' := [(4, jI (-1 : Int32)), (3, jI (-1 : Int32)), (2, jI v18), (0, jR a0), (1, jI a1)]) C rfl (by rw [hxn]; decide) dX2_registered_23 ?_
    refine jj_iconst (v := 0) C dX2_registered_25 (by decide) ?_
    refine jj_istore (L' := [(5, jI (0 : Int32)), (4, jI (-1 : Int32)), (3, jI (-1 : Int32)), (2, jI v18), (0, jR a0), (1, jI a1)]) C rfl (by rw [hxn]; decide) dX2_registered_26 ?_
    refine jj_sub [4, 5, 3, 2, 1, 0] rfl ?_
    exact w_X2_registered_b28 C hxn hQ 1000 _ _ _ _ _ _ _ hF
  · refine jj_iconst (v := -1) C dX2_registered_8 (by decide) ?_
    exact jj_iret C hQ dX2_registered_9 hF (Nat.zero_le _) (Nat.zero_le _)
/-! PhrasehallModel.rights(I)I -/
def rm_X2_rights : Room := ({ frames := 1, cells := 0, slots := 0, locals := 64 } : Room)
theorem hd_X2_rights : yX2_rights.cls ≠ "java/lang/invoke/MethodHandle" ∧ yX2_rights.cls ≠ "java/lang/invoke/VarHandle" ∧ (parseMethodDescriptor yX2_rights.desc).map (fun d => d.parameters.length) = some 1 := ⟨by decide, by decide, by decide +kernel⟩
def f_X2_rights_b345 (K18 : Option Nat → Int32 → Int32 → Int32 → Int32 → Int32 → Int32 → jW → Option (Int32 × jW)) (l0 : Option Nat) (l1 : Int32) (l2 : Int32) (l3 : Int32) (l4 : Int32) (l5 : Int32) (l6 : Int32) (M : jW) : Option (Int32 × jW) := K18 l0 l1 l2 l3 l4 l5 (l6 + (1 : Int32)) M
set_option maxHeartbeats 4000000 in
theorem w_X2_rights_b345 {x : jX} (C : jOk x cX2_rights RX2 rm_X2_rights (some .int)) (hxn : xn x = 11) {v0 : Int32} {M0 : jW} (hQ : jEnd x rm_X2_rights (some (jI v0)) M0) {K18 : Option Nat → Int32 → Int32 → Int32 → Int32 → Int32 → Int32 → jW → Option (Int32 × jW)} (hK18 : ∀ (l0 : Option Nat) (l1 : Int32) (l2 : Int32) (l3 : Int32) (l4 : Int32) (l5 : Int32) (l6 : Int32) (M : jW), K18 l0 l1 l2 l3 l4 l5 l6 M = some (v0, M0) → jJ x 18 [(0, jR l0), (1, jI l1), (2, jI l2), (3, jI l3), (4, jI l4), (5, jI l5), (6, jI l6)] [] M 0 0) {l0 : Option Nat} {l1 : Int32} {l2 : Int32} {l3 : Int32} {l4 : Int32} {l5 : Int32} {l6 : Int32} {M : jW} (hF : f_X2_rights_b345 K18 l0 l1 l2 l3 l4 l5 l6 M = some (v0, M0)) : jJ x 345 [(0, jR l0), (1, jI l1), (2, jI l2), (3, jI l3), (4, jI l4), (5, jI l5), (6, jI l6)] [] M 0 0 := by
  unfold f_X2_rights_b345 at hF
  refine jj_iinc (c := 1) (L' := [(6, jI (l6 + (1 : Int32))), (0, jR l0), (1, jI l1), (2, jI l2), (3, jI l3), (4, jI l4), (5, jI l5)]) C 6 rfl (by decide) rfl (by rw [hxn]; decide) dX2_rights_345 ?_
  refine jj_goto (tgt := 18) C dX2_rights_348 (by decide) ?_
  refine jj_sub [1, 2, 3, 4, 5, 6, 0] rfl ?_
  exact hK18 _ _ _ _ _ _ _ _ hF
def f_X2_rights_b150 (K18 : Option Nat → Int32 → Int32 → Int32 → Int32 → Int32 → Int32 → jW → Option (Int32 × jW)) (l0 : Option Nat) (l1 : Int32) (l2 : Int32) (l3 : Int32) (l4 : Int32) (l5 : Int32) (l6 : Int32) (l7 : Int32) (l8 : Int32) (l10 : Int32) (M : jW) : Option (Int32 × jW) := if l8 = 0 then (pP M l0 1 30 (jI l7) fun M158 =>
  f_X2_rights_b345 K18 l0 l1 (0 : Int32) l10 l4 l5 l6 M158)
  else (f_X2_rights_b345 K18 l0 l1 l2 l3 l4 l5 l6 M)
set_option maxHeartbeats 4000000 in
theorem w_X2_rights_b150 {x : jX} (C : jOk x cX2_rights RX2 rm_X2_rights (some .int)) (hxn : xn x = 11) {v0 : Int32} {M0 : jW} (hQ : jEnd x rm_X2_rights (some (jI v0)) M0) {K18 : Option Nat → Int32 → Int32 → Int32 → Int32 → Int32 → Int32 → jW → Option (Int32 × jW)} (hK18 : ∀ (l0 : Option Nat) (l1 : Int32) (l2 : Int32) (l3 : Int32) (l4 : Int32) (l5 : Int32) (l6 : Int32) (M : jW), K18 l0 l1 l2 l3 l4 l5 l6 M = some (v0, M0) → jJ x 18 [(0, jR l0), (1, jI l1), (2, jI l2), (3, jI l3), (4, jI l4), (5, jI l5), (6, jI l6)] [] M 0 0) {l0 : Option Nat} {l1 : Int32} {l2 : Int32} {l3 : Int32} {l4 : Int32} {l5 : Int32} {l6 : Int32} {l7 : Int32} {l8 : Int32} {l10 : Int32} {M : jW} (hF : f_X2_rights_b150 K18 l0 l1 l2 l3 l4 l5 l6 l7 l8 l10 M = some (v0, M0)) : jJ x 150 [(0, jR l0), (1, jI l1), (2, jI l2), (3, jI l3), (4, jI l4), (5, jI l5), (6, jI l6), (7, jI l7), (8, jI l8), (10, jI l10)] [] M 0 0 := by
  unfold f_X2_rights_b150 at hF
  refine jj_iload C 8 rfl dX2_rights_150 ?_
  refine jj_if_ne (tgt := 345) C dX2_rights_152 (by decide) hF (fun hF => ?_) (fun hF => ?_)
  · refine jj_sub [0, 1, 2, 3, 4, 5, 6] rfl ?_
    exact w_X2_rights_b345 C hxn hQ hK18 hF
  · refine jj_aload_n C 0 rfl dX2_rights_155 rfl ?_
    refine jj_iload C 7 rfl dX2_rights_156 ?_
    refine jj_pP (f := 30) C jcs_1 (Nat.le_of_ble_eq_true rfl) (jLk.of C q1263 rfl) (Or.inl rfl) dX2_rights_158 (jfit_i _) hF (fun M158 hF => ?_)
    refine jj_iconst (v := 0) C dX2_rights_161 (by decide) ?_
    refine jj_istore_n (L' := [(2, jI (0 : Int32)), (0, jR l0), (1, jI l1), (3, jI l3), (4, jI l4), (5, jI l5), (6, jI l6), (7, jI l7), (8, jI l8), (10, jI l10)]) C rfl (by rw [hxn]; decide) dX2_rights_162 rfl ?_
    refine jj_iload C 9 rfl dX2_rights_163 ?_
    refine jj_istore_n (L' := [(3, jI l10), (2, jI (0 : Int32)), (0, jR l0), (1, jI l1), (4, jI l4), (5, jI l5), (6, jI l6), (7, jI l7), (8, jI l8), (10, jI l10)]) C rfl (by rw [hxn]; decide) dX2_rights_165 rfl ?_
    refine jj_goto (tgt := 345) C dX2_rights_166 (by decide) ?_
    refine jj_sub [2, 3, 1, 0, 4, 5, 6] rfl ?_
    exact w_X2_rights_b345 C hxn hQ hK18 hF
def f_X2_rights_b195 (K18 : Option Nat → Int32 → Int32 → Int32 → Int32 → Int32 → Int32 → jW → Option (Int32 × jW)) (l0 : Option Nat) (l1 : Int32) (l2 : Int32) (l3 : Int32) (l4 : Int32) (l5 : Int32) (l6 : Int32) (s0 : Option Nat) (s1 : Int32) (M : jW) : Option (Int32 × jW) := pP M s0 1 30 (jI s1) fun M195 =>
  f_X2_rights_b345 K18 l0 l1 l2 l3 l4 l5 l6 M195
set_option maxHeartbeats 4000000 in
theorem w_X2_rights_b195 {x : jX} (C : jOk x cX2_rights RX2 rm_X2_rights (some .int)) (hxn : xn x = 11) {v0 : Int32} {M0 : jW} (hQ : jEnd x rm_X2_rights (some (jI v0)) M0) {K18 : Option Nat → Int32 → Int32 → Int32 → Int32 → Int32 → Int32 → jW → Option (Int32 × jW)} (hK18 : ∀ (l0 : Option Nat) (l1 : Int32) (l2 : Int32) (l3 : Int32) (l4 : Int32) (l5 : Int32) (l6 : Int32) (M : jW), K18 l0 l1 l2 l3 l4 l5 l6 M = some (v0, M0) → jJ x 18 [(0, jR l0), (1, jI l1), (2, jI l2), (3, jI l3), (4, jI l4), (5, jI l5), (6, jI l6)] [] M 0 0) {l0 : Option Nat} {l1 : Int32} {l2 : Int32} {l3 : Int32} {l4 : Int32} {l5 : Int32} {l6 : Int32} {s0 : Option Nat} {s1 : Int32} {M : jW} (hF : f_X2_rights_b195 K18 l0 l1 l2 l3 l4 l5 l6 s0 s1 M = some (v0, M0)) : jJ x 195 [(0, jR l0), (1, jI l1), (2, jI l2), (3, jI l3), (4, jI l4), (5, jI l5), (6, jI l6)] [jI s1, jR s0] M 0 0 := by
  unfold f_X2_rights_b195 at hF
  refine jj_pP (f := 30) C jcs_1 (Nat.le_of_ble_eq_true rfl) (jLk.of C q1263 rfl) (Or.inl rfl) dX2_rights_195 (jfit_i _) hF (fun M195 hF => ?_)
  refine jj_goto (tgt := 345) C dX2_rights_198 (by decide) ?_
  refine jj_sub [0, 1, 2, 3, 4, 5, 6] rfl ?_
  exact w_X2_rights_b345 C hxn hQ hK18 hF
def f_X2_rights_b179 (K18 : Option Nat → Int32 → Int32 → Int32 → Int32 → Int32 → Int32 → jW → Option (Int32 × jW)) (l0 : Option Nat) (l1 : Int32) (l3 : Int32) (l4 : Int32) (l5 : Int32) (l6 : Int32) (l7 : Int32) (l9 : Int32) (s0 : Int32) (M : jW) : Option (Int32 × jW) := if l9 = 0 then (pI M l0 1 30 fun v192 =>
  f_X2_rights_b195 K18 l0 l1 s0 l3 l4 l5 l6 l0 v192 M)
  else (f_X2_rights_b195 K18 l0 l1 s0 l3 l4 l5 l6 l0 l7 M)
set_option maxHeartbeats 4000000 in
theorem w_X2_rights_b179 {x : jX} (C : jOk x cX2_rights RX2 rm_X2_rights (some .int)) (hxn : xn x = 11) {v0 : Int32} {M0 : jW} (hQ : jEnd x rm_X2_rights (some (jI v0)) M0) {K18 : Option Nat → Int32 → Int32 → Int32 → Int32 → Int32 → Int32 → jW → Option (Int32 × jW)} (hK18 : ∀ (l0 : Option Nat) (l1 : Int32) (l2 : Int32) (l3 : Int32) (l4 : Int32) (l5 : Int32) (l6 : Int32) (M : jW), K18 l0 l1 l2 l3 l4 l5 l6 M = some (v0, M0) → jJ x 18 [(0, jR l0), (1, jI l1), (2, jI l2), (3, jI l3), (4, jI l4), (5, jI l5), (6, jI l6)] [] M 0 0) {l0 : Option Nat} {l1 : Int32} {l3 : Int32} {l4 : Int32} {l5 : Int32} {l6 : Int32} {l7 : Int32} {l9 : Int32} {s0 : Int32} {M : jW} (hF : f_X2_rights_b179 K18 l0 l1 l3 l4 l5 l6 l7 l9 s0 M = some (v0, M0)) : jJ x 179 [(0, jR l0), (1, jI l1), (3, jI l3), (4, jI l4), (5, jI l5), (6, jI l6), (7, jI l7), (9, jI l9)] [jI s0] M 0 0 := by
  unfold f_X2_rights_b179 at hF
  refine jj_istore_n (L' := [(2, jI s0), (0, jR l0), (1, jI l1), (3, jI l3), (4, jI l4), (5, jI l5), (6, jI l6), (7, jI l7), (9, jI l9)]) C rfl (by rw [hxn]; decide) dX2_rights_179 rfl ?_
  refine jj_aload_n C 1 rfl dX2_rights_180 rfl ?_
  refine jj_iload C 8 rfl dX2_rights_181 ?_
  refine jj_if_eq (tgt := 191) C dX2_rights_183 (by decide) hF (fun hF => ?_) (fun hF => ?_)
  · refine jj_aload_n C 1 rfl dX2_rights_191 rfl ?_
    refine jj_pI (f := 30) C jcs_1 (Nat.le_of_ble_eq_true rfl) (jLk.of C q1263 rfl) dX2_rights_192 hF (fun v192 hF => ?_)
    refine jj_sub [1, 2, 0, 3, 4, 5, 6] rfl ?_
    exact w_X2_rights_b195 C hxn hQ hK18 hF
  · refine jj_iload C 7 rfl dX2_rights_186 ?_
    refine jj_goto (tgt := 195) C dX2_rights_188 (by decide) ?_
    refine jj_sub [1, 2, 0, 3, 4, 5, 6] rfl ?_
    exact w_X2_rights_b195 C hxn hQ hK18 hF
def f_X2_rights_b339 (K18 : Option Nat → Int32 → Int32 → Int32 → Int32 → Int32 → Int32 → jW → Option (Int32 × jW)) (l0 : Option Nat) (l1 : Int32) (l2 : Int32) (l3 : Int32) (l4 : Int32) (l5 : Int32) (l6 : Int32) (s0 : Option Nat) (s1 : Int32) (M : jW) : Option (Int32 × jW) := pP M s0 1 30 (jI s1) fun M339 =>
  f_X2_rights_b345 K18 l0 l1 l2 l3 l4 l5 l6 M339
set_option maxHeartbeats 4000000 in
theorem w_X2_rights_b339 {x : jX} (C : jOk x cX2_rights RX2 rm_X2_rights (some .int)) (hxn : xn x = 11) {v0 : Int32} {M0 : jW} (hQ : jEnd x rm_X2_rights (some (jI v0)) M0) {K18 : Option Nat → Int32 → Int32 → Int32 → Int32 → Int32 → Int32 → jW → Option (Int32 × jW)} (hK18 : ∀ (l0 : Option Nat) (l1 : Int32) (l2 : Int32) (l3 : Int32) (l4 : Int32) (l5 : Int32) (l6 : Int32) (M : jW), K18 l0 l1 l2 l3 l4 l5 l6 M = some (v0, M0) → jJ x 18 [(0, jR l0), (1, jI l1), (2, jI l2), (3, jI l3), (4, jI l4), (5, jI l5), (6, jI l6)] [] M 0 0) {l0 : Option Nat} {l1 : Int32} {l2 : Int32} {l3 : Int32} {l4 : Int32} {l5 : Int32} {l6 : Int32} {s0 : Option Nat} {s1 : Int32} {M : jW} (hF : f_X2_rights_b339 K18 l0 l1 l2 l3 l4 l5 l6 s0 s1 M = some (v0, M0)) : jJ x 339 [(0, jR l0), (1, jI l1), (2, jI l2), (3, jI l3), (4, jI l4), (5, jI l5), (6, jI l6)] [jI s1, jR s0] M 0 0 := by
  unfold f_X2_rights_b339 at hF
  refine jj_pP (f := 30) C jcs_1 (Nat.le_of_ble_eq_true rfl) (jLk.of C q1263 rfl) (Or.inl rfl) dX2_rights_339 (jfit_i _) hF (fun M339 hF => ?_)
  refine jj_goto (tgt := 345) C dX2_rights_342 (by decide) ?_
  refine jj_sub [0, 1, 2, 3, 4, 5, 6] rfl ?_
  exact w_X2_rights_b345 C hxn hQ hK18 hF
def f_X2_rights_b64 (K18 : Option Nat → Int32 → Int32 → Int32 → Int32 → Int32 → Int32 → jW → Option (Int32 × jW)) (l0 : Option Nat) (l1 : Int32) (l2 : Int32) (l3 : Int32) (l4 : Int32) (l5 : Int32) (l6 : Int32) (l7 : Int32) (l8 : Int32) (s0 : Int32) (M : jW) : Option (Int32 × jW) := pR M l0 1 20 fun v67 =>
  pAI M v67 0 l6 fun v72 =>
  pR M l0 1 19 fun v76 =>
  pAI M v76 0 l6 fun v81 =>
  if v81 = 0 then (if l8 = 0 then (f_X2_rights_b150 K18 l0 l1 l2 l3 l4 l5 l6 l7 l8 v72 M)
  else (if l2 = 0 then (if (40 : Int32) < (v72 - l3) then (f_X2_rights_b150 K18 l0 l1 l2 l3 l4 l5 l6 l7 l8 v72 M)
  else (pP M l0 1 30 (jI (-1 : Int32)) fun M144 =>
  f_X2_rights_b345 K18 l0 l1 l2 l3 l4 l5 l6 M144))
  else (f_X2_rights_b150 K18 l0 l1 l2 l3 l4 l5 l6 l7 l8 v72 M)))
  else (if v81 = 1 then (if s0 = 0 then (f_X2_rights_b179 K18 l0 l1 l3 l4 l5 l6 l7 s0 l2 M)
  else (f_X2_rights_b179 K18 l0 l1 l3 l4 l5 l6 l7 s0 (1 : Int32) M))
  else (if v81 = 2 then (if l8 = 0 then (f_X2_rights_b345 K18 l0 l1 l2 l3 l4 l5 l6 M)
  else (if l2 = (1 : Int32) then (pP M l0 1 30 (jI l7) fun M214 =>
  f_X2_rights_b345 K18 l0 l1 (0 : Int32) v72 l4 l5 l6 M214)
  else (f_X2_rights_b345 K18 l0 l1 l2 l3 l4 l5 l6 M)))
  else (if v81 = 3 then (if l8 = 0 then (f_X2_rights_b345 K18 l0 l1 l2 l3 l4 l5 l6 M)
  else (if l2 = (1 : Int32) then (f_X2_rights_b345 K18 l0 l1 l2 l3 l4 l5 l6 M)
  else (pP M l0 1 30 (jI (-1 : Int32)) fun M237 =>
  f_X2_rights_b345 K18 l0 l1 l2 l3 l7 v72 l6 M237)))
  else (if v81 = 4 then (if s0 = 0 then (f_X2_rights_b345 K18 l0 l1 l2 l3 l4 l5 l6 M)
  else (if l4 = l7 then (if (300 : Int32) < (v72 - l5) then (f_X2_rights_b345 K18 l0 l1 l2 l3 l4 l5 l6 M)
  else (pP M l0 1 30 (jI l7) fun M277 =>
  f_X2_rights_b345 K18 l0 l1 (4 : Int32) l3 l4 l5 l6 M277))
  else (f_X2_rights_b345 K18 l0 l1 l2 l3 l4 l5 l6 M)))
  else (if v81 = 5 then (if s0 = 0 then (f_X2_rights_b345 K18 l0 l1 l2 l3 l4 l5 l6 M)
  else (if l4 = ((1 : Int32) - l7) then (if (v72 - l5) ≤ (300 : Int32) then (f_X2_rights_b345 K18 l0 l1 l2 l3 l4 l5 l6 M)
  else (pP M l0 1 30 (jI l7) fun M313 =>
  f_X2_rights_b345 K18 l0 l1 (5 : Int32) l3 l4 l5 l6 M313))
  else (f_X2_rights_b345 K18 l0 l1 l2 l3 l4 l5 l6 M)))
  else (if v81 = 6 then (pI M l0 1 30 fun v323 =>
  if v323 = l7 then (f_X2_rights_b339 K18 l0 l1 l2 l3 l4 l5 l6 l0 (-1 : Int32) M)
  else (pI M l0 1 30 fun v336 =>
  f_X2_rights_b339 K18 l0 l1 l2 l3 l4 l5 l6 l0 v336 M))
  else (f_X2_rights_b345 K18 l0 l1 l2 l3 l4 l5 l6 M)))))))
set_option maxHeartbeats 4000000 in
theorem w_X2_rights_b64 {x : jX} (C : jOk x cX2_rights RX2 rm_X2_rights (some .int)) (hxn : xn x = 11) {v0 : Int32} {M0 : jW} (hQ : jEnd x rm_X2_rights (some (jI v0)) M0) {K18 : Option Nat → Int32 → Int32 → Int32 → Int32 → Int32 → Int32 → jW → Option (Int32 × jW)} (hK18 : ∀ (l0 : Option Nat) (l1 : Int32) (l2 : Int32) (l3 : Int32) (l4 : Int32) (l5 : Int32) (l6 : Int32) (M : jW), K18 l0 l1 l2 l3 l4 l5 l6 M = some (v0, M0) → jJ x 18 [(0, jR l0), (1, jI l1), (2, jI l2), (3, jI l3), (4, jI l4), (5, jI l5), (6, jI l6)] [] M 0 0) {l0 : Option Nat} {l1 : Int32} {l2 : Int32} {l3 : Int32} {l4 : Int32} {l5 : Int32} {l6 : Int32} {l7 : Int32} {l8 : Int32} {s0 : Int32} {M : jW} (hF : f_X2_rights_b64 K18 l0 l1 l2 l3 l4 l5 l6 l7 l8 s0 M = some (v0, M0)) : jJ x 64 [(0, jR l0), (1, jI l1), (2, jI l2), (3, jI l3), (4, jI l4), (5, jI l5), (6, jI l6), (7, jI l7), (8, jI l8)] [jI s0] M 0 0 := by
  unfold f_X2_rights_b64 at hF
  refine jj_istore (L' := [(9, jI s0), (0, jR l0), (1, jI l1), (2, jI l2), (3, jI l3), (4, jI l4), (5, jI l5), (6, jI l6), (7, jI l7), (8, jI l8)]) C rfl (by rw [hxn]; decide) dX2_rights_64 ?_
  refine jj_aload_n C 1 rfl dX2_rights_66 rfl ?_
  refine jj_pR (f := 20) C jcs_1 (Nat.le_of_ble_eq_true rfl) (jLk.of C q1253 rfl) dX2_rights_67 hF (fun v67 hF => ?_)
  refine jj_iload C 7 rfl dX2_rights_70 ?_
  refine jj_iald C dX2_rights_72 hF (fun v72 hF => ?_)
  refine jj_istore (L' := [(10, jI v72), (9, jI s0), (0, jR l0), (1, jI l1), (2, jI l2), (3, jI l3), (4, jI l4), (5, jI l5), (6, jI l6), (7, jI l7), (8, jI l8)]) C rfl (by rw [hxn]; decide) dX2_rights_73 ?_
  refine jj_aload_n C 2 rfl dX2_rights_75 rfl ?_
  refine jj_pR (f := 19) C jcs_1 (Nat.le_of_ble_eq_true rfl) (jLk.of C q1252 rfl) dX2_rights_76 hF (fun v76 hF => ?_)
  refine jj_iload C 8 rfl dX2_rights_79 ?_
  refine jj_iald C dX2_rights_81 hF (fun v81 hF => ?_)
  by_cases hc82_0 : v81 = 0
  · rw [if_pos hc82_0] at hF
    refine jj_tabIn (c := 0) (tgt := 124) C hc82_0 dX2_rights_82 (by decide) (by decide) rfl (by decide) ?_
    refine jj_iload C 10 rfl dX2_rights_124 ?_
    refine jj_if_eq (tgt := 150) C dX2_rights_126 (by decide) hF (fun hF => ?_) (fun hF => ?_)
    · refine jj_sub [2, 3, 4, 5, 6, 7, 8, 9, 10, 0] rfl ?_
      exact w_X2_rights_b150 C hxn hQ hK18 hF
    · refine jj_iload_n C 4 rfl dX2_rights_129 rfl ?_
      refine jj_if_ne (tgt := 150) C dX2_rights_130 (by decide) hF (fun hF => ?_) (fun hF => ?_)
      · refine jj_sub [2, 3, 4, 5, 6, 7, 8, 9, 10, 0] rfl ?_
        exact w_X2_rights_b150 C hxn hQ hK18 hF
      · refine jj_iload C 0 rfl dX2_rights_133 ?_
        refine jj_iload_n C 5 rfl dX2_rights_135 rfl ?_
        refine jj_isub C dX2_rights_136 ?_
        refine jj_bipush (v := 40) C dX2_rights_137 (by decide) ?_
        refine jj_icmp_gt (tgt := 150) C dX2_rights_139 (by decide) hF (fun hF => ?_) (fun hF => ?_)
        · refine jj_sub [2, 3, 4, 5, 6, 7, 8, 9, 10, 0] rfl ?_
          exact w_X2_rights_b150 C hxn hQ hK18 hF
        · refine jj_aload_n C 2 rfl dX2_rights_142 rfl ?_
          refine jj_iconst (v := -1) C dX2_rights_143 (by decide) ?_
          refine jj_pP (f := 30) C jcs_1 (Nat.le_of_ble_eq_true rfl) (jLk.of C q1263 rfl) (Or.inl rfl) dX2_rights_144 (jfit_i _) hF (fun M144 hF => ?_)
          refine jj_goto (tgt := 345) C dX2_rights_147 (by decide) ?_
          refine jj_sub [2, 3, 4, 5, 6, 7, 8] rfl ?_
          exact w_X2_rights_b345 C hxn hQ hK18 hF
  rw [if_neg hc82_0] at hF
  by_cases hc82_1 : v81 = 1
  · rw [if_pos hc82_1] at hF
    refine jj_tabIn (c := 1) (tgt := 169) C hc82_1 dX2_rights_82 (by decide) (by decide) rfl (by decide) ?_
    refine jj_iload C 1 rfl dX2_rights_169 ?_
    refine jj_if_eq (tgt := 178) C dX2_rights_171 (by decide) hF (fun hF => ?_) (fun hF => ?_)
    · refine jj_iload_n C 4 rfl dX2_rights_178 rfl ?_
      refine jj_sub [2, 3, 5, 6, 7, 8, 9, 1] rfl ?_
      exact w_X2_rights_b179 C hxn hQ hK18 hF
    · refine jj_iconst (v := 1) C dX2_rights_174 (by decide) ?_
      refine jj_goto (tgt := 179) C dX2_rights_175 (by decide) ?_
      refine jj_sub [2, 3, 5, 6, 7, 8, 9, 1] rfl ?_
      exact w_X2_rights_b179 C hxn hQ hK18 hF
  rw [if_neg hc82_1] at hF
  by_cases hc82_2 : v81 = 2
  · rw [if_pos hc82_2] at hF
    refine jj_tabIn (c := 2) (tgt := 201) C hc82_2 dX2_rights_82 (by decide) (by decide) rfl (by decide) ?_
    refine jj_iload C 10 rfl dX2_rights_201 ?_
    refine jj_if_eq (tgt := 345) C dX2_rights_203 (by decide) hF (fun hF => ?_) (fun hF => ?_)
    · refine jj_sub [2, 3, 4, 5, 6, 7, 8] rfl ?_
      exact w_X2_rights_b345 C hxn hQ hK18 hF
    · refine jj_iload_n C 4 rfl dX2_rights_206 rfl ?_
      refine jj_iconst (v := 1) C dX2_rights_207 (by decide) ?_
      refine jj_icmp_ne (tgt := 345) C dX2_rights_208 (by decide) hF (fun hF => ?_) (fun hF => ?_)
      · refine jj_sub [2, 3, 4, 5, 6, 7, 8] rfl ?_
        exact w_X2_rights_b345 C hxn hQ hK18 hF
      · refine jj_aload_n C 2 rfl dX2_rights_211 rfl ?_
        refine jj_iload C 9 rfl dX2_rights_212 ?_
        refine jj_pP (f := 30) C jcs_1 (Nat.le_of_ble_eq_true rfl) (jLk.of C q1263 rfl) (Or.inl rfl) dX2_rights_214 (jfit_i _) hF (fun M214 hF => ?_)
        refine jj_iconst (v := 0) C dX2_rights_217 (by decide) ?_
        refine jj_istore_n (L' := [(2, jI (0 : Int32)), (10, jI v72), (9, jI s0), (0, jR l0), (1, jI l1), (3, jI l3), (4, jI l4), (5, jI l5), (6, jI l6), (7, jI l7), (8, jI l8)]) C rfl (by rw [hxn]; decide) dX2_rights_218 rfl ?_
        refine jj_iload C 1 rfl dX2_rights_219 ?_
        refine jj_istore_n (L' := [(3, jI v72), (2, jI (0 : Int32)), (10, jI v72), (9, jI s0), (0, jR l0), (1, jI l1), (4, jI l4), (5, jI l5), (6, jI l6), (7, jI l7), (8, jI l8)]) C rfl (by rw [hxn]; decide) dX2_rights_221 rfl ?_
        refine jj_goto (tgt := 345) C dX2_rights_222 (by decide) ?_
        refine jj_sub [4, 5, 1, 0, 6, 7, 8] rfl ?_
        exact w_X2_rights_b345 C hxn hQ hK18 hF
  rw [if_neg hc82_2] at hF
  by_cases hc82_3 : v81 = 3
  · rw [if_pos hc82_3] at hF
    refine jj_tabIn (c := 3) (tgt := 225) C hc82_3 dX2_rights_82 (by decide) (by decide) rfl (by decide) ?_
    refine jj_iload C 10 rfl dX2_rights_225 ?_
    refine jj_if_eq (tgt := 345) C dX2_rights_227 (by decide) hF (fun hF => ?_) (fun hF => ?_)
    · refine jj_sub [2, 3, 4, 5, 6, 7, 8] rfl ?_
      exact w_X2_rights_b345 C hxn hQ hK18 hF
    · refine jj_iload_n C 4 rfl dX2_rights_230 rfl ?_
      refine jj_iconst (v := 1) C dX2_rights_231 (by decide) ?_
      refine jj_icmp_eq (tgt := 345) C dX2_rights_232 (by decide) hF (fun hF => ?_) (fun hF => ?_)
      · refine jj_sub [2, 3, 4, 5, 6, 7, 8] rfl ?_
        exact w_X2_rights_b345 C hxn hQ hK18 hF
      · refine jj_aload_n C 2 rfl dX2_rights_235 rfl ?_
        refine jj_iconst (v := -1) C dX2_rights_236 (by decide) ?_
        refine jj_pP (f := 30) C jcs_1 (Nat.le_of_ble_eq_true rfl) (jLk.of C q1263 rfl) (Or.inl rfl) dX2_rights_237 (jfit_i _) hF (fun M237 hF => ?_)
        refine jj_iload C 9 rfl dX2_rights_240 ?_
        refine jj_istore (L' := [(4, jI l7), (10, jI v72), (9, jI s0), (0, jR l0), (1, jI l1), (2, jI l2), (3, jI l3), (5, jI l5), (6, jI l6), (7, jI l7), (8, jI l8)]) C rfl (by rw [hxn]; decide) dX2_rights_242 ?_
        refine jj_iload C 1 rfl dX2_rights_244 ?_
        refine jj_istore (L' := [(5, jI v72), (4, jI l7), (10, jI v72), (9, jI s0), (0, jR l0), (1, jI l1), (2, jI l2), (3, jI l3), (6, jI l6), (7, jI l7), (8, jI l8)]) C rfl (by rw [hxn]; decide) dX2_rights_246 ?_
        refine jj_goto (tgt := 345) C dX2_rights_248 (by decide) ?_
        refine jj_sub [4, 5, 6, 7, 1, 0, 8] rfl ?_
        exact w_X2_rights_b345 C hxn hQ hK18 hF
  rw [if_neg hc82_3] at hF
  by_cases hc82_4 : v81 = 4
  · rw [if_pos hc82_4] at hF
    refine jj_tabIn (c := 4) (tgt := 251) C hc82_4 dX2_rights_82 (by decide) (by decide) rfl (by decide) ?_
    refine jj_iload C 1 rfl dX2_rights_251 ?_
    refine jj_if_eq (tgt := 345) C dX2_rights_253 (by decide) hF (fun hF => ?_) (fun hF => ?_)
    · refine jj_sub [2, 3, 4, 5, 6, 7, 8] rfl ?_
      exact w_X2_rights_b345 C hxn hQ hK18 hF
    · refine jj_iload C 6 rfl dX2_rights_256 ?_
      refine jj_iload C 9 rfl dX2_rights_258 ?_
      refine jj_icmp_ne (tgt := 345) C dX2_rights_260 (by decide) hF (fun hF => ?_) (fun hF => ?_)
      · refine jj_sub [2, 3, 4, 5, 6, 7, 8] rfl ?_
        exact w_X2_rights_b345 C hxn hQ hK18 hF
      · refine jj_iload C 0 rfl dX2_rights_263 ?_
        refine jj_iload C 7 rfl dX2_rights_265 ?_
        refine jj_isub C dX2_rights_267 ?_
        refine jj_sipush (v := 300) C dX2_rights_268 (by decide) ?_
        refine jj_icmp_gt (tgt := 345) C dX2_rights_271 (by decide) hF (fun hF => ?_) (fun hF => ?_)
        · refine jj_sub [2, 3, 4, 5, 6, 7, 8] rfl ?_
          exact w_X2_rights_b345 C hxn hQ hK18 hF
        · refine jj_aload_n C 2 rfl dX2_rights_274 rfl ?_
          refine jj_iload C 9 rfl dX2_rights_275 ?_
          refine jj_pP (f := 30) C jcs_1 (Nat.le_of_ble_eq_true rfl) (jLk.of C q1263 rfl) (Or.inl rfl) dX2_rights_277 (jfit_i _) hF (fun M277 hF => ?_)
          refine jj_iconst (v := 4) C dX2_rights_280 (by decide) ?_
          refine jj_istore_n (L' := [(2, jI (4 : Int32)), (10, jI v72), (9, jI s0), (0, jR l0), (1, jI l1), (3, jI l3), (4, jI l4), (5, jI l5), (6, jI l6), (7, jI l7), (8, jI l8)]) C rfl (by rw [hxn]; decide) dX2_rights_281 rfl ?_
          refine jj_goto (tgt := 345) C dX2_rights_282 (by decide) ?_
          refine jj_sub [3, 4, 0, 5, 6, 7, 8] rfl ?_
          exact w_X2_rights_b345 C hxn hQ hK18 hF
  rw [if_neg hc82_4] at hF
  by_cases hc82_5 : v81 = 5
  · rw [if_pos hc82_5] at hF
    refine jj_tabIn (c := 5) (tgt := 285) C hc82_5 dX2_rights_82 (by decide) (by decide) rfl (by decide) ?_
    refine jj_iload C 1 rfl dX2_rights_285 ?_
    refine jj_if_eq (tgt := 345) C dX2_rights_287 (by decide) hF (fun hF => ?_) (fun hF => ?_)
    · refine jj_sub [2, 3, 4, 5, 6, 7, 8] rfl ?_
      exact w_X2_rights_b345 C hxn hQ hK18 hF
    · refine jj_iload C 6 rfl dX2_rights_290 ?_
      refine jj_iconst (v := 1) C dX2_rights_292 (by decide) ?_
      refine jj_iload C 9 rfl dX2_rights_293 ?_
      refine jj_isub C dX2_rights_295 ?_
      refine jj_icmp_ne (tgt := 345) C dX2_rights_296 (by decide) hF (fun hF => ?_) (fun hF => ?_)
      · refine jj_sub [2, 3, 4, 5, 6, 7, 8] rfl ?_
        exact w_X2_rights_b345 C hxn hQ hK18 hF
      · refine jj_iload C 0 rfl dX2_rights_299 ?_
        refine jj_iload C 7 rfl dX2_rights_301 ?_
        refine jj_isub C dX2_rights_303 ?_
        refine jj_sipush (v := 300) C dX2_rights_304 (by decide) ?_
        refine jj_icmp_le (tgt := 345) C dX2_rights_307 (by decide) hF (fun hF => ?_) (fun hF => ?_)
        · refine jj_sub [2, 3, 4, 5, 6, 7, 8] rfl ?_
          exact w_X2_rights_b345 C hxn hQ hK18 hF
        · refine jj_aload_n C 2 rfl dX2_rights_310 rfl ?_
          refine jj_iload C 9 rfl dX2_rights_311 ?_
          refine jj_pP (f := 30) C jcs_1 (Nat.le_of_ble_eq_true rfl) (jLk.of C q1263 rfl) (Or.inl rfl) dX2_rights_313 (jfit_i _) hF (fun M313 hF => ?_)
          refine jj_iconst (v := 5) C dX2_rights_316 (by decide) ?_
          refine jj_istore_n (L' := [(2, jI (5 : Int32)), (10, jI v72), (9, jI s0), (0, jR l0), (1, jI l1), (3, jI l3), (4, jI l4), (5, jI l5), (6, jI l6), (7, jI l7), (8, jI l8)]) C rfl (by rw [hxn]; decide) dX2_rights_317 rfl ?_
          refine jj_goto (tgt := 345) C dX2_rights_318 (by decide) ?_
          refine jj_sub [3, 4, 0, 5, 6, 7, 8] rfl ?_
          exact w_X2_rights_b345 C hxn hQ hK18 hF
  rw [if_neg hc82_5] at hF
  by_cases hc82_6 : v81 = 6
  · rw [if_pos hc82_6] at hF
    refine jj_tabIn (c := 6) (tgt := 321) C hc82_6 dX2_rights_82 (by decide) (by decide) rfl (by decide) ?_
    refine jj_aload_n C 2 rfl dX2_rights_321 rfl ?_
    refine jj_aload_n C 2 rfl dX2_rights_322 rfl ?_
    refine jj_pI (f := 30) C jcs_1 (Nat.le_of_ble_eq_true rfl) (jLk.of C q1263 rfl) dX2_rights_323 hF (fun v323 hF => ?_)
    refine jj_iload C 9 rfl dX2_rights_326 ?_
    refine jj_icmp_ne (tgt := 335) C dX2_rights_328 (by decide) hF (fun hF => ?_) (fun hF => ?_)
    · refine jj_aload_n C 2 rfl dX2_rights_335 rfl ?_
      refine jj_pI (f := 30) C jcs_1 (Nat.le_of_ble_eq_true rfl) (jLk.of C q1263 rfl) dX2_rights_336 hF (fun v336 hF => ?_)
      refine jj_sub [2, 3, 4, 5, 6, 7, 8] rfl ?_
      exact w_X2_rights_b339 C hxn hQ hK18 hF
    · refine jj_iconst (v := -1) C dX2_rights_331 (by decide) ?_
      refine jj_goto (tgt := 339) C dX2_rights_332 (by decide) ?_
      refine jj_sub [2, 3, 4, 5, 6, 7, 8] rfl ?_
      exact w_X2_rights_b339 C hxn hQ hK18 hF
  rw [if_neg hc82_6] at hF
  have hd82_0 : ¬ Int32.toInt v81 = 0 := jne hc82_0
  have hd82_1 : ¬ Int32.toInt v81 = 1 := jne hc82_1
  have hd82_2 : ¬ Int32.toInt v81 = 2 := jne hc82_2
  have hd82_3 : ¬ Int32.toInt v81 = 3 := jne hc82_3
  have hd82_4 : ¬ Int32.toInt v81 = 4 := jne hc82_4
  have hd82_5 : ¬ Int32.toInt v81 = 5 := jne hc82_5
  have hd82_6 : ¬ Int32.toInt v81 = 6 := jne hc82_6
  refine jj_tabOut (tgt := 345) C dX2_rights_82 (by omega) (by decide) ?_
  refine jj_sub [2, 3, 4, 5, 6, 7, 8] rfl ?_
  exact w_X2_rights_b345 C hxn hQ hK18 hF
def f_X2_rights_b49 (K18 : Option Nat → Int32 → Int32 → Int32 → Int32 → Int32 → Int32 → jW → Option (Int32 × jW)) (l0 : Option Nat) (l1 : Int32) (l2 : Int32) (l3 : Int32) (l4 : Int32) (l5 : Int32) (l6 : Int32) (l7 : Int32) (s0 : Int32) (M : jW) : Option (Int32 × jW) := pI M l0 1 30 fun v52 =>
  if v52 = (-1 : Int32) then (f_X2_rights_b64 K18 l0 l1 l2 l3 l4 l5 l6 l7 s0 (1 : Int32) M)
  else (f_X2_rights_b64 K18 l0 l1 l2 l3 l4 l5 l6 l7 s0 (0 : Int32) M)
set_option maxHeartbeats 4000000 in
theorem w_X2_rights_b49 {x : jX} (C : jOk x cX2_rights RX2 rm_X2_rights (some .int)) (hxn : xn x = 11) {v0 : Int32} {M0 : jW} (hQ : jEnd x rm_X2_rights (some (jI v0)) M0) {K18 : Option Nat → Int32 → Int32 → Int32 → Int32 → Int32 → Int32 → jW → Option (Int32 × jW)} (hK18 : ∀ (l0 : Option Nat) (l1 : Int32) (l2 : Int32) (l3 : Int32) (l4 : Int32) (l5 : Int32) (l6 : Int32) (M : jW), K18 l0 l1 l2 l3 l4 l5 l6 M = some (v0, M0) → jJ x 18 [(0, jR l0), (1, jI l1), (2, jI l2), (3, jI l3), (4, jI l4), (5, jI l5), (6, jI l6)] [] M 0 0) {l0 : Option Nat} {l1 : Int32} {l2 : Int32} {l3 : Int32} {l4 : Int32} {l5 : Int32} {l6 : Int32} {l7 : Int32} {s0 : Int32} {M : jW} (hF : f_X2_rights_b49 K18 l0 l1 l2 l3 l4 l5 l6 l7 s0 M = some (v0, M0)) : jJ x 49 [(0, jR l0), (1, jI l1), (2, jI l2), (3, jI l3), (4, jI l4), (5, jI l5), (6, jI l6), (7, jI l7)] [jI s0] M 0 0 := by
  unfold f_X2_rights_b49 at hF
  refine jj_istore (L' := [(8, jI s0), (0, jR l0), (1, jI l1), (2, jI l2), (3, jI l3), (4, jI l4), (5, jI l5), (6, jI l6), (7, jI l7)]) C rfl (by rw [hxn]; decide) dX2_rights_49 ?_
  refine jj_aload_n C 1 rfl dX2_rights_51 rfl ?_
  refine jj_pI (f := 30) C jcs_1 (Nat.le_of_ble_eq_true rfl) (jLk.of C q1263 rfl) dX2_rights_52 hF (fun v52 hF => ?_)
  refine jj_iconst (v := -1) C dX2_rights_55 (by decide) ?_
  refine jj_icmp_ne (tgt := 63) C dX2_rights_56 (by decide) hF (fun hF => ?_) (fun hF => ?_)
  · refine jj_iconst (v := 0) C dX2_rights_63 (by decide) ?_
    refine jj_sub [1, 2, 3, 4, 5, 6, 7, 8, 0] rfl ?_
    exact w_X2_rights_b64 C hxn hQ hK18 hF
  · refine jj_iconst (v := 1) C dX2_rights_59 (by decide) ?_
    refine jj_goto (tgt := 64) C dX2_rights_60 (by decide) ?_
    refine jj_sub [1, 2, 3, 4, 5, 6, 7, 8, 0] rfl ?_
    exact w_X2_rights_b64 C hxn hQ hK18 hF
def f_X2_rights_b18 : Nat → Option Nat → Int32 → Int32 → Int32 → Int32 → Int32 → Int32 → jW → Option (Int32 × jW)
  | 0, _, _, _, _, _, _, _, _ => none
  | q + 1, l0, l1, l2, l3, l4, l5, l6, M => if l1 ≤ l6 then (pI M l0 1 30 fun v352 =>
  some (v352, M))
  else (pR M l0 1 18 fun v25 =>
  pAI M v25 0 l6 fun v30 =>
  pI M l0 1 30 fun v34 =>
  if v34 = ((1 : Int32) - v30) then (f_X2_rights_b49 (f_X2_rights_b18 q) l0 l1 l2 l3 l4 l5 l6 v30 (1 : Int32) M)
  else (f_X2_rights_b49 (f_X2_rights_b18 q) l0 l1 l2 l3 l4 l5 l6 v30 (0 : Int32) M))
theorem f_X2_rights_b18_s (q : Nat) (l0 : Option Nat) (l1 : Int32) (l2 : Int32) (l3 : Int32) (l4 : Int32) (l5 : Int32) (l6 : Int32) (M : jW) : f_X2_rights_b18 (q + 1) l0 l1 l2 l3 l4 l5 l6 M = (if l1 ≤ l6 then (pI M l0 1 30 fun v352 =>
  some (v352, M))
  else (pR M l0 1 18 fun v25 =>
  pAI M v25 0 l6 fun v30 =>
  pI M l0 1 30 fun v34 =>
  if v34 = ((1 : Int32) - v30) then (f_X2_rights_b49 (f_X2_rights_b18 q) l0 l1 l2 l3 l4 l5 l6 v30 (1 : Int32) M)
  else (f_X2_rights_b49 (f_X2_rights_b18 q) l0 l1 l2 l3 l4 l5 l6 v30 (0 : Int32) M))) := rfl
set_option maxHeartbeats 4000000 in
theorem w_X2_rights_b18 {x : jX} (C : jOk x cX2_rights RX2 rm_X2_rights (some .int)) (hxn : xn x = 11) {v0 : Int32} {M0 : jW} (hQ : jEnd x rm_X2_rights (some (jI v0)) M0) : ∀ (n18 : Nat) (l0 : Option Nat) (l1 : Int32) (l2 : Int32) (l3 : Int32) (l4 : Int32) (l5 : Int32) (l6 : Int32) (M : jW), f_X2_rights_b18 n18 l0 l1 l2 l3 l4 l5 l6 M = some (v0, M0) → jJ x 18 [(0, jR l0), (1, jI l1), (2, jI l2), (3, jI l3), (4, jI l4), (5, jI l5), (6, jI l6)] [] M 0 0 := by
  intro n18
  induction n18 with
  | zero =>
    intro l0 l1 l2 l3 l4 l5 l6 M hF
    cases hF
  | succ n18 hK18 =>
    intro l0 l1 l2 l3 l4 l5 l6 M hF
    rw [f_X2_rights_b18_s] at hF
    refine jj_iload C 6 rfl dX2_rights_18 ?_
    refine jj_iload_n C 1 rfl dX2_rights_20 rfl ?_
    refine jj_icmp_ge (tgt := 351) C dX2_rights_21 (by decide) hF (fun hF => ?_) (fun hF => ?_)
    · refine jj_aload_n C 0 rfl dX2_rights_351 rfl ?_
      refine jj_pI (f := 30) C jcs_1 (Nat.le_of_ble_eq_true rfl) (jLk.of C q1263 rfl) dX2_rights_352 hF (fun v352 hF => ?_)
      exact jj_iret C hQ dX2_rights_355 hF (Nat.zero_le _) (Nat.zero_le _)
    · refine jj_aload_n C 0 rfl dX2_rights_24 rfl ?_
      refine jj_pR (f := 18) C jcs_1 (Nat.le_of_ble_eq_true rfl) (jLk.of C q1251 rfl) dX2_rights_25 hF (fun v25 hF => ?_)
      refine jj_iload C 6 rfl dX2_rights_28 ?_
      refine jj_iald C dX2_rights_30 hF (fun v30 hF => ?_)
      refine jj_istore (L' := [(7, jI v30), (0, jR l0), (1, jI l1), (2, jI l2), (3, jI l3), (4, jI l4), (5, jI l5), (6, jI l6)]) C rfl (by rw [hxn]; decide) dX2_rights_31 ?_
      refine jj_aload_n C 1 rfl dX2_rights_33 rfl ?_
      refine jj_pI (f := 30) C jcs_1 (Nat.le_of_ble_eq_true rfl) (jLk.of C q1263 rfl) dX2_rights_34 hF (fun v34 hF => ?_)
      refine jj_iconst (v := 1) C dX2_rights_37 (by decide) ?_
      refine jj_iload C 0 rfl dX2_rights_38 ?_
      refine jj_isub C dX2_rights_40 ?_
      refine jj_icmp_ne (tgt := 48) C dX2_rights_41 (by decide) hF (fun hF => ?_) (fun hF => ?_)
      · refine jj_iconst (v := 0) C dX2_rights_48 (by decide) ?_
        refine jj_sub [1, 2, 3, 4, 5, 6, 7, 0] rfl ?_
        exact w_X2_rights_b49 C hxn hQ hK18 hF
      · refine jj_iconst (v := 1) C dX2_rights_44 (by decide) ?_
        refine jj_goto (tgt := 49) C dX2_rights_45 (by decide) ?_
        refine jj_sub [1, 2, 3, 4, 5, 6, 7, 0] rfl ?_
        exact w_X2_rights_b49 C hxn hQ hK18 hF
def f_X2_rights (a0 : Option Nat) (a1 : Int32) (M : jW) : Option (Int32 × jW) := pP M a0 1 30 (jI (-1 : Int32)) fun M2 =>
  f_X2_rights_b18 1000 a0 a1 (-1 : Int32) (0 : Int32) (-1 : Int32) (0 : Int32) (0 : Int32) M2
set_option maxHeartbeats 4000000 in
theorem m_X2_rights (l : Launch) (g : jG) {a0 : Option Nat} {a1 : Int32} {M M0 : jW} {v0 : Int32} (hF : f_X2_rights a0 a1 M = some (v0, M0)) : jMet l g yX2_rights cX2_rights 11 (some .int) rm_X2_rights [jR a0, jI a1] M (some (jI v0)) M0 := by
  refine jMet.of (L := [(0, jR a0), (1, jI a1)]) (by decide) rfl (Nat.le_of_ble_eq_true rfl) (fun x C hxn hg hl hQ hin => ?_)
  subst hg
  unfold f_X2_rights at hF
  refine jj_aload_n C 0 rfl dX2_rights_0 rfl ?_
  refine jj_iconst (v := -1) C dX2_rights_1 (by decide) ?_
  refine jj_pP (f := 30) C jcs_1 (Nat.le_of_ble_eq_true rfl) (jLk.of C q1263 rfl) (Or.inl rfl) dX2_rights_2 (jfit_i _) hF (fun M2 hF => ?_)
  refine jj_iconst (v := -1) C dX2_rights_5 (by decide) ?_
  refine jj_istore_n (L' := [(2, jI (-1 : Int32)), (0, jR a0), (1, jI a1)]) C rfl (by rw [hxn]; decide) dX2_rights_6 rfl ?_
  refine jj_iconst (v := 0) C dX2_rights_7 (by decide) ?_
  refine jj_istore_n (L' := [(3, jI (0 : Int32)), (2, jI (-1 : Int32)), (0, jR a0), (1, jI a1)]) C rfl (by rw [hxn]; decide) dX2_rights_8 rfl ?_
  refine jj_iconst (v := -1) C dX2_rights_9 (by decide) ?_
  refine jj_istore (L' := [(4, jI (-1 : Int32)), (3, jI (0 : Int32)), (2, jI (-1 : Int32)), (0, jR a0), (1, jI a1)]) C rfl (by rw [hxn]; decide) dX2_rights_10 ?_
  refine jj_iconst (v := 0) C dX2_rights_12 (by decide) ?_
  refine jj_istore (L' := [(5, jI (0 : Int32)), (4, jI (-1 : Int32)), (3, jI (0 : Int32)), (2, jI (-1 : Int32)), (0, jR a0), (1, jI a1)]) C rfl (by rw [hxn]; decide) dX2_rights_13 ?_
  refine jj_iconst (v := 0) C dX2_rights_15 (by decide) ?_
  refine jj_istore (L' := [(6, jI (0 : Int32)), (5, jI (0 : Int32)), (4, jI (-1 : Int32)), (3, jI (0 : Int32)), (2, jI (-1 : Int32)), (0, jR a0), (1, jI a1)]) C rfl (by rw [hxn]; decide) dX2_rights_16 ?_
  refine jj_sub [5, 6, 4, 3, 2, 1, 0] rfl ?_
  exact w_X2_rights_b18 C hxn hQ 1000 _ _ _ _ _ _ _ _ hF
/-! PhrasehallModel.given()I -/
def rm_X2_given : Room := ({ frames := 3, cells := 0, slots := 0, locals := 112 } : Room)
theorem hd_X2_given : yX2_given.cls ≠ "java/lang/invoke/MethodHandle" ∧ yX2_given.cls ≠ "java/lang/invoke/VarHandle" ∧ (parseMethodDescriptor yX2_given.desc).map (fun d => d.parameters.length) = some 0 := ⟨by decide, by decide, by decide +kernel⟩
def f_X2_given_b65 (l0 : Option Nat) (l3 : Int32) (s0 : Option Nat) (s1 : Int32) (M : jW) : Option (Int32 × jW) := pP M s0 1 2 (jI s1) fun M65 =>
  pR M65 l0 1 22 fun v69 =>
  pAI M65 v69 0 l3 fun v73 =>
  if v73 = 0 then (pR M65 l0 1 18 fun v79 =>
  pAI M65 v79 0 l3 fun v83 =>
  some (((1 : Int32) <<< (v83 &&& 31)), M65))
  else (some ((0 : Int32), M65))
set_option maxHeartbeats 4000000 in
theorem w_X2_given_b65 {x : jX} (C : jOk x cX2_given RX2 rm_X2_given (some .int)) (hxn : xn x = 7) {v0 : Int32} {M0 : jW} (hQ : jEnd x rm_X2_given (some (jI v0)) M0) {l0 : Option Nat} {l3 : Int32} {s0 : Option Nat} {s1 : Int32} {M : jW} (hF : f_X2_given_b65 l0 l3 s0 s1 M = some (v0, M0)) : jJ x 65 [(0, jR l0), (3, jI l3)] [jI s1, jR s0] M 0 0 := by
  unfold f_X2_given_b65 at hF
  refine jj_pP (f := 2) C jcs_1 (Nat.le_of_ble_eq_true rfl) (jLk.of C q1235 rfl) (Or.inl rfl) dX2_given_65 (jfit_i _) hF (fun M65 hF => ?_)
  refine jj_aload_n C 0 rfl dX2_given_68 rfl ?_
  refine jj_pR (f := 22) C jcs_1 (Nat.le_of_ble_eq_true rfl) (jLk.of C q1255 rfl) dX2_given_69 hF (fun v69 hF => ?_)
  refine jj_iload_n C 1 rfl dX2_given_72 rfl ?_
  refine jj_iald C dX2_given_73 hF (fun v73 hF => ?_)
  refine jj_if_ne (tgt := 88) C dX2_given_74 (by decide) hF (fun hF => ?_) (fun hF => ?_)
  · refine jj_iconst (v := 0) C dX2_given_88 (by decide) ?_
    exact jj_iret C hQ dX2_given_89 hF (Nat.zero_le _) (Nat.zero_le _)
  · refine jj_iconst (v := 1) C dX2_given_77 (by decide) ?_
    refine jj_aload_n C 0 rfl dX2_given_78 rfl ?_
    refine jj_pR (f := 18) C jcs_1 (Nat.le_of_ble_eq_true rfl) (jLk.of C q1251 rfl) dX2_given_79 hF (fun v79 hF => ?_)
    refine jj_iload_n C 1 rfl dX2_given_82 rfl ?_
    refine jj_iald C dX2_given_83 hF (fun v83 hF => ?_)
    refine jj_ishl C dX2_given_84 ?_
    refine jj_goto (tgt := 89) C dX2_given_85 (by decide) ?_
    exact jj_iret C hQ dX2_given_89 hF (Nat.zero_le _) (Nat.zero_le _)
def f_X2_given_b49 (l0 : Option Nat) (s0 : Int32) (M : jW) : Option (Int32 × jW) := pR M l0 1 22 fun v52 =>
  pAI M v52 0 s0 fun v56 =>
  if v56 = 0 then (f_X2_given_b65 l0 s0 l0 (1 : Int32) M)
  else (f_X2_given_b65 l0 s0 l0 (2 : Int32) M)
set_option maxHeartbeats 4000000 in
theorem w_X2_given_b49 {x : jX} (C : jOk x cX2_given RX2 rm_X2_given (some .int)) (hxn : xn x = 7) {v0 : Int32} {M0 : jW} (hQ : jEnd x rm_X2_given (some (jI v0)) M0) {l0 : Option Nat} {s0 : Int32} {M : jW} (hF : f_X2_given_b49 l0 s0 M = some (v0, M0)) : jJ x 49 [(0, jR l0)] [jI s0] M 0 0 := by
  unfold f_X2_given_b49 at hF
  refine jj_istore_n (L' := [(3, jI s0), (0, jR l0)]) C rfl (by rw [hxn]; decide) dX2_given_49 rfl ?_
  refine jj_aload_n C 1 rfl dX2_given_50 rfl ?_
  refine jj_aload_n C 1 rfl dX2_given_51 rfl ?_
  refine jj_pR (f := 22) C jcs_1 (Nat.le_of_ble_eq_true rfl) (jLk.of C q1255 rfl) dX2_given_52 hF (fun v52 hF => ?_)
  refine jj_iload_n C 0 rfl dX2_given_55 rfl ?_
  refine jj_iald C dX2_given_56 hF (fun v56 hF => ?_)
  refine jj_if_ne (tgt := 64) C dX2_given_57 (by decide) hF (fun hF => ?_) (fun hF => ?_)
  · refine jj_iconst (v := 2) C dX2_given_64 (by decide) ?_
    refine jj_sub [1, 0] rfl ?_
    exact w_X2_given_b65 C hxn hQ hF
  · refine jj_iconst (v := 1) C dX2_given_60 (by decide) ?_
    refine jj_goto (tgt := 65) C dX2_given_61 (by decide) ?_
    refine jj_sub [1, 0] rfl ?_
    exact w_X2_given_b65 C hxn hQ hF
def f_X2_given_b39 (l0 : Option Nat) (l1 : Int32) (l2 : Int32) (M : jW) : Option (Int32 × jW) := if l1 = (-1 : Int32) then (f_X2_given_b49 l0 l2 M)
  else (f_X2_given_b49 l0 l1 M)
set_option maxHeartbeats 4000000 in
theorem w_X2_given_b39 {x : jX} (C : jOk x cX2_given RX2 rm_X2_given (some .int)) (hxn : xn x = 7) {v0 : Int32} {M0 : jW} (hQ : jEnd x rm_X2_given (some (jI v0)) M0) {l0 : Option Nat} {l1 : Int32} {l2 : Int32} {M : jW} (hF : f_X2_given_b39 l0 l1 l2 M = some (v0, M0)) : jJ x 39 [(0, jR l0), (1, jI l1), (2, jI l2)] [] M 0 0 := by
  unfold f_X2_given_b39 at hF
  refine jj_iload_n C 1 rfl dX2_given_39 rfl ?_
  refine jj_iconst (v := -1) C dX2_given_40 (by decide) ?_
  refine jj_icmp_ne (tgt := 48) C dX2_given_41 (by decide) hF (fun hF => ?_) (fun hF => ?_)
  · refine jj_iload_n C 1 rfl dX2_given_48 rfl ?_
    refine jj_sub [0] rfl ?_
    exact w_X2_given_b49 C hxn hQ hF
  · refine jj_iload_n C 2 rfl dX2_given_44 rfl ?_
    refine jj_goto (tgt := 49) C dX2_given_45 (by decide) ?_
    refine jj_sub [0] rfl ?_
    exact w_X2_given_b49 C hxn hQ hF
def f_X2_given_b269 (l0 : Option Nat) (l4 : Int32) (l5 : Int32) (s0 : Option Nat) (s1 : Int32) (M : jW) : Option (Int32 × jW) := pP M s0 1 2 (jI s1) fun M269 =>
  pR M269 l0 1 22 fun v273 =>
  pAI M269 v273 0 l5 fun v278 =>
  if v278 = 0 then (some (((1 : Int32) <<< (l4 &&& 31)), M269))
  else (some ((0 : Int32), M269))
set_option maxHeartbeats 4000000 in
theorem w_X2_given_b269 {x : jX} (C : jOk x cX2_given RX2 rm_X2_given (some .int)) (hxn : xn x = 7) {v0 : Int32} {M0 : jW} (hQ : jEnd x rm_X2_given (some (jI v0)) M0) {l0 : Option Nat} {l4 : Int32} {l5 : Int32} {s0 : Option Nat} {s1 : Int32} {M : jW} (hF : f_X2_given_b269 l0 l4 l5 s0 s1 M = some (v0, M0)) : jJ x 269 [(0, jR l0), (4, jI l4), (5, jI l5)] [jI s1, jR s0] M 0 0 := by
  unfold f_X2_given_b269 at hF
  refine jj_pP (f := 2) C jcs_1 (Nat.le_of_ble_eq_true rfl) (jLk.of C q1235 rfl) (Or.inl rfl) dX2_given_269 (jfit_i _) hF (fun M269 hF => ?_)
  refine jj_aload_n C 0 rfl dX2_given_272 rfl ?_
  refine jj_pR (f := 22) C jcs_1 (Nat.le_of_ble_eq_true rfl) (jLk.of C q1255 rfl) dX2_given_273 hF (fun v273 hF => ?_)
  refine jj_iload C 2 rfl dX2_given_276 ?_
  refine jj_iald C dX2_given_278 hF (fun v278 hF => ?_)
  refine jj_if_ne (tgt := 289) C dX2_given_279 (by decide) hF (fun hF => ?_) (fun hF => ?_)
  · refine jj_iconst (v := 0) C dX2_given_289 (by decide) ?_
    exact jj_iret C hQ dX2_given_290 hF (Nat.zero_le _) (Nat.zero_le _)
  · refine jj_iconst (v := 1) C dX2_given_282 (by decide) ?_
    refine jj_iload C 1 rfl dX2_given_283 ?_
    refine jj_ishl C dX2_given_285 ?_
    refine jj_goto (tgt := 290) C dX2_given_286 (by decide) ?_
    exact jj_iret C hQ dX2_given_290 hF (Nat.zero_le _) (Nat.zero_le _)
def f_X2_given_b252 (l0 : Option Nat) (l4 : Int32) (l5 : Int32) (M : jW) : Option (Int32 × jW) := pR M l0 1 22 fun v254 =>
  pAI M v254 0 l5 fun v259 =>
  if v259 = 0 then (f_X2_given_b269 l0 l4 l5 l0 (6 : Int32) M)
  else (f_X2_given_b269 l0 l4 l5 l0 (2 : Int32) M)
set_option maxHeartbeats 4000000 in
theorem w_X2_given_b252 {x : jX} (C : jOk x cX2_given RX2 rm_X2_given (some .int)) (hxn : xn x = 7) {v0 : Int32} {M0 : jW} (hQ : jEnd x rm_X2_given (some (jI v0)) M0) {l0 : Option Nat} {l4 : Int32} {l5 : Int32} {M : jW} (hF : f_X2_given_b252 l0 l4 l5 M = some (v0, M0)) : jJ x 252 [(0, jR l0), (4, jI l4), (5, jI l5)] [] M 0 0 := by
  unfold f_X2_given_b252 at hF
  refine jj_aload_n C 0 rfl dX2_given_252 rfl ?_
  refine jj_aload_n C 0 rfl dX2_given_253 rfl ?_
  refine jj_pR (f := 22) C jcs_1 (Nat.le_of_ble_eq_true rfl) (jLk.of C q1255 rfl) dX2_given_254 hF (fun v254 hF => ?_)
  refine jj_iload C 2 rfl dX2_given_257 ?_
  refine jj_iald C dX2_given_259 hF (fun v259 hF => ?_)
  refine jj_if_ne (tgt := 268) C dX2_given_260 (by decide) hF (fun hF => ?_) (fun hF => ?_)
  · refine jj_iconst (v := 2) C dX2_given_268 (by decide) ?_
    refine jj_sub [0, 1, 2] rfl ?_
    exact w_X2_given_b269 C hxn hQ hF
  · refine jj_bipush (v := 6) C dX2_given_263 (by decide) ?_
    refine jj_goto (tgt := 269) C dX2_given_265 (by decide) ?_
    refine jj_sub [0, 1, 2] rfl ?_
    exact w_X2_given_b269 C hxn hQ hF
def f_X2_given_b207 (l0 : Option Nat) (l4 : Int32) (l5 : Int32) (s0 : Int32) (M : jW) : Option (Int32 × jW) := pR M l0 1 22 fun v210 =>
  pAI M v210 0 s0 fun v215 =>
  if v215 = 0 then (pR M l0 1 20 fun v220 =>
  pAI M v220 0 l5 fun v225 =>
  pR M l0 1 20 fun v227 =>
  pAI M v227 0 s0 fun v232 =>
  if (v225 - v232) < (150 : Int32) then (f_X2_given_b252 l0 l4 l5 M)
  else (pP M l0 1 2 (jI (5 : Int32)) fun M242 =>
  some (((1 : Int32) <<< (((1 : Int32) - l4) &&& 31)), M242)))
  else (f_X2_given_b252 l0 l4 l5 M)
set_option maxHeartbeats 4000000 in
theorem w_X2_given_b207 {x : jX} (C : jOk x cX2_given RX2 rm_X2_given (some .int)) (hxn : xn x = 7) {v0 : Int32} {M0 : jW} (hQ : jEnd x rm_X2_given (some (jI v0)) M0) {l0 : Option Nat} {l4 : Int32} {l5 : Int32} {s0 : Int32} {M : jW} (hF : f_X2_given_b207 l0 l4 l5 s0 M = some (v0, M0)) : jJ x 207 [(0, jR l0), (4, jI l4), (5, jI l5)] [jI s0] M 0 0 := by
  unfold f_X2_given_b207 at hF
  refine jj_istore (L' := [(6, jI s0), (0, jR l0), (4, jI l4), (5, jI l5)]) C rfl (by rw [hxn]; decide) dX2_given_207 ?_
  refine jj_aload_n C 1 rfl dX2_given_209 rfl ?_
  refine jj_pR (f := 22) C jcs_1 (Nat.le_of_ble_eq_true rfl) (jLk.of C q1255 rfl) dX2_given_210 hF (fun v210 hF => ?_)
  refine jj_iload C 0 rfl dX2_given_213 ?_
  refine jj_iald C dX2_given_215 hF (fun v215 hF => ?_)
  refine jj_if_ne (tgt := 252) C dX2_given_216 (by decide) hF (fun hF => ?_) (fun hF => ?_)
  · refine jj_sub [1, 2, 3] rfl ?_
    exact w_X2_given_b252 C hxn hQ hF
  · refine jj_aload_n C 1 rfl dX2_given_219 rfl ?_
    refine jj_pR (f := 20) C jcs_1 (Nat.le_of_ble_eq_true rfl) (jLk.of C q1253 rfl) dX2_given_220 hF (fun v220 hF => ?_)
    refine jj_iload C 3 rfl dX2_given_223 ?_
    refine jj_iald C dX2_given_225 hF (fun v225 hF => ?_)
    refine jj_aload_n C 1 rfl dX2_given_226 rfl ?_
    refine jj_pR (f := 20) C jcs_1 (Nat.le_of_ble_eq_true rfl) (jLk.of C q1253 rfl) dX2_given_227 hF (fun v227 hF => ?_)
    refine jj_iload C 0 rfl dX2_given_230 ?_
    refine jj_iald C dX2_given_232 hF (fun v232 hF => ?_)
    refine jj_isub C dX2_given_233 ?_
    refine jj_sipush (v := 150) C dX2_given_234 (by decide) ?_
    refine jj_icmp_lt (tgt := 252) C dX2_given_237 (by decide) hF (fun hF => ?_) (fun hF => ?_)
    · refine jj_sub [1, 2, 3] rfl ?_
      exact w_X2_given_b252 C hxn hQ hF
    · refine jj_aload_n C 1 rfl dX2_given_240 rfl ?_
      refine jj_iconst (v := 5) C dX2_given_241 (by decide) ?_
      refine jj_pP (f := 2) C jcs_1 (Nat.le_of_ble_eq_true rfl) (jLk.of C q1235 rfl) (Or.inl rfl) dX2_given_242 (jfit_i _) hF (fun M242 hF => ?_)
      refine jj_iconst (v := 1) C dX2_given_245 (by decide) ?_
      refine jj_iconst (v := 1) C dX2_given_246 (by decide) ?_
      refine jj_iload C 2 rfl dX2_given_247 ?_
      refine jj_isub C dX2_given_249 ?_
      refine jj_ishl C dX2_given_250 ?_
      exact jj_iret C hQ dX2_given_251 hF (Nat.zero_le _) (Nat.zero_le _)
def f_X2_given_b195 (l0 : Option Nat) (l1 : Int32) (l2 : Int32) (l4 : Int32) (s0 : Int32) (M : jW) : Option (Int32 × jW) := if l4 = 0 then (f_X2_given_b207 l0 l4 s0 l2 M)
  else (f_X2_given_b207 l0 l4 s0 l1 M)
set_option maxHeartbeats 4000000 in
theorem w_X2_given_b195 {x : jX} (C : jOk x cX2_given RX2 rm_X2_given (some .int)) (hxn : xn x = 7) {v0 : Int32} {M0 : jW} (hQ : jEnd x rm_X2_given (some (jI v0)) M0) {l0 : Option Nat} {l1 : Int32} {l2 : Int32} {l4 : Int32} {s0 : Int32} {M : jW} (hF : f_X2_given_b195 l0 l1 l2 l4 s0 M = some (v0, M0)) : jJ x 195 [(0, jR l0), (1, jI l1), (2, jI l2), (4, jI l4)] [jI s0] M 0 0 := by
  unfold f_X2_given_b195 at hF
  refine jj_istore (L' := [(5, jI s0), (0, jR l0), (1, jI l1), (2, jI l2), (4, jI l4)]) C rfl (by rw [hxn]; decide) dX2_given_195 ?_
  refine jj_iload C 4 rfl dX2_given_197 ?_
  refine jj_if_ne (tgt := 206) C dX2_given_199 (by decide) hF (fun hF => ?_) (fun hF => ?_)
  · refine jj_iload_n C 2 rfl dX2_given_206 rfl ?_
    refine jj_sub [1, 4, 0] rfl ?_
    exact w_X2_given_b207 C hxn hQ hF
  · refine jj_iload_n C 3 rfl dX2_given_202 rfl ?_
    refine jj_goto (tgt := 207) C dX2_given_203 (by decide) ?_
    refine jj_sub [1, 4, 0] rfl ?_
    exact w_X2_given_b207 C hxn hQ hF
def f_X2_given_b167 (l0 : Option Nat) (l1 : Int32) (l2 : Int32) (s0 : Option Nat) (s1 : Int32) (M : jW) : Option (Int32 × jW) := pO M s0 1 fun b167 _ => pB (f_X2_rights (some b167) s1 M) fun r167 M167 =>
  if r167 = (-1 : Int32) then (pP M167 l0 1 2 (jI (4 : Int32)) fun M180 =>
  some ((0 : Int32), M180))
  else (if r167 = 0 then (f_X2_given_b195 l0 l1 l2 r167 l1 M167)
  else (f_X2_given_b195 l0 l1 l2 r167 l2 M167))
set_option maxHeartbeats 4000000 in
theorem w_X2_given_b167 {x : jX} (C : jOk x cX2_given RX2 rm_X2_given (some .int)) (hxn : xn x = 7) {v0 : Int32} {M0 : jW} (hQ : jEnd x rm_X2_given (some (jI v0)) M0) {l0 : Option Nat} {l1 : Int32} {l2 : Int32} {s0 : Option Nat} {s1 : Int32} {M : jW} (hF : f_X2_given_b167 l0 l1 l2 s0 s1 M = some (v0, M0)) : jJ x 167 [(0, jR l0), (1, jI l1), (2, jI l2)] [jI s1, jR s0] M 0 0 := by
  unfold f_X2_given_b167 at hF
  obtain ⟨b167, fs167, he167, hb167, hF⟩ := pO_spec hF
  obtain ⟨r167, M167, hG, hF⟩ := pB_spec hF
  refine jj_callV (k' := 0) (n' := 0) C [jI s1] [] [jI r167] he167 (m_X2_rights _ _ hG) hb167 rfl q1394 q1396 qs28 q46 q1397 ⟨rfl, hd_X2_rights⟩ rfl (Nat.le_of_ble_eq_true rfl) ⟨Nat.le_of_ble_eq_true rfl, Nat.le_of_ble_eq_true rfl⟩ ⟨Nat.le_refl _, Nat.le_refl _, Nat.le_refl _, Nat.le_refl _⟩ dX2_given_167 rfl ?_
  refine jj_istore (L' := [(4, jI r167), (0, jR l0), (1, jI l1), (2, jI l2)]) C rfl (by rw [hxn]; decide) dX2_given_170 ?_
  refine jj_iload C 0 rfl dX2_given_172 ?_
  refine jj_iconst (v := -1) C dX2_given_174 (by decide) ?_
  refine jj_icmp_ne (tgt := 185) C dX2_given_175 (by decide) hF (fun hF => ?_) (fun hF => ?_)
  · refine jj_iload C 0 rfl dX2_given_185 ?_
    refine jj_if_ne (tgt := 194) C dX2_given_187 (by decide) hF (fun hF => ?_) (fun hF => ?_)
    · refine jj_iload_n C 3 rfl dX2_given_194 rfl ?_
      refine jj_sub [1, 2, 3, 0] rfl ?_
      exact w_X2_given_b195 C hxn hQ hF
    · refine jj_iload_n C 2 rfl dX2_given_190 rfl ?_
      refine jj_goto (tgt := 195) C dX2_given_191 (by decide) ?_
      refine jj_sub [1, 2, 3, 0] rfl ?_
      exact w_X2_given_b195 C hxn hQ hF
  · refine jj_aload_n C 1 rfl dX2_given_178 rfl ?_
    refine jj_iconst (v := 4) C dX2_given_179 (by decide) ?_
    refine jj_pP (f := 2) C jcs_1 (Nat.le_of_ble_eq_true rfl) (jLk.of C q1235 rfl) (Or.inl rfl) dX2_given_180 (jfit_i _) hF (fun M180 hF => ?_)
    refine jj_iconst (v := 0) C dX2_given_183 (by decide) ?_
    exact jj_iret C hQ dX2_given_184 hF (Nat.zero_le _) (Nat.zero_le _)
def f_X2_given_b29 (l0 : Option Nat) (l1 : Int32) (l2 : Int32) (M : jW) : Option (Int32 × jW) := if l1 = (-1 : Int32) then (f_X2_given_b39 l0 l1 l2 M)
  else (if l2 = (-1 : Int32) then (f_X2_given_b39 l0 l1 l2 M)
  else (pI M l0 1 4 fun v91 =>
  pR M l0 1 7 fun v96 =>
  pAI M v96 0 v91 fun v100 =>
  if v100 = (1 : Int32) then (pP M l0 1 2 (jI (3 : Int32)) fun M107 =>
  pR M107 l0 1 6 fun v111 =>
  pAI M107 v111 0 ((2 : Int32) * v91) fun v117 =>
  pR M107 l0 1 8 fun v121 =>
  pAI M107 v121 0 v91 fun v125 =>
  if (v117 + (1 : Int32)) < v125 then (some ((3 : Int32), M107))
  else (pR M107 l0 1 6 fun v130 =>
  pAI M107 v130 0 (((2 : Int32) * v91) + (1 : Int32)) fun v138 =>
  pR M107 l0 1 8 fun v142 =>
  pAI M107 v142 0 v91 fun v146 =>
  if (v138 + (1 : Int32)) < v146 then (some ((3 : Int32), M107))
  else (some ((0 : Int32), M107))))
  else (if l1 ≤ l2 then (f_X2_given_b167 l0 l1 l2 l0 l2 M)
  else (f_X2_given_b167 l0 l1 l2 l0 l1 M))))
set_option maxHeartbeats 4000000 in
theorem w_X2_given_b29 {x : jX} (C : jOk x cX2_given RX2 rm_X2_given (some .int)) (hxn : xn x = 7) {v0 : Int32} {M0 : jW} (hQ : jEnd x rm_X2_given (some (jI v0)) M0) {l0 : Option Nat} {l1 : Int32} {l2 : Int32} {M : jW} (hF : f_X2_given_b29 l0 l1 l2 M = some (v0, M0)) : jJ x 29 [(0, jR l0), (1, jI l1), (2, jI l2)] [] M 0 0 := by
  unfold f_X2_given_b29 at hF
  refine jj_iload_n C 1 rfl dX2_given_29 rfl ?_
  refine jj_iconst (v := -1) C dX2_given_30 (by decide) ?_
  refine jj_icmp_eq (tgt := 39) C dX2_given_31 (by decide) hF (fun hF => ?_) (fun hF => ?_)
  · refine jj_sub [0, 1, 2] rfl ?_
    exact w_X2_given_b39 C hxn hQ hF
  · refine jj_iload_n C 2 rfl dX2_given_34 rfl ?_
    refine jj_iconst (v := -1) C dX2_given_35 (by decide) ?_
    refine jj_icmp_ne (tgt := 90) C dX2_given_36 (by decide) hF (fun hF => ?_) (fun hF => ?_)
    · refine jj_aload_n C 0 rfl dX2_given_90 rfl ?_
      refine jj_pI (f := 4) C jcs_1 (Nat.le_of_ble_eq_true rfl) (jLk.of C q1237 rfl) dX2_given_91 hF (fun v91 hF => ?_)
      refine jj_istore_n (L' := [(3, jI v91), (0, jR l0), (1, jI l1), (2, jI l2)]) C rfl (by rw [hxn]; decide) dX2_given_94 rfl ?_
      refine jj_aload_n C 1 rfl dX2_given_95 rfl ?_
      refine jj_pR (f := 7) C jcs_1 (Nat.le_of_ble_eq_true rfl) (jLk.of C q1240 rfl) dX2_given_96 hF (fun v96 hF => ?_)
      refine jj_iload_n C 0 rfl dX2_given_99 rfl ?_
      refine jj_iald C dX2_given_100 hF (fun v100 hF => ?_)
      refine jj_iconst (v := 1) C dX2_given_101 (by decide) ?_
      refine jj_icmp_ne (tgt := 156) C dX2_given_102 (by decide) hF (fun hF => ?_) (fun hF => ?_)
      · refine jj_aload_n C 1 rfl dX2_given_156 rfl ?_
        refine jj_iload_n C 2 rfl dX2_given_157 rfl ?_
        refine jj_iload_n C 3 rfl dX2_given_158 rfl ?_
        refine jj_icmp_le (tgt := 166) C dX2_given_159 (by decide) hF (fun hF => ?_) (fun hF => ?_)
        · refine jj_iload_n C 3 rfl dX2_given_166 rfl ?_
          refine jj_sub [1, 2, 3] rfl ?_
          exact w_X2_given_b167 C hxn hQ hF
        · refine jj_iload_n C 2 rfl dX2_given_162 rfl ?_
          refine jj_goto (tgt := 167) C dX2_given_163 (by decide) ?_
          refine jj_sub [1, 2, 3] rfl ?_
          exact w_X2_given_b167 C hxn hQ hF
      · refine jj_aload_n C 1 rfl dX2_given_105 rfl ?_
        refine jj_iconst (v := 3) C dX2_given_106 (by decide) ?_
        refine jj_pP (f := 2) C jcs_1 (Nat.le_of_ble_eq_true rfl) (jLk.of C q1235 rfl) (Or.inl rfl) dX2_given_107 (jfit_i _) hF (fun M107 hF => ?_)
        refine jj_aload_n C 1 rfl dX2_given_110 rfl ?_
        refine jj_pR (f := 6) C jcs_1 (Nat.le_of_ble_eq_true rfl) (jLk.of C q1239 rfl) dX2_given_111 hF (fun v111 hF => ?_)
        refine jj_iconst (v := 2) C dX2_given_114 (by decide) ?_
        refine jj_iload_n C 0 rfl dX2_given_115 rfl ?_
        refine jj_imul C dX2_given_116 ?_
        refine jj_iald C dX2_given_117 hF (fun v117 hF => ?_)
        refine jj_iconst (v := 1) C dX2_given_118 (by decide) ?_
        refine jj_iadd C dX2_given_119 ?_
        refine jj_aload_n C 1 rfl dX2_given_120 rfl ?_
        refine jj_pR (f := 8) C jcs_1 (Nat.le_of_ble_eq_true rfl) (jLk.of C q1241 rfl) dX2_given_121 hF (fun v121 hF => ?_)
        refine jj_iload_n C 0 rfl dX2_given_124 rfl ?_
        refine jj_iald C dX2_given_125 hF (fun v125 hF => ?_)
        refine jj_icmp_lt (tgt := 154) C dX2_given_126 (by decide) hF (fun hF => ?_) (fun hF => ?_)
        · refine jj_iconst (v := 3) C dX2_given_154 (by decide) ?_
          exact jj_iret C hQ dX2_given_155 hF (Nat.zero_le _) (Nat.zero_le _)
        · refine jj_aload_n C 1 rfl dX2_given_129 rfl ?_
          refine jj_pR (f := 6) C jcs_1 (Nat.le_of_ble_eq_true rfl) (jLk.of C q1239 rfl) dX2_given_130 hF (fun v130 hF => ?_)
          refine jj_iconst (v := 2) C dX2_given_133 (by decide) ?_
          refine jj_iload_n C 0 rfl dX2_given_134 rfl ?_
          refine jj_imul C dX2_given_135 ?_
          refine jj_iconst (v := 1) C dX2_given_136 (by decide) ?_
          refine jj_iadd C dX2_given_137 ?_
          refine jj_iald C dX2_given_138 hF (fun v138 hF => ?_)
          refine jj_iconst (v := 1) C dX2_given_139 (by decide) ?_
          refine jj_iadd C dX2_given_140 ?_
          refine jj_aload_n C 1 rfl dX2_given_141 rfl ?_
          refine jj_pR (f := 8) C jcs_1 (Nat.le_of_ble_eq_true rfl) (jLk.of C q1241 rfl) dX2_given_142 hF (fun v142 hF => ?_)
          refine jj_iload_n C 0 rfl dX2_given_145 rfl ?_
          refine jj_iald C dX2_given_146 hF (fun v146 hF => ?_)
          refine jj_icmp_lt (tgt := 154) C dX2_given_147 (by decide) hF (fun hF => ?_) (fun hF => ?_)
          · refine jj_iconst (v := 3) C dX2_given_154 (by decide) ?_
            exact jj_iret C hQ dX2_given_155 hF (Nat.zero_le _) (Nat.zero_le _)
          · refine jj_iconst (v := 0) C dX2_given_150 (by decide) ?_
            refine jj_goto (tgt := 155) C dX2_given_151 (by decide) ?_
            exact jj_iret C hQ dX2_given_155 hF (Nat.zero_le _) (Nat.zero_le _)
    · refine jj_sub [0, 1, 2] rfl ?_
      exact w_X2_given_b39 C hxn hQ hF
def f_X2_given (a0 : Option Nat) (M : jW) : Option (Int32 × jW) := pO M a0 1 fun b2 _ => pB (f_X2_registered (some b2) (0 : Int32) M) fun r2 M2 =>
  pO M2 a0 1 fun b8 _ => pB (f_X2_registered (some b8) (1 : Int32) M2) fun r8 M8 =>
  if r2 = (-1 : Int32) then (if r8 = (-1 : Int32) then (pP M8 a0 1 2 (jI (0 : Int32)) fun M24 =>
  some ((0 : Int32), M24))
  else (f_X2_given_b29 a0 r2 r8 M8))
  else (f_X2_given_b29 a0 r2 r8 M8)
set_option maxHeartbeats 4000000 in
theorem m_X2_given (l : Launch) (g : jG) {a0 : Option Nat} {M M0 : jW} {v0 : Int32} (hF : f_X2_given a0 M = some (v0, M0)) : jMet l g yX2_given cX2_given 7 (some .int) rm_X2_given [jR a0] M (some (jI v0)) M0 := by
  refine jMet.of (L := [(0, jR a0)]) (by decide) rfl (Nat.le_of_ble_eq_true rfl) (fun x C hxn hg hl hQ hin => ?_)
  subst hg
  unfold f_X2_given at hF
  refine jj_aload_n C 0 rfl dX2_given_0 rfl ?_
  refine jj_iconst (v := 0) C dX2_given_1 (by decide) ?_
  obtain ⟨b2, fs2, he2, hb2, hF⟩ := pO_spec hF
  obtain ⟨r2, M2, hG, hF⟩ := pB_spec hF
  refine jj_callV (k' := 0) (n' := 0) C [jI (0 : Int32)] [] [jI r2] he2 (m_X2_registered _ _ hG) hb2 rfl q1384 q1386 qs27 q46 q1387 ⟨rfl, hd_X2_registered⟩ rfl (Nat.le_of_ble_eq_true rfl) ⟨Nat.le_of_ble_eq_true rfl, Nat.le_of_ble_eq_true rfl⟩ ⟨Nat.le_refl _, Nat.le_refl _, Nat.le_refl _, Nat.le_refl _⟩ dX2_given_2 rfl ?_
  refine jj_istore_n (L' := [(1, jI r2), (0, jR a0)]) C rfl (by rw [hxn]; decide) dX2_given_5 rfl ?_
  refine jj_aload_n C 1 rfl dX2_given_6 rfl ?_
  refine jj_iconst (v := 1) C dX2_given_7 (by decide) ?_
  obtain ⟨b8, fs8, he8, hb8, hF⟩ := pO_spec hF
  obtain ⟨r8, M8, hG, hF⟩ := pB_spec hF
  refine jj_callV (k' := 0) (n' := 0) C [jI (1 : Int32)] [] [jI r8] he8 (m_X2_registered _ _ hG) hb8 rfl q1384 q1386 qs27 q46 q1387 ⟨rfl, hd_X2_registered⟩ rfl (Nat.le_of_ble_eq_true rfl) ⟨Nat.le_of_ble_eq_true rfl, Nat.le_of_ble_eq_true rfl⟩ ⟨Nat.le_refl _, Nat.le_refl _, Nat.le_refl _, Nat.le_refl _⟩ dX2_given_8 rfl ?_
  refine jj_istore_n (L' := [(2, jI r8), (1, jI r2), (0, jR a0)]) C rfl (by rw [hxn]; decide) dX2_given_11 rfl ?_
  refine jj_iload_n C 1 rfl dX2_given_12 rfl ?_
  refine jj_iconst (v := -1) C dX2_given_13 (by decide) ?_
  refine jj_icmp_ne (tgt := 29) C dX2_given_14 (by decide) hF (fun hF => ?_) (fun hF => ?_)
  · refine jj_sub [2, 1, 0] rfl ?_
    exact w_X2_given_b29 C hxn hQ hF
  · refine jj_iload_n C 0 rfl dX2_given_17 rfl ?_
    refine jj_iconst (v := -1) C dX2_given_18 (by decide) ?_
    refine jj_icmp_ne (tgt := 29) C dX2_given_19 (by decide) hF (fun hF => ?_) (fun hF => ?_)
    · refine jj_sub [2, 1, 0] rfl ?_
      exact w_X2_given_b29 C hxn hQ hF
    · refine jj_aload_n C 2 rfl dX2_given_22 rfl ?_
      refine jj_iconst (v := 0) C dX2_given_23 (by decide) ?_
      refine jj_pP (f := 2) C jcs_1 (Nat.le_of_ble_eq_true rfl) (jLk.of C q1235 rfl) (Or.inl rfl) dX2_given_24 (jfit_i _) hF (fun M24 hF => ?_)
      refine jj_iconst (v := 0) C dX2_given_27 (by decide) ?_
      exact jj_iret C hQ dX2_given_28 hF (Nat.zero_le _) (Nat.zero_le _)
/-! PhrasehallModel.ahead()I -/
def rm_X2_ahead : Room := ({ frames := 1, cells := 0, slots := 0, locals := 64 } : Room)
theorem hd_X2_ahead : yX2_ahead.cls ≠ "java/lang/invoke/MethodHandle" ∧ yX2_ahead.cls ≠ "java/lang/invoke/VarHandle" ∧ (parseMethodDescriptor yX2_ahead.desc).map (fun d => d.parameters.length) = some 0 := ⟨by decide, by decide, by decide +kernel⟩
def f_X2_ahead (a0 : Option Nat) (M : jW) : Option (Int32 × jW) := pI M a0 1 4 fun v1 =>
  pR M a0 1 6 fun v6 =>
  pAI M v6 0 ((2 : Int32) * v1) fun v12 =>
  pR M a0 1 6 fun v14 =>
  pAI M v14 0 (((2 : Int32) * v1) + (1 : Int32)) fun v22 =>
  pLt (v12 - v22) fun t24 =>
  if t24 ≤ 0 then (if 0 ≤ t24 then (pR M a0 1 5 fun v42 =>
  pAI M v42 0 ((2 : Int32) * v1) fun v48 =>
  pR M a0 1 5 fun v50 =>
  pAI M v50 0 (((2 : Int32) * v1) + (1 : Int32)) fun v58 =>
  if v58 ≤ v48 then (some ((1 : Int32), M))
  else (some ((0 : Int32), M)))
  else (some ((1 : Int32), M)))
  else (some ((0 : Int32), M))
set_option maxHeartbeats 4000000 in
theorem m_X2_ahead (l : Launch) (g : jG) {a0 : Option Nat} {M M0 : jW} {v0 : Int32} (hF : f_X2_ahead a0 M = some (v0, M0)) : jMet l g yX2_ahead cX2_ahead 3 (some .int) rm_X2_ahead [jR a0] M (some (jI v0)) M0 := by
  refine jMet.of (L := [(0, jR a0)]) (by decide) rfl (Nat.le_of_ble_eq_true rfl) (fun x C hxn hg hl hQ hin => ?_)
  subst hg
  unfold f_X2_ahead at hF
  refine jj_aload_n C 0 rfl dX2_ahead_0 rfl ?_
  refine jj_pI (f := 4) C jcs_1 (Nat.le_of_ble_eq_true rfl) (jLk.of C q1237 rfl) dX2_ahead_1 hF (fun v1 hF => ?_)
  refine jj_istore_n (L' := [(1, jI v1), (0, jR a0)]) C rfl (by rw [hxn]; decide) dX2_ahead_4 rfl ?_
  refine jj_aload_n C 1 rfl dX2_ahead_5 rfl ?_
  refine jj_pR (f := 6) C jcs_1 (Nat.le_of_ble_eq_true rfl) (jLk.of C q1239 rfl) dX2_ahead_6 hF (fun v6 hF => ?_)
  refine jj_iconst (v := 2) C dX2_ahead_9 (by decide) ?_
  refine jj_iload_n C 0 rfl dX2_ahead_10 rfl ?_
  refine jj_imul C dX2_ahead_11 ?_
  refine jj_iald C dX2_ahead_12 hF (fun v12 hF => ?_)
  refine jj_aload_n C 1 rfl dX2_ahead_13 rfl ?_
  refine jj_pR (f := 6) C jcs_1 (Nat.le_of_ble_eq_true rfl) (jLk.of C q1239 rfl) dX2_ahead_14 hF (fun v14 hF => ?_)
  refine jj_iconst (v := 2) C dX2_ahead_17 (by decide) ?_
  refine jj_iload_n C 0 rfl dX2_ahead_18 rfl ?_
  refine jj_imul C dX2_ahead_19 ?_
  refine jj_iconst (v := 1) C dX2_ahead_20 (by decide) ?_
  refine jj_iadd C dX2_ahead_21 ?_
  refine jj_iald C dX2_ahead_22 hF (fun v22 hF => ?_)
  refine jj_isub C dX2_ahead_23 ?_
  refine jj_letI hF (fun t24 hF => ?_)
  refine jj_istore_n (L' := [(2, jI t24), (1, jI v1), (0, jR a0)]) C rfl (by rw [hxn]; decide) dX2_ahead_24 rfl ?_
  refine jj_iload_n C 0 rfl dX2_ahead_25 rfl ?_
  refine jj_if_le (tgt := 33) C dX2_ahead_26 (by decide) hF (fun hF => ?_) (fun hF => ?_)
  · refine jj_iload_n C 0 rfl dX2_ahead_33 rfl ?_
    refine jj_if_ge (tgt := 41) C dX2_ahead_34 (by decide) hF (fun hF => ?_) (fun hF => ?_)
    · refine jj_aload_n C 2 rfl dX2_ahead_41 rfl ?_
      refine jj_pR (f := 5) C jcs_1 (Nat.le_of_ble_eq_true rfl) (jLk.of C q1238 rfl) dX2_ahead_42 hF (fun v42 hF => ?_)
      refine jj_iconst (v := 2) C dX2_ahead_45 (by decide) ?_
      refine jj_iload_n C 1 rfl dX2_ahead_46 rfl ?_
      refine jj_imul C dX2_ahead_47 ?_
      refine jj_iald C dX2_ahead_48 hF (fun v48 hF => ?_)
      refine jj_aload_n C 2 rfl dX2_ahead_49 rfl ?_
      refine jj_pR (f := 5) C jcs_1 (Nat.le_of_ble_eq_true rfl) (jLk.of C q1238 rfl) dX2_ahead_50 hF (fun v50 hF => ?_)
      refine jj_iconst (v := 2) C dX2_ahead_53 (by decide) ?_
      refine jj_iload_n C 1 rfl dX2_ahead_54 rfl ?_
      refine jj_imul C dX2_ahead_55 ?_
      refine jj_iconst (v := 1) C dX2_ahead_56 (by decide) ?_
      refine jj_iadd C dX2_ahead_57 ?_
      refine jj_iald C dX2_ahead_58 hF (fun v58 hF => ?_)
      refine jj_icmp_ge (tgt := 66) C dX2_ahead_59 (by decide) hF (fun hF => ?_) (fun hF => ?_)
      · refine jj_iconst (v := 1) C dX2_ahead_66 (by decide) ?_
        exact jj_iret C hQ dX2_ahead_67 hF (Nat.zero_le _) (Nat.zero_le _)
      · refine jj_iconst (v := 0) C dX2_ahead_62 (by decide) ?_
        refine jj_goto (tgt := 67) C dX2_ahead_63 (by decide) ?_
        exact jj_iret C hQ dX2_ahead_67 hF (Nat.zero_le _) (Nat.zero_le _)
    · refine jj_iconst (v := 1) C dX2_ahead_37 (by decide) ?_
      refine jj_goto (tgt := 67) C dX2_ahead_38 (by decide) ?_
      exact jj_iret C hQ dX2_ahead_67 hF (Nat.zero_le _) (Nat.zero_le _)
  · refine jj_iconst (v := 0) C dX2_ahead_29 (by decide) ?_
    refine jj_goto (tgt := 67) C dX2_ahead_30 (by decide) ?_
    exact jj_iret C hQ dX2_ahead_67 hF (Nat.zero_le _) (Nat.zero_le _)
/-! PhrasehallModel.ends(I)V -/
def rm_X2_ends : Room := ({ frames := 1, cells := 0, slots := 0, locals := 64 } : Room)
theorem hd_X2_ends : yX2_ends.cls ≠ "java/lang/invoke/MethodHandle" ∧ yX2_ends.cls ≠ "java/lang/invoke/VarHandle" ∧ (parseMethodDescriptor yX2_ends.desc).map (fun d => d.parameters.length) = some 1 := ⟨by decide, by decide, by decide +kernel⟩
def f_X2_ends (a0 : Option Nat) (a1 : Int32) (M : jW) : Option (Unit × jW) := pR M a0 1 10 fun v1 =>
  pI M a0 1 4 fun v5 =>
  pSI M v1 v5 a1 fun M9 =>
  pP M9 a0 1 4 (jI (-1 : Int32)) fun M12 =>
  pP M12 a0 1 17 (jI (0 : Int32)) fun M17 =>
  some ((), M17)
set_option maxHeartbeats 4000000 in
theorem m_X2_ends (l : Launch) (g : jG) {a0 : Option Nat} {a1 : Int32} {M M0 : jW} {v0 : Unit} (hF : f_X2_ends a0 a1 M = some (v0, M0)) : jMet l g yX2_ends cX2_ends 2 none rm_X2_ends [jR a0, jI a1] M none M0 := by
  refine jMet.of (L := [(0, jR a0), (1, jI a1)]) (by decide) rfl (Nat.le_of_ble_eq_true rfl) (fun x C hxn hg hl hQ hin => ?_)
  subst hg
  unfold f_X2_ends at hF
  refine jj_aload_n C 0 rfl dX2_ends_0 rfl ?_
  refine jj_pR (f := 10) C jcs_1 (Nat.le_of_ble_eq_true rfl) (jLk.of C q1243 rfl) dX2_ends_1 hF (fun v1 hF => ?_)
  refine jj_aload_n C 0 rfl dX2_ends_4 rfl ?_
  refine jj_pI (f := 4) C jcs_1 (Nat.le_of_ble_eq_true rfl) (jLk.of C q1237 rfl) dX2_ends_5 hF (fun v5 hF => ?_)
  refine jj_iload_n C 1 rfl dX2_ends_8 rfl ?_
  refine jj_iast C dX2_ends_9 hF (fun M9 hF => ?_)
  refine jj_aload_n C 0 rfl dX2_ends_10 rfl ?_
  refine jj_iconst (v := -1) C dX2_ends_11 (by decide) ?_
  refine jj_pP (f := 4) C jcs_1 (Nat.le_of_ble_eq_true rfl) (jLk.of C q1237 rfl) (Or.inl rfl) dX2_ends_12 (jfit_i _) hF (fun M12 hF => ?_)
  refine jj_aload_n C 0 rfl dX2_ends_15 rfl ?_
  refine jj_iconst (v := 0) C dX2_ends_16 (by decide) ?_
  refine jj_pP (f := 17) C jcs_1 (Nat.le_of_ble_eq_true rfl) (jLk.of C q1250 rfl) (Or.inl rfl) dX2_ends_17 (jfit_i _) hF (fun M17 hF => ?_)
  exact jj_vret C hQ dX2_ends_20 hF (Nat.zero_le _) (Nat.zero_le _)
/-! PhrasehallModel.gives(I)V -/
def rm_X2_gives : Room := ({ frames := 2, cells := 0, slots := 0, locals := 86 } : Room)
theorem hd_X2_gives : yX2_gives.cls ≠ "java/lang/invoke/MethodHandle" ∧ yX2_gives.cls ≠ "java/lang/invoke/VarHandle" ∧ (parseMethodDescriptor yX2_gives.desc).map (fun d => d.parameters.length) = some 1 := ⟨by decide, by decide, by decide +kernel⟩
def f_X2_gives_b128 (l0 : Option Nat) (M : jW) : Option (Unit × jW) := pO M l0 1 fun b130 _ => pB (f_X2_ahead (some b130)  M) fun r130 M130 =>
  pO M130 l0 1 fun b133 _ => pB (f_X2_ends (some b133) r130 M130) fun _ M133 =>
  some ((), M133)
set_option maxHeartbeats 4000000 in
theorem w_X2_gives_b128 {x : jX} (C : jOk x cX2_gives RX2 rm_X2_gives none) (hxn : xn x = 5) {v0 : Unit} {M0 : jW} (hQ : jEnd x rm_X2_gives none M0) {l0 : Option Nat} {M : jW} (hF : f_X2_gives_b128 l0 M = some (v0, M0)) : jJ x 128 [(0, jR l0)] [] M 0 0 := by
  unfold f_X2_gives_b128 at hF
  refine jj_aload_n C 0 rfl dX2_gives_128 rfl ?_
  refine jj_aload_n C 0 rfl dX2_gives_129 rfl ?_
  obtain ⟨b130, fs130, he130, hb130, hF⟩ := pO_spec hF
  obtain ⟨r130, M130, hG, hF⟩ := pB_spec hF
  refine jj_callV (k' := 0) (n' := 0) C [] [jR l0] [jI r130, jR l0] he130 (m_X2_ahead _ _ hG) hb130 rfl q1402 q1404 qs30 q46 q1405 ⟨rfl, hd_X2_ahead⟩ rfl (Nat.le_of_ble_eq_true rfl) ⟨Nat.le_of_ble_eq_true rfl, Nat.le_of_ble_eq_true rfl⟩ ⟨Nat.le_refl _, Nat.le_refl _, Nat.le_refl _, Nat.le_refl _⟩ dX2_gives_130 rfl ?_
  obtain ⟨b133, fs133, he133, hb133, hF⟩ := pO_spec hF
  obtain ⟨r133, M133, hG, hF⟩ := pB_spec hF
  refine jj_callV (k' := 0) (n' := 0) C [jI r130] [] [] he133 (m_X2_ends _ _ hG) hb133 rfl q1406 q1408 qs31 q46 q1409 ⟨rfl, hd_X2_ends⟩ rfl (Nat.le_of_ble_eq_true rfl) ⟨Nat.le_of_ble_eq_true rfl, Nat.le_of_ble_eq_true rfl⟩ ⟨Nat.le_refl _, Nat.le_refl _, Nat.le_refl _, Nat.le_refl _⟩ dX2_gives_133 rfl ?_
  exact jj_vret C hQ dX2_gives_136 hF (Nat.zero_le _) (Nat.zero_le _)
def f_X2_gives_b103 (l0 : Option Nat) (l1 : Int32) (l2 : Int32) (l3 : Int32) (s0 : Int32) (M : jW) : Option (Unit × jW) := if l1 ≤ 0 then (some ((), M))
  else (if l3 = 0 then (pR M l0 1 13 fun v114 =>
  pAI M v114 0 l2 fun v118 =>
  if v118 = (-1 : Int32) then (some ((), M))
  else (if s0 = 0 then (some ((), M))
  else (f_X2_gives_b128 l0 M)))
  else (f_X2_gives_b128 l0 M))
set_option maxHeartbeats 4000000 in
theorem w_X2_gives_b103 {x : jX} (C : jOk x cX2_gives RX2 rm_X2_gives none) (hxn : xn x = 5) {v0 : Unit} {M0 : jW} (hQ : jEnd x rm_X2_gives none M0) {l0 : Option Nat} {l1 : Int32} {l2 : Int32} {l3 : Int32} {s0 : Int32} {M : jW} (hF : f_X2_gives_b103 l0 l1 l2 l3 s0 M = some (v0, M0)) : jJ x 103 [(0, jR l0), (1, jI l1), (2, jI l2), (3, jI l3)] [jI s0] M 0 0 := by
  unfold f_X2_gives_b103 at hF
  refine jj_istore (L' := [(4, jI s0), (0, jR l0), (1, jI l1), (2, jI l2), (3, jI l3)]) C rfl (by rw [hxn]; decide) dX2_gives_103 ?_
  refine jj_iload_n C 2 rfl dX2_gives_105 rfl ?_
  refine jj_if_le (tgt := 136) C dX2_gives_106 (by decide) hF (fun hF => ?_) (fun hF => ?_)
  · exact jj_vret C hQ dX2_gives_136 hF (Nat.zero_le _) (Nat.zero_le _)
  · refine jj_iload_n C 4 rfl dX2_gives_109 rfl ?_
    refine jj_if_ne (tgt := 128) C dX2_gives_110 (by decide) hF (fun hF => ?_) (fun hF => ?_)
    · refine jj_sub [1] rfl ?_
      exact w_X2_gives_b128 C hxn hQ hF
    · refine jj_aload_n C 1 rfl dX2_gives_113 rfl ?_
      refine jj_pR (f := 13) C jcs_1 (Nat.le_of_ble_eq_true rfl) (jLk.of C q1246 rfl) dX2_gives_114 hF (fun v114 hF => ?_)
      refine jj_iload_n C 3 rfl dX2_gives_117 rfl ?_
      refine jj_iald C dX2_gives_118 hF (fun v118 hF => ?_)
      refine jj_iconst (v := -1) C dX2_gives_119 (by decide) ?_
      refine jj_icmp_eq (tgt := 136) C dX2_gives_120 (by decide) hF (fun hF => ?_) (fun hF => ?_)
      · exact jj_vret C hQ dX2_gives_136 hF (Nat.zero_le _) (Nat.zero_le _)
      · refine jj_iload C 0 rfl dX2_gives_123 ?_
        refine jj_if_eq (tgt := 136) C dX2_gives_125 (by decide) hF (fun hF => ?_) (fun hF => ?_)
        · exact jj_vret C hQ dX2_gives_136 hF (Nat.zero_le _) (Nat.zero_le _)
        · refine jj_sub [1] rfl ?_
          exact w_X2_gives_b128 C hxn hQ hF
def f_X2_gives_b76 (l0 : Option Nat) (l1 : Int32) (l2 : Int32) (s0 : Int32) (M : jW) : Option (Unit × jW) := pR M l0 1 6 fun v78 =>
  pAI M v78 0 ((2 : Int32) * l2) fun v84 =>
  pR M l0 1 6 fun v86 =>
  pAI M v86 0 (((2 : Int32) * l2) + (1 : Int32)) fun v94 =>
  if v84 = v94 then (f_X2_gives_b103 l0 l1 l2 s0 (0 : Int32) M)
  else (f_X2_gives_b103 l0 l1 l2 s0 (1 : Int32) M)
set_option maxHeartbeats 4000000 in
theorem w_X2_gives_b76 {x : jX} (C : jOk x cX2_gives RX2 rm_X2_gives none) (hxn : xn x = 5) {v0 : Unit} {M0 : jW} (hQ : jEnd x rm_X2_gives none M0) {l0 : Option Nat} {l1 : Int32} {l2 : Int32} {s0 : Int32} {M : jW} (hF : f_X2_gives_b76 l0 l1 l2 s0 M = some (v0, M0)) : jJ x 76 [(0, jR l0), (1, jI l1), (2, jI l2)] [jI s0] M 0 0 := by
  unfold f_X2_gives_b76 at hF
  refine jj_istore_n (L' := [(3, jI s0), (0, jR l0), (1, jI l1), (2, jI l2)]) C rfl (by rw [hxn]; decide) dX2_gives_76 rfl ?_
  refine jj_aload_n C 1 rfl dX2_gives_77 rfl ?_
  refine jj_pR (f := 6) C jcs_1 (Nat.le_of_ble_eq_true rfl) (jLk.of C q1239 rfl) dX2_gives_78 hF (fun v78 hF => ?_)
  refine jj_iconst (v := 2) C dX2_gives_81 (by decide) ?_
  refine jj_iload_n C 3 rfl dX2_gives_82 rfl ?_
  refine jj_imul C dX2_gives_83 ?_
  refine jj_iald C dX2_gives_84 hF (fun v84 hF => ?_)
  refine jj_aload_n C 1 rfl dX2_gives_85 rfl ?_
  refine jj_pR (f := 6) C jcs_1 (Nat.le_of_ble_eq_true rfl) (jLk.of C q1239 rfl) dX2_gives_86 hF (fun v86 hF => ?_)
  refine jj_iconst (v := 2) C dX2_gives_89 (by decide) ?_
  refine jj_iload_n C 3 rfl dX2_gives_90 rfl ?_
  refine jj_imul C dX2_gives_91 ?_
  refine jj_iconst (v := 1) C dX2_gives_92 (by decide) ?_
  refine jj_iadd C dX2_gives_93 ?_
  refine jj_iald C dX2_gives_94 hF (fun v94 hF => ?_)
  refine jj_icmp_eq (tgt := 102) C dX2_gives_95 (by decide) hF (fun hF => ?_) (fun hF => ?_)
  · refine jj_iconst (v := 0) C dX2_gives_102 (by decide) ?_
    refine jj_sub [1, 2, 3, 0] rfl ?_
    exact w_X2_gives_b103 C hxn hQ hF
  · refine jj_iconst (v := 1) C dX2_gives_98 (by decide) ?_
    refine jj_goto (tgt := 103) C dX2_gives_99 (by decide) ?_
    refine jj_sub [1, 2, 3, 0] rfl ?_
    exact w_X2_gives_b103 C hxn hQ hF
def f_X2_gives_b71 (l0 : Option Nat) (l1 : Int32) (l2 : Int32) (M : jW) : Option (Unit × jW) := f_X2_gives_b76 l0 l1 l2 (1 : Int32) M
set_option maxHeartbeats 4000000 in
theorem w_X2_gives_b71 {x : jX} (C : jOk x cX2_gives RX2 rm_X2_gives none) (hxn : xn x = 5) {v0 : Unit} {M0 : jW} (hQ : jEnd x rm_X2_gives none M0) {l0 : Option Nat} {l1 : Int32} {l2 : Int32} {M : jW} (hF : f_X2_gives_b71 l0 l1 l2 M = some (v0, M0)) : jJ x 71 [(0, jR l0), (1, jI l1), (2, jI l2)] [] M 0 0 := by
  unfold f_X2_gives_b71 at hF
  refine jj_iconst (v := 1) C dX2_gives_71 (by decide) ?_
  refine jj_goto (tgt := 76) C dX2_gives_72 (by decide) ?_
  refine jj_sub [0, 1, 2] rfl ?_
  exact w_X2_gives_b76 C hxn hQ hF
def f_X2_gives (a0 : Option Nat) (a1 : Int32) (M : jW) : Option (Unit × jW) := pI M a0 1 4 fun v1 =>
  pR M a0 1 6 fun v6 =>
  pAI M v6 0 ((2 : Int32) * v1) fun v13 =>
  pSI M v6 ((2 : Int32) * v1) (v13 + (a1 &&& (1 : Int32))) fun M18 =>
  pR M18 a0 1 6 fun v20 =>
  pAI M18 v20 0 (((2 : Int32) * v1) + (1 : Int32)) fun v29 =>
  pSI M18 v20 (((2 : Int32) * v1) + (1 : Int32)) (v29 + (a1 >>> ((1 : Int32) &&& 31))) fun M34 =>
  pR M34 a0 1 6 fun v36 =>
  pAI M34 v36 0 ((2 : Int32) * v1) fun v42 =>
  pR M34 a0 1 8 fun v44 =>
  pAI M34 v44 0 v1 fun v48 =>
  if v48 ≤ v42 then (f_X2_gives_b71 a0 a1 v1 M34)
  else (pR M34 a0 1 6 fun v53 =>
  pAI M34 v53 0 (((2 : Int32) * v1) + (1 : Int32)) fun v61 =>
  pR M34 a0 1 8 fun v63 =>
  pAI M34 v63 0 v1 fun v67 =>
  if v61 < v67 then (f_X2_gives_b76 a0 a1 v1 (0 : Int32) M34)
  else (f_X2_gives_b71 a0 a1 v1 M34))
set_option maxHeartbeats 4000000 in
theorem m_X2_gives (l : Launch) (g : jG) {a0 : Option Nat} {a1 : Int32} {M M0 : jW} {v0 : Unit} (hF : f_X2_gives a0 a1 M = some (v0, M0)) : jMet l g yX2_gives cX2_gives 5 none rm_X2_gives [jR a0, jI a1] M none M0 := by
  refine jMet.of (L := [(0, jR a0), (1, jI a1)]) (by decide) rfl (Nat.le_of_ble_eq_true rfl) (fun x C hxn hg hl hQ hin => ?_)
  subst hg
  unfold f_X2_gives at hF
  refine jj_aload_n C 0 rfl dX2_gives_0 rfl ?_
  refine jj_pI (f := 4) C jcs_1 (Nat.le_of_ble_eq_true rfl) (jLk.of C q1237 rfl) dX2_gives_1 hF (fun v1 hF => ?_)
  refine jj_istore_n (L' := [(2, jI v1), (0, jR a0), (1, jI a1)]) C rfl (by rw [hxn]; decide) dX2_gives_4 rfl ?_
  refine jj_aload_n C 1 rfl dX2_gives_5 rfl ?_
  refine jj_pR (f := 6) C jcs_1 (Nat.le_of_ble_eq_true rfl) (jLk.of C q1239 rfl) dX2_gives_6 hF (fun v6 hF => ?_)
  refine jj_iconst (v := 2) C dX2_gives_9 (by decide) ?_
  refine jj_iload_n C 0 rfl dX2_gives_10 rfl ?_
  refine jj_imul C dX2_gives_11 ?_
  refine jj_dup2 C dX2_gives_12 rfl rfl ?_
  refine jj_iald C dX2_gives_13 hF (fun v13 hF => ?_)
  refine jj_iload_n C 2 rfl dX2_gives_14 rfl ?_
  refine jj_iconst (v := 1) C dX2_gives_15 (by decide) ?_
  refine jj_iand C dX2_gives_16 ?_
  refine jj_iadd C dX2_gives_17 ?_
  refine jj_iast C dX2_gives_18 hF (fun M18 hF => ?_)
  refine jj_aload_n C 1 rfl dX2_gives_19 rfl ?_
  refine jj_pR (f := 6) C jcs_1 (Nat.le_of_ble_eq_true rfl) (jLk.of C q1239 rfl) dX2_gives_20 hF (fun v20 hF => ?_)
  refine jj_iconst (v := 2) C dX2_gives_23 (by decide) ?_
  refine jj_iload_n C 0 rfl dX2_gives_24 rfl ?_
  refine jj_imul C dX2_gives_25 ?_
  refine jj_iconst (v := 1) C dX2_gives_26 (by decide) ?_
  refine jj_iadd C dX2_gives_27 ?_
  refine jj_dup2 C dX2_gives_28 rfl rfl ?_
  refine jj_iald C dX2_gives_29 hF (fun v29 hF => ?_)
  refine jj_iload_n C 2 rfl dX2_gives_30 rfl ?_
  refine jj_iconst (v := 1) C dX2_gives_31 (by decide) ?_
  refine jj_ishr C dX2_gives_32 ?_
  refine jj_iadd C dX2_gives_33 ?_
  refine jj_iast C dX2_gives_34 hF (fun M34 hF => ?_)
  refine jj_aload_n C 1 rfl dX2_gives_35 rfl ?_
  refine jj_pR (f := 6) C jcs_1 (Nat.le_of_ble_eq_true rfl) (jLk.of C q1239 rfl) dX2_gives_36 hF (fun v36 hF => ?_)
  refine jj_iconst (v := 2) C dX2_gives_39 (by decide) ?_
  refine jj_iload_n C 0 rfl dX2_gives_40 rfl ?_
  refine jj_imul C dX2_gives_41 ?_
  refine jj_iald C dX2_gives_42 hF (fun v42 hF => ?_)
  refine jj_aload_n C 1 rfl dX2_gives_43 rfl ?_
  refine jj_pR (f := 8) C jcs_1 (Nat.le_of_ble_eq_true rfl) (jLk.of C q1241 rfl) dX2_gives_44 hF (fun v44 hF => ?_)
  refine jj_iload_n C 0 rfl dX2_gives_47 rfl ?_
  refine jj_iald C dX2_gives_48 hF (fun v48 hF => ?_)
  refine jj_icmp_ge (tgt := 71) C dX2_gives_49 (by decide) hF (fun hF => ?_) (fun hF => ?_)
  · refine jj_sub [1, 2, 0] rfl ?_
    exact w_X2_gives_b71 C hxn hQ hF
  · refine jj_aload_n C 1 rfl dX2_gives_52 rfl ?_
    refine jj_pR (f := 6) C jcs_1 (Nat.le_of_ble_eq_true rfl) (jLk.of C q1239 rfl) dX2_gives_53 hF (fun v53 hF => ?_)
    refine jj_iconst (v := 2) C dX2_gives_56 (by decide) ?_
    refine jj_iload_n C 0 rfl dX2_gives_57 rfl ?_
    refine jj_imul C dX2_gives_58 ?_
    refine jj_iconst (v := 1) C dX2_gives_59 (by decide) ?_
    refine jj_iadd C dX2_gives_60 ?_
    refine jj_iald C dX2_gives_61 hF (fun v61 hF => ?_)
    refine jj_aload_n C 1 rfl dX2_gives_62 rfl ?_
    refine jj_pR (f := 8) C jcs_1 (Nat.le_of_ble_eq_true rfl) (jLk.of C q1241 rfl) dX2_gives_63 hF (fun v63 hF => ?_)
    refine jj_iload_n C 0 rfl dX2_gives_66 rfl ?_
    refine jj_iald C dX2_gives_67 hF (fun v67 hF => ?_)
    refine jj_icmp_lt (tgt := 75) C dX2_gives_68 (by decide) hF (fun hF => ?_) (fun hF => ?_)
    · refine jj_iconst (v := 0) C dX2_gives_75 (by decide) ?_
      refine jj_sub [1, 2, 0] rfl ?_
      exact w_X2_gives_b76 C hxn hQ hF
    · refine jj_sub [1, 2, 0] rfl ?_
      exact w_X2_gives_b71 C hxn hQ hF
/-! PhrasehallModel.judge()I -/
def rm_X2_judge : Room := ({ frames := 4, cells := 0, slots := 0, locals := 138 } : Room)
theorem hd_X2_judge : yX2_judge.cls ≠ "java/lang/invoke/MethodHandle" ∧ yX2_judge.cls ≠ "java/lang/invoke/VarHandle" ∧ (parseMethodDescriptor yX2_judge.desc).map (fun d => d.parameters.length) = some 0 := ⟨by decide, by decide, by decide +kernel⟩
def f_X2_judge_b49 (l0 : Option Nat) (l1 : Int32) (s0 : Option Nat) (s1 : Int32) (M : jW) : Option (Int32 × jW) := pP M s0 1 14 (jI s1) fun M49 =>
  pO M49 l0 1 fun b54 _ => pB (f_X2_gives (some b54) l1 M49) fun _ M54 =>
  some (l1, M54)
set_option maxHeartbeats 4000000 in
theorem w_X2_judge_b49 {x : jX} (C : jOk x cX2_judge RX2 rm_X2_judge (some .int)) (hxn : xn x = 2) {v0 : Int32} {M0 : jW} (hQ : jEnd x rm_X2_judge (some (jI v0)) M0) {l0 : Option Nat} {l1 : Int32} {s0 : Option Nat} {s1 : Int32} {M : jW} (hF : f_X2_judge_b49 l0 l1 s0 s1 M = some (v0, M0)) : jJ x 49 [(0, jR l0), (1, jI l1)] [jI s1, jR s0] M 0 0 := by
  unfold f_X2_judge_b49 at hF
  refine jj_pP (f := 14) C jcs_1 (Nat.le_of_ble_eq_true rfl) (jLk.of C q1247 rfl) (Or.inl rfl) dX2_judge_49 (jfit_i _) hF (fun M49 hF => ?_)
  refine jj_aload_n C 0 rfl dX2_judge_52 rfl ?_
  refine jj_iload_n C 1 rfl dX2_judge_53 rfl ?_
  obtain ⟨b54, fs54, he54, hb54, hF⟩ := pO_spec hF
  obtain ⟨r54, M54, hG, hF⟩ := pB_spec hF
  refine jj_callV (k' := 0) (n' := 0) C [jI l1] [] [] he54 (m_X2_gives _ _ hG) hb54 rfl q1398 q1400 qs29 q46 q1401 ⟨rfl, hd_X2_gives⟩ rfl (Nat.le_of_ble_eq_true rfl) ⟨Nat.le_of_ble_eq_true rfl, Nat.le_of_ble_eq_true rfl⟩ ⟨Nat.le_refl _, Nat.le_refl _, Nat.le_refl _, Nat.le_refl _⟩ dX2_judge_54 rfl ?_
  refine jj_iload_n C 1 rfl dX2_judge_57 rfl ?_
  exact jj_iret C hQ dX2_judge_58 hF (Nat.zero_le _) (Nat.zero_le _)
def f_X2_judge_b14 (l0 : Option Nat) (s0 : Option Nat) (s1 : Int32) (M : jW) : Option (Int32 × jW) := pP M s0 1 31 (jI s1) fun M14 =>
  pI M14 l0 1 31 fun v18 =>
  if v18 ≤ 0 then (pO M14 l0 1 fun b27 _ => pB (f_X2_given (some b27)  M14) fun r27 M27 =>
  pP M27 l0 1 17 (jI (0 : Int32)) fun M33 =>
  if r27 ≤ 0 then (pI M33 l0 1 14 fun v46 =>
  f_X2_judge_b49 l0 r27 l0 v46 M33)
  else (f_X2_judge_b49 l0 r27 l0 (0 : Int32) M33))
  else (some ((0 : Int32), M14))
set_option maxHeartbeats 4000000 in
theorem w_X2_judge_b14 {x : jX} (C : jOk x cX2_judge RX2 rm_X2_judge (some .int)) (hxn : xn x = 2) {v0 : Int32} {M0 : jW} (hQ : jEnd x rm_X2_judge (some (jI v0)) M0) {l0 : Option Nat} {s0 : Option Nat} {s1 : Int32} {M : jW} (hF : f_X2_judge_b14 l0 s0 s1 M = some (v0, M0)) : jJ x 14 [(0, jR l0)] [jI s1, jR s0] M 0 0 := by
  unfold f_X2_judge_b14 at hF
  refine jj_pP (f := 31) C jcs_1 (Nat.le_of_ble_eq_true rfl) (jLk.of C q1264 rfl) (Or.inl rfl) dX2_judge_14 (jfit_i _) hF (fun M14 hF => ?_)
  refine jj_aload_n C 0 rfl dX2_judge_17 rfl ?_
  refine jj_pI (f := 31) C jcs_1 (Nat.le_of_ble_eq_true rfl) (jLk.of C q1264 rfl) dX2_judge_18 hF (fun v18 hF => ?_)
  refine jj_if_le (tgt := 26) C dX2_judge_21 (by decide) hF (fun hF => ?_) (fun hF => ?_)
  · refine jj_aload_n C 0 rfl dX2_judge_26 rfl ?_
    obtain ⟨b27, fs27, he27, hb27, hF⟩ := pO_spec hF
    obtain ⟨r27, M27, hG, hF⟩ := pB_spec hF
    refine jj_callV (k' := 0) (n' := 0) C [] [] [jI r27] he27 (m_X2_given _ _ hG) hb27 rfl q1380 q1382 qs26 q46 q1383 ⟨rfl, hd_X2_given⟩ rfl (Nat.le_of_ble_eq_true rfl) ⟨Nat.le_of_ble_eq_true rfl, Nat.le_of_ble_eq_true rfl⟩ ⟨Nat.le_refl _, Nat.le_refl _, Nat.le_refl _, Nat.le_refl _⟩ dX2_judge_27 rfl ?_
    refine jj_istore_n (L' := [(1, jI r27), (0, jR l0)]) C rfl (by rw [hxn]; decide) dX2_judge_30 rfl ?_
    refine jj_aload_n C 1 rfl dX2_judge_31 rfl ?_
    refine jj_iconst (v := 0) C dX2_judge_32 (by decide) ?_
    refine jj_pP (f := 17) C jcs_1 (Nat.le_of_ble_eq_true rfl) (jLk.of C q1250 rfl) (Or.inl rfl) dX2_judge_33 (jfit_i _) hF (fun M33 hF => ?_)
    refine jj_aload_n C 1 rfl dX2_judge_36 rfl ?_
    refine jj_iload_n C 0 rfl dX2_judge_37 rfl ?_
    refine jj_if_le (tgt := 45) C dX2_judge_38 (by decide) hF (fun hF => ?_) (fun hF => ?_)
    · refine jj_aload_n C 1 rfl dX2_judge_45 rfl ?_
      refine jj_pI (f := 14) C jcs_1 (Nat.le_of_ble_eq_true rfl) (jLk.of C q1247 rfl) dX2_judge_46 hF (fun v46 hF => ?_)
      refine jj_sub [1, 0] rfl ?_
      exact w_X2_judge_b49 C hxn hQ hF
    · refine jj_iconst (v := 0) C dX2_judge_41 (by decide) ?_
      refine jj_goto (tgt := 49) C dX2_judge_42 (by decide) ?_
      refine jj_sub [1, 0] rfl ?_
      exact w_X2_judge_b49 C hxn hQ hF
  · refine jj_iconst (v := 0) C dX2_judge_24 (by decide) ?_
    exact jj_iret C hQ dX2_judge_25 hF (Nat.zero_le _) (Nat.zero_le _)
def f_X2_judge (a0 : Option Nat) (M : jW) : Option (Int32 × jW) := pI M a0 1 4 fun v2 =>
  if v2 = (-1 : Int32) then (f_X2_judge_b14 a0 a0 (1 : Int32) M)
  else (f_X2_judge_b14 a0 a0 (0 : Int32) M)
set_option maxHeartbeats 4000000 in
theorem m_X2_judge (l : Launch) (g : jG) {a0 : Option Nat} {M M0 : jW} {v0 : Int32} (hF : f_X2_judge a0 M = some (v0, M0)) : jMet l g yX2_judge cX2_judge 2 (some .int) rm_X2_judge [jR a0] M (some (jI v0)) M0 := by
  refine jMet.of (L := [(0, jR a0)]) (by decide) rfl (Nat.le_of_ble_eq_true rfl) (fun x C hxn hg hl hQ hin => ?_)
  subst hg
  unfold f_X2_judge at hF
  refine jj_aload_n C 0 rfl dX2_judge_0 rfl ?_
  refine jj_aload_n C 0 rfl dX2_judge_1 rfl ?_
  refine jj_pI (f := 4) C jcs_1 (Nat.le_of_ble_eq_true rfl) (jLk.of C q1237 rfl) dX2_judge_2 hF (fun v2 hF => ?_)
  refine jj_iconst (v := -1) C dX2_judge_5 (by decide) ?_
  refine jj_icmp_ne (tgt := 13) C dX2_judge_6 (by decide) hF (fun hF => ?_) (fun hF => ?_)
  · refine jj_iconst (v := 0) C dX2_judge_13 (by decide) ?_
    refine jj_sub [0] rfl ?_
    exact w_X2_judge_b14 C hxn hQ hF
  · refine jj_iconst (v := 1) C dX2_judge_9 (by decide) ?_
    refine jj_goto (tgt := 14) C dX2_judge_10 (by decide) ?_
    refine jj_sub [0] rfl ?_
    exact w_X2_judge_b14 C hxn hQ hF
/-! PhrasehallModel.card(II)I -/
def rm_X2_card : Room := ({ frames := 3, cells := 0, slots := 0, locals := 110 } : Room)
theorem hd_X2_card : yX2_card.cls ≠ "java/lang/invoke/MethodHandle" ∧ yX2_card.cls ≠ "java/lang/invoke/VarHandle" ∧ (parseMethodDescriptor yX2_card.desc).map (fun d => d.parameters.length) = some 2 := ⟨by decide, by decide, by decide +kernel⟩
def f_X2_card_b111 (l0 : Option Nat) (l1 : Int32) (l3 : Int32) (s0 : Option Nat) (s1 : Int32) (s2 : Int32) (s3 : Int32) (M : jW) : Option (Int32 × jW) := pSZ M s0 s1 (s2 ||| s3) fun M112 =>
  if l3 = (2 : Int32) then (pP M112 l0 1 14 (jI (0 : Int32)) fun M120 =>
  pO M120 l0 1 fun b129 _ => pB (f_X2_gives (some b129) ((1 : Int32) <<< (((1 : Int32) - l1) &&& 31)) M120) fun _ M129 =>
  some (l3, M129))
  else (if l3 = (3 : Int32) then (pO M112 l0 1 fun b144 _ => pB (f_X2_ends (some b144) ((1 : Int32) - l1) M112) fun _ M144 =>
  some (l3, M144))
  else (some (l3, M112)))
set_option maxHeartbeats 4000000 in
theorem w_X2_card_b111 {x : jX} (C : jOk x cX2_card RX2 rm_X2_card (some .int)) (hxn : xn x = 4) {v0 : Int32} {M0 : jW} (hQ : jEnd x rm_X2_card (some (jI v0)) M0) {l0 : Option Nat} {l1 : Int32} {l3 : Int32} {s0 : Option Nat} {s1 : Int32} {s2 : Int32} {s3 : Int32} {M : jW} (hF : f_X2_card_b111 l0 l1 l3 s0 s1 s2 s3 M = some (v0, M0)) : jJ x 111 [(0, jR l0), (1, jI l1), (3, jI l3)] [jI s3, jI s2, jI s1, jR s0] M 0 0 := by
  unfold f_X2_card_b111 at hF
  refine jj_ior C dX2_card_111 ?_
  refine jj_zast C dX2_card_112 hF (fun M112 hF => ?_)
  refine jj_iload_n C 2 rfl dX2_card_113 rfl ?_
  refine jj_iconst (v := 2) C dX2_card_114 (by decide) ?_
  refine jj_icmp_ne (tgt := 135) C dX2_card_115 (by decide) hF (fun hF => ?_) (fun hF => ?_)
  · refine jj_iload_n C 2 rfl dX2_card_135 rfl ?_
    refine jj_iconst (v := 3) C dX2_card_136 (by decide) ?_
    refine jj_icmp_ne (tgt := 147) C dX2_card_137 (by decide) hF (fun hF => ?_) (fun hF => ?_)
    · refine jj_iload_n C 2 rfl dX2_card_147 rfl ?_
      exact jj_iret C hQ dX2_card_148 hF (Nat.zero_le _) (Nat.zero_le _)
    · refine jj_aload_n C 0 rfl dX2_card_140 rfl ?_
      refine jj_iconst (v := 1) C dX2_card_141 (by decide) ?_
      refine jj_iload_n C 1 rfl dX2_card_142 rfl ?_
      refine jj_isub C dX2_card_143 ?_
      obtain ⟨b144, fs144, he144, hb144, hF⟩ := pO_spec hF
      obtain ⟨r144, M144, hG, hF⟩ := pB_spec hF
      refine jj_callV (k' := 0) (n' := 0) C [jI ((1 : Int32) - l1)] [] [] he144 (m_X2_ends _ _ hG) hb144 rfl q1406 q1408 qs31 q46 q1409 ⟨rfl, hd_X2_ends⟩ rfl (Nat.le_of_ble_eq_true rfl) ⟨Nat.le_of_ble_eq_true rfl, Nat.le_of_ble_eq_true rfl⟩ ⟨Nat.le_refl _, Nat.le_refl _, Nat.le_refl _, Nat.le_refl _⟩ dX2_card_144 rfl ?_
      refine jj_iload_n C 2 rfl dX2_card_147 rfl ?_
      exact jj_iret C hQ dX2_card_148 hF (Nat.zero_le _) (Nat.zero_le _)
  · refine jj_aload_n C 0 rfl dX2_card_118 rfl ?_
    refine jj_iconst (v := 0) C dX2_card_119 (by decide) ?_
    refine jj_pP (f := 14) C jcs_1 (Nat.le_of_ble_eq_true rfl) (jLk.of C q1247 rfl) (Or.inl rfl) dX2_card_120 (jfit_i _) hF (fun M120 hF => ?_)
    refine jj_aload_n C 0 rfl dX2_card_123 rfl ?_
    refine jj_iconst (v := 1) C dX2_card_124 (by decide) ?_
    refine jj_iconst (v := 1) C dX2_card_125 (by decide) ?_
    refine jj_iload_n C 1 rfl dX2_card_126 rfl ?_
    refine jj_isub C dX2_card_127 ?_
    refine jj_ishl C dX2_card_128 ?_
    obtain ⟨b129, fs129, he129, hb129, hF⟩ := pO_spec hF
    obtain ⟨r129, M129, hG, hF⟩ := pB_spec hF
    refine jj_callV (k' := 0) (n' := 0) C [jI ((1 : Int32) <<< (((1 : Int32) - l1) &&& 31))] [] [] he129 (m_X2_gives _ _ hG) hb129 rfl q1398 q1400 qs29 q46 q1401 ⟨rfl, hd_X2_gives⟩ rfl (Nat.le_of_ble_eq_true rfl) ⟨Nat.le_of_ble_eq_true rfl, Nat.le_of_ble_eq_true rfl⟩ ⟨Nat.le_refl _, Nat.le_refl _, Nat.le_refl _, Nat.le_refl _⟩ dX2_card_129 rfl ?_
    refine jj_goto (tgt := 147) C dX2_card_132 (by decide) ?_
    refine jj_iload_n C 2 rfl dX2_card_147 rfl ?_
    exact jj_iret C hQ dX2_card_148 hF (Nat.zero_le _) (Nat.zero_le _)
def f_X2_card_b83 (l0 : Option Nat) (l1 : Int32) (l2 : Int32) (s0 : Int32) (M : jW) : Option (Int32 × jW) := pR M l0 1 15 fun v85 =>
  pAI M v85 0 l1 fun v90 =>
  pSI M v85 l1 (v90 + (1 : Int32)) fun M93 =>
  pR M93 l0 1 16 fun v95 =>
  pAI M93 v95 1 l1 fun v100 =>
  if l2 = (3 : Int32) then (f_X2_card_b111 l0 l1 s0 v95 l1 v100 (1 : Int32) M93)
  else (f_X2_card_b111 l0 l1 s0 v95 l1 v100 (0 : Int32) M93)
set_option maxHeartbeats 4000000 in
theorem w_X2_card_b83 {x : jX} (C : jOk x cX2_card RX2 rm_X2_card (some .int)) (hxn : xn x = 4) {v0 : Int32} {M0 : jW} (hQ : jEnd x rm_X2_card (some (jI v0)) M0) {l0 : Option Nat} {l1 : Int32} {l2 : Int32} {s0 : Int32} {M : jW} (hF : f_X2_card_b83 l0 l1 l2 s0 M = some (v0, M0)) : jJ x 83 [(0, jR l0), (1, jI l1), (2, jI l2)] [jI s0] M 0 0 := by
  unfold f_X2_card_b83 at hF
  refine jj_istore_n (L' := [(3, jI s0), (0, jR l0), (1, jI l1), (2, jI l2)]) C rfl (by rw [hxn]; decide) dX2_card_83 rfl ?_
  refine jj_aload_n C 1 rfl dX2_card_84 rfl ?_
  refine jj_pR (f := 15) C jcs_1 (Nat.le_of_ble_eq_true rfl) (jLk.of C q1248 rfl) dX2_card_85 hF (fun v85 hF => ?_)
  refine jj_iload_n C 2 rfl dX2_card_88 rfl ?_
  refine jj_dup2 C dX2_card_89 rfl rfl ?_
  refine jj_iald C dX2_card_90 hF (fun v90 hF => ?_)
  refine jj_iconst (v := 1) C dX2_card_91 (by decide) ?_
  refine jj_iadd C dX2_card_92 ?_
  refine jj_iast C dX2_card_93 hF (fun M93 hF => ?_)
  refine jj_aload_n C 1 rfl dX2_card_94 rfl ?_
  refine jj_pR (f := 16) C jcs_1 (Nat.le_of_ble_eq_true rfl) (jLk.of C q1249 rfl) dX2_card_95 hF (fun v95 hF => ?_)
  refine jj_iload_n C 2 rfl dX2_card_98 rfl ?_
  refine jj_dup2 C dX2_card_99 rfl rfl ?_
  refine jj_zald C dX2_card_100 hF (fun v100 hF => ?_)
  refine jj_iload_n C 3 rfl dX2_card_101 rfl ?_
  refine jj_iconst (v := 3) C dX2_card_102 (by decide) ?_
  refine jj_icmp_ne (tgt := 110) C dX2_card_103 (by decide) hF (fun hF => ?_) (fun hF => ?_)
  · refine jj_iconst (v := 0) C dX2_card_110 (by decide) ?_
    refine jj_sub [1, 2, 0] rfl ?_
    exact w_X2_card_b111 C hxn hQ hF
  · refine jj_iconst (v := 1) C dX2_card_106 (by decide) ?_
    refine jj_goto (tgt := 111) C dX2_card_107 (by decide) ?_
    refine jj_sub [1, 2, 0] rfl ?_
    exact w_X2_card_b111 C hxn hQ hF
def f_X2_card_b82 (l0 : Option Nat) (l1 : Int32) (l2 : Int32) (M : jW) : Option (Int32 × jW) := f_X2_card_b83 l0 l1 l2 (2 : Int32) M
set_option maxHeartbeats 4000000 in
theorem w_X2_card_b82 {x : jX} (C : jOk x cX2_card RX2 rm_X2_card (some .int)) (hxn : xn x = 4) {v0 : Int32} {M0 : jW} (hQ : jEnd x rm_X2_card (some (jI v0)) M0) {l0 : Option Nat} {l1 : Int32} {l2 : Int32} {M : jW} (hF : f_X2_card_b82 l0 l1 l2 M = some (v0, M0)) : jJ x 82 [(0, jR l0), (1, jI l1), (2, jI l2)] [] M 0 0 := by
  unfold f_X2_card_b82 at hF
  refine jj_iconst (v := 2) C dX2_card_82 (by decide) ?_
  refine jj_sub [0, 1, 2] rfl ?_
  exact w_X2_card_b83 C hxn hQ hF
def f_X2_card_b64 (l0 : Option Nat) (l1 : Int32) (l2 : Int32) (M : jW) : Option (Int32 × jW) := if l2 = (3 : Int32) then (pR M l0 1 16 fun v70 =>
  pAI M v70 1 l1 fun v74 =>
  if v74 = 0 then (f_X2_card_b82 l0 l1 l2 M)
  else (f_X2_card_b83 l0 l1 l2 (3 : Int32) M))
  else (f_X2_card_b82 l0 l1 l2 M)
set_option maxHeartbeats 4000000 in
theorem w_X2_card_b64 {x : jX} (C : jOk x cX2_card RX2 rm_X2_card (some .int)) (hxn : xn x = 4) {v0 : Int32} {M0 : jW} (hQ : jEnd x rm_X2_card (some (jI v0)) M0) {l0 : Option Nat} {l1 : Int32} {l2 : Int32} {M : jW} (hF : f_X2_card_b64 l0 l1 l2 M = some (v0, M0)) : jJ x 64 [(0, jR l0), (1, jI l1), (2, jI l2)] [] M 0 0 := by
  unfold f_X2_card_b64 at hF
  refine jj_iload_n C 2 rfl dX2_card_64 rfl ?_
  refine jj_iconst (v := 3) C dX2_card_65 (by decide) ?_
  refine jj_icmp_ne (tgt := 82) C dX2_card_66 (by decide) hF (fun hF => ?_) (fun hF => ?_)
  · refine jj_sub [0, 1, 2] rfl ?_
    exact w_X2_card_b82 C hxn hQ hF
  · refine jj_aload_n C 0 rfl dX2_card_69 rfl ?_
    refine jj_pR (f := 16) C jcs_1 (Nat.le_of_ble_eq_true rfl) (jLk.of C q1249 rfl) dX2_card_70 hF (fun v70 hF => ?_)
    refine jj_iload_n C 1 rfl dX2_card_73 rfl ?_
    refine jj_zald C dX2_card_74 hF (fun v74 hF => ?_)
    refine jj_if_eq (tgt := 82) C dX2_card_75 (by decide) hF (fun hF => ?_) (fun hF => ?_)
    · refine jj_sub [0, 1, 2] rfl ?_
      exact w_X2_card_b82 C hxn hQ hF
    · refine jj_iconst (v := 3) C dX2_card_78 (by decide) ?_
      refine jj_goto (tgt := 83) C dX2_card_79 (by decide) ?_
      refine jj_sub [0, 1, 2] rfl ?_
      exact w_X2_card_b83 C hxn hQ hF
def f_X2_card_b34 (l0 : Option Nat) (l1 : Int32) (l2 : Int32) (s0 : Option Nat) (s1 : Int32) (M : jW) : Option (Int32 × jW) := pP M s0 1 31 (jI s1) fun M34 =>
  pI M34 l0 1 31 fun v38 =>
  if v38 ≤ 0 then (if l2 = (1 : Int32) then (pR M34 l0 1 15 fun v52 =>
  pAI M34 v52 0 l1 fun v56 =>
  if v56 = 0 then (f_X2_card_b83 l0 l1 l2 (1 : Int32) M34)
  else (f_X2_card_b64 l0 l1 l2 M34))
  else (f_X2_card_b64 l0 l1 l2 M34))
  else (some ((0 : Int32), M34))
set_option maxHeartbeats 4000000 in
theorem w_X2_card_b34 {x : jX} (C : jOk x cX2_card RX2 rm_X2_card (some .int)) (hxn : xn x = 4) {v0 : Int32} {M0 : jW} (hQ : jEnd x rm_X2_card (some (jI v0)) M0) {l0 : Option Nat} {l1 : Int32} {l2 : Int32} {s0 : Option Nat} {s1 : Int32} {M : jW} (hF : f_X2_card_b34 l0 l1 l2 s0 s1 M = some (v0, M0)) : jJ x 34 [(0, jR l0), (1, jI l1), (2, jI l2)] [jI s1, jR s0] M 0 0 := by
  unfold f_X2_card_b34 at hF
  refine jj_pP (f := 31) C jcs_1 (Nat.le_of_ble_eq_true rfl) (jLk.of C q1264 rfl) (Or.inl rfl) dX2_card_34 (jfit_i _) hF (fun M34 hF => ?_)
  refine jj_aload_n C 0 rfl dX2_card_37 rfl ?_
  refine jj_pI (f := 31) C jcs_1 (Nat.le_of_ble_eq_true rfl) (jLk.of C q1264 rfl) dX2_card_38 hF (fun v38 hF => ?_)
  refine jj_if_le (tgt := 46) C dX2_card_41 (by decide) hF (fun hF => ?_) (fun hF => ?_)
  · refine jj_iload_n C 2 rfl dX2_card_46 rfl ?_
    refine jj_iconst (v := 1) C dX2_card_47 (by decide) ?_
    refine jj_icmp_ne (tgt := 64) C dX2_card_48 (by decide) hF (fun hF => ?_) (fun hF => ?_)
    · refine jj_sub [0, 1, 2] rfl ?_
      exact w_X2_card_b64 C hxn hQ hF
    · refine jj_aload_n C 0 rfl dX2_card_51 rfl ?_
      refine jj_pR (f := 15) C jcs_1 (Nat.le_of_ble_eq_true rfl) (jLk.of C q1248 rfl) dX2_card_52 hF (fun v52 hF => ?_)
      refine jj_iload_n C 1 rfl dX2_card_55 rfl ?_
      refine jj_iald C dX2_card_56 hF (fun v56 hF => ?_)
      refine jj_if_ne (tgt := 64) C dX2_card_57 (by decide) hF (fun hF => ?_) (fun hF => ?_)
      · refine jj_sub [0, 1, 2] rfl ?_
        exact w_X2_card_b64 C hxn hQ hF
      · refine jj_iconst (v := 1) C dX2_card_60 (by decide) ?_
        refine jj_goto (tgt := 83) C dX2_card_61 (by decide) ?_
        refine jj_sub [0, 1, 2] rfl ?_
        exact w_X2_card_b83 C hxn hQ hF
  · refine jj_iconst (v := 0) C dX2_card_44 (by decide) ?_
    exact jj_iret C hQ dX2_card_45 hF (Nat.zero_le _) (Nat.zero_le _)
def f_X2_card_b17 (l0 : Option Nat) (l1 : Int32) (l2 : Int32) (s0 : Option Nat) (M : jW) : Option (Int32 × jW) := f_X2_card_b34 l0 l1 l2 s0 (1 : Int32) M
set_option maxHeartbeats 4000000 in
theorem w_X2_card_b17 {x : jX} (C : jOk x cX2_card RX2 rm_X2_card (some .int)) (hxn : xn x = 4) {v0 : Int32} {M0 : jW} (hQ : jEnd x rm_X2_card (some (jI v0)) M0) {l0 : Option Nat} {l1 : Int32} {l2 : Int32} {s0 : Option Nat} {M : jW} (hF : f_X2_card_b17 l0 l1 l2 s0 M = some (v0, M0)) : jJ x 17 [(0, jR l0), (1, jI l1), (2, jI l2)] [jR s0] M 0 0 := by
  unfold f_X2_card_b17 at hF
  refine jj_iconst (v := 1) C dX2_card_17 (by decide) ?_
  refine jj_goto (tgt := 34) C dX2_card_18 (by decide) ?_
  refine jj_sub [0, 1, 2] rfl ?_
  exact w_X2_card_b34 C hxn hQ hF
def f_X2_card (a0 : Option Nat) (a1 : Int32) (a2 : Int32) (M : jW) : Option (Int32 × jW) := pB (f_X2_isSide a1 M) fun r2 M2 =>
  if r2 = 0 then (f_X2_card_b17 a0 a1 a2 a0 M2)
  else (pB (f_X2_isIn a2 (1 : Int32) (3 : Int32) M2) fun r11 M11 =>
  if r11 = 0 then (f_X2_card_b17 a0 a1 a2 a0 M11)
  else (pI M11 a0 1 4 fun v22 =>
  if v22 = (-1 : Int32) then (f_X2_card_b34 a0 a1 a2 a0 (2 : Int32) M11)
  else (f_X2_card_b34 a0 a1 a2 a0 (0 : Int32) M11)))
set_option maxHeartbeats 4000000 in
theorem m_X2_card (l : Launch) (g : jG) {a0 : Option Nat} {a1 : Int32} {a2 : Int32} {M M0 : jW} {v0 : Int32} (hF : f_X2_card a0 a1 a2 M = some (v0, M0)) : jMet l g yX2_card cX2_card 4 (some .int) rm_X2_card [jR a0, jI a1, jI a2] M (some (jI v0)) M0 := by
  refine jMet.of (L := [(0, jR a0), (1, jI a1), (2, jI a2)]) (by decide) rfl (Nat.le_of_ble_eq_true rfl) (fun x C hxn hg hl hQ hin => ?_)
  subst hg
  unfold f_X2_card at hF
  refine jj_aload_n C 0 rfl dX2_card_0 rfl ?_
  refine jj_iload_n C 1 rfl dX2_card_1 rfl ?_
  obtain ⟨r2, M2, hG, hF⟩ := pB_spec hF
  refine jj_callS (k' := 0) (n' := 0) C [jI a1] [jR a0] [jI r2, jR a0] (m_X2_isSide _ _ hG) q1360 q1361 q46 q1362 hd_X2_isSide rfl (Nat.le_of_ble_eq_true rfl) ⟨Nat.le_of_ble_eq_true rfl, Nat.le_of_ble_eq_true rfl⟩ ⟨Nat.le_refl _, Nat.le_refl _, Nat.le_refl _, Nat.le_refl _⟩ dX2_card_2 rfl ?_
  refine jj_if_eq (tgt := 17) C dX2_card_5 (by decide) hF (fun hF => ?_) (fun hF => ?_)
  · refine jj_sub [0, 1, 2] rfl ?_
    exact w_X2_card_b17 C hxn hQ hF
  · refine jj_iload_n C 2 rfl dX2_card_8 rfl ?_
    refine jj_iconst (v := 1) C dX2_card_9 (by decide) ?_
    refine jj_iconst (v := 3) C dX2_card_10 (by decide) ?_
    obtain ⟨r11, M11, hG, hF⟩ := pB_spec hF
    refine jj_callS (k' := 0) (n' := 0) C [jI a2, jI (1 : Int32), jI (3 : Int32)] [jR a0] [jI r11, jR a0] (m_X2_isIn _ _ hG) q1346 q1347 q46 q1348 hd_X2_isIn rfl (Nat.le_of_ble_eq_true rfl) ⟨Nat.le_of_ble_eq_true rfl, Nat.le_of_ble_eq_true rfl⟩ ⟨Nat.le_refl _, Nat.le_refl _, Nat.le_refl _, Nat.le_refl _⟩ dX2_card_11 rfl ?_
    refine jj_if_ne (tgt := 21) C dX2_card_14 (by decide) hF (fun hF => ?_) (fun hF => ?_)
    · refine jj_aload_n C 0 rfl dX2_card_21 rfl ?_
      refine jj_pI (f := 4) C jcs_1 (Nat.le_of_ble_eq_true rfl) (jLk.of C q1237 rfl) dX2_card_22 hF (fun v22 hF => ?_)
      refine jj_iconst (v := -1) C dX2_card_25 (by decide) ?_
      refine jj_icmp_ne (tgt := 33) C dX2_card_26 (by decide) hF (fun hF => ?_) (fun hF => ?_)
      · refine jj_iconst (v := 0) C dX2_card_33 (by decide) ?_
        refine jj_sub [0, 1, 2] rfl ?_
        exact w_X2_card_b34 C hxn hQ hF
      · refine jj_iconst (v := 2) C dX2_card_29 (by decide) ?_
        refine jj_goto (tgt := 34) C dX2_card_30 (by decide) ?_
        refine jj_sub [0, 1, 2] rfl ?_
        exact w_X2_card_b34 C hxn hQ hF
    · refine jj_sub [0, 1, 2] rfl ?_
      exact w_X2_card_b17 C hxn hQ hF
/-! PhrasehallModel.next(J)J -/
def rm_X2_next : Room := ({ frames := 1, cells := 0, slots := 0, locals := 64 } : Room)
theorem hd_X2_next : yX2_next.cls ≠ "java/lang/invoke/MethodHandle" ∧ yX2_next.cls ≠ "java/lang/invoke/VarHandle" ∧ (parseMethodDescriptor yX2_next.desc).map (fun d => d.parameters.length) = some 1 := ⟨by decide, by decide, by decide +kernel⟩
def f_X2_next (a0 : Int64) (M : jW) : Option (Int64 × jW) := some (((((1103515245 : Int64) * a0) + (12345 : Int64)) - (((1103515245 : Int64) * a0) + (12345 : Int64)) / (2147483648 : Int64) * (2147483648 : Int64)), M)
set_option maxHeartbeats 4000000 in
theorem m_X2_next (l : Launch) (g : jG) {a0 : Int64} {M M0 : jW} {v0 : Int64} (hF : f_X2_next a0 M = some (v0, M0)) : jMet l g yX2_next cX2_next 2 (some .long) rm_X2_next [jL a0] M (some (jL v0)) M0 := by
  refine jMet.of (L := [(0, jL a0)]) (by decide) rfl (Nat.le_of_ble_eq_true rfl) (fun x C hxn hg hl hQ hin => ?_)
  subst hg
  unfold f_X2_next at hF
  refine jj_ldc2 (v := 1103515245) C q1425 dX2_next_0 ?_
  refine jj_lload_n C 0 rfl dX2_next_3 rfl ?_
  refine jj_lmul C dX2_next_4 ?_
  refine jj_ldc2 (v := 12345) C q1426 dX2_next_5 ?_
  refine jj_ladd C dX2_next_8 ?_
  refine jj_ldc2 (v := 2147483648) C q1427 dX2_next_9 ?_
  refine jj_lremL C dX2_next_12 (by decide) ?_
  exact jj_lret C hQ dX2_next_13 hF (Nat.zero_le _) (Nat.zero_le _)
/-! PhrasehallModel.second()V -/
def rm_X2_second : Room := ({ frames := 3, cells := 0, slots := 0, locals := 110 } : Room)
theorem hd_X2_second : yX2_second.cls ≠ "java/lang/invoke/MethodHandle" ∧ yX2_second.cls ≠ "java/lang/invoke/VarHandle" ∧ (parseMethodDescriptor yX2_second.desc).map (fun d => d.parameters.length) = some 0 := ⟨by decide, by decide, by decide +kernel⟩
def f_X2_second_b85 (l0 : Option Nat) (l1 : Int32) (M : jW) : Option (Unit × jW) := pI M l0 1 4 fun v86 =>
  if v86 = (-1 : Int32) then (some ((), M))
  else (pR M l0 1 11 fun v95 =>
  pAI M v95 0 l1 fun v99 =>
  if v99 = (180 : Int32) then (pR M l0 1 6 fun v107 =>
  pAI M v107 0 ((2 : Int32) * l1) fun v113 =>
  pR M l0 1 6 fun v115 =>
  pAI M v115 0 (((2 : Int32) * l1) + (1 : Int32)) fun v123 =>
  if v113 = v123 then (pL M l0 1 1 fun v140 =>
  pB (f_X2_next v140 M) fun r143 M143 =>
  pP M143 l0 1 1 (jL r143) fun M146 =>
  pR M146 l0 1 13 fun v150 =>
  pL M146 l0 1 1 fun v155 =>
  pSI M146 v150 l1 (((v155 / (65536 : Int64)) - (v155 / (65536 : Int64)) / (2 : Int64) * (2 : Int64)).toInt32) fun M167 =>
  some ((), M167))
  else (pO M l0 1 fun b129 _ => pB (f_X2_ahead (some b129)  M) fun r129 M129 =>
  pO M129 l0 1 fun b132 _ => pB (f_X2_ends (some b132) r129 M129) fun _ M132 =>
  some ((), M132)))
  else (pR M l0 1 11 fun v172 =>
  pAI M v172 0 l1 fun v176 =>
  if v176 = (240 : Int32) then (pR M l0 1 13 fun v185 =>
  pAI M v185 0 l1 fun v189 =>
  pO M l0 1 fun b190 _ => pB (f_X2_ends (some b190) v189 M) fun _ M190 =>
  some ((), M190))
  else (some ((), M))))
set_option maxHeartbeats 4000000 in
theorem w_X2_second_b85 {x : jX} (C : jOk x cX2_second RX2 rm_X2_second none) (hxn : xn x = 2) {v0 : Unit} {M0 : jW} (hQ : jEnd x rm_X2_second none M0) {l0 : Option Nat} {l1 : Int32} {M : jW} (hF : f_X2_second_b85 l0 l1 M = some (v0, M0)) : jJ x 85 [(0, jR l0), (1, jI l1)] [] M 0 0 := by
  unfold f_X2_second_b85 at hF
  refine jj_aload_n C 0 rfl dX2_second_85 rfl ?_
  refine jj_pI (f := 4) C jcs_1 (Nat.le_of_ble_eq_true rfl) (jLk.of C q1237 rfl) dX2_second_86 hF (fun v86 hF => ?_)
  refine jj_iconst (v := -1) C dX2_second_89 (by decide) ?_
  refine jj_icmp_ne (tgt := 94) C dX2_second_90 (by decide) hF (fun hF => ?_) (fun hF => ?_)
  · refine jj_aload_n C 0 rfl dX2_second_94 rfl ?_
    refine jj_pR (f := 11) C jcs_1 (Nat.le_of_ble_eq_true rfl) (jLk.of C q1244 rfl) dX2_second_95 hF (fun v95 hF => ?_)
    refine jj_iload_n C 1 rfl dX2_second_98 rfl ?_
    refine jj_iald C dX2_second_99 hF (fun v99 hF => ?_)
    refine jj_sipush (v := 180) C dX2_second_100 (by decide) ?_
    refine jj_icmp_ne (tgt := 171) C dX2_second_103 (by decide) hF (fun hF => ?_) (fun hF => ?_)
    · refine jj_aload_n C 0 rfl dX2_second_171 rfl ?_
      refine jj_pR (f := 11) C jcs_1 (Nat.le_of_ble_eq_true rfl) (jLk.of C q1244 rfl) dX2_second_172 hF (fun v172 hF => ?_)
      refine jj_iload_n C 1 rfl dX2_second_175 rfl ?_
      refine jj_iald C dX2_second_176 hF (fun v176 hF => ?_)
      refine jj_sipush (v := 240) C dX2_second_177 (by decide) ?_
      refine jj_icmp_ne (tgt := 193) C dX2_second_180 (by decide) hF (fun hF => ?_) (fun hF => ?_)
      · exact jj_vret C hQ dX2_second_193 hF (Nat.zero_le _) (Nat.zero_le _)
      · refine jj_aload_n C 0 rfl dX2_second_183 rfl ?_
        refine jj_aload_n C 0 rfl dX2_second_184 rfl ?_
        refine jj_pR (f := 13) C jcs_1 (Nat.le_of_ble_eq_true rfl) (jLk.of C q1246 rfl) dX2_second_185 hF (fun v185 hF => ?_)
        refine jj_iload_n C 1 rfl dX2_second_188 rfl ?_
        refine jj_iald C dX2_second_189 hF (fun v189 hF => ?_)
        obtain ⟨b190, fs190, he190, hb190, hF⟩ := pO_spec hF
        obtain ⟨r190, M190, hG, hF⟩ := pB_spec hF
        refine jj_callV (k' := 0) (n' := 0) C [jI v189] [] [] he190 (m_X2_ends _ _ hG) hb190 rfl q1406 q1408 qs31 q46 q1409 ⟨rfl, hd_X2_ends⟩ rfl (Nat.le_of_ble_eq_true rfl) ⟨Nat.le_of_ble_eq_true rfl, Nat.le_of_ble_eq_true rfl⟩ ⟨Nat.le_refl _, Nat.le_refl _, Nat.le_refl _, Nat.le_refl _⟩ dX2_second_190 rfl ?_
        exact jj_vret C hQ dX2_second_193 hF (Nat.zero_le _) (Nat.zero_le _)
    · refine jj_aload_n C 0 rfl dX2_second_106 rfl ?_
      refine jj_pR (f := 6) C jcs_1 (Nat.le_of_ble_eq_true rfl) (jLk.of C q1239 rfl) dX2_second_107 hF (fun v107 hF => ?_)
      refine jj_iconst (v := 2) C dX2_second_110 (by decide) ?_
      refine jj_iload_n C 1 rfl dX2_second_111 rfl ?_
      refine jj_imul C dX2_second_112 ?_
      refine jj_iald C dX2_second_113 hF (fun v113 hF => ?_)
      refine jj_aload_n C 0 rfl dX2_second_114 rfl ?_
      refine jj_pR (f := 6) C jcs_1 (Nat.le_of_ble_eq_true rfl) (jLk.of C q1239 rfl) dX2_second_115 hF (fun v115 hF => ?_)
      refine jj_iconst (v := 2) C dX2_second_118 (by decide) ?_
      refine jj_iload_n C 1 rfl dX2_second_119 rfl ?_
      refine jj_imul C dX2_second_120 ?_
      refine jj_iconst (v := 1) C dX2_second_121 (by decide) ?_
      refine jj_iadd C dX2_second_122 ?_
      refine jj_iald C dX2_second_123 hF (fun v123 hF => ?_)
      refine jj_icmp_eq (tgt := 138) C dX2_second_124 (by decide) hF (fun hF => ?_) (fun hF => ?_)
      · refine jj_aload_n C 0 rfl dX2_second_138 rfl ?_
        refine jj_aload_n C 0 rfl dX2_second_139 rfl ?_
        refine jj_pL (f := 1) C jcs_1 (Nat.le_of_ble_eq_true rfl) (jLk.of C q1234 rfl) dX2_second_140 hF (fun v140 hF => ?_)
        obtain ⟨r143, M143, hG, hF⟩ := pB_spec hF
        refine jj_callS (k' := 0) (n' := 0) C [jL v140] [jR l0] [jL r143, jR l0] (m_X2_next _ _ hG) q1422 q1423 q46 q1424 hd_X2_next rfl (Nat.le_of_ble_eq_true rfl) ⟨Nat.le_of_ble_eq_true rfl, Nat.le_of_ble_eq_true rfl⟩ ⟨Nat.le_refl _, Nat.le_refl _, Nat.le_refl _, Nat.le_refl _⟩ dX2_second_143 rfl ?_
        refine jj_pP (f := 1) C jcs_1 (Nat.le_of_ble_eq_true rfl) (jLk.of C q1234 rfl) (Or.inl rfl) dX2_second_146 (jfit_l _) hF (fun M146 hF => ?_)
        refine jj_aload_n C 0 rfl dX2_second_149 rfl ?_
        refine jj_pR (f := 13) C jcs_1 (Nat.le_of_ble_eq_true rfl) (jLk.of C q1246 rfl) dX2_second_150 hF (fun v150 hF => ?_)
        refine jj_iload_n C 1 rfl dX2_second_153 rfl ?_
        refine jj_aload_n C 0 rfl dX2_second_154 rfl ?_
        refine jj_pL (f := 1) C jcs_1 (Nat.le_of_ble_eq_true rfl) (jLk.of C q1234 rfl) dX2_second_155 hF (fun v155 hF => ?_)
        refine jj_ldc2 (v := 65536) C q1428 dX2_second_158 ?_
        refine jj_ldivL C dX2_second_161 (by decide) ?_
        refine jj_ldc2 (v := 2) C q1429 dX2_second_162 ?_
        refine jj_lremL C dX2_second_165 (by decide) ?_
        refine jj_l2i C dX2_second_166 ?_
        refine jj_iast C dX2_second_167 hF (fun M167 hF => ?_)
        refine jj_goto (tgt := 193) C dX2_second_168 (by decide) ?_
        exact jj_vret C hQ dX2_second_193 hF (Nat.zero_le _) (Nat.zero_le _)
      · refine jj_aload_n C 0 rfl dX2_second_127 rfl ?_
        refine jj_aload_n C 0 rfl dX2_second_128 rfl ?_
        obtain ⟨b129, fs129, he129, hb129, hF⟩ := pO_spec hF
        obtain ⟨r129, M129, hG, hF⟩ := pB_spec hF
        refine jj_callV (k' := 0) (n' := 0) C [] [jR l0] [jI r129, jR l0] he129 (m_X2_ahead _ _ hG) hb129 rfl q1402 q1404 qs30 q46 q1405 ⟨rfl, hd_X2_ahead⟩ rfl (Nat.le_of_ble_eq_true rfl) ⟨Nat.le_of_ble_eq_true rfl, Nat.le_of_ble_eq_true rfl⟩ ⟨Nat.le_refl _, Nat.le_refl _, Nat.le_refl _, Nat.le_refl _⟩ dX2_second_129 rfl ?_
        obtain ⟨b132, fs132, he132, hb132, hF⟩ := pO_spec hF
        obtain ⟨r132, M132, hG, hF⟩ := pB_spec hF
        refine jj_callV (k' := 0) (n' := 0) C [jI r129] [] [] he132 (m_X2_ends _ _ hG) hb132 rfl q1406 q1408 qs31 q46 q1409 ⟨rfl, hd_X2_ends⟩ rfl (Nat.le_of_ble_eq_true rfl) ⟨Nat.le_of_ble_eq_true rfl, Nat.le_of_ble_eq_true rfl⟩ ⟨Nat.le_refl _, Nat.le_refl _, Nat.le_refl _, Nat.le_refl _⟩ dX2_second_132 rfl ?_
        refine jj_goto (tgt := 193) C dX2_second_135 (by decide) ?_
        exact jj_vret C hQ dX2_second_193 hF (Nat.zero_le _) (Nat.zero_le _)
  · exact jj_vret C hQ dX2_second_93 hF (Nat.zero_le _) (Nat.zero_le _)
def f_X2_second (a0 : Option Nat) (M : jW) : Option (Unit × jW) := pI M a0 1 4 fun v1 =>
  pR M a0 1 11 fun v6 =>
  pAI M v6 0 v1 fun v11 =>
  pSI M v6 v1 (v11 + (1 : Int32)) fun M14 =>
  pI M14 a0 1 14 fun v17 =>
  pP M14 a0 1 14 (jI (v17 + (1 : Int32))) fun M22 =>
  pI M22 a0 1 14 fun v26 =>
  if v26 = (60 : Int32) then (pP M22 a0 1 14 (jI (0 : Int32)) fun M36 =>
  pR M36 a0 1 12 fun v40 =>
  pAI M36 v40 0 v1 fun v45 =>
  pSI M36 v40 v1 (v45 + (1 : Int32)) fun M48 =>
  pR M48 a0 1 12 fun v50 =>
  pAI M48 v50 0 v1 fun v54 =>
  if v54 = (2 : Int32) then (pO M48 a0 1 fun b61 _ => pB (f_X2_gives (some b61) (3 : Int32) M48) fun _ M61 =>
  f_X2_second_b85 a0 v1 M61)
  else (pR M48 a0 1 12 fun v68 =>
  pAI M48 v68 0 v1 fun v72 =>
  if v72 = (3 : Int32) then (pO M48 a0 1 fun b79 _ => pB (f_X2_ahead (some b79)  M48) fun r79 M79 =>
  pO M79 a0 1 fun b82 _ => pB (f_X2_ends (some b82) r79 M79) fun _ M82 =>
  f_X2_second_b85 a0 v1 M82)
  else (f_X2_second_b85 a0 v1 M48)))
  else (f_X2_second_b85 a0 v1 M22)
set_option maxHeartbeats 4000000 in
theorem m_X2_second (l : Launch) (g : jG) {a0 : Option Nat} {M M0 : jW} {v0 : Unit} (hF : f_X2_second a0 M = some (v0, M0)) : jMet l g yX2_second cX2_second 2 none rm_X2_second [jR a0] M none M0 := by
  refine jMet.of (L := [(0, jR a0)]) (by decide) rfl (Nat.le_of_ble_eq_true rfl) (fun x C hxn hg hl hQ hin => ?_)
  subst hg
  unfold f_X2_second at hF
  refine jj_aload_n C 0 rfl dX2_second_0 rfl ?_
  refine jj_pI (f := 4) C jcs_1 (Nat.le_of_ble_eq_true rfl) (jLk.of C q1237 rfl) dX2_second_1 hF (fun v1 hF => ?_)
  refine jj_istore_n (L' := [(1, jI v1), (0, jR a0)]) C rfl (by rw [hxn]; decide) dX2_second_4 rfl ?_
  refine jj_aload_n C 1 rfl dX2_second_5 rfl ?_
  refine jj_pR (f := 11) C jcs_1 (Nat.le_of_ble_eq_true rfl) (jLk.of C q1244 rfl) dX2_second_6 hF (fun v6 hF => ?_)
  refine jj_iload_n C 0 rfl dX2_second_9 rfl ?_
  refine jj_dup2 C dX2_second_10 rfl rfl ?_
  refine jj_iald C dX2_second_11 hF (fun v11 hF => ?_)
  refine jj_iconst (v := 1) C dX2_second_12 (by decide) ?_
  refine jj_iadd C dX2_second_13 ?_
  refine jj_iast C dX2_second_14 hF (fun M14 hF => ?_)
  refine jj_aload_n C 1 rfl dX2_second_15 rfl ?_
  refine jj_dup C dX2_second_16 rfl ?_
  refine jj_pI (f := 14) C jcs_1 (Nat.le_of_ble_eq_true rfl) (jLk.of C q1247 rfl) dX2_second_17 hF (fun v17 hF => ?_)
  refine jj_iconst (v := 1) C dX2_second_20 (by decide) ?_
  refine jj_iadd C dX2_second_21 ?_
  refine jj_pP (f := 14) C jcs_1 (Nat.le_of_ble_eq_true rfl) (jLk.of C q1247 rfl) (Or.inl rfl) dX2_second_22 (jfit_i _) hF (fun M22 hF => ?_)
  refine jj_aload_n C 1 rfl dX2_second_25 rfl ?_
  refine jj_pI (f := 14) C jcs_1 (Nat.le_of_ble_eq_true rfl) (jLk.of C q1247 rfl) dX2_second_26 hF (fun v26 hF => ?_)
  refine jj_bipush (v := 60) C dX2_second_29 (by decide) ?_
  refine jj_icmp_ne (tgt := 85) C dX2_second_31 (by decide) hF (fun hF => ?_) (fun hF => ?_)
  · refine jj_sub [1, 0] rfl ?_
    exact w_X2_second_b85 C hxn hQ hF
  · refine jj_aload_n C 1 rfl dX2_second_34 rfl ?_
    refine jj_iconst (v := 0) C dX2_second_35 (by decide) ?_
    refine jj_pP (f := 14) C jcs_1 (Nat.le_of_ble_eq_true rfl) (jLk.of C q1247 rfl) (Or.inl rfl) dX2_second_36 (jfit_i _) hF (fun M36 hF => ?_)
    refine jj_aload_n C 1 rfl dX2_second_39 rfl ?_
    refine jj_pR (f := 12) C jcs_1 (Nat.le_of_ble_eq_true rfl) (jLk.of C q1245 rfl) dX2_second_40 hF (fun v40 hF => ?_)
    refine jj_iload_n C 0 rfl dX2_second_43 rfl ?_
    refine jj_dup2 C dX2_second_44 rfl rfl ?_
    refine jj_iald C dX2_second_45 hF (fun v45 hF => ?_)
    refine jj_iconst (v := 1) C dX2_second_46 (by decide) ?_
    refine jj_iadd C dX2_second_47 ?_
    refine jj_iast C dX2_second_48 hF (fun M48 hF => ?_)
    refine jj_aload_n C 1 rfl dX2_second_49 rfl ?_
    refine jj_pR (f := 12) C jcs_1 (Nat.le_of_ble_eq_true rfl) (jLk.of C q1245 rfl) dX2_second_50 hF (fun v50 hF => ?_)
    refine jj_iload_n C 0 rfl dX2_second_53 rfl ?_
    refine jj_iald C dX2_second_54 hF (fun v54 hF => ?_)
    refine jj_iconst (v := 2) C dX2_second_55 (by decide) ?_
    refine jj_icmp_ne (tgt := 67) C dX2_second_56 (by decide) hF (fun hF => ?_) (fun hF => ?_)
    · refine jj_aload_n C 1 rfl dX2_second_67 rfl ?_
      refine jj_pR (f := 12) C jcs_1 (Nat.le_of_ble_eq_true rfl) (jLk.of C q1245 rfl) dX2_second_68 hF (fun v68 hF => ?_)
      refine jj_iload_n C 0 rfl dX2_second_71 rfl ?_
      refine jj_iald C dX2_second_72 hF (fun v72 hF => ?_)
      refine jj_iconst (v := 3) C dX2_second_73 (by decide) ?_
      refine jj_icmp_ne (tgt := 85) C dX2_second_74 (by decide) hF (fun hF => ?_) (fun hF => ?_)
      · refine jj_sub [1, 0] rfl ?_
        exact w_X2_second_b85 C hxn hQ hF
      · refine jj_aload_n C 1 rfl dX2_second_77 rfl ?_
        refine jj_aload_n C 1 rfl dX2_second_78 rfl ?_
        obtain ⟨b79, fs79, he79, hb79, hF⟩ := pO_spec hF
        obtain ⟨r79, M79, hG, hF⟩ := pB_spec hF
        refine jj_callV (k' := 0) (n' := 0) C [] [jR a0] [jI r79, jR a0] he79 (m_X2_ahead _ _ hG) hb79 rfl q1402 q1404 qs30 q46 q1405 ⟨rfl, hd_X2_ahead⟩ rfl (Nat.le_of_ble_eq_true rfl) ⟨Nat.le_of_ble_eq_true rfl, Nat.le_of_ble_eq_true rfl⟩ ⟨Nat.le_refl _, Nat.le_refl _, Nat.le_refl _, Nat.le_refl _⟩ dX2_second_79 rfl ?_
        obtain ⟨b82, fs82, he82, hb82, hF⟩ := pO_spec hF
        obtain ⟨r82, M82, hG, hF⟩ := pB_spec hF
        refine jj_callV (k' := 0) (n' := 0) C [jI r79] [] [] he82 (m_X2_ends _ _ hG) hb82 rfl q1406 q1408 qs31 q46 q1409 ⟨rfl, hd_X2_ends⟩ rfl (Nat.le_of_ble_eq_true rfl) ⟨Nat.le_of_ble_eq_true rfl, Nat.le_of_ble_eq_true rfl⟩ ⟨Nat.le_refl _, Nat.le_refl _, Nat.le_refl _, Nat.le_refl _⟩ dX2_second_82 rfl ?_
        refine jj_sub [1, 0] rfl ?_
        exact w_X2_second_b85 C hxn hQ hF
    · refine jj_aload_n C 1 rfl dX2_second_59 rfl ?_
      refine jj_iconst (v := 3) C dX2_second_60 (by decide) ?_
      obtain ⟨b61, fs61, he61, hb61, hF⟩ := pO_spec hF
      obtain ⟨r61, M61, hG, hF⟩ := pB_spec hF
      refine jj_callV (k' := 0) (n' := 0) C [jI (3 : Int32)] [] [] he61 (m_X2_gives _ _ hG) hb61 rfl q1398 q1400 qs29 q46 q1401 ⟨rfl, hd_X2_gives⟩ rfl (Nat.le_of_ble_eq_true rfl) ⟨Nat.le_of_ble_eq_true rfl, Nat.le_of_ble_eq_true rfl⟩ ⟨Nat.le_refl _, Nat.le_refl _, Nat.le_refl _, Nat.le_refl _⟩ dX2_second_61 rfl ?_
      refine jj_goto (tgt := 85) C dX2_second_64 (by decide) ?_
      refine jj_sub [1, 0] rfl ?_
      exact w_X2_second_b85 C hxn hQ hF
/-! PhrasehallModel.clock(I)I -/
def rm_X2_clock : Room := ({ frames := 4, cells := 0, slots := 0, locals := 131 } : Room)
theorem hd_X2_clock : yX2_clock.cls ≠ "java/lang/invoke/MethodHandle" ∧ yX2_clock.cls ≠ "java/lang/invoke/VarHandle" ∧ (parseMethodDescriptor yX2_clock.desc).map (fun d => d.parameters.length) = some 1 := ⟨by decide, by decide, by decide +kernel⟩
def f_X2_clock_b100 (l0 : Option Nat) (s0 : Int32) (M : jW) : Option (Int32 × jW) := pR M l0 1 11 fun v101 =>
  pI M l0 1 4 fun v105 =>
  pAI M v101 0 v105 fun v108 =>
  some ((s0 - v108), M)
set_option maxHeartbeats 4000000 in
theorem w_X2_clock_b100 {x : jX} (C : jOk x cX2_clock RX2 rm_X2_clock (some .int)) (hxn : xn x = 3) {v0 : Int32} {M0 : jW} (hQ : jEnd x rm_X2_clock (some (jI v0)) M0) {l0 : Option Nat} {s0 : Int32} {M : jW} (hF : f_X2_clock_b100 l0 s0 M = some (v0, M0)) : jJ x 100 [(0, jR l0)] [jI s0] M 0 0 := by
  unfold f_X2_clock_b100 at hF
  refine jj_aload_n C 0 rfl dX2_clock_100 rfl ?_
  refine jj_pR (f := 11) C jcs_1 (Nat.le_of_ble_eq_true rfl) (jLk.of C q1244 rfl) dX2_clock_101 hF (fun v101 hF => ?_)
  refine jj_aload_n C 0 rfl dX2_clock_104 rfl ?_
  refine jj_pI (f := 4) C jcs_1 (Nat.le_of_ble_eq_true rfl) (jLk.of C q1237 rfl) dX2_clock_105 hF (fun v105 hF => ?_)
  refine jj_iald C dX2_clock_108 hF (fun v108 hF => ?_)
  refine jj_isub C dX2_clock_109 ?_
  exact jj_iret C hQ dX2_clock_110 hF (Nat.zero_le _) (Nat.zero_le _)
def f_X2_clock_b66 (l0 : Option Nat) (M : jW) : Option (Int32 × jW) := pI M l0 1 4 fun v67 =>
  if v67 = (-1 : Int32) then (some ((0 : Int32), M))
  else (pR M l0 1 13 fun v79 =>
  pI M l0 1 4 fun v83 =>
  pAI M v79 0 v83 fun v86 =>
  if v86 = (-1 : Int32) then (f_X2_clock_b100 l0 (180 : Int32) M)
  else (f_X2_clock_b100 l0 (240 : Int32) M))
set_option maxHeartbeats 4000000 in
theorem w_X2_clock_b66 {x : jX} (C : jOk x cX2_clock RX2 rm_X2_clock (some .int)) (hxn : xn x = 3) {v0 : Int32} {M0 : jW} (hQ : jEnd x rm_X2_clock (some (jI v0)) M0) {l0 : Option Nat} {M : jW} (hF : f_X2_clock_b66 l0 M = some (v0, M0)) : jJ x 66 [(0, jR l0)] [] M 0 0 := by
  unfold f_X2_clock_b66 at hF
  refine jj_aload_n C 0 rfl dX2_clock_66 rfl ?_
  refine jj_pI (f := 4) C jcs_1 (Nat.le_of_ble_eq_true rfl) (jLk.of C q1237 rfl) dX2_clock_67 hF (fun v67 hF => ?_)
  refine jj_iconst (v := -1) C dX2_clock_70 (by decide) ?_
  refine jj_icmp_ne (tgt := 78) C dX2_clock_71 (by decide) hF (fun hF => ?_) (fun hF => ?_)
  · refine jj_aload_n C 0 rfl dX2_clock_78 rfl ?_
    refine jj_pR (f := 13) C jcs_1 (Nat.le_of_ble_eq_true rfl) (jLk.of C q1246 rfl) dX2_clock_79 hF (fun v79 hF => ?_)
    refine jj_aload_n C 0 rfl dX2_clock_82 rfl ?_
    refine jj_pI (f := 4) C jcs_1 (Nat.le_of_ble_eq_true rfl) (jLk.of C q1237 rfl) dX2_clock_83 hF (fun v83 hF => ?_)
    refine jj_iald C dX2_clock_86 hF (fun v86 hF => ?_)
    refine jj_iconst (v := -1) C dX2_clock_87 (by decide) ?_
    refine jj_icmp_ne (tgt := 97) C dX2_clock_88 (by decide) hF (fun hF => ?_) (fun hF => ?_)
    · refine jj_sipush (v := 240) C dX2_clock_97 (by decide) ?_
      refine jj_sub [0] rfl ?_
      exact w_X2_clock_b100 C hxn hQ hF
    · refine jj_sipush (v := 180) C dX2_clock_91 (by decide) ?_
      refine jj_goto (tgt := 100) C dX2_clock_94 (by decide) ?_
      refine jj_sub [0] rfl ?_
      exact w_X2_clock_b100 C hxn hQ hF
  · refine jj_iconst (v := 0) C dX2_clock_74 (by decide) ?_
    refine jj_goto (tgt := 110) C dX2_clock_75 (by decide) ?_
    exact jj_iret C hQ dX2_clock_110 hF (Nat.zero_le _) (Nat.zero_le _)
def f_X2_clock_b43 : Nat → Option Nat → Int32 → Int32 → jW → Option (Int32 × jW)
  | 0, _, _, _, _ => none
  | q + 1, l0, l1, l2, M => if l1 ≤ l2 then (f_X2_clock_b66 l0 M)
  else (pI M l0 1 4 fun v49 =>
  if v49 = (-1 : Int32) then (f_X2_clock_b66 l0 M)
  else (pO M l0 1 fun b57 _ => pB (f_X2_second (some b57)  M) fun _ M57 =>
  (f_X2_clock_b43 q) l0 l1 (l2 + (1 : Int32)) M57))
theorem f_X2_clock_b43_s (q : Nat) (l0 : Option Nat) (l1 : Int32) (l2 : Int32) (M : jW) : f_X2_clock_b43 (q + 1) l0 l1 l2 M = (if l1 ≤ l2 then (f_X2_clock_b66 l0 M)
  else (pI M l0 1 4 fun v49 =>
  if v49 = (-1 : Int32) then (f_X2_clock_b66 l0 M)
  else (pO M l0 1 fun b57 _ => pB (f_X2_second (some b57)  M) fun _ M57 =>
  (f_X2_clock_b43 q) l0 l1 (l2 + (1 : Int32)) M57))) := rfl
set_option maxHeartbeats 4000000 in
theorem w_X2_clock_b43 {x : jX} (C : jOk x cX2_clock RX2 rm_X2_clock (some .int)) (hxn : xn x = 3) {v0 : Int32} {M0 : jW} (hQ : jEnd x rm_X2_clock (some (jI v0)) M0) : ∀ (n43 : Nat) (l0 : Option Nat) (l1 : Int32) (l2 : Int32) (M : jW), f_X2_clock_b43 n43 l0 l1 l2 M = some (v0, M0) → jJ x 43 [(0, jR l0), (1, jI l1), (2, jI l2)] [] M 0 0 := by
  intro n43
  induction n43 with
  | zero =>
    intro l0 l1 l2 M hF
    cases hF
  | succ n43 hK43 =>
    intro l0 l1 l2 M hF
    rw [f_X2_clock_b43_s] at hF
    refine jj_iload_n C 2 rfl dX2_clock_43 rfl ?_
    refine jj_iload_n C 1 rfl dX2_clock_44 rfl ?_
    refine jj_icmp_ge (tgt := 66) C dX2_clock_45 (by decide) hF (fun hF => ?_) (fun hF => ?_)
    · refine jj_sub [0] rfl ?_
      exact w_X2_clock_b66 C hxn hQ hF
    · refine jj_aload_n C 0 rfl dX2_clock_48 rfl ?_
      refine jj_pI (f := 4) C jcs_1 (Nat.le_of_ble_eq_true rfl) (jLk.of C q1237 rfl) dX2_clock_49 hF (fun v49 hF => ?_)
      refine jj_iconst (v := -1) C dX2_clock_52 (by decide) ?_
      refine jj_icmp_eq (tgt := 66) C dX2_clock_53 (by decide) hF (fun hF => ?_) (fun hF => ?_)
      · refine jj_sub [0] rfl ?_
        exact w_X2_clock_b66 C hxn hQ hF
      · refine jj_aload_n C 0 rfl dX2_clock_56 rfl ?_
        obtain ⟨b57, fs57, he57, hb57, hF⟩ := pO_spec hF
        obtain ⟨r57, M57, hG, hF⟩ := pB_spec hF
        refine jj_callV (k' := 0) (n' := 0) C [] [] [] he57 (m_X2_second _ _ hG) hb57 rfl q1418 q1420 qs32 q46 q1421 ⟨rfl, hd_X2_second⟩ rfl (Nat.le_of_ble_eq_true rfl) ⟨Nat.le_of_ble_eq_true rfl, Nat.le_of_ble_eq_true rfl⟩ ⟨Nat.le_refl _, Nat.le_refl _, Nat.le_refl _, Nat.le_refl _⟩ dX2_clock_57 rfl ?_
        refine jj_iinc (c := 1) (L' := [(2, jI (l2 + (1 : Int32))), (0, jR l0), (1, jI l1)]) C 2 rfl (by decide) rfl (by rw [hxn]; decide) dX2_clock_60 ?_
        refine jj_goto (tgt := 43) C dX2_clock_63 (by decide) ?_
        refine jj_sub [1, 2, 0] rfl ?_
        exact hK43 _ _ _ _ hF
def f_X2_clock_b29 (l0 : Option Nat) (l1 : Int32) (s0 : Option Nat) (s1 : Int32) (M : jW) : Option (Int32 × jW) := pP M s0 1 31 (jI s1) fun M29 =>
  pI M29 l0 1 31 fun v33 =>
  if v33 ≤ 0 then (f_X2_clock_b43 1000 l0 l1 (0 : Int32) M29)
  else (some ((0 : Int32), M29))
set_option maxHeartbeats 4000000 in
theorem w_X2_clock_b29 {x : jX} (C : jOk x cX2_clock RX2 rm_X2_clock (some .int)) (hxn : xn x = 3) {v0 : Int32} {M0 : jW} (hQ : jEnd x rm_X2_clock (some (jI v0)) M0) {l0 : Option Nat} {l1 : Int32} {s0 : Option Nat} {s1 : Int32} {M : jW} (hF : f_X2_clock_b29 l0 l1 s0 s1 M = some (v0, M0)) : jJ x 29 [(0, jR l0), (1, jI l1)] [jI s1, jR s0] M 0 0 := by
  unfold f_X2_clock_b29 at hF
  refine jj_pP (f := 31) C jcs_1 (Nat.le_of_ble_eq_true rfl) (jLk.of C q1264 rfl) (Or.inl rfl) dX2_clock_29 (jfit_i _) hF (fun M29 hF => ?_)
  refine jj_aload_n C 0 rfl dX2_clock_32 rfl ?_
  refine jj_pI (f := 31) C jcs_1 (Nat.le_of_ble_eq_true rfl) (jLk.of C q1264 rfl) dX2_clock_33 hF (fun v33 hF => ?_)
  refine jj_if_le (tgt := 41) C dX2_clock_36 (by decide) hF (fun hF => ?_) (fun hF => ?_)
  · refine jj_iconst (v := 0) C dX2_clock_41 (by decide) ?_
    refine jj_istore_n (L' := [(2, jI (0 : Int32)), (0, jR l0), (1, jI l1)]) C rfl (by rw [hxn]; decide) dX2_clock_42 rfl ?_
    refine jj_sub [1, 2, 0] rfl ?_
    exact w_X2_clock_b43 C hxn hQ 1000 _ _ _ _ hF
  · refine jj_iconst (v := 0) C dX2_clock_39 (by decide) ?_
    exact jj_iret C hQ dX2_clock_40 hF (Nat.zero_le _) (Nat.zero_le _)
def f_X2_clock (a0 : Option Nat) (a1 : Int32) (M : jW) : Option (Int32 × jW) := pB (f_X2_isIn a1 (1 : Int32) (240 : Int32) M) fun r6 M6 =>
  if r6 = 0 then (f_X2_clock_b29 a0 a1 a0 (1 : Int32) M6)
  else (pI M6 a0 1 4 fun v17 =>
  if v17 = (-1 : Int32) then (f_X2_clock_b29 a0 a1 a0 (2 : Int32) M6)
  else (f_X2_clock_b29 a0 a1 a0 (0 : Int32) M6))
set_option maxHeartbeats 4000000 in
theorem m_X2_clock (l : Launch) (g : jG) {a0 : Option Nat} {a1 : Int32} {M M0 : jW} {v0 : Int32} (hF : f_X2_clock a0 a1 M = some (v0, M0)) : jMet l g yX2_clock cX2_clock 3 (some .int) rm_X2_clock [jR a0, jI a1] M (some (jI v0)) M0 := by
  refine jMet.of (L := [(0, jR a0), (1, jI a1)]) (by decide) rfl (Nat.le_of_ble_eq_true rfl) (fun x C hxn hg hl hQ hin => ?_)
  subst hg
  unfold f_X2_clock at hF
  refine jj_aload_n C 0 rfl dX2_clock_0 rfl ?_
  refine jj_iload_n C 1 rfl dX2_clock_1 rfl ?_
  refine jj_iconst (v := 1) C dX2_clock_2 (by decide) ?_
  refine jj_sipush (v := 240) C dX2_clock_3 (by decide) ?_
  obtain ⟨r6, M6, hG, hF⟩ := pB_spec hF
  refine jj_callS (k' := 0) (n' := 0) C [jI a1, jI (1 : Int32), jI (240 : Int32)] [jR a0] [jI r6, jR a0] (m_X2_isIn _ _ hG) q1346 q1347 q46 q1348 hd_X2_isIn rfl (Nat.le_of_ble_eq_true rfl) ⟨Nat.le_of_ble_eq_true rfl, Nat.le_of_ble_eq_true rfl⟩ ⟨Nat.le_refl _, Nat.le_refl _, Nat.le_refl _, Nat.le_refl _⟩ dX2_clock_6 rfl ?_
  refine jj_if_ne (tgt := 16) C dX2_clock_9 (by decide) hF (fun hF => ?_) (fun hF => ?_)
  · refine jj_aload_n C 0 rfl dX2_clock_16 rfl ?_
    refine jj_pI (f := 4) C jcs_1 (Nat.le_of_ble_eq_true rfl) (jLk.of C q1237 rfl) dX2_clock_17 hF (fun v17 hF => ?_)
    refine jj_iconst (v := -1) C dX2_clock_20 (by decide) ?_
    refine jj_icmp_ne (tgt := 28) C dX2_clock_21 (by decide) hF (fun hF => ?_) (fun hF => ?_)
    · refine jj_iconst (v := 0) C dX2_clock_28 (by decide) ?_
      refine jj_sub [0, 1] rfl ?_
      exact w_X2_clock_b29 C hxn hQ hF
    · refine jj_iconst (v := 2) C dX2_clock_24 (by decide) ?_
      refine jj_goto (tgt := 29) C dX2_clock_25 (by decide) ?_
      refine jj_sub [0, 1] rfl ?_
      exact w_X2_clock_b29 C hxn hQ hF
  · refine jj_iconst (v := 1) C dX2_clock_12 (by decide) ?_
    refine jj_goto (tgt := 29) C dX2_clock_13 (by decide) ?_
    refine jj_sub [0, 1] rfl ?_
    exact w_X2_clock_b29 C hxn hQ hF
