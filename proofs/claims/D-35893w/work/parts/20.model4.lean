set_option maxRecDepth 100000
/-! PhrasehallModel.tableau(I)I -/
def rm_X2_tableau : Room := ({ frames := 6, cells := 0, slots := 0, locals := 190 } : Room)
theorem hd_X2_tableau : yX2_tableau.cls ≠ "java/lang/invoke/MethodHandle" ∧ yX2_tableau.cls ≠ "java/lang/invoke/VarHandle" ∧ (parseMethodDescriptor yX2_tableau.desc).map (fun d => d.parameters.length) = some 1 := ⟨by decide, by decide, by decide +kernel⟩
def f_X2_tableau_b250 (K175 : Option Nat → Int32 → jW → Option (Int32 × jW)) (l0 : Option Nat) (l3 : Int32) (M : jW) : Option (Int32 × jW) := K175 l0 (l3 + (1 : Int32)) M
set_option maxHeartbeats 4000000 in
theorem w_X2_tableau_b250 {x : jX} (C : jOk x cX2_tableau RX2 rm_X2_tableau (some .int)) (hxn : xn x = 5) {v0 : Int32} {M0 : jW} (hQ : jEnd x rm_X2_tableau (some (jI v0)) M0) {K175 : Option Nat → Int32 → jW → Option (Int32 × jW)} (hK175 : ∀ (l0 : Option Nat) (l3 : Int32) (M : jW), K175 l0 l3 M = some (v0, M0) → jJ x 175 [(0, jR l0), (3, jI l3)] [] M 0 0) {l0 : Option Nat} {l3 : Int32} {M : jW} (hF : f_X2_tableau_b250 K175 l0 l3 M = some (v0, M0)) : jJ x 250 [(0, jR l0), (3, jI l3)] [] M 0 0 := by
  unfold f_X2_tableau_b250 at hF
  refine jj_iinc (c := 1) (L' := [(3, jI (l3 + (1 : Int32))), (0, jR l0)]) C 1 rfl (by decide) rfl (by rw [hxn]; decide) dX2_tableau_250 ?_
  refine jj_goto (tgt := 175) C dX2_tableau_253 (by decide) ?_
  refine jj_sub [1, 0] rfl ?_
  exact hK175 _ _ _ hF
def f_X2_tableau_b247 (K175 : Option Nat → Int32 → jW → Option (Int32 × jW)) (l0 : Option Nat) (l3 : Int32) (s0 : Option Nat) (s1 : Int32) (s2 : Int32) (s3 : Int32) (M : jW) : Option (Int32 × jW) := pO M s0 1 fun b247 _ => pB (f_X2_isWon (some b247) s1 s2 s3 M) fun _ M247 =>
  f_X2_tableau_b250 K175 l0 l3 M247
set_option maxHeartbeats 4000000 in
theorem w_X2_tableau_b247 {x : jX} (C : jOk x cX2_tableau RX2 rm_X2_tableau (some .int)) (hxn : xn x = 5) {v0 : Int32} {M0 : jW} (hQ : jEnd x rm_X2_tableau (some (jI v0)) M0) {K175 : Option Nat → Int32 → jW → Option (Int32 × jW)} (hK175 : ∀ (l0 : Option Nat) (l3 : Int32) (M : jW), K175 l0 l3 M = some (v0, M0) → jJ x 175 [(0, jR l0), (3, jI l3)] [] M 0 0) {l0 : Option Nat} {l3 : Int32} {s0 : Option Nat} {s1 : Int32} {s2 : Int32} {s3 : Int32} {M : jW} (hF : f_X2_tableau_b247 K175 l0 l3 s0 s1 s2 s3 M = some (v0, M0)) : jJ x 247 [(0, jR l0), (3, jI l3)] [jI s3, jI s2, jI s1, jR s0] M 0 0 := by
  unfold f_X2_tableau_b247 at hF
  obtain ⟨b247, fs247, he247, hb247, hF⟩ := pO_spec hF
  obtain ⟨r247, M247, hG, hF⟩ := pB_spec hF
  refine jj_callV (k' := 0) (n' := 0) C [jI s1, jI s2, jI s3] [] [] he247 (m_X2_isWon _ _ hG) hb247 rfl q1476 q1478 qs38 q46 q1479 ⟨rfl, hd_X2_isWon⟩ rfl (Nat.le_of_ble_eq_true rfl) ⟨Nat.le_of_ble_eq_true rfl, Nat.le_of_ble_eq_true rfl⟩ ⟨Nat.le_refl _, Nat.le_refl _, Nat.le_refl _, Nat.le_refl _⟩ dX2_tableau_247 rfl ?_
  refine jj_sub [0, 1] rfl ?_
  exact w_X2_tableau_b250 C hxn hQ hK175 hF
def f_X2_tableau_b211 (K175 : Option Nat → Int32 → jW → Option (Int32 × jW)) (l0 : Option Nat) (l3 : Int32) (M : jW) : Option (Int32 × jW) := pR M l0 1 28 fun v215 =>
  pAI M v215 0 ((2 : Int32) * l3) fun v221 =>
  if v221 = (-1 : Int32) then (pR M l0 1 28 fun v227 =>
  pAI M v227 0 (((2 : Int32) * l3) + (1 : Int32)) fun v235 =>
  f_X2_tableau_b247 K175 l0 l3 l0 (0 : Int32) l3 v235 M)
  else (pR M l0 1 28 fun v240 =>
  pAI M v240 0 ((2 : Int32) * l3) fun v246 =>
  f_X2_tableau_b247 K175 l0 l3 l0 (0 : Int32) l3 v246 M)
set_option maxHeartbeats 4000000 in
theorem w_X2_tableau_b211 {x : jX} (C : jOk x cX2_tableau RX2 rm_X2_tableau (some .int)) (hxn : xn x = 5) {v0 : Int32} {M0 : jW} (hQ : jEnd x rm_X2_tableau (some (jI v0)) M0) {K175 : Option Nat → Int32 → jW → Option (Int32 × jW)} (hK175 : ∀ (l0 : Option Nat) (l3 : Int32) (M : jW), K175 l0 l3 M = some (v0, M0) → jJ x 175 [(0, jR l0), (3, jI l3)] [] M 0 0) {l0 : Option Nat} {l3 : Int32} {M : jW} (hF : f_X2_tableau_b211 K175 l0 l3 M = some (v0, M0)) : jJ x 211 [(0, jR l0), (3, jI l3)] [] M 0 0 := by
  unfold f_X2_tableau_b211 at hF
  refine jj_aload_n C 0 rfl dX2_tableau_211 rfl ?_
  refine jj_iconst (v := 0) C dX2_tableau_212 (by decide) ?_
  refine jj_iload_n C 1 rfl dX2_tableau_213 rfl ?_
  refine jj_aload_n C 0 rfl dX2_tableau_214 rfl ?_
  refine jj_pR (f := 28) C jcs_1 (Nat.le_of_ble_eq_true rfl) (jLk.of C q1261 rfl) dX2_tableau_215 hF (fun v215 hF => ?_)
  refine jj_iconst (v := 2) C dX2_tableau_218 (by decide) ?_
  refine jj_iload_n C 1 rfl dX2_tableau_219 rfl ?_
  refine jj_imul C dX2_tableau_220 ?_
  refine jj_iald C dX2_tableau_221 hF (fun v221 hF => ?_)
  refine jj_iconst (v := -1) C dX2_tableau_222 (by decide) ?_
  refine jj_icmp_ne (tgt := 239) C dX2_tableau_223 (by decide) hF (fun hF => ?_) (fun hF => ?_)
  · refine jj_aload_n C 0 rfl dX2_tableau_239 rfl ?_
    refine jj_pR (f := 28) C jcs_1 (Nat.le_of_ble_eq_true rfl) (jLk.of C q1261 rfl) dX2_tableau_240 hF (fun v240 hF => ?_)
    refine jj_iconst (v := 2) C dX2_tableau_243 (by decide) ?_
    refine jj_iload_n C 1 rfl dX2_tableau_244 rfl ?_
    refine jj_imul C dX2_tableau_245 ?_
    refine jj_iald C dX2_tableau_246 hF (fun v246 hF => ?_)
    refine jj_sub [0, 1] rfl ?_
    exact w_X2_tableau_b247 C hxn hQ hK175 hF
  · refine jj_aload_n C 0 rfl dX2_tableau_226 rfl ?_
    refine jj_pR (f := 28) C jcs_1 (Nat.le_of_ble_eq_true rfl) (jLk.of C q1261 rfl) dX2_tableau_227 hF (fun v227 hF => ?_)
    refine jj_iconst (v := 2) C dX2_tableau_230 (by decide) ?_
    refine jj_iload_n C 1 rfl dX2_tableau_231 rfl ?_
    refine jj_imul C dX2_tableau_232 ?_
    refine jj_iconst (v := 1) C dX2_tableau_233 (by decide) ?_
    refine jj_iadd C dX2_tableau_234 ?_
    refine jj_iald C dX2_tableau_235 hF (fun v235 hF => ?_)
    refine jj_goto (tgt := 247) C dX2_tableau_236 (by decide) ?_
    refine jj_sub [0, 1] rfl ?_
    exact w_X2_tableau_b247 C hxn hQ hK175 hF
def f_X2_tableau_b175 : Nat → Option Nat → Int32 → jW → Option (Int32 × jW)
  | 0, _, _, _ => none
  | q + 1, l0, l3, M => pI M l0 1 27 fun v177 =>
  if (v177 / (2 : Int32)) ≤ l3 then (pI M l0 1 27 fun v257 =>
  some (v257, M))
  else (pR M l0 1 28 fun v186 =>
  pAI M v186 0 ((2 : Int32) * l3) fun v192 =>
  if v192 = (-1 : Int32) then (f_X2_tableau_b211 (f_X2_tableau_b175 q) l0 l3 M)
  else (pR M l0 1 28 fun v198 =>
  pAI M v198 0 (((2 : Int32) * l3) + (1 : Int32)) fun v206 =>
  if v206 = (-1 : Int32) then (f_X2_tableau_b211 (f_X2_tableau_b175 q) l0 l3 M)
  else (f_X2_tableau_b250 (f_X2_tableau_b175 q) l0 l3 M)))
theorem f_X2_tableau_b175_s (q : Nat) (l0 : Option Nat) (l3 : Int32) (M : jW) : f_X2_tableau_b175 (q + 1) l0 l3 M = (pI M l0 1 27 fun v177 =>
  if (v177 / (2 : Int32)) ≤ l3 then (pI M l0 1 27 fun v257 =>
  some (v257, M))
  else (pR M l0 1 28 fun v186 =>
  pAI M v186 0 ((2 : Int32) * l3) fun v192 =>
  if v192 = (-1 : Int32) then (f_X2_tableau_b211 (f_X2_tableau_b175 q) l0 l3 M)
  else (pR M l0 1 28 fun v198 =>
  pAI M v198 0 (((2 : Int32) * l3) + (1 : Int32)) fun v206 =>
  if v206 = (-1 : Int32) then (f_X2_tableau_b211 (f_X2_tableau_b175 q) l0 l3 M)
  else (f_X2_tableau_b250 (f_X2_tableau_b175 q) l0 l3 M)))) := rfl
set_option maxHeartbeats 4000000 in
theorem w_X2_tableau_b175 {x : jX} (C : jOk x cX2_tableau RX2 rm_X2_tableau (some .int)) (hxn : xn x = 5) {v0 : Int32} {M0 : jW} (hQ : jEnd x rm_X2_tableau (some (jI v0)) M0) : ∀ (n175 : Nat) (l0 : Option Nat) (l3 : Int32) (M : jW), f_X2_tableau_b175 n175 l0 l3 M = some (v0, M0) → jJ x 175 [(0, jR l0), (3, jI l3)] [] M 0 0 := by
  intro n175
  induction n175 with
  | zero =>
    intro l0 l3 M hF
    cases hF
  | succ n175 hK175 =>
    intro l0 l3 M hF
    rw [f_X2_tableau_b175_s] at hF
    refine jj_iload_n C 1 rfl dX2_tableau_175 rfl ?_
    refine jj_aload_n C 0 rfl dX2_tableau_176 rfl ?_
    refine jj_pI (f := 27) C jcs_1 (Nat.le_of_ble_eq_true rfl) (jLk.of C q1260 rfl) dX2_tableau_177 hF (fun v177 hF => ?_)
    refine jj_iconst (v := 2) C dX2_tableau_180 (by decide) ?_
    refine jj_idivL C dX2_tableau_181 (by decide) ?_
    refine jj_icmp_ge (tgt := 256) C dX2_tableau_182 (by decide) hF (fun hF => ?_) (fun hF => ?_)
    · refine jj_aload_n C 0 rfl dX2_tableau_256 rfl ?_
      refine jj_pI (f := 27) C jcs_1 (Nat.le_of_ble_eq_true rfl) (jLk.of C q1260 rfl) dX2_tableau_257 hF (fun v257 hF => ?_)
      exact jj_iret C hQ dX2_tableau_260 hF (Nat.zero_le _) (Nat.zero_le _)
    · refine jj_aload_n C 0 rfl dX2_tableau_185 rfl ?_
      refine jj_pR (f := 28) C jcs_1 (Nat.le_of_ble_eq_true rfl) (jLk.of C q1261 rfl) dX2_tableau_186 hF (fun v186 hF => ?_)
      refine jj_iconst (v := 2) C dX2_tableau_189 (by decide) ?_
      refine jj_iload_n C 1 rfl dX2_tableau_190 rfl ?_
      refine jj_imul C dX2_tableau_191 ?_
      refine jj_iald C dX2_tableau_192 hF (fun v192 hF => ?_)
      refine jj_iconst (v := -1) C dX2_tableau_193 (by decide) ?_
      refine jj_icmp_eq (tgt := 211) C dX2_tableau_194 (by decide) hF (fun hF => ?_) (fun hF => ?_)
      · refine jj_sub [0, 1] rfl ?_
        exact w_X2_tableau_b211 C hxn hQ hK175 hF
      · refine jj_aload_n C 0 rfl dX2_tableau_197 rfl ?_
        refine jj_pR (f := 28) C jcs_1 (Nat.le_of_ble_eq_true rfl) (jLk.of C q1261 rfl) dX2_tableau_198 hF (fun v198 hF => ?_)
        refine jj_iconst (v := 2) C dX2_tableau_201 (by decide) ?_
        refine jj_iload_n C 1 rfl dX2_tableau_202 rfl ?_
        refine jj_imul C dX2_tableau_203 ?_
        refine jj_iconst (v := 1) C dX2_tableau_204 (by decide) ?_
        refine jj_iadd C dX2_tableau_205 ?_
        refine jj_iald C dX2_tableau_206 hF (fun v206 hF => ?_)
        refine jj_iconst (v := -1) C dX2_tableau_207 (by decide) ?_
        refine jj_icmp_ne (tgt := 250) C dX2_tableau_208 (by decide) hF (fun hF => ?_) (fun hF => ?_)
        · refine jj_sub [0, 1] rfl ?_
          exact w_X2_tableau_b250 C hxn hQ hK175 hF
        · refine jj_sub [0, 1] rfl ?_
          exact w_X2_tableau_b211 C hxn hQ hK175 hF
def f_X2_tableau_b166 (K126 : Option Nat → Int32 → Int32 → jW → Option (Int32 × jW)) (l0 : Option Nat) (l2 : Int32) (l3 : Int32) (s0 : Option Nat) (s1 : Int32) (s2 : Int32) (M : jW) : Option (Int32 × jW) := pSI M s0 s1 s2 fun M166 =>
  K126 l0 l2 (l3 + (1 : Int32)) M166
set_option maxHeartbeats 4000000 in
theorem w_X2_tableau_b166 {x : jX} (C : jOk x cX2_tableau RX2 rm_X2_tableau (some .int)) (hxn : xn x = 5) {v0 : Int32} {M0 : jW} (hQ : jEnd x rm_X2_tableau (some (jI v0)) M0) {K126 : Option Nat → Int32 → Int32 → jW → Option (Int32 × jW)} (hK126 : ∀ (l0 : Option Nat) (l2 : Int32) (l3 : Int32) (M : jW), K126 l0 l2 l3 M = some (v0, M0) → jJ x 126 [(0, jR l0), (2, jI l2), (3, jI l3)] [] M 0 0) {l0 : Option Nat} {l2 : Int32} {l3 : Int32} {s0 : Option Nat} {s1 : Int32} {s2 : Int32} {M : jW} (hF : f_X2_tableau_b166 K126 l0 l2 l3 s0 s1 s2 M = some (v0, M0)) : jJ x 166 [(0, jR l0), (2, jI l2), (3, jI l3)] [jI s2, jI s1, jR s0] M 0 0 := by
  unfold f_X2_tableau_b166 at hF
  refine jj_iast C dX2_tableau_166 hF (fun M166 hF => ?_)
  refine jj_iinc (c := 1) (L' := [(3, jI (l3 + (1 : Int32))), (0, jR l0), (2, jI l2)]) C 2 rfl (by decide) rfl (by rw [hxn]; decide) dX2_tableau_167 ?_
  refine jj_goto (tgt := 126) C dX2_tableau_170 (by decide) ?_
  refine jj_sub [1, 2, 0] rfl ?_
  exact hK126 _ _ _ _ hF
def f_X2_tableau_b126 : Nat → Option Nat → Int32 → Int32 → jW → Option (Int32 × jW)
  | 0, _, _, _, _ => none
  | q + 1, l0, l2, l3, M => pI M l0 1 27 fun v128 =>
  if v128 ≤ l3 then (f_X2_tableau_b175 1000 l0 (0 : Int32) M)
  else (pI M l0 1 27 fun v135 =>
  pB (f_X2_orderAt v135 l3 M) fun r139 M139 =>
  pR M139 l0 1 28 fun v145 =>
  if l2 ≤ r139 then (f_X2_tableau_b166 (f_X2_tableau_b126 q) l0 l2 l3 v145 l3 (-1 : Int32) M139)
  else (pR M139 l0 1 26 fun v156 =>
  pAI M139 v156 0 r139 fun v161 =>
  f_X2_tableau_b166 (f_X2_tableau_b126 q) l0 l2 l3 v145 l3 v161 M139))
theorem f_X2_tableau_b126_s (q : Nat) (l0 : Option Nat) (l2 : Int32) (l3 : Int32) (M : jW) : f_X2_tableau_b126 (q + 1) l0 l2 l3 M = (pI M l0 1 27 fun v128 =>
  if v128 ≤ l3 then (f_X2_tableau_b175 1000 l0 (0 : Int32) M)
  else (pI M l0 1 27 fun v135 =>
  pB (f_X2_orderAt v135 l3 M) fun r139 M139 =>
  pR M139 l0 1 28 fun v145 =>
  if l2 ≤ r139 then (f_X2_tableau_b166 (f_X2_tableau_b126 q) l0 l2 l3 v145 l3 (-1 : Int32) M139)
  else (pR M139 l0 1 26 fun v156 =>
  pAI M139 v156 0 r139 fun v161 =>
  f_X2_tableau_b166 (f_X2_tableau_b126 q) l0 l2 l3 v145 l3 v161 M139))) := rfl
set_option maxHeartbeats 4000000 in
theorem w_X2_tableau_b126 {x : jX} (C : jOk x cX2_tableau RX2 rm_X2_tableau (some .int)) (hxn : xn x = 5) {v0 : Int32} {M0 : jW} (hQ : jEnd x rm_X2_tableau (some (jI v0)) M0) : ∀ (n126 : Nat) (l0 : Option Nat) (l2 : Int32) (l3 : Int32) (M : jW), f_X2_tableau_b126 n126 l0 l2 l3 M = some (v0, M0) → jJ x 126 [(0, jR l0), (2, jI l2), (3, jI l3)] [] M 0 0 := by
  intro n126
  induction n126 with
  | zero =>
    intro l0 l2 l3 M hF
    cases hF
  | succ n126 hK126 =>
    intro l0 l2 l3 M hF
    rw [f_X2_tableau_b126_s] at hF
    refine jj_iload_n C 2 rfl dX2_tableau_126 rfl ?_
    refine jj_aload_n C 0 rfl dX2_tableau_127 rfl ?_
    refine jj_pI (f := 27) C jcs_1 (Nat.le_of_ble_eq_true rfl) (jLk.of C q1260 rfl) dX2_tableau_128 hF (fun v128 hF => ?_)
    refine jj_icmp_ge (tgt := 173) C dX2_tableau_131 (by decide) hF (fun hF => ?_) (fun hF => ?_)
    · refine jj_iconst (v := 0) C dX2_tableau_173 (by decide) ?_
      refine jj_istore_n (L' := [(3, jI (0 : Int32)), (0, jR l0), (2, jI l2)]) C rfl (by rw [hxn]; decide) dX2_tableau_174 rfl ?_
      refine jj_sub [1, 0] rfl ?_
      exact w_X2_tableau_b175 C hxn hQ 1000 _ _ _ hF
    · refine jj_aload_n C 0 rfl dX2_tableau_134 rfl ?_
      refine jj_pI (f := 27) C jcs_1 (Nat.le_of_ble_eq_true rfl) (jLk.of C q1260 rfl) dX2_tableau_135 hF (fun v135 hF => ?_)
      refine jj_iload_n C 2 rfl dX2_tableau_138 rfl ?_
      obtain ⟨r139, M139, hG, hF⟩ := pB_spec hF
      refine jj_callS (k' := 0) (n' := 0) C [jI v135, jI l3] [] [jI r139] (m_X2_orderAt _ _ hG) q1473 q1474 q46 q1475 hd_X2_orderAt rfl (Nat.le_of_ble_eq_true rfl) ⟨Nat.le_of_ble_eq_true rfl, Nat.le_of_ble_eq_true rfl⟩ ⟨Nat.le_refl _, Nat.le_refl _, Nat.le_refl _, Nat.le_refl _⟩ dX2_tableau_139 rfl ?_
      refine jj_istore (L' := [(4, jI r139), (0, jR l0), (2, jI l2), (3, jI l3)]) C rfl (by rw [hxn]; decide) dX2_tableau_142 ?_
      refine jj_aload_n C 1 rfl dX2_tableau_144 rfl ?_
      refine jj_pR (f := 28) C jcs_1 (Nat.le_of_ble_eq_true rfl) (jLk.of C q1261 rfl) dX2_tableau_145 hF (fun v145 hF => ?_)
      refine jj_iload_n C 3 rfl dX2_tableau_148 rfl ?_
      refine jj_iload C 0 rfl dX2_tableau_149 ?_
      refine jj_iload_n C 2 rfl dX2_tableau_151 rfl ?_
      refine jj_icmp_ge (tgt := 165) C dX2_tableau_152 (by decide) hF (fun hF => ?_) (fun hF => ?_)
      · refine jj_iconst (v := -1) C dX2_tableau_165 (by decide) ?_
        refine jj_sub [1, 2, 3] rfl ?_
        exact w_X2_tableau_b166 C hxn hQ hK126 hF
      · refine jj_aload_n C 1 rfl dX2_tableau_155 rfl ?_
        refine jj_pR (f := 26) C jcs_1 (Nat.le_of_ble_eq_true rfl) (jLk.of C q1259 rfl) dX2_tableau_156 hF (fun v156 hF => ?_)
        refine jj_iload C 0 rfl dX2_tableau_159 ?_
        refine jj_iald C dX2_tableau_161 hF (fun v161 hF => ?_)
        refine jj_goto (tgt := 166) C dX2_tableau_162 (by decide) ?_
        refine jj_sub [1, 2, 3] rfl ?_
        exact w_X2_tableau_b166 C hxn hQ hK126 hF
def f_X2_tableau_b105 : Nat → Option Nat → Int32 → Int32 → jW → Option (Int32 × jW)
  | 0, _, _, _, _ => none
  | q + 1, l0, l2, l3, M => if (64 : Int32) ≤ l3 then (f_X2_tableau_b126 1000 l0 l2 (0 : Int32) M)
  else (pR M l0 1 29 fun v112 =>
  pSI M v112 l3 (-1 : Int32) fun M117 =>
  (f_X2_tableau_b105 q) l0 l2 (l3 + (1 : Int32)) M117)
theorem f_X2_tableau_b105_s (q : Nat) (l0 : Option Nat) (l2 : Int32) (l3 : Int32) (M : jW) : f_X2_tableau_b105 (q + 1) l0 l2 l3 M = (if (64 : Int32) ≤ l3 then (f_X2_tableau_b126 1000 l0 l2 (0 : Int32) M)
  else (pR M l0 1 29 fun v112 =>
  pSI M v112 l3 (-1 : Int32) fun M117 =>
  (f_X2_tableau_b105 q) l0 l2 (l3 + (1 : Int32)) M117)) := rfl
set_option maxHeartbeats 4000000 in
theorem w_X2_tableau_b105 {x : jX} (C : jOk x cX2_tableau RX2 rm_X2_tableau (some .int)) (hxn : xn x = 5) {v0 : Int32} {M0 : jW} (hQ : jEnd x rm_X2_tableau (some (jI v0)) M0) : ∀ (n105 : Nat) (l0 : Option Nat) (l2 : Int32) (l3 : Int32) (M : jW), f_X2_tableau_b105 n105 l0 l2 l3 M = some (v0, M0) → jJ x 105 [(0, jR l0), (2, jI l2), (3, jI l3)] [] M 0 0 := by
  intro n105
  induction n105 with
  | zero =>
    intro l0 l2 l3 M hF
    cases hF
  | succ n105 hK105 =>
    intro l0 l2 l3 M hF
    rw [f_X2_tableau_b105_s] at hF
    refine jj_iload_n C 2 rfl dX2_tableau_105 rfl ?_
    refine jj_bipush (v := 64) C dX2_tableau_106 (by decide) ?_
    refine jj_icmp_ge (tgt := 124) C dX2_tableau_108 (by decide) hF (fun hF => ?_) (fun hF => ?_)
    · refine jj_iconst (v := 0) C dX2_tableau_124 (by decide) ?_
      refine jj_istore_n (L' := [(3, jI (0 : Int32)), (0, jR l0), (2, jI l2)]) C rfl (by rw [hxn]; decide) dX2_tableau_125 rfl ?_
      refine jj_sub [1, 2, 0] rfl ?_
      exact w_X2_tableau_b126 C hxn hQ 1000 _ _ _ _ hF
    · refine jj_aload_n C 0 rfl dX2_tableau_111 rfl ?_
      refine jj_pR (f := 29) C jcs_1 (Nat.le_of_ble_eq_true rfl) (jLk.of C q1262 rfl) dX2_tableau_112 hF (fun v112 hF => ?_)
      refine jj_iload_n C 2 rfl dX2_tableau_115 rfl ?_
      refine jj_iconst (v := -1) C dX2_tableau_116 (by decide) ?_
      refine jj_iast C dX2_tableau_117 hF (fun M117 hF => ?_)
      refine jj_iinc (c := 1) (L' := [(3, jI (l3 + (1 : Int32))), (0, jR l0), (2, jI l2)]) C 2 rfl (by decide) rfl (by rw [hxn]; decide) dX2_tableau_118 ?_
      refine jj_goto (tgt := 105) C dX2_tableau_121 (by decide) ?_
      refine jj_sub [1, 2, 0] rfl ?_
      exact hK105 _ _ _ _ hF
def f_X2_tableau_b83 : Nat → Option Nat → Int32 → Int32 → jW → Option (Int32 × jW)
  | 0, _, _, _, _ => none
  | q + 1, l0, l2, l3, M => if (128 : Int32) ≤ l3 then (f_X2_tableau_b105 1000 l0 l2 (0 : Int32) M)
  else (pR M l0 1 28 fun v91 =>
  pSI M v91 l3 (-1 : Int32) fun M96 =>
  (f_X2_tableau_b83 q) l0 l2 (l3 + (1 : Int32)) M96)
theorem f_X2_tableau_b83_s (q : Nat) (l0 : Option Nat) (l2 : Int32) (l3 : Int32) (M : jW) : f_X2_tableau_b83 (q + 1) l0 l2 l3 M = (if (128 : Int32) ≤ l3 then (f_X2_tableau_b105 1000 l0 l2 (0 : Int32) M)
  else (pR M l0 1 28 fun v91 =>
  pSI M v91 l3 (-1 : Int32) fun M96 =>
  (f_X2_tableau_b83 q) l0 l2 (l3 + (1 : Int32)) M96)) := rfl
set_option maxHeartbeats 4000000 in
theorem w_X2_tableau_b83 {x : jX} (C : jOk x cX2_tableau RX2 rm_X2_tableau (some .int)) (hxn : xn x = 5) {v0 : Int32} {M0 : jW} (hQ : jEnd x rm_X2_tableau (some (jI v0)) M0) : ∀ (n83 : Nat) (l0 : Option Nat) (l2 : Int32) (l3 : Int32) (M : jW), f_X2_tableau_b83 n83 l0 l2 l3 M = some (v0, M0) → jJ x 83 [(0, jR l0), (2, jI l2), (3, jI l3)] [] M 0 0 := by
  intro n83
  induction n83 with
  | zero =>
    intro l0 l2 l3 M hF
    cases hF
  | succ n83 hK83 =>
    intro l0 l2 l3 M hF
    rw [f_X2_tableau_b83_s] at hF
    refine jj_iload_n C 2 rfl dX2_tableau_83 rfl ?_
    refine jj_sipush (v := 128) C dX2_tableau_84 (by decide) ?_
    refine jj_icmp_ge (tgt := 103) C dX2_tableau_87 (by decide) hF (fun hF => ?_) (fun hF => ?_)
    · refine jj_iconst (v := 0) C dX2_tableau_103 (by decide) ?_
      refine jj_istore_n (L' := [(3, jI (0 : Int32)), (0, jR l0), (2, jI l2)]) C rfl (by rw [hxn]; decide) dX2_tableau_104 rfl ?_
      refine jj_sub [1, 2, 0] rfl ?_
      exact w_X2_tableau_b105 C hxn hQ 1000 _ _ _ _ hF
    · refine jj_aload_n C 0 rfl dX2_tableau_90 rfl ?_
      refine jj_pR (f := 28) C jcs_1 (Nat.le_of_ble_eq_true rfl) (jLk.of C q1261 rfl) dX2_tableau_91 hF (fun v91 hF => ?_)
      refine jj_iload_n C 2 rfl dX2_tableau_94 rfl ?_
      refine jj_iconst (v := -1) C dX2_tableau_95 (by decide) ?_
      refine jj_iast C dX2_tableau_96 hF (fun M96 hF => ?_)
      refine jj_iinc (c := 1) (L' := [(3, jI (l3 + (1 : Int32))), (0, jR l0), (2, jI l2)]) C 2 rfl (by decide) rfl (by rw [hxn]; decide) dX2_tableau_97 ?_
      refine jj_goto (tgt := 83) C dX2_tableau_100 (by decide) ?_
      refine jj_sub [1, 2, 0] rfl ?_
      exact hK83 _ _ _ _ hF
def f_X2_tableau_b60 : Nat → Option Nat → Int32 → jW → Option (Int32 × jW)
  | 0, _, _, _ => none
  | q + 1, l0, l2, M => pI M l0 1 27 fun v61 =>
  if l2 ≤ v61 then (f_X2_tableau_b83 1000 l0 l2 (0 : Int32) M)
  else (pI M l0 1 27 fun v70 =>
  pP M l0 1 27 (jI (v70 * (2 : Int32))) fun M75 =>
  (f_X2_tableau_b60 q) l0 l2 M75)
theorem f_X2_tableau_b60_s (q : Nat) (l0 : Option Nat) (l2 : Int32) (M : jW) : f_X2_tableau_b60 (q + 1) l0 l2 M = (pI M l0 1 27 fun v61 =>
  if l2 ≤ v61 then (f_X2_tableau_b83 1000 l0 l2 (0 : Int32) M)
  else (pI M l0 1 27 fun v70 =>
  pP M l0 1 27 (jI (v70 * (2 : Int32))) fun M75 =>
  (f_X2_tableau_b60 q) l0 l2 M75)) := rfl
set_option maxHeartbeats 4000000 in
theorem w_X2_tableau_b60 {x : jX} (C : jOk x cX2_tableau RX2 rm_X2_tableau (some .int)) (hxn : xn x = 5) {v0 : Int32} {M0 : jW} (hQ : jEnd x rm_X2_tableau (some (jI v0)) M0) : ∀ (n60 : Nat) (l0 : Option Nat) (l2 : Int32) (M : jW), f_X2_tableau_b60 n60 l0 l2 M = some (v0, M0) → jJ x 60 [(0, jR l0), (2, jI l2)] [] M 0 0 := by
  intro n60
  induction n60 with
  | zero =>
    intro l0 l2 M hF
    cases hF
  | succ n60 hK60 =>
    intro l0 l2 M hF
    rw [f_X2_tableau_b60_s] at hF
    refine jj_aload_n C 0 rfl dX2_tableau_60 rfl ?_
    refine jj_pI (f := 27) C jcs_1 (Nat.le_of_ble_eq_true rfl) (jLk.of C q1260 rfl) dX2_tableau_61 hF (fun v61 hF => ?_)
    refine jj_iload_n C 1 rfl dX2_tableau_64 rfl ?_
    refine jj_icmp_ge (tgt := 81) C dX2_tableau_65 (by decide) hF (fun hF => ?_) (fun hF => ?_)
    · refine jj_iconst (v := 0) C dX2_tableau_81 (by decide) ?_
      refine jj_istore_n (L' := [(3, jI (0 : Int32)), (0, jR l0), (2, jI l2)]) C rfl (by rw [hxn]; decide) dX2_tableau_82 rfl ?_
      refine jj_sub [1, 2, 0] rfl ?_
      exact w_X2_tableau_b83 C hxn hQ 1000 _ _ _ _ hF
    · refine jj_aload_n C 0 rfl dX2_tableau_68 rfl ?_
      refine jj_dup C dX2_tableau_69 rfl ?_
      refine jj_pI (f := 27) C jcs_1 (Nat.le_of_ble_eq_true rfl) (jLk.of C q1260 rfl) dX2_tableau_70 hF (fun v70 hF => ?_)
      refine jj_iconst (v := 2) C dX2_tableau_73 (by decide) ?_
      refine jj_imul C dX2_tableau_74 ?_
      refine jj_pP (f := 27) C jcs_1 (Nat.le_of_ble_eq_true rfl) (jLk.of C q1260 rfl) (Or.inl rfl) dX2_tableau_75 (jfit_i _) hF (fun M75 hF => ?_)
      refine jj_goto (tgt := 60) C dX2_tableau_78 (by decide) ?_
      refine jj_sub [0, 1] rfl ?_
      exact hK60 _ _ _ hF
def f_X2_tableau_b43 (l0 : Option Nat) (l2 : Int32) (s0 : Option Nat) (s1 : Int32) (M : jW) : Option (Int32 × jW) := pP M s0 1 31 (jI s1) fun M43 =>
  pI M43 l0 1 31 fun v47 =>
  if v47 ≤ 0 then (pP M43 l0 1 27 (jI (2 : Int32)) fun M57 =>
  f_X2_tableau_b60 1000 l0 l2 M57)
  else (some ((0 : Int32), M43))
set_option maxHeartbeats 4000000 in
theorem w_X2_tableau_b43 {x : jX} (C : jOk x cX2_tableau RX2 rm_X2_tableau (some .int)) (hxn : xn x = 5) {v0 : Int32} {M0 : jW} (hQ : jEnd x rm_X2_tableau (some (jI v0)) M0) {l0 : Option Nat} {l2 : Int32} {s0 : Option Nat} {s1 : Int32} {M : jW} (hF : f_X2_tableau_b43 l0 l2 s0 s1 M = some (v0, M0)) : jJ x 43 [(0, jR l0), (2, jI l2)] [jI s1, jR s0] M 0 0 := by
  unfold f_X2_tableau_b43 at hF
  refine jj_pP (f := 31) C jcs_1 (Nat.le_of_ble_eq_true rfl) (jLk.of C q1264 rfl) (Or.inl rfl) dX2_tableau_43 (jfit_i _) hF (fun M43 hF => ?_)
  refine jj_aload_n C 0 rfl dX2_tableau_46 rfl ?_
  refine jj_pI (f := 31) C jcs_1 (Nat.le_of_ble_eq_true rfl) (jLk.of C q1264 rfl) dX2_tableau_47 hF (fun v47 hF => ?_)
  refine jj_if_le (tgt := 55) C dX2_tableau_50 (by decide) hF (fun hF => ?_) (fun hF => ?_)
  · refine jj_aload_n C 0 rfl dX2_tableau_55 rfl ?_
    refine jj_iconst (v := 2) C dX2_tableau_56 (by decide) ?_
    refine jj_pP (f := 27) C jcs_1 (Nat.le_of_ble_eq_true rfl) (jLk.of C q1260 rfl) (Or.inl rfl) dX2_tableau_57 (jfit_i _) hF (fun M57 hF => ?_)
    refine jj_sub [0, 1] rfl ?_
    exact w_X2_tableau_b60 C hxn hQ 1000 _ _ _ hF
  · refine jj_iconst (v := 0) C dX2_tableau_53 (by decide) ?_
    exact jj_iret C hQ dX2_tableau_54 hF (Nat.zero_le _) (Nat.zero_le _)
def f_X2_tableau_b14 (l0 : Option Nat) (l1 : Int32) (s0 : Option Nat) (s1 : Int32) (M : jW) : Option (Int32 × jW) := pP M s0 1 31 (jI s1) fun M14 =>
  pI M14 l0 1 31 fun v18 =>
  if v18 ≤ 0 then (pO M14 l0 1 fun b28 _ => pB (f_X2_ranks (some b28) l1 M14) fun r28 M28 =>
  if (2 : Int32) ≤ r28 then (f_X2_tableau_b43 l0 r28 l0 (0 : Int32) M28)
  else (f_X2_tableau_b43 l0 r28 l0 (2 : Int32) M28))
  else (some ((0 : Int32), M14))
set_option maxHeartbeats 4000000 in
theorem w_X2_tableau_b14 {x : jX} (C : jOk x cX2_tableau RX2 rm_X2_tableau (some .int)) (hxn : xn x = 5) {v0 : Int32} {M0 : jW} (hQ : jEnd x rm_X2_tableau (some (jI v0)) M0) {l0 : Option Nat} {l1 : Int32} {s0 : Option Nat} {s1 : Int32} {M : jW} (hF : f_X2_tableau_b14 l0 l1 s0 s1 M = some (v0, M0)) : jJ x 14 [(0, jR l0), (1, jI l1)] [jI s1, jR s0] M 0 0 := by
  unfold f_X2_tableau_b14 at hF
  refine jj_pP (f := 31) C jcs_1 (Nat.le_of_ble_eq_true rfl) (jLk.of C q1264 rfl) (Or.inl rfl) dX2_tableau_14 (jfit_i _) hF (fun M14 hF => ?_)
  refine jj_aload_n C 0 rfl dX2_tableau_17 rfl ?_
  refine jj_pI (f := 31) C jcs_1 (Nat.le_of_ble_eq_true rfl) (jLk.of C q1264 rfl) dX2_tableau_18 hF (fun v18 hF => ?_)
  refine jj_if_le (tgt := 26) C dX2_tableau_21 (by decide) hF (fun hF => ?_) (fun hF => ?_)
  · refine jj_aload_n C 0 rfl dX2_tableau_26 rfl ?_
    refine jj_iload_n C 1 rfl dX2_tableau_27 rfl ?_
    obtain ⟨b28, fs28, he28, hb28, hF⟩ := pO_spec hF
    obtain ⟨r28, M28, hG, hF⟩ := pB_spec hF
    refine jj_callV (k' := 0) (n' := 0) C [jI l1] [] [jI r28] he28 (m_X2_ranks _ _ hG) hb28 rfl q1465 q1467 qs36 q46 q1468 ⟨rfl, hd_X2_ranks⟩ rfl (Nat.le_of_ble_eq_true rfl) ⟨Nat.le_of_ble_eq_true rfl, Nat.le_of_ble_eq_true rfl⟩ ⟨Nat.le_refl _, Nat.le_refl _, Nat.le_refl _, Nat.le_refl _⟩ dX2_tableau_28 rfl ?_
    refine jj_istore_n (L' := [(2, jI r28), (0, jR l0), (1, jI l1)]) C rfl (by rw [hxn]; decide) dX2_tableau_31 rfl ?_
    refine jj_aload_n C 1 rfl dX2_tableau_32 rfl ?_
    refine jj_iload_n C 0 rfl dX2_tableau_33 rfl ?_
    refine jj_iconst (v := 2) C dX2_tableau_34 (by decide) ?_
    refine jj_icmp_ge (tgt := 42) C dX2_tableau_35 (by decide) hF (fun hF => ?_) (fun hF => ?_)
    · refine jj_iconst (v := 0) C dX2_tableau_42 (by decide) ?_
      refine jj_sub [1, 0] rfl ?_
      exact w_X2_tableau_b43 C hxn hQ hF
    · refine jj_iconst (v := 2) C dX2_tableau_38 (by decide) ?_
      refine jj_goto (tgt := 43) C dX2_tableau_39 (by decide) ?_
      refine jj_sub [1, 0] rfl ?_
      exact w_X2_tableau_b43 C hxn hQ hF
  · refine jj_iconst (v := 0) C dX2_tableau_24 (by decide) ?_
    exact jj_iret C hQ dX2_tableau_25 hF (Nat.zero_le _) (Nat.zero_le _)
def f_X2_tableau (a0 : Option Nat) (a1 : Int32) (M : jW) : Option (Int32 × jW) := pO M a0 1 fun b3 _ => pB (f_X2_isPool (some b3) a1 M) fun r3 M3 =>
  if r3 = 0 then (f_X2_tableau_b14 a0 a1 a0 (1 : Int32) M3)
  else (f_X2_tableau_b14 a0 a1 a0 (0 : Int32) M3)
set_option maxHeartbeats 4000000 in
theorem m_X2_tableau (l : Launch) (g : jG) {a0 : Option Nat} {a1 : Int32} {M M0 : jW} {v0 : Int32} (hF : f_X2_tableau a0 a1 M = some (v0, M0)) : jMet l g yX2_tableau cX2_tableau 5 (some .int) rm_X2_tableau [jR a0, jI a1] M (some (jI v0)) M0 := by
  refine jMet.of (L := [(0, jR a0), (1, jI a1)]) (by decide) rfl (Nat.le_of_ble_eq_true rfl) (fun x C hxn hg hl hQ hin => ?_)
  subst hg
  unfold f_X2_tableau at hF
  refine jj_aload_n C 0 rfl dX2_tableau_0 rfl ?_
  refine jj_aload_n C 0 rfl dX2_tableau_1 rfl ?_
  refine jj_iload_n C 1 rfl dX2_tableau_2 rfl ?_
  obtain ⟨b3, fs3, he3, hb3, hF⟩ := pO_spec hF
  obtain ⟨r3, M3, hG, hF⟩ := pB_spec hF
  refine jj_callV (k' := 0) (n' := 0) C [jI a1] [jR a0] [jI r3, jR a0] he3 (m_X2_isPool _ _ hG) hb3 rfl q1349 q1351 qs23 q46 q1352 ⟨rfl, hd_X2_isPool⟩ rfl (Nat.le_of_ble_eq_true rfl) ⟨Nat.le_of_ble_eq_true rfl, Nat.le_of_ble_eq_true rfl⟩ ⟨Nat.le_refl _, Nat.le_refl _, Nat.le_refl _, Nat.le_refl _⟩ dX2_tableau_3 rfl ?_
  refine jj_if_eq (tgt := 13) C dX2_tableau_6 (by decide) hF (fun hF => ?_) (fun hF => ?_)
  · refine jj_iconst (v := 1) C dX2_tableau_13 (by decide) ?_
    refine jj_sub [0, 1] rfl ?_
    exact w_X2_tableau_b14 C hxn hQ hF
  · refine jj_iconst (v := 0) C dX2_tableau_9 (by decide) ?_
    refine jj_goto (tgt := 14) C dX2_tableau_10 (by decide) ?_
    refine jj_sub [0, 1] rfl ?_
    exact w_X2_tableau_b14 C hxn hQ hF
/-! PhrasehallModel.isMatch(II)Z -/
def rm_X2_isMatch : Room := ({ frames := 2, cells := 0, slots := 0, locals := 86 } : Room)
theorem hd_X2_isMatch : yX2_isMatch.cls ≠ "java/lang/invoke/MethodHandle" ∧ yX2_isMatch.cls ≠ "java/lang/invoke/VarHandle" ∧ (parseMethodDescriptor yX2_isMatch.desc).map (fun d => d.parameters.length) = some 2 := ⟨by decide, by decide, by decide +kernel⟩
def f_X2_isMatch (a0 : Option Nat) (a1 : Int32) (a2 : Int32) (M : jW) : Option (Int32 × jW) := pI M a0 1 27 fun v3 =>
  pB (f_X2_rounds v3 M) fun r6 M6 =>
  pB (f_X2_isIn a1 (0 : Int32) (r6 - (1 : Int32)) M6) fun r11 M11 =>
  if r11 = 0 then (pRZ (0 : Int32) M11)
  else (pI M11 a0 1 27 fun v20 =>
  pB (f_X2_isIn a2 (0 : Int32) ((v20 >>> ((a1 + (1 : Int32)) &&& 31)) - (1 : Int32)) M11) fun r29 M29 =>
  if r29 = 0 then (pRZ (0 : Int32) M29)
  else (pRZ (1 : Int32) M29))
set_option maxHeartbeats 4000000 in
theorem m_X2_isMatch (l : Launch) (g : jG) {a0 : Option Nat} {a1 : Int32} {a2 : Int32} {M M0 : jW} {v0 : Int32} (hF : f_X2_isMatch a0 a1 a2 M = some (v0, M0)) : jMet l g yX2_isMatch cX2_isMatch 3 (some .boolean) rm_X2_isMatch [jR a0, jI a1, jI a2] M (some (jI v0)) M0 := by
  refine jMet.of (L := [(0, jR a0), (1, jI a1), (2, jI a2)]) (by decide) rfl (Nat.le_of_ble_eq_true rfl) (fun x C hxn hg hl hQ hin => ?_)
  subst hg
  unfold f_X2_isMatch at hF
  refine jj_iload_n C 1 rfl dX2_isMatch_0 rfl ?_
  refine jj_iconst (v := 0) C dX2_isMatch_1 (by decide) ?_
  refine jj_aload_n C 0 rfl dX2_isMatch_2 rfl ?_
  refine jj_pI (f := 27) C jcs_1 (Nat.le_of_ble_eq_true rfl) (jLk.of C q1260 rfl) dX2_isMatch_3 hF (fun v3 hF => ?_)
  obtain ⟨r6, M6, hG, hF⟩ := pB_spec hF
  refine jj_callS (k' := 0) (n' := 0) C [jI v3] [jI (0 : Int32), jI a1] [jI r6, jI (0 : Int32), jI a1] (m_X2_rounds _ _ hG) q1480 q1481 q46 q1482 hd_X2_rounds rfl (Nat.le_of_ble_eq_true rfl) ⟨Nat.le_of_ble_eq_true rfl, Nat.le_of_ble_eq_true rfl⟩ ⟨Nat.le_refl _, Nat.le_refl _, Nat.le_refl _, Nat.le_refl _⟩ dX2_isMatch_6 rfl ?_
  refine jj_iconst (v := 1) C dX2_isMatch_9 (by decide) ?_
  refine jj_isub C dX2_isMatch_10 ?_
  obtain ⟨r11, M11, hG, hF⟩ := pB_spec hF
  refine jj_callS (k' := 0) (n' := 0) C [jI a1, jI (0 : Int32), jI (r6 - (1 : Int32))] [] [jI r11] (m_X2_isIn _ _ hG) q1346 q1347 q46 q1348 hd_X2_isIn rfl (Nat.le_of_ble_eq_true rfl) ⟨Nat.le_of_ble_eq_true rfl, Nat.le_of_ble_eq_true rfl⟩ ⟨Nat.le_refl _, Nat.le_refl _, Nat.le_refl _, Nat.le_refl _⟩ dX2_isMatch_11 rfl ?_
  refine jj_if_eq (tgt := 39) C dX2_isMatch_14 (by decide) hF (fun hF => ?_) (fun hF => ?_)
  · refine jj_iconst (v := 0) C dX2_isMatch_39 (by decide) ?_
    exact jj_zret C hQ dX2_isMatch_40 hF (Nat.zero_le _) (Nat.zero_le _)
  · refine jj_iload_n C 2 rfl dX2_isMatch_17 rfl ?_
    refine jj_iconst (v := 0) C dX2_isMatch_18 (by decide) ?_
    refine jj_aload_n C 0 rfl dX2_isMatch_19 rfl ?_
    refine jj_pI (f := 27) C jcs_1 (Nat.le_of_ble_eq_true rfl) (jLk.of C q1260 rfl) dX2_isMatch_20 hF (fun v20 hF => ?_)
    refine jj_iload_n C 1 rfl dX2_isMatch_23 rfl ?_
    refine jj_iconst (v := 1) C dX2_isMatch_24 (by decide) ?_
    refine jj_iadd C dX2_isMatch_25 ?_
    refine jj_ishr C dX2_isMatch_26 ?_
    refine jj_iconst (v := 1) C dX2_isMatch_27 (by decide) ?_
    refine jj_isub C dX2_isMatch_28 ?_
    obtain ⟨r29, M29, hG, hF⟩ := pB_spec hF
    refine jj_callS (k' := 0) (n' := 0) C [jI a2, jI (0 : Int32), jI ((v20 >>> ((a1 + (1 : Int32)) &&& 31)) - (1 : Int32))] [] [jI r29] (m_X2_isIn _ _ hG) q1346 q1347 q46 q1348 hd_X2_isIn rfl (Nat.le_of_ble_eq_true rfl) ⟨Nat.le_of_ble_eq_true rfl, Nat.le_of_ble_eq_true rfl⟩ ⟨Nat.le_refl _, Nat.le_refl _, Nat.le_refl _, Nat.le_refl _⟩ dX2_isMatch_29 rfl ?_
    refine jj_if_eq (tgt := 39) C dX2_isMatch_32 (by decide) hF (fun hF => ?_) (fun hF => ?_)
    · refine jj_iconst (v := 0) C dX2_isMatch_39 (by decide) ?_
      exact jj_zret C hQ dX2_isMatch_40 hF (Nat.zero_le _) (Nat.zero_le _)
    · refine jj_iconst (v := 1) C dX2_isMatch_35 (by decide) ?_
      refine jj_goto (tgt := 40) C dX2_isMatch_36 (by decide) ?_
      exact jj_zret C hQ dX2_isMatch_40 hF (Nat.zero_le _) (Nat.zero_le _)
/-! PhrasehallModel.wins(III)I -/
def rm_X2_wins : Room := ({ frames := 3, cells := 0, slots := 0, locals := 108 } : Room)
theorem hd_X2_wins : yX2_wins.cls ≠ "java/lang/invoke/MethodHandle" ∧ yX2_wins.cls ≠ "java/lang/invoke/VarHandle" ∧ (parseMethodDescriptor yX2_wins.desc).map (fun d => d.parameters.length) = some 3 := ⟨by decide, by decide, by decide +kernel⟩
def f_X2_wins_b93 (l0 : Option Nat) (l1 : Int32) (l2 : Int32) (l3 : Int32) (l4 : Int32) (s0 : Option Nat) (s1 : Int32) (M : jW) : Option (Int32 × jW) := pP M s0 1 31 (jI s1) fun M93 =>
  pI M93 l0 1 31 fun v97 =>
  if v97 ≤ 0 then (pR M93 l0 1 28 fun v106 =>
  pAI M93 v106 0 (l4 + l3) fun v113 =>
  pO M93 l0 1 fun b121 _ => pB (f_X2_isWon (some b121) l1 l2 v113 M93) fun _ M121 =>
  some (v113, M121))
  else (some ((0 : Int32), M93))
set_option maxHeartbeats 4000000 in
theorem w_X2_wins_b93 {x : jX} (C : jOk x cX2_wins RX2 rm_X2_wins (some .int)) (hxn : xn x = 6) {v0 : Int32} {M0 : jW} (hQ : jEnd x rm_X2_wins (some (jI v0)) M0) {l0 : Option Nat} {l1 : Int32} {l2 : Int32} {l3 : Int32} {l4 : Int32} {s0 : Option Nat} {s1 : Int32} {M : jW} (hF : f_X2_wins_b93 l0 l1 l2 l3 l4 s0 s1 M = some (v0, M0)) : jJ x 93 [(0, jR l0), (1, jI l1), (2, jI l2), (3, jI l3), (4, jI l4)] [jI s1, jR s0] M 0 0 := by
  unfold f_X2_wins_b93 at hF
  refine jj_pP (f := 31) C jcs_1 (Nat.le_of_ble_eq_true rfl) (jLk.of C q1264 rfl) (Or.inl rfl) dX2_wins_93 (jfit_i _) hF (fun M93 hF => ?_)
  refine jj_aload_n C 0 rfl dX2_wins_96 rfl ?_
  refine jj_pI (f := 31) C jcs_1 (Nat.le_of_ble_eq_true rfl) (jLk.of C q1264 rfl) dX2_wins_97 hF (fun v97 hF => ?_)
  refine jj_if_le (tgt := 105) C dX2_wins_100 (by decide) hF (fun hF => ?_) (fun hF => ?_)
  · refine jj_aload_n C 0 rfl dX2_wins_105 rfl ?_
    refine jj_pR (f := 28) C jcs_1 (Nat.le_of_ble_eq_true rfl) (jLk.of C q1261 rfl) dX2_wins_106 hF (fun v106 hF => ?_)
    refine jj_iload C 4 rfl dX2_wins_109 ?_
    refine jj_iload_n C 3 rfl dX2_wins_111 rfl ?_
    refine jj_iadd C dX2_wins_112 ?_
    refine jj_iald C dX2_wins_113 hF (fun v113 hF => ?_)
    refine jj_istore (L' := [(5, jI v113), (0, jR l0), (1, jI l1), (2, jI l2), (3, jI l3), (4, jI l4)]) C rfl (by rw [hxn]; decide) dX2_wins_114 ?_
    refine jj_aload_n C 1 rfl dX2_wins_116 rfl ?_
    refine jj_iload_n C 2 rfl dX2_wins_117 rfl ?_
    refine jj_iload_n C 3 rfl dX2_wins_118 rfl ?_
    refine jj_iload C 0 rfl dX2_wins_119 ?_
    obtain ⟨b121, fs121, he121, hb121, hF⟩ := pO_spec hF
    obtain ⟨r121, M121, hG, hF⟩ := pB_spec hF
    refine jj_callV (k' := 0) (n' := 0) C [jI l1, jI l2, jI v113] [] [] he121 (m_X2_isWon _ _ hG) hb121 rfl q1476 q1478 qs38 q46 q1479 ⟨rfl, hd_X2_isWon⟩ rfl (Nat.le_of_ble_eq_true rfl) ⟨Nat.le_of_ble_eq_true rfl, Nat.le_of_ble_eq_true rfl⟩ ⟨Nat.le_refl _, Nat.le_refl _, Nat.le_refl _, Nat.le_refl _⟩ dX2_wins_121 rfl ?_
    refine jj_iload C 0 rfl dX2_wins_124 ?_
    exact jj_iret C hQ dX2_wins_126 hF (Nat.zero_le _) (Nat.zero_le _)
  · refine jj_iconst (v := 0) C dX2_wins_103 (by decide) ?_
    exact jj_iret C hQ dX2_wins_104 hF (Nat.zero_le _) (Nat.zero_le _)
def f_X2_wins_b88 (l0 : Option Nat) (l1 : Int32) (l2 : Int32) (l3 : Int32) (l4 : Int32) (s0 : Option Nat) (M : jW) : Option (Int32 × jW) := f_X2_wins_b93 l0 l1 l2 l3 l4 s0 (3 : Int32) M
set_option maxHeartbeats 4000000 in
theorem w_X2_wins_b88 {x : jX} (C : jOk x cX2_wins RX2 rm_X2_wins (some .int)) (hxn : xn x = 6) {v0 : Int32} {M0 : jW} (hQ : jEnd x rm_X2_wins (some (jI v0)) M0) {l0 : Option Nat} {l1 : Int32} {l2 : Int32} {l3 : Int32} {l4 : Int32} {s0 : Option Nat} {M : jW} (hF : f_X2_wins_b88 l0 l1 l2 l3 l4 s0 M = some (v0, M0)) : jJ x 88 [(0, jR l0), (1, jI l1), (2, jI l2), (3, jI l3), (4, jI l4)] [jR s0] M 0 0 := by
  unfold f_X2_wins_b88 at hF
  refine jj_iconst (v := 3) C dX2_wins_88 (by decide) ?_
  refine jj_goto (tgt := 93) C dX2_wins_89 (by decide) ?_
  refine jj_sub [0, 1, 2, 3, 4] rfl ?_
  exact w_X2_wins_b93 C hxn hQ hF
def f_X2_wins_b26 (l0 : Option Nat) (l1 : Int32) (l2 : Int32) (l3 : Int32) (s0 : Option Nat) (s1 : Int32) (M : jW) : Option (Int32 × jW) := pP M s0 1 31 (jI s1) fun M26 =>
  pI M26 l0 1 31 fun v30 =>
  if v30 ≤ 0 then (pLt (((32 : Int32) * l1) + ((2 : Int32) * l2)) fun t46 =>
  pR M26 l0 1 28 fun v50 =>
  pAI M26 v50 0 t46 fun v55 =>
  if v55 = (-1 : Int32) then (f_X2_wins_b88 l0 l1 l2 l3 t46 l0 M26)
  else (pR M26 l0 1 28 fun v61 =>
  pAI M26 v61 0 (t46 + (1 : Int32)) fun v68 =>
  if v68 = (-1 : Int32) then (f_X2_wins_b88 l0 l1 l2 l3 t46 l0 M26)
  else (pR M26 l0 1 29 fun v74 =>
  pAI M26 v74 0 (((16 : Int32) * l1) + l2) fun v83 =>
  if v83 = (-1 : Int32) then (f_X2_wins_b93 l0 l1 l2 l3 t46 l0 (0 : Int32) M26)
  else (f_X2_wins_b88 l0 l1 l2 l3 t46 l0 M26))))
  else (some ((0 : Int32), M26))
set_option maxHeartbeats 4000000 in
theorem w_X2_wins_b26 {x : jX} (C : jOk x cX2_wins RX2 rm_X2_wins (some .int)) (hxn : xn x = 6) {v0 : Int32} {M0 : jW} (hQ : jEnd x rm_X2_wins (some (jI v0)) M0) {l0 : Option Nat} {l1 : Int32} {l2 : Int32} {l3 : Int32} {s0 : Option Nat} {s1 : Int32} {M : jW} (hF : f_X2_wins_b26 l0 l1 l2 l3 s0 s1 M = some (v0, M0)) : jJ x 26 [(0, jR l0), (1, jI l1), (2, jI l2), (3, jI l3)] [jI s1, jR s0] M 0 0 := by
  unfold f_X2_wins_b26 at hF
  refine jj_pP (f := 31) C jcs_1 (Nat.le_of_ble_eq_true rfl) (jLk.of C q1264 rfl) (Or.inl rfl) dX2_wins_26 (jfit_i _) hF (fun M26 hF => ?_)
  refine jj_aload_n C 0 rfl dX2_wins_29 rfl ?_
  refine jj_pI (f := 31) C jcs_1 (Nat.le_of_ble_eq_true rfl) (jLk.of C q1264 rfl) dX2_wins_30 hF (fun v30 hF => ?_)
  refine jj_if_le (tgt := 38) C dX2_wins_33 (by decide) hF (fun hF => ?_) (fun hF => ?_)
  · refine jj_bipush (v := 32) C dX2_wins_38 (by decide) ?_
    refine jj_iload_n C 1 rfl dX2_wins_40 rfl ?_
    refine jj_imul C dX2_wins_41 ?_
    refine jj_iconst (v := 2) C dX2_wins_42 (by decide) ?_
    refine jj_iload_n C 2 rfl dX2_wins_43 rfl ?_
    refine jj_imul C dX2_wins_44 ?_
    refine jj_iadd C dX2_wins_45 ?_
    refine jj_letI hF (fun t46 hF => ?_)
    refine jj_istore (L' := [(4, jI t46), (0, jR l0), (1, jI l1), (2, jI l2), (3, jI l3)]) C rfl (by rw [hxn]; decide) dX2_wins_46 ?_
    refine jj_aload_n C 1 rfl dX2_wins_48 rfl ?_
    refine jj_aload_n C 1 rfl dX2_wins_49 rfl ?_
    refine jj_pR (f := 28) C jcs_1 (Nat.le_of_ble_eq_true rfl) (jLk.of C q1261 rfl) dX2_wins_50 hF (fun v50 hF => ?_)
    refine jj_iload C 0 rfl dX2_wins_53 ?_
    refine jj_iald C dX2_wins_55 hF (fun v55 hF => ?_)
    refine jj_iconst (v := -1) C dX2_wins_56 (by decide) ?_
    refine jj_icmp_eq (tgt := 88) C dX2_wins_57 (by decide) hF (fun hF => ?_) (fun hF => ?_)
    · refine jj_sub [1, 2, 3, 4, 0] rfl ?_
      exact w_X2_wins_b88 C hxn hQ hF
    · refine jj_aload_n C 1 rfl dX2_wins_60 rfl ?_
      refine jj_pR (f := 28) C jcs_1 (Nat.le_of_ble_eq_true rfl) (jLk.of C q1261 rfl) dX2_wins_61 hF (fun v61 hF => ?_)
      refine jj_iload C 0 rfl dX2_wins_64 ?_
      refine jj_iconst (v := 1) C dX2_wins_66 (by decide) ?_
      refine jj_iadd C dX2_wins_67 ?_
      refine jj_iald C dX2_wins_68 hF (fun v68 hF => ?_)
      refine jj_iconst (v := -1) C dX2_wins_69 (by decide) ?_
      refine jj_icmp_eq (tgt := 88) C dX2_wins_70 (by decide) hF (fun hF => ?_) (fun hF => ?_)
      · refine jj_sub [1, 2, 3, 4, 0] rfl ?_
        exact w_X2_wins_b88 C hxn hQ hF
      · refine jj_aload_n C 1 rfl dX2_wins_73 rfl ?_
        refine jj_pR (f := 29) C jcs_1 (Nat.le_of_ble_eq_true rfl) (jLk.of C q1262 rfl) dX2_wins_74 hF (fun v74 hF => ?_)
        refine jj_bipush (v := 16) C dX2_wins_77 (by decide) ?_
        refine jj_iload_n C 2 rfl dX2_wins_79 rfl ?_
        refine jj_imul C dX2_wins_80 ?_
        refine jj_iload_n C 3 rfl dX2_wins_81 rfl ?_
        refine jj_iadd C dX2_wins_82 ?_
        refine jj_iald C dX2_wins_83 hF (fun v83 hF => ?_)
        refine jj_iconst (v := -1) C dX2_wins_84 (by decide) ?_
        refine jj_icmp_eq (tgt := 92) C dX2_wins_85 (by decide) hF (fun hF => ?_) (fun hF => ?_)
        · refine jj_iconst (v := 0) C dX2_wins_92 (by decide) ?_
          refine jj_sub [1, 2, 3, 4, 0] rfl ?_
          exact w_X2_wins_b93 C hxn hQ hF
        · refine jj_sub [1, 2, 3, 4, 0] rfl ?_
          exact w_X2_wins_b88 C hxn hQ hF
  · refine jj_iconst (v := 0) C dX2_wins_36 (by decide) ?_
    exact jj_iret C hQ dX2_wins_37 hF (Nat.zero_le _) (Nat.zero_le _)
def f_X2_wins (a0 : Option Nat) (a1 : Int32) (a2 : Int32) (a3 : Int32) (M : jW) : Option (Int32 × jW) := pO M a0 1 fun b4 _ => pB (f_X2_isMatch (some b4) a1 a2 M) fun r4 M4 =>
  if r4 = 0 then (f_X2_wins_b26 a0 a1 a2 a3 a0 (1 : Int32) M4)
  else (pB (f_X2_isSide a3 M4) fun r15 M15 =>
  if r15 = 0 then (f_X2_wins_b26 a0 a1 a2 a3 a0 (2 : Int32) M15)
  else (f_X2_wins_b26 a0 a1 a2 a3 a0 (0 : Int32) M15))
set_option maxHeartbeats 4000000 in
theorem m_X2_wins (l : Launch) (g : jG) {a0 : Option Nat} {a1 : Int32} {a2 : Int32} {a3 : Int32} {M M0 : jW} {v0 : Int32} (hF : f_X2_wins a0 a1 a2 a3 M = some (v0, M0)) : jMet l g yX2_wins cX2_wins 6 (some .int) rm_X2_wins [jR a0, jI a1, jI a2, jI a3] M (some (jI v0)) M0 := by
  refine jMet.of (L := [(0, jR a0), (1, jI a1), (2, jI a2), (3, jI a3)]) (by decide) rfl (Nat.le_of_ble_eq_true rfl) (fun x C hxn hg hl hQ hin => ?_)
  subst hg
  unfold f_X2_wins at hF
  refine jj_aload_n C 0 rfl dX2_wins_0 rfl ?_
  refine jj_aload_n C 0 rfl dX2_wins_1 rfl ?_
  refine jj_iload_n C 1 rfl dX2_wins_2 rfl ?_
  refine jj_iload_n C 2 rfl dX2_wins_3 rfl ?_
  obtain ⟨b4, fs4, he4, hb4, hF⟩ := pO_spec hF
  obtain ⟨r4, M4, hG, hF⟩ := pB_spec hF
  refine jj_callV (k' := 0) (n' := 0) C [jI a1, jI a2] [jR a0] [jI r4, jR a0] he4 (m_X2_isMatch _ _ hG) hb4 rfl q1487 q1489 qs39 q46 q1490 ⟨rfl, hd_X2_isMatch⟩ rfl (Nat.le_of_ble_eq_true rfl) ⟨Nat.le_of_ble_eq_true rfl, Nat.le_of_ble_eq_true rfl⟩ ⟨Nat.le_refl _, Nat.le_refl _, Nat.le_refl _, Nat.le_refl _⟩ dX2_wins_4 rfl ?_
  refine jj_if_ne (tgt := 14) C dX2_wins_7 (by decide) hF (fun hF => ?_) (fun hF => ?_)
  · refine jj_iload_n C 3 rfl dX2_wins_14 rfl ?_
    obtain ⟨r15, M15, hG, hF⟩ := pB_spec hF
    refine jj_callS (k' := 0) (n' := 0) C [jI a3] [jR a0] [jI r15, jR a0] (m_X2_isSide _ _ hG) q1360 q1361 q46 q1362 hd_X2_isSide rfl (Nat.le_of_ble_eq_true rfl) ⟨Nat.le_of_ble_eq_true rfl, Nat.le_of_ble_eq_true rfl⟩ ⟨Nat.le_refl _, Nat.le_refl _, Nat.le_refl _, Nat.le_refl _⟩ dX2_wins_15 rfl ?_
    refine jj_if_ne (tgt := 25) C dX2_wins_18 (by decide) hF (fun hF => ?_) (fun hF => ?_)
    · refine jj_iconst (v := 0) C dX2_wins_25 (by decide) ?_
      refine jj_sub [0, 1, 2, 3] rfl ?_
      exact w_X2_wins_b26 C hxn hQ hF
    · refine jj_iconst (v := 2) C dX2_wins_21 (by decide) ?_
      refine jj_goto (tgt := 26) C dX2_wins_22 (by decide) ?_
      refine jj_sub [0, 1, 2, 3] rfl ?_
      exact w_X2_wins_b26 C hxn hQ hF
  · refine jj_iconst (v := 1) C dX2_wins_10 (by decide) ?_
    refine jj_goto (tgt := 26) C dX2_wins_11 (by decide) ?_
    refine jj_sub [0, 1, 2, 3] rfl ?_
    exact w_X2_wins_b26 C hxn hQ hF
/-! PhrasehallModel.lamp(I)I -/
def rm_X2_lamp : Room := ({ frames := 3, cells := 0, slots := 0, locals := 112 } : Room)
theorem hd_X2_lamp : yX2_lamp.cls ≠ "java/lang/invoke/MethodHandle" ∧ yX2_lamp.cls ≠ "java/lang/invoke/VarHandle" ∧ (parseMethodDescriptor yX2_lamp.desc).map (fun d => d.parameters.length) = some 1 := ⟨by decide, by decide, by decide +kernel⟩
def f_X2_lamp_b13 (l0 : Option Nat) (l1 : Int32) (s0 : Option Nat) (s1 : Int32) (M : jW) : Option (Int32 × jW) := pP M s0 1 31 (jI s1) fun M13 =>
  pI M13 l0 1 31 fun v17 =>
  if v17 ≤ 0 then (pO M13 l0 1 fun b27 _ => pB (f_X2_registered (some b27) l1 M13) fun r27 M27 =>
  if r27 = (-1 : Int32) then (some ((-1 : Int32), M27))
  else (pR M27 l0 1 22 fun v41 =>
  pAI M27 v41 0 r27 fun v45 =>
  some (v45, M27)))
  else (some ((0 : Int32), M13))
set_option maxHeartbeats 4000000 in
theorem w_X2_lamp_b13 {x : jX} (C : jOk x cX2_lamp RX2 rm_X2_lamp (some .int)) (hxn : xn x = 3) {v0 : Int32} {M0 : jW} (hQ : jEnd x rm_X2_lamp (some (jI v0)) M0) {l0 : Option Nat} {l1 : Int32} {s0 : Option Nat} {s1 : Int32} {M : jW} (hF : f_X2_lamp_b13 l0 l1 s0 s1 M = some (v0, M0)) : jJ x 13 [(0, jR l0), (1, jI l1)] [jI s1, jR s0] M 0 0 := by
  unfold f_X2_lamp_b13 at hF
  refine jj_pP (f := 31) C jcs_1 (Nat.le_of_ble_eq_true rfl) (jLk.of C q1264 rfl) (Or.inl rfl) dX2_lamp_13 (jfit_i _) hF (fun M13 hF => ?_)
  refine jj_aload_n C 0 rfl dX2_lamp_16 rfl ?_
  refine jj_pI (f := 31) C jcs_1 (Nat.le_of_ble_eq_true rfl) (jLk.of C q1264 rfl) dX2_lamp_17 hF (fun v17 hF => ?_)
  refine jj_if_le (tgt := 25) C dX2_lamp_20 (by decide) hF (fun hF => ?_) (fun hF => ?_)
  · refine jj_aload_n C 0 rfl dX2_lamp_25 rfl ?_
    refine jj_iload_n C 1 rfl dX2_lamp_26 rfl ?_
    obtain ⟨b27, fs27, he27, hb27, hF⟩ := pO_spec hF
    obtain ⟨r27, M27, hG, hF⟩ := pB_spec hF
    refine jj_callV (k' := 0) (n' := 0) C [jI l1] [] [jI r27] he27 (m_X2_registered _ _ hG) hb27 rfl q1384 q1386 qs27 q46 q1387 ⟨rfl, hd_X2_registered⟩ rfl (Nat.le_of_ble_eq_true rfl) ⟨Nat.le_of_ble_eq_true rfl, Nat.le_of_ble_eq_true rfl⟩ ⟨Nat.le_refl _, Nat.le_refl _, Nat.le_refl _, Nat.le_refl _⟩ dX2_lamp_27 rfl ?_
    refine jj_istore_n (L' := [(2, jI r27), (0, jR l0), (1, jI l1)]) C rfl (by rw [hxn]; decide) dX2_lamp_30 rfl ?_
    refine jj_iload_n C 0 rfl dX2_lamp_31 rfl ?_
    refine jj_iconst (v := -1) C dX2_lamp_32 (by decide) ?_
    refine jj_icmp_ne (tgt := 40) C dX2_lamp_33 (by decide) hF (fun hF => ?_) (fun hF => ?_)
    · refine jj_aload_n C 1 rfl dX2_lamp_40 rfl ?_
      refine jj_pR (f := 22) C jcs_1 (Nat.le_of_ble_eq_true rfl) (jLk.of C q1255 rfl) dX2_lamp_41 hF (fun v41 hF => ?_)
      refine jj_iload_n C 0 rfl dX2_lamp_44 rfl ?_
      refine jj_iald C dX2_lamp_45 hF (fun v45 hF => ?_)
      exact jj_iret C hQ dX2_lamp_46 hF (Nat.zero_le _) (Nat.zero_le _)
    · refine jj_iconst (v := -1) C dX2_lamp_36 (by decide) ?_
      refine jj_goto (tgt := 46) C dX2_lamp_37 (by decide) ?_
      exact jj_iret C hQ dX2_lamp_46 hF (Nat.zero_le _) (Nat.zero_le _)
  · refine jj_iconst (v := 0) C dX2_lamp_23 (by decide) ?_
    exact jj_iret C hQ dX2_lamp_24 hF (Nat.zero_le _) (Nat.zero_le _)
def f_X2_lamp (a0 : Option Nat) (a1 : Int32) (M : jW) : Option (Int32 × jW) := pB (f_X2_isSide a1 M) fun r2 M2 =>
  if r2 = 0 then (f_X2_lamp_b13 a0 a1 a0 (1 : Int32) M2)
  else (f_X2_lamp_b13 a0 a1 a0 (0 : Int32) M2)
set_option maxHeartbeats 4000000 in
theorem m_X2_lamp (l : Launch) (g : jG) {a0 : Option Nat} {a1 : Int32} {M M0 : jW} {v0 : Int32} (hF : f_X2_lamp a0 a1 M = some (v0, M0)) : jMet l g yX2_lamp cX2_lamp 3 (some .int) rm_X2_lamp [jR a0, jI a1] M (some (jI v0)) M0 := by
  refine jMet.of (L := [(0, jR a0), (1, jI a1)]) (by decide) rfl (Nat.le_of_ble_eq_true rfl) (fun x C hxn hg hl hQ hin => ?_)
  subst hg
  unfold f_X2_lamp at hF
  refine jj_aload_n C 0 rfl dX2_lamp_0 rfl ?_
  refine jj_iload_n C 1 rfl dX2_lamp_1 rfl ?_
  obtain ⟨r2, M2, hG, hF⟩ := pB_spec hF
  refine jj_callS (k' := 0) (n' := 0) C [jI a1] [jR a0] [jI r2, jR a0] (m_X2_isSide _ _ hG) q1360 q1361 q46 q1362 hd_X2_isSide rfl (Nat.le_of_ble_eq_true rfl) ⟨Nat.le_of_ble_eq_true rfl, Nat.le_of_ble_eq_true rfl⟩ ⟨Nat.le_refl _, Nat.le_refl _, Nat.le_refl _, Nat.le_refl _⟩ dX2_lamp_2 rfl ?_
  refine jj_if_eq (tgt := 12) C dX2_lamp_5 (by decide) hF (fun hF => ?_) (fun hF => ?_)
  · refine jj_iconst (v := 1) C dX2_lamp_12 (by decide) ?_
    refine jj_sub [0, 1] rfl ?_
    exact w_X2_lamp_b13 C hxn hQ hF
  · refine jj_iconst (v := 0) C dX2_lamp_8 (by decide) ?_
    refine jj_goto (tgt := 13) C dX2_lamp_9 (by decide) ?_
    refine jj_sub [0, 1] rfl ?_
    exact w_X2_lamp_b13 C hxn hQ hF
/-! PhrasehallModel.holder()I -/
def rm_X2_holder : Room := ({ frames := 2, cells := 0, slots := 0, locals := 94 } : Room)
theorem hd_X2_holder : yX2_holder.cls ≠ "java/lang/invoke/MethodHandle" ∧ yX2_holder.cls ≠ "java/lang/invoke/VarHandle" ∧ (parseMethodDescriptor yX2_holder.desc).map (fun d => d.parameters.length) = some 0 := ⟨by decide, by decide, by decide +kernel⟩
def f_X2_holder (a0 : Option Nat) (M : jW) : Option (Int32 × jW) := pP M a0 1 31 (jI (0 : Int32)) fun M2 =>
  pI M2 a0 1 17 fun v7 =>
  pO M2 a0 1 fun b10 _ => pB (f_X2_rights (some b10) v7 M2) fun r10 M10 =>
  some (r10, M10)
set_option maxHeartbeats 4000000 in
theorem m_X2_holder (l : Launch) (g : jG) {a0 : Option Nat} {M M0 : jW} {v0 : Int32} (hF : f_X2_holder a0 M = some (v0, M0)) : jMet l g yX2_holder cX2_holder 1 (some .int) rm_X2_holder [jR a0] M (some (jI v0)) M0 := by
  refine jMet.of (L := [(0, jR a0)]) (by decide) rfl (Nat.le_of_ble_eq_true rfl) (fun x C hxn hg hl hQ hin => ?_)
  subst hg
  unfold f_X2_holder at hF
  refine jj_aload_n C 0 rfl dX2_holder_0 rfl ?_
  refine jj_iconst (v := 0) C dX2_holder_1 (by decide) ?_
  refine jj_pP (f := 31) C jcs_1 (Nat.le_of_ble_eq_true rfl) (jLk.of C q1264 rfl) (Or.inl rfl) dX2_holder_2 (jfit_i _) hF (fun M2 hF => ?_)
  refine jj_aload_n C 0 rfl dX2_holder_5 rfl ?_
  refine jj_aload_n C 0 rfl dX2_holder_6 rfl ?_
  refine jj_pI (f := 17) C jcs_1 (Nat.le_of_ble_eq_true rfl) (jLk.of C q1250 rfl) dX2_holder_7 hF (fun v7 hF => ?_)
  obtain ⟨b10, fs10, he10, hb10, hF⟩ := pO_spec hF
  obtain ⟨r10, M10, hG, hF⟩ := pB_spec hF
  refine jj_callV (k' := 0) (n' := 0) C [jI v7] [] [jI r10] he10 (m_X2_rights _ _ hG) hb10 rfl q1394 q1396 qs28 q46 q1397 ⟨rfl, hd_X2_rights⟩ rfl (Nat.le_of_ble_eq_true rfl) ⟨Nat.le_of_ble_eq_true rfl, Nat.le_of_ble_eq_true rfl⟩ ⟨Nat.le_refl _, Nat.le_refl _, Nat.le_refl _, Nat.le_refl _⟩ dX2_holder_10 rfl ?_
  exact jj_iret C hQ dX2_holder_13 hF (Nat.zero_le _) (Nat.zero_le _)
/-! PhrasehallModel.reason()I -/
def rm_X2_reason : Room := ({ frames := 1, cells := 0, slots := 0, locals := 64 } : Room)
theorem hd_X2_reason : yX2_reason.cls ≠ "java/lang/invoke/MethodHandle" ∧ yX2_reason.cls ≠ "java/lang/invoke/VarHandle" ∧ (parseMethodDescriptor yX2_reason.desc).map (fun d => d.parameters.length) = some 0 := ⟨by decide, by decide, by decide +kernel⟩
def f_X2_reason (a0 : Option Nat) (M : jW) : Option (Int32 × jW) := pP M a0 1 31 (jI (0 : Int32)) fun M2 =>
  pI M2 a0 1 2 fun v6 =>
  some (v6, M2)
set_option maxHeartbeats 4000000 in
theorem m_X2_reason (l : Launch) (g : jG) {a0 : Option Nat} {M M0 : jW} {v0 : Int32} (hF : f_X2_reason a0 M = some (v0, M0)) : jMet l g yX2_reason cX2_reason 1 (some .int) rm_X2_reason [jR a0] M (some (jI v0)) M0 := by
  refine jMet.of (L := [(0, jR a0)]) (by decide) rfl (Nat.le_of_ble_eq_true rfl) (fun x C hxn hg hl hQ hin => ?_)
  subst hg
  unfold f_X2_reason at hF
  refine jj_aload_n C 0 rfl dX2_reason_0 rfl ?_
  refine jj_iconst (v := 0) C dX2_reason_1 (by decide) ?_
  refine jj_pP (f := 31) C jcs_1 (Nat.le_of_ble_eq_true rfl) (jLk.of C q1264 rfl) (Or.inl rfl) dX2_reason_2 (jfit_i _) hF (fun M2 hF => ?_)
  refine jj_aload_n C 0 rfl dX2_reason_5 rfl ?_
  refine jj_pI (f := 2) C jcs_1 (Nat.le_of_ble_eq_true rfl) (jLk.of C q1235 rfl) dX2_reason_6 hF (fun v6 hF => ?_)
  exact jj_iret C hQ dX2_reason_9 hF (Nat.zero_le _) (Nat.zero_le _)
/-! PhrasehallModel.ofBout(II)I -/
def rm_X2_ofBout : Room := ({ frames := 2, cells := 0, slots := 0, locals := 86 } : Room)
theorem hd_X2_ofBout : yX2_ofBout.cls ≠ "java/lang/invoke/MethodHandle" ∧ yX2_ofBout.cls ≠ "java/lang/invoke/VarHandle" ∧ (parseMethodDescriptor yX2_ofBout.desc).map (fun d => d.parameters.length) = some 2 := ⟨by decide, by decide, by decide +kernel⟩
def f_X2_ofBout_b33 (l0 : Option Nat) (l1 : Int32) (l2 : Int32) (s0 : Option Nat) (s1 : Int32) (M : jW) : Option (Int32 × jW) := pP M s0 1 31 (jI s1) fun M33 =>
  pI M33 l0 1 31 fun v37 =>
  if v37 ≤ 0 then (if (2 : Int32) ≤ l2 then (if l2 = (2 : Int32) then (pR M33 l0 1 10 fun v69 =>
  pAI M33 v69 0 l1 fun v73 =>
  some (v73, M33))
  else (if l2 = (3 : Int32) then (pR M33 l0 1 11 fun v83 =>
  pAI M33 v83 0 l1 fun v87 =>
  some (v87, M33))
  else (if l2 = (4 : Int32) then (pR M33 l0 1 12 fun v97 =>
  pAI M33 v97 0 l1 fun v101 =>
  some (v101, M33))
  else (pR M33 l0 1 13 fun v106 =>
  pAI M33 v106 0 l1 fun v110 =>
  some (v110, M33)))))
  else (pR M33 l0 1 6 fun v51 =>
  pAI M33 v51 0 (((2 : Int32) * l1) + l2) fun v59 =>
  some (v59, M33)))
  else (some ((0 : Int32), M33))
set_option maxHeartbeats 4000000 in
theorem w_X2_ofBout_b33 {x : jX} (C : jOk x cX2_ofBout RX2 rm_X2_ofBout (some .int)) (hxn : xn x = 3) {v0 : Int32} {M0 : jW} (hQ : jEnd x rm_X2_ofBout (some (jI v0)) M0) {l0 : Option Nat} {l1 : Int32} {l2 : Int32} {s0 : Option Nat} {s1 : Int32} {M : jW} (hF : f_X2_ofBout_b33 l0 l1 l2 s0 s1 M = some (v0, M0)) : jJ x 33 [(0, jR l0), (1, jI l1), (2, jI l2)] [jI s1, jR s0] M 0 0 := by
  unfold f_X2_ofBout_b33 at hF
  refine jj_pP (f := 31) C jcs_1 (Nat.le_of_ble_eq_true rfl) (jLk.of C q1264 rfl) (Or.inl rfl) dX2_ofBout_33 (jfit_i _) hF (fun M33 hF => ?_)
  refine jj_aload_n C 0 rfl dX2_ofBout_36 rfl ?_
  refine jj_pI (f := 31) C jcs_1 (Nat.le_of_ble_eq_true rfl) (jLk.of C q1264 rfl) dX2_ofBout_37 hF (fun v37 hF => ?_)
  refine jj_if_le (tgt := 45) C dX2_ofBout_40 (by decide) hF (fun hF => ?_) (fun hF => ?_)
  · refine jj_iload_n C 2 rfl dX2_ofBout_45 rfl ?_
    refine jj_iconst (v := 2) C dX2_ofBout_46 (by decide) ?_
    refine jj_icmp_ge (tgt := 63) C dX2_ofBout_47 (by decide) hF (fun hF => ?_) (fun hF => ?_)
    · refine jj_iload_n C 2 rfl dX2_ofBout_63 rfl ?_
      refine jj_iconst (v := 2) C dX2_ofBout_64 (by decide) ?_
      refine jj_icmp_ne (tgt := 77) C dX2_ofBout_65 (by decide) hF (fun hF => ?_) (fun hF => ?_)
      · refine jj_iload_n C 2 rfl dX2_ofBout_77 rfl ?_
        refine jj_iconst (v := 3) C dX2_ofBout_78 (by decide) ?_
        refine jj_icmp_ne (tgt := 91) C dX2_ofBout_79 (by decide) hF (fun hF => ?_) (fun hF => ?_)
        · refine jj_iload_n C 2 rfl dX2_ofBout_91 rfl ?_
          refine jj_iconst (v := 4) C dX2_ofBout_92 (by decide) ?_
          refine jj_icmp_ne (tgt := 105) C dX2_ofBout_93 (by decide) hF (fun hF => ?_) (fun hF => ?_)
          · refine jj_aload_n C 0 rfl dX2_ofBout_105 rfl ?_
            refine jj_pR (f := 13) C jcs_1 (Nat.le_of_ble_eq_true rfl) (jLk.of C q1246 rfl) dX2_ofBout_106 hF (fun v106 hF => ?_)
            refine jj_iload_n C 1 rfl dX2_ofBout_109 rfl ?_
            refine jj_iald C dX2_ofBout_110 hF (fun v110 hF => ?_)
            exact jj_iret C hQ dX2_ofBout_111 hF (Nat.zero_le _) (Nat.zero_le _)
          · refine jj_aload_n C 0 rfl dX2_ofBout_96 rfl ?_
            refine jj_pR (f := 12) C jcs_1 (Nat.le_of_ble_eq_true rfl) (jLk.of C q1245 rfl) dX2_ofBout_97 hF (fun v97 hF => ?_)
            refine jj_iload_n C 1 rfl dX2_ofBout_100 rfl ?_
            refine jj_iald C dX2_ofBout_101 hF (fun v101 hF => ?_)
            refine jj_goto (tgt := 111) C dX2_ofBout_102 (by decide) ?_
            exact jj_iret C hQ dX2_ofBout_111 hF (Nat.zero_le _) (Nat.zero_le _)
        · refine jj_aload_n C 0 rfl dX2_ofBout_82 rfl ?_
          refine jj_pR (f := 11) C jcs_1 (Nat.le_of_ble_eq_true rfl) (jLk.of C q1244 rfl) dX2_ofBout_83 hF (fun v83 hF => ?_)
          refine jj_iload_n C 1 rfl dX2_ofBout_86 rfl ?_
          refine jj_iald C dX2_ofBout_87 hF (fun v87 hF => ?_)
          refine jj_goto (tgt := 111) C dX2_ofBout_88 (by decide) ?_
          exact jj_iret C hQ dX2_ofBout_111 hF (Nat.zero_le _) (Nat.zero_le _)
      · refine jj_aload_n C 0 rfl dX2_ofBout_68 rfl ?_
        refine jj_pR (f := 10) C jcs_1 (Nat.le_of_ble_eq_true rfl) (jLk.of C q1243 rfl) dX2_ofBout_69 hF (fun v69 hF => ?_)
        refine jj_iload_n C 1 rfl dX2_ofBout_72 rfl ?_
        refine jj_iald C dX2_ofBout_73 hF (fun v73 hF => ?_)
        refine jj_goto (tgt := 111) C dX2_ofBout_74 (by decide) ?_
        exact jj_iret C hQ dX2_ofBout_111 hF (Nat.zero_le _) (Nat.zero_le _)
    · refine jj_aload_n C 0 rfl dX2_ofBout_50 rfl ?_
      refine jj_pR (f := 6) C jcs_1 (Nat.le_of_ble_eq_true rfl) (jLk.of C q1239 rfl) dX2_ofBout_51 hF (fun v51 hF => ?_)
      refine jj_iconst (v := 2) C dX2_ofBout_54 (by decide) ?_
      refine jj_iload_n C 1 rfl dX2_ofBout_55 rfl ?_
      refine jj_imul C dX2_ofBout_56 ?_
      refine jj_iload_n C 2 rfl dX2_ofBout_57 rfl ?_
      refine jj_iadd C dX2_ofBout_58 ?_
      refine jj_iald C dX2_ofBout_59 hF (fun v59 hF => ?_)
      refine jj_goto (tgt := 111) C dX2_ofBout_60 (by decide) ?_
      exact jj_iret C hQ dX2_ofBout_111 hF (Nat.zero_le _) (Nat.zero_le _)
  · refine jj_iconst (v := 0) C dX2_ofBout_43 (by decide) ?_
    exact jj_iret C hQ dX2_ofBout_44 hF (Nat.zero_le _) (Nat.zero_le _)
def f_X2_ofBout (a0 : Option Nat) (a1 : Int32) (a2 : Int32) (M : jW) : Option (Int32 × jW) := pI M a0 1 3 fun v4 =>
  pB (f_X2_isIn a1 (0 : Int32) (v4 - (1 : Int32)) M) fun r9 M9 =>
  if r9 = 0 then (f_X2_ofBout_b33 a0 a1 a2 a0 (1 : Int32) M9)
  else (pB (f_X2_isIn a2 (0 : Int32) (5 : Int32) M9) fun r22 M22 =>
  if r22 = 0 then (f_X2_ofBout_b33 a0 a1 a2 a0 (2 : Int32) M22)
  else (f_X2_ofBout_b33 a0 a1 a2 a0 (0 : Int32) M22))
set_option maxHeartbeats 4000000 in
theorem m_X2_ofBout (l : Launch) (g : jG) {a0 : Option Nat} {a1 : Int32} {a2 : Int32} {M M0 : jW} {v0 : Int32} (hF : f_X2_ofBout a0 a1 a2 M = some (v0, M0)) : jMet l g yX2_ofBout cX2_ofBout 3 (some .int) rm_X2_ofBout [jR a0, jI a1, jI a2] M (some (jI v0)) M0 := by
  refine jMet.of (L := [(0, jR a0), (1, jI a1), (2, jI a2)]) (by decide) rfl (Nat.le_of_ble_eq_true rfl) (fun x C hxn hg hl hQ hin => ?_)
  subst hg
  unfold f_X2_ofBout at hF
  refine jj_aload_n C 0 rfl dX2_ofBout_0 rfl ?_
  refine jj_iload_n C 1 rfl dX2_ofBout_1 rfl ?_
  refine jj_iconst (v := 0) C dX2_ofBout_2 (by decide) ?_
  refine jj_aload_n C 0 rfl dX2_ofBout_3 rfl ?_
  refine jj_pI (f := 3) C jcs_1 (Nat.le_of_ble_eq_true rfl) (jLk.of C q1236 rfl) dX2_ofBout_4 hF (fun v4 hF => ?_)
  refine jj_iconst (v := 1) C dX2_ofBout_7 (by decide) ?_
  refine jj_isub C dX2_ofBout_8 ?_
  obtain ⟨r9, M9, hG, hF⟩ := pB_spec hF
  refine jj_callS (k' := 0) (n' := 0) C [jI a1, jI (0 : Int32), jI (v4 - (1 : Int32))] [jR a0] [jI r9, jR a0] (m_X2_isIn _ _ hG) q1346 q1347 q46 q1348 hd_X2_isIn rfl (Nat.le_of_ble_eq_true rfl) ⟨Nat.le_of_ble_eq_true rfl, Nat.le_of_ble_eq_true rfl⟩ ⟨Nat.le_refl _, Nat.le_refl _, Nat.le_refl _, Nat.le_refl _⟩ dX2_ofBout_9 rfl ?_
  refine jj_if_ne (tgt := 19) C dX2_ofBout_12 (by decide) hF (fun hF => ?_) (fun hF => ?_)
  · refine jj_iload_n C 2 rfl dX2_ofBout_19 rfl ?_
    refine jj_iconst (v := 0) C dX2_ofBout_20 (by decide) ?_
    refine jj_iconst (v := 5) C dX2_ofBout_21 (by decide) ?_
    obtain ⟨r22, M22, hG, hF⟩ := pB_spec hF
    refine jj_callS (k' := 0) (n' := 0) C [jI a2, jI (0 : Int32), jI (5 : Int32)] [jR a0] [jI r22, jR a0] (m_X2_isIn _ _ hG) q1346 q1347 q46 q1348 hd_X2_isIn rfl (Nat.le_of_ble_eq_true rfl) ⟨Nat.le_of_ble_eq_true rfl, Nat.le_of_ble_eq_true rfl⟩ ⟨Nat.le_refl _, Nat.le_refl _, Nat.le_refl _, Nat.le_refl _⟩ dX2_ofBout_22 rfl ?_
    refine jj_if_ne (tgt := 32) C dX2_ofBout_25 (by decide) hF (fun hF => ?_) (fun hF => ?_)
    · refine jj_iconst (v := 0) C dX2_ofBout_32 (by decide) ?_
      refine jj_sub [0, 1, 2] rfl ?_
      exact w_X2_ofBout_b33 C hxn hQ hF
    · refine jj_iconst (v := 2) C dX2_ofBout_28 (by decide) ?_
      refine jj_goto (tgt := 33) C dX2_ofBout_29 (by decide) ?_
      refine jj_sub [0, 1, 2] rfl ?_
      exact w_X2_ofBout_b33 C hxn hQ hF
  · refine jj_iconst (v := 1) C dX2_ofBout_15 (by decide) ?_
    refine jj_goto (tgt := 33) C dX2_ofBout_16 (by decide) ?_
    refine jj_sub [0, 1, 2] rfl ?_
    exact w_X2_ofBout_b33 C hxn hQ hF
/-! PhrasehallModel.ofPools(III)I -/
def rm_X2_ofPools : Room := ({ frames := 4, cells := 0, slots := 0, locals := 137 } : Room)
theorem hd_X2_ofPools : yX2_ofPools.cls ≠ "java/lang/invoke/MethodHandle" ∧ yX2_ofPools.cls ≠ "java/lang/invoke/VarHandle" ∧ (parseMethodDescriptor yX2_ofPools.desc).map (fun d => d.parameters.length) = some 3 := ⟨by decide, by decide, by decide +kernel⟩
def f_X2_ofPools_b28 (l0 : Option Nat) (l1 : Int32) (l2 : Int32) (l3 : Int32) (s0 : Option Nat) (s1 : Int32) (M : jW) : Option (Int32 × jW) := pP M s0 1 31 (jI s1) fun M28 =>
  pI M28 l0 1 31 fun v32 =>
  if v32 ≤ 0 then (pO M28 l0 1 fun b46 _ => pB (f_X2_tells (some b46) l1 l2 l3 M28) fun r46 M46 =>
  some (r46, M46))
  else (some ((0 : Int32), M28))
set_option maxHeartbeats 4000000 in
theorem w_X2_ofPools_b28 {x : jX} (C : jOk x cX2_ofPools RX2 rm_X2_ofPools (some .int)) (hxn : xn x = 4) {v0 : Int32} {M0 : jW} (hQ : jEnd x rm_X2_ofPools (some (jI v0)) M0) {l0 : Option Nat} {l1 : Int32} {l2 : Int32} {l3 : Int32} {s0 : Option Nat} {s1 : Int32} {M : jW} (hF : f_X2_ofPools_b28 l0 l1 l2 l3 s0 s1 M = some (v0, M0)) : jJ x 28 [(0, jR l0), (1, jI l1), (2, jI l2), (3, jI l3)] [jI s1, jR s0] M 0 0 := by
  unfold f_X2_ofPools_b28 at hF
  refine jj_pP (f := 31) C jcs_1 (Nat.le_of_ble_eq_true rfl) (jLk.of C q1264 rfl) (Or.inl rfl) dX2_ofPools_28 (jfit_i _) hF (fun M28 hF => ?_)
  refine jj_aload_n C 0 rfl dX2_ofPools_31 rfl ?_
  refine jj_pI (f := 31) C jcs_1 (Nat.le_of_ble_eq_true rfl) (jLk.of C q1264 rfl) dX2_ofPools_32 hF (fun v32 hF => ?_)
  refine jj_if_le (tgt := 42) C dX2_ofPools_35 (by decide) hF (fun hF => ?_) (fun hF => ?_)
  · refine jj_aload_n C 0 rfl dX2_ofPools_42 rfl ?_
    refine jj_iload_n C 1 rfl dX2_ofPools_43 rfl ?_
    refine jj_iload_n C 2 rfl dX2_ofPools_44 rfl ?_
    refine jj_iload_n C 3 rfl dX2_ofPools_45 rfl ?_
    obtain ⟨b46, fs46, he46, hb46, hF⟩ := pO_spec hF
    obtain ⟨r46, M46, hG, hF⟩ := pB_spec hF
    refine jj_callV (k' := 0) (n' := 0) C [jI l1, jI l2, jI l3] [] [jI r46] he46 (m_X2_tells _ _ hG) hb46 rfl q1453 q1455 qs34 q46 q1456 ⟨rfl, hd_X2_tells⟩ rfl (Nat.le_of_ble_eq_true rfl) ⟨Nat.le_of_ble_eq_true rfl, Nat.le_of_ble_eq_true rfl⟩ ⟨Nat.le_refl _, Nat.le_refl _, Nat.le_refl _, Nat.le_refl _⟩ dX2_ofPools_46 rfl ?_
    exact jj_iret C hQ dX2_ofPools_49 hF (Nat.zero_le _) (Nat.zero_le _)
  · refine jj_iconst (v := 0) C dX2_ofPools_38 (by decide) ?_
    refine jj_goto (tgt := 49) C dX2_ofPools_39 (by decide) ?_
    exact jj_iret C hQ dX2_ofPools_49 hF (Nat.zero_le _) (Nat.zero_le _)
def f_X2_ofPools (a0 : Option Nat) (a1 : Int32) (a2 : Int32) (a3 : Int32) (M : jW) : Option (Int32 × jW) := pO M a0 1 fun b4 _ => pB (f_X2_isMember (some b4) a1 a2 M) fun r4 M4 =>
  if r4 = 0 then (f_X2_ofPools_b28 a0 a1 a2 a3 a0 (1 : Int32) M4)
  else (pB (f_X2_isIn a3 (0 : Int32) (3 : Int32) M4) fun r17 M17 =>
  if r17 = 0 then (f_X2_ofPools_b28 a0 a1 a2 a3 a0 (2 : Int32) M17)
  else (f_X2_ofPools_b28 a0 a1 a2 a3 a0 (0 : Int32) M17))
set_option maxHeartbeats 4000000 in
theorem m_X2_ofPools (l : Launch) (g : jG) {a0 : Option Nat} {a1 : Int32} {a2 : Int32} {a3 : Int32} {M M0 : jW} {v0 : Int32} (hF : f_X2_ofPools a0 a1 a2 a3 M = some (v0, M0)) : jMet l g yX2_ofPools cX2_ofPools 4 (some .int) rm_X2_ofPools [jR a0, jI a1, jI a2, jI a3] M (some (jI v0)) M0 := by
  refine jMet.of (L := [(0, jR a0), (1, jI a1), (2, jI a2), (3, jI a3)]) (by decide) rfl (Nat.le_of_ble_eq_true rfl) (fun x C hxn hg hl hQ hin => ?_)
  subst hg
  unfold f_X2_ofPools at hF
  refine jj_aload_n C 0 rfl dX2_ofPools_0 rfl ?_
  refine jj_aload_n C 0 rfl dX2_ofPools_1 rfl ?_
  refine jj_iload_n C 1 rfl dX2_ofPools_2 rfl ?_
  refine jj_iload_n C 2 rfl dX2_ofPools_3 rfl ?_
  obtain ⟨b4, fs4, he4, hb4, hF⟩ := pO_spec hF
  obtain ⟨r4, M4, hG, hF⟩ := pB_spec hF
  refine jj_callV (k' := 0) (n' := 0) C [jI a1, jI a2] [jR a0] [jI r4, jR a0] he4 (m_X2_isMember _ _ hG) hb4 rfl q1449 q1451 qs33 q46 q1452 ⟨rfl, hd_X2_isMember⟩ rfl (Nat.le_of_ble_eq_true rfl) ⟨Nat.le_of_ble_eq_true rfl, Nat.le_of_ble_eq_true rfl⟩ ⟨Nat.le_refl _, Nat.le_refl _, Nat.le_refl _, Nat.le_refl _⟩ dX2_ofPools_4 rfl ?_
  refine jj_if_ne (tgt := 14) C dX2_ofPools_7 (by decide) hF (fun hF => ?_) (fun hF => ?_)
  · refine jj_iload_n C 3 rfl dX2_ofPools_14 rfl ?_
    refine jj_iconst (v := 0) C dX2_ofPools_15 (by decide) ?_
    refine jj_iconst (v := 3) C dX2_ofPools_16 (by decide) ?_
    obtain ⟨r17, M17, hG, hF⟩ := pB_spec hF
    refine jj_callS (k' := 0) (n' := 0) C [jI a3, jI (0 : Int32), jI (3 : Int32)] [jR a0] [jI r17, jR a0] (m_X2_isIn _ _ hG) q1346 q1347 q46 q1348 hd_X2_isIn rfl (Nat.le_of_ble_eq_true rfl) ⟨Nat.le_of_ble_eq_true rfl, Nat.le_of_ble_eq_true rfl⟩ ⟨Nat.le_refl _, Nat.le_refl _, Nat.le_refl _, Nat.le_refl _⟩ dX2_ofPools_17 rfl ?_
    refine jj_if_ne (tgt := 27) C dX2_ofPools_20 (by decide) hF (fun hF => ?_) (fun hF => ?_)
    · refine jj_iconst (v := 0) C dX2_ofPools_27 (by decide) ?_
      refine jj_sub [0, 1, 2, 3] rfl ?_
      exact w_X2_ofPools_b28 C hxn hQ hF
    · refine jj_iconst (v := 2) C dX2_ofPools_23 (by decide) ?_
      refine jj_goto (tgt := 28) C dX2_ofPools_24 (by decide) ?_
      refine jj_sub [0, 1, 2, 3] rfl ?_
      exact w_X2_ofPools_b28 C hxn hQ hF
  · refine jj_iconst (v := 1) C dX2_ofPools_10 (by decide) ?_
    refine jj_goto (tgt := 28) C dX2_ofPools_11 (by decide) ?_
    refine jj_sub [0, 1, 2, 3] rfl ?_
    exact w_X2_ofPools_b28 C hxn hQ hF
/-! PhrasehallModel.ofPool(III)I -/
def rm_X2_ofPool : Room := ({ frames := 5, cells := 0, slots := 0, locals := 160 } : Room)
theorem hd_X2_ofPool : yX2_ofPool.cls ≠ "java/lang/invoke/MethodHandle" ∧ yX2_ofPool.cls ≠ "java/lang/invoke/VarHandle" ∧ (parseMethodDescriptor yX2_ofPool.desc).map (fun d => d.parameters.length) = some 3 := ⟨by decide, by decide, by decide +kernel⟩
def f_X2_ofPool (a0 : Option Nat) (a1 : Int32) (a2 : Int32) (a3 : Int32) (M : jW) : Option (Int32 × jW) := pO M a0 1 fun b4 _ => pB (f_X2_ofPools (some b4) a1 a2 a3 M) fun r4 M4 =>
  some (r4, M4)
set_option maxHeartbeats 4000000 in
theorem m_X2_ofPool (l : Launch) (g : jG) {a0 : Option Nat} {a1 : Int32} {a2 : Int32} {a3 : Int32} {M M0 : jW} {v0 : Int32} (hF : f_X2_ofPool a0 a1 a2 a3 M = some (v0, M0)) : jMet l g yX2_ofPool cX2_ofPool 4 (some .int) rm_X2_ofPool [jR a0, jI a1, jI a2, jI a3] M (some (jI v0)) M0 := by
  refine jMet.of (L := [(0, jR a0), (1, jI a1), (2, jI a2), (3, jI a3)]) (by decide) rfl (Nat.le_of_ble_eq_true rfl) (fun x C hxn hg hl hQ hin => ?_)
  subst hg
  unfold f_X2_ofPool at hF
  refine jj_aload_n C 0 rfl dX2_ofPool_0 rfl ?_
  refine jj_iload_n C 1 rfl dX2_ofPool_1 rfl ?_
  refine jj_iload_n C 2 rfl dX2_ofPool_2 rfl ?_
  refine jj_iload_n C 3 rfl dX2_ofPool_3 rfl ?_
  obtain ⟨b4, fs4, he4, hb4, hF⟩ := pO_spec hF
  obtain ⟨r4, M4, hG, hF⟩ := pB_spec hF
  refine jj_callV (k' := 0) (n' := 0) C [jI a1, jI a2, jI a3] [] [jI r4] he4 (m_X2_ofPools _ _ hG) hb4 rfl q1511 q1513 qs40 q46 q1514 ⟨rfl, hd_X2_ofPools⟩ rfl (Nat.le_of_ble_eq_true rfl) ⟨Nat.le_of_ble_eq_true rfl, Nat.le_of_ble_eq_true rfl⟩ ⟨Nat.le_refl _, Nat.le_refl _, Nat.le_refl _, Nat.le_refl _⟩ dX2_ofPool_4 rfl ?_
  exact jj_iret C hQ dX2_ofPool_7 hF (Nat.zero_le _) (Nat.zero_le _)
/-! PhrasehallModel.ofPoolAnew(III)I -/
def rm_X2_ofPoolAnew : Room := ({ frames := 5, cells := 0, slots := 0, locals := 160 } : Room)
theorem hd_X2_ofPoolAnew : yX2_ofPoolAnew.cls ≠ "java/lang/invoke/MethodHandle" ∧ yX2_ofPoolAnew.cls ≠ "java/lang/invoke/VarHandle" ∧ (parseMethodDescriptor yX2_ofPoolAnew.desc).map (fun d => d.parameters.length) = some 3 := ⟨by decide, by decide, by decide +kernel⟩
def f_X2_ofPoolAnew (a0 : Option Nat) (a1 : Int32) (a2 : Int32) (a3 : Int32) (M : jW) : Option (Int32 × jW) := pO M a0 1 fun b4 _ => pB (f_X2_ofPools (some b4) a1 a2 a3 M) fun r4 M4 =>
  some (r4, M4)
set_option maxHeartbeats 4000000 in
theorem m_X2_ofPoolAnew (l : Launch) (g : jG) {a0 : Option Nat} {a1 : Int32} {a2 : Int32} {a3 : Int32} {M M0 : jW} {v0 : Int32} (hF : f_X2_ofPoolAnew a0 a1 a2 a3 M = some (v0, M0)) : jMet l g yX2_ofPoolAnew cX2_ofPoolAnew 4 (some .int) rm_X2_ofPoolAnew [jR a0, jI a1, jI a2, jI a3] M (some (jI v0)) M0 := by
  refine jMet.of (L := [(0, jR a0), (1, jI a1), (2, jI a2), (3, jI a3)]) (by decide) rfl (Nat.le_of_ble_eq_true rfl) (fun x C hxn hg hl hQ hin => ?_)
  subst hg
  unfold f_X2_ofPoolAnew at hF
  refine jj_aload_n C 0 rfl dX2_ofPoolAnew_0 rfl ?_
  refine jj_iload_n C 1 rfl dX2_ofPoolAnew_1 rfl ?_
  refine jj_iload_n C 2 rfl dX2_ofPoolAnew_2 rfl ?_
  refine jj_iload_n C 3 rfl dX2_ofPoolAnew_3 rfl ?_
  obtain ⟨b4, fs4, he4, hb4, hF⟩ := pO_spec hF
  obtain ⟨r4, M4, hG, hF⟩ := pB_spec hF
  refine jj_callV (k' := 0) (n' := 0) C [jI a1, jI a2, jI a3] [] [jI r4] he4 (m_X2_ofPools _ _ hG) hb4 rfl q1511 q1513 qs40 q46 q1514 ⟨rfl, hd_X2_ofPools⟩ rfl (Nat.le_of_ble_eq_true rfl) ⟨Nat.le_of_ble_eq_true rfl, Nat.le_of_ble_eq_true rfl⟩ ⟨Nat.le_refl _, Nat.le_refl _, Nat.le_refl _, Nat.le_refl _⟩ dX2_ofPoolAnew_4 rfl ?_
  exact jj_iret C hQ dX2_ofPoolAnew_7 hF (Nat.zero_le _) (Nat.zero_le _)
/-! PhrasehallModel.rank(II)I -/
def rm_X2_rank : Room := ({ frames := 6, cells := 0, slots := 0, locals := 190 } : Room)
theorem hd_X2_rank : yX2_rank.cls ≠ "java/lang/invoke/MethodHandle" ∧ yX2_rank.cls ≠ "java/lang/invoke/VarHandle" ∧ (parseMethodDescriptor yX2_rank.desc).map (fun d => d.parameters.length) = some 2 := ⟨by decide, by decide, by decide +kernel⟩
def f_X2_rank_b18 (l0 : Option Nat) (l1 : Int32) (l2 : Int32) (s0 : Option Nat) (s1 : Int32) (M : jW) : Option (Int32 × jW) := pP M s0 1 31 (jI s1) fun M18 =>
  pI M18 l0 1 31 fun v22 =>
  if v22 ≤ 0 then (pO M18 l0 1 fun b32 _ => pB (f_X2_ranks (some b32) l1 M18) fun r32 M32 =>
  if r32 ≤ l2 then (some ((-1 : Int32), M32))
  else (pR M32 l0 1 26 fun v42 =>
  pAI M32 v42 0 l2 fun v46 =>
  some (v46, M32)))
  else (some ((0 : Int32), M18))
set_option maxHeartbeats 4000000 in
theorem w_X2_rank_b18 {x : jX} (C : jOk x cX2_rank RX2 rm_X2_rank (some .int)) (hxn : xn x = 4) {v0 : Int32} {M0 : jW} (hQ : jEnd x rm_X2_rank (some (jI v0)) M0) {l0 : Option Nat} {l1 : Int32} {l2 : Int32} {s0 : Option Nat} {s1 : Int32} {M : jW} (hF : f_X2_rank_b18 l0 l1 l2 s0 s1 M = some (v0, M0)) : jJ x 18 [(0, jR l0), (1, jI l1), (2, jI l2)] [jI s1, jR s0] M 0 0 := by
  unfold f_X2_rank_b18 at hF
  refine jj_pP (f := 31) C jcs_1 (Nat.le_of_ble_eq_true rfl) (jLk.of C q1264 rfl) (Or.inl rfl) dX2_rank_18 (jfit_i _) hF (fun M18 hF => ?_)
  refine jj_aload_n C 0 rfl dX2_rank_21 rfl ?_
  refine jj_pI (f := 31) C jcs_1 (Nat.le_of_ble_eq_true rfl) (jLk.of C q1264 rfl) dX2_rank_22 hF (fun v22 hF => ?_)
  refine jj_if_le (tgt := 30) C dX2_rank_25 (by decide) hF (fun hF => ?_) (fun hF => ?_)
  · refine jj_aload_n C 0 rfl dX2_rank_30 rfl ?_
    refine jj_iload_n C 1 rfl dX2_rank_31 rfl ?_
    obtain ⟨b32, fs32, he32, hb32, hF⟩ := pO_spec hF
    obtain ⟨r32, M32, hG, hF⟩ := pB_spec hF
    refine jj_callV (k' := 0) (n' := 0) C [jI l1] [] [jI r32] he32 (m_X2_ranks _ _ hG) hb32 rfl q1465 q1467 qs36 q46 q1468 ⟨rfl, hd_X2_ranks⟩ rfl (Nat.le_of_ble_eq_true rfl) ⟨Nat.le_of_ble_eq_true rfl, Nat.le_of_ble_eq_true rfl⟩ ⟨Nat.le_refl _, Nat.le_refl _, Nat.le_refl _, Nat.le_refl _⟩ dX2_rank_32 rfl ?_
    refine jj_istore_n (L' := [(3, jI r32), (0, jR l0), (1, jI l1), (2, jI l2)]) C rfl (by rw [hxn]; decide) dX2_rank_35 rfl ?_
    refine jj_iload_n C 3 rfl dX2_rank_36 rfl ?_
    refine jj_iload_n C 0 rfl dX2_rank_37 rfl ?_
    refine jj_icmp_ge (tgt := 50) C dX2_rank_38 (by decide) hF (fun hF => ?_) (fun hF => ?_)
    · refine jj_iconst (v := -1) C dX2_rank_50 (by decide) ?_
      exact jj_iret C hQ dX2_rank_51 hF (Nat.zero_le _) (Nat.zero_le _)
    · refine jj_aload_n C 1 rfl dX2_rank_41 rfl ?_
      refine jj_pR (f := 26) C jcs_1 (Nat.le_of_ble_eq_true rfl) (jLk.of C q1259 rfl) dX2_rank_42 hF (fun v42 hF => ?_)
      refine jj_iload_n C 3 rfl dX2_rank_45 rfl ?_
      refine jj_iald C dX2_rank_46 hF (fun v46 hF => ?_)
      refine jj_goto (tgt := 51) C dX2_rank_47 (by decide) ?_
      exact jj_iret C hQ dX2_rank_51 hF (Nat.zero_le _) (Nat.zero_le _)
  · refine jj_iconst (v := 0) C dX2_rank_28 (by decide) ?_
    exact jj_iret C hQ dX2_rank_29 hF (Nat.zero_le _) (Nat.zero_le _)
def f_X2_rank_b17 (l0 : Option Nat) (l1 : Int32) (l2 : Int32) (s0 : Option Nat) (M : jW) : Option (Int32 × jW) := f_X2_rank_b18 l0 l1 l2 s0 (1 : Int32) M
set_option maxHeartbeats 4000000 in
theorem w_X2_rank_b17 {x : jX} (C : jOk x cX2_rank RX2 rm_X2_rank (some .int)) (hxn : xn x = 4) {v0 : Int32} {M0 : jW} (hQ : jEnd x rm_X2_rank (some (jI v0)) M0) {l0 : Option Nat} {l1 : Int32} {l2 : Int32} {s0 : Option Nat} {M : jW} (hF : f_X2_rank_b17 l0 l1 l2 s0 M = some (v0, M0)) : jJ x 17 [(0, jR l0), (1, jI l1), (2, jI l2)] [jR s0] M 0 0 := by
  unfold f_X2_rank_b17 at hF
  refine jj_iconst (v := 1) C dX2_rank_17 (by decide) ?_
  refine jj_sub [0, 1, 2] rfl ?_
  exact w_X2_rank_b18 C hxn hQ hF
def f_X2_rank (a0 : Option Nat) (a1 : Int32) (a2 : Int32) (M : jW) : Option (Int32 × jW) := pO M a0 1 fun b3 _ => pB (f_X2_isPool (some b3) a1 M) fun r3 M3 =>
  if r3 = 0 then (f_X2_rank_b17 a0 a1 a2 a0 M3)
  else (if a2 < 0 then (f_X2_rank_b17 a0 a1 a2 a0 M3)
  else (f_X2_rank_b18 a0 a1 a2 a0 (0 : Int32) M3))
set_option maxHeartbeats 4000000 in
theorem m_X2_rank (l : Launch) (g : jG) {a0 : Option Nat} {a1 : Int32} {a2 : Int32} {M M0 : jW} {v0 : Int32} (hF : f_X2_rank a0 a1 a2 M = some (v0, M0)) : jMet l g yX2_rank cX2_rank 4 (some .int) rm_X2_rank [jR a0, jI a1, jI a2] M (some (jI v0)) M0 := by
  refine jMet.of (L := [(0, jR a0), (1, jI a1), (2, jI a2)]) (by decide) rfl (Nat.le_of_ble_eq_true rfl) (fun x C hxn hg hl hQ hin => ?_)
  subst hg
  unfold f_X2_rank at hF
  refine jj_aload_n C 0 rfl dX2_rank_0 rfl ?_
  refine jj_aload_n C 0 rfl dX2_rank_1 rfl ?_
  refine jj_iload_n C 1 rfl dX2_rank_2 rfl ?_
  obtain ⟨b3, fs3, he3, hb3, hF⟩ := pO_spec hF
  obtain ⟨r3, M3, hG, hF⟩ := pB_spec hF
  refine jj_callV (k' := 0) (n' := 0) C [jI a1] [jR a0] [jI r3, jR a0] he3 (m_X2_isPool _ _ hG) hb3 rfl q1349 q1351 qs23 q46 q1352 ⟨rfl, hd_X2_isPool⟩ rfl (Nat.le_of_ble_eq_true rfl) ⟨Nat.le_of_ble_eq_true rfl, Nat.le_of_ble_eq_true rfl⟩ ⟨Nat.le_refl _, Nat.le_refl _, Nat.le_refl _, Nat.le_refl _⟩ dX2_rank_3 rfl ?_
  refine jj_if_eq (tgt := 17) C dX2_rank_6 (by decide) hF (fun hF => ?_) (fun hF => ?_)
  · refine jj_sub [0, 1, 2] rfl ?_
    exact w_X2_rank_b17 C hxn hQ hF
  · refine jj_iload_n C 2 rfl dX2_rank_9 rfl ?_
    refine jj_if_lt (tgt := 17) C dX2_rank_10 (by decide) hF (fun hF => ?_) (fun hF => ?_)
    · refine jj_sub [0, 1, 2] rfl ?_
      exact w_X2_rank_b17 C hxn hQ hF
    · refine jj_iconst (v := 0) C dX2_rank_13 (by decide) ?_
      refine jj_goto (tgt := 18) C dX2_rank_14 (by decide) ?_
      refine jj_sub [0, 1, 2] rfl ?_
      exact w_X2_rank_b18 C hxn hQ hF
/-! PhrasehallModel.meets(III)I -/
def rm_X2_meets : Room := ({ frames := 3, cells := 0, slots := 0, locals := 108 } : Room)
theorem hd_X2_meets : yX2_meets.cls ≠ "java/lang/invoke/MethodHandle" ∧ yX2_meets.cls ≠ "java/lang/invoke/VarHandle" ∧ (parseMethodDescriptor yX2_meets.desc).map (fun d => d.parameters.length) = some 3 := ⟨by decide, by decide, by decide +kernel⟩
def f_X2_meets_b28 (l0 : Option Nat) (l1 : Int32) (l2 : Int32) (l3 : Int32) (s0 : Option Nat) (s1 : Int32) (M : jW) : Option (Int32 × jW) := pP M s0 1 31 (jI s1) fun M28 =>
  pI M28 l0 1 31 fun v32 =>
  if v32 ≤ 0 then (if l3 = (2 : Int32) then (pR M28 l0 1 29 fun v46 =>
  pAI M28 v46 0 (((16 : Int32) * l1) + l2) fun v55 =>
  some (v55, M28))
  else (pR M28 l0 1 28 fun v60 =>
  pAI M28 v60 0 ((((32 : Int32) * l1) + ((2 : Int32) * l2)) + l3) fun v73 =>
  some (v73, M28)))
  else (some ((0 : Int32), M28))
set_option maxHeartbeats 4000000 in
theorem w_X2_meets_b28 {x : jX} (C : jOk x cX2_meets RX2 rm_X2_meets (some .int)) (hxn : xn x = 4) {v0 : Int32} {M0 : jW} (hQ : jEnd x rm_X2_meets (some (jI v0)) M0) {l0 : Option Nat} {l1 : Int32} {l2 : Int32} {l3 : Int32} {s0 : Option Nat} {s1 : Int32} {M : jW} (hF : f_X2_meets_b28 l0 l1 l2 l3 s0 s1 M = some (v0, M0)) : jJ x 28 [(0, jR l0), (1, jI l1), (2, jI l2), (3, jI l3)] [jI s1, jR s0] M 0 0 := by
  unfold f_X2_meets_b28 at hF
  refine jj_pP (f := 31) C jcs_1 (Nat.le_of_ble_eq_true rfl) (jLk.of C q1264 rfl) (Or.inl rfl) dX2_meets_28 (jfit_i _) hF (fun M28 hF => ?_)
  refine jj_aload_n C 0 rfl dX2_meets_31 rfl ?_
  refine jj_pI (f := 31) C jcs_1 (Nat.le_of_ble_eq_true rfl) (jLk.of C q1264 rfl) dX2_meets_32 hF (fun v32 hF => ?_)
  refine jj_if_le (tgt := 40) C dX2_meets_35 (by decide) hF (fun hF => ?_) (fun hF => ?_)
  · refine jj_iload_n C 3 rfl dX2_meets_40 rfl ?_
    refine jj_iconst (v := 2) C dX2_meets_41 (by decide) ?_
    refine jj_icmp_ne (tgt := 59) C dX2_meets_42 (by decide) hF (fun hF => ?_) (fun hF => ?_)
    · refine jj_aload_n C 0 rfl dX2_meets_59 rfl ?_
      refine jj_pR (f := 28) C jcs_1 (Nat.le_of_ble_eq_true rfl) (jLk.of C q1261 rfl) dX2_meets_60 hF (fun v60 hF => ?_)
      refine jj_bipush (v := 32) C dX2_meets_63 (by decide) ?_
      refine jj_iload_n C 1 rfl dX2_meets_65 rfl ?_
      refine jj_imul C dX2_meets_66 ?_
      refine jj_iconst (v := 2) C dX2_meets_67 (by decide) ?_
      refine jj_iload_n C 2 rfl dX2_meets_68 rfl ?_
      refine jj_imul C dX2_meets_69 ?_
      refine jj_iadd C dX2_meets_70 ?_
      refine jj_iload_n C 3 rfl dX2_meets_71 rfl ?_
      refine jj_iadd C dX2_meets_72 ?_
      refine jj_iald C dX2_meets_73 hF (fun v73 hF => ?_)
      exact jj_iret C hQ dX2_meets_74 hF (Nat.zero_le _) (Nat.zero_le _)
    · refine jj_aload_n C 0 rfl dX2_meets_45 rfl ?_
      refine jj_pR (f := 29) C jcs_1 (Nat.le_of_ble_eq_true rfl) (jLk.of C q1262 rfl) dX2_meets_46 hF (fun v46 hF => ?_)
      refine jj_bipush (v := 16) C dX2_meets_49 (by decide) ?_
      refine jj_iload_n C 1 rfl dX2_meets_51 rfl ?_
      refine jj_imul C dX2_meets_52 ?_
      refine jj_iload_n C 2 rfl dX2_meets_53 rfl ?_
      refine jj_iadd C dX2_meets_54 ?_
      refine jj_iald C dX2_meets_55 hF (fun v55 hF => ?_)
      refine jj_goto (tgt := 74) C dX2_meets_56 (by decide) ?_
      exact jj_iret C hQ dX2_meets_74 hF (Nat.zero_le _) (Nat.zero_le _)
  · refine jj_iconst (v := 0) C dX2_meets_38 (by decide) ?_
    exact jj_iret C hQ dX2_meets_39 hF (Nat.zero_le _) (Nat.zero_le _)
def f_X2_meets (a0 : Option Nat) (a1 : Int32) (a2 : Int32) (a3 : Int32) (M : jW) : Option (Int32 × jW) := pO M a0 1 fun b4 _ => pB (f_X2_isMatch (some b4) a1 a2 M) fun r4 M4 =>
  if r4 = 0 then (f_X2_meets_b28 a0 a1 a2 a3 a0 (1 : Int32) M4)
  else (pB (f_X2_isIn a3 (0 : Int32) (2 : Int32) M4) fun r17 M17 =>
  if r17 = 0 then (f_X2_meets_b28 a0 a1 a2 a3 a0 (2 : Int32) M17)
  else (f_X2_meets_b28 a0 a1 a2 a3 a0 (0 : Int32) M17))
set_option maxHeartbeats 4000000 in
theorem m_X2_meets (l : Launch) (g : jG) {a0 : Option Nat} {a1 : Int32} {a2 : Int32} {a3 : Int32} {M M0 : jW} {v0 : Int32} (hF : f_X2_meets a0 a1 a2 a3 M = some (v0, M0)) : jMet l g yX2_meets cX2_meets 4 (some .int) rm_X2_meets [jR a0, jI a1, jI a2, jI a3] M (some (jI v0)) M0 := by
  refine jMet.of (L := [(0, jR a0), (1, jI a1), (2, jI a2), (3, jI a3)]) (by decide) rfl (Nat.le_of_ble_eq_true rfl) (fun x C hxn hg hl hQ hin => ?_)
  subst hg
  unfold f_X2_meets at hF
  refine jj_aload_n C 0 rfl dX2_meets_0 rfl ?_
  refine jj_aload_n C 0 rfl dX2_meets_1 rfl ?_
  refine jj_iload_n C 1 rfl dX2_meets_2 rfl ?_
  refine jj_iload_n C 2 rfl dX2_meets_3 rfl ?_
  obtain ⟨b4, fs4, he4, hb4, hF⟩ := pO_spec hF
  obtain ⟨r4, M4, hG, hF⟩ := pB_spec hF
  refine jj_callV (k' := 0) (n' := 0) C [jI a1, jI a2] [jR a0] [jI r4, jR a0] he4 (m_X2_isMatch _ _ hG) hb4 rfl q1487 q1489 qs39 q46 q1490 ⟨rfl, hd_X2_isMatch⟩ rfl (Nat.le_of_ble_eq_true rfl) ⟨Nat.le_of_ble_eq_true rfl, Nat.le_of_ble_eq_true rfl⟩ ⟨Nat.le_refl _, Nat.le_refl _, Nat.le_refl _, Nat.le_refl _⟩ dX2_meets_4 rfl ?_
  refine jj_if_ne (tgt := 14) C dX2_meets_7 (by decide) hF (fun hF => ?_) (fun hF => ?_)
  · refine jj_iload_n C 3 rfl dX2_meets_14 rfl ?_
    refine jj_iconst (v := 0) C dX2_meets_15 (by decide) ?_
    refine jj_iconst (v := 2) C dX2_meets_16 (by decide) ?_
    obtain ⟨r17, M17, hG, hF⟩ := pB_spec hF
    refine jj_callS (k' := 0) (n' := 0) C [jI a3, jI (0 : Int32), jI (2 : Int32)] [jR a0] [jI r17, jR a0] (m_X2_isIn _ _ hG) q1346 q1347 q46 q1348 hd_X2_isIn rfl (Nat.le_of_ble_eq_true rfl) ⟨Nat.le_of_ble_eq_true rfl, Nat.le_of_ble_eq_true rfl⟩ ⟨Nat.le_refl _, Nat.le_refl _, Nat.le_refl _, Nat.le_refl _⟩ dX2_meets_17 rfl ?_
    refine jj_if_ne (tgt := 27) C dX2_meets_20 (by decide) hF (fun hF => ?_) (fun hF => ?_)
    · refine jj_iconst (v := 0) C dX2_meets_27 (by decide) ?_
      refine jj_sub [0, 1, 2, 3] rfl ?_
      exact w_X2_meets_b28 C hxn hQ hF
    · refine jj_iconst (v := 2) C dX2_meets_23 (by decide) ?_
      refine jj_goto (tgt := 28) C dX2_meets_24 (by decide) ?_
      refine jj_sub [0, 1, 2, 3] rfl ?_
      exact w_X2_meets_b28 C hxn hQ hF
  · refine jj_iconst (v := 1) C dX2_meets_10 (by decide) ?_
    refine jj_goto (tgt := 28) C dX2_meets_11 (by decide) ?_
    refine jj_sub [0, 1, 2, 3] rfl ?_
    exact w_X2_meets_b28 C hxn hQ hF
