/-! Pool, Bout, Phrasehall (printed by gen) -/
set_option maxRecDepth 100000
/-! Phrasehall.registered(I)I -/
def rm_X1_registered : Room := ({ frames := 4, cells := 0, slots := 0, locals := 128 } : Room)
theorem hd_X1_registered : yX1_registered.cls ≠ "java/lang/invoke/MethodHandle" ∧ yX1_registered.cls ≠ "java/lang/invoke/VarHandle" ∧ (parseMethodDescriptor yX1_registered.desc).map (fun d => d.parameters.length) = some 1 := ⟨by decide, by decide, by decide +kernel⟩
def f_X1_registered_b157 (K4 : Option Nat → Int32 → Int32 → Int32 → jW → Option (Int32 × jW)) (l0 : Option Nat) (l1 : Int32) (l2 : Int32) (l3 : Int32) (M : jW) : Option (Int32 × jW) := K4 l0 l1 l2 (l3 + (1 : Int32)) M
set_option maxHeartbeats 4000000 in
theorem w_X1_registered_b157 {x : jX} (C : jOk x cX1_registered RX1 rm_X1_registered (some .int)) (hxn : xn x = 6) {v0 : Int32} {M0 : jW} (hQ : jEnd x rm_X1_registered (some (jI v0)) M0) {K4 : Option Nat → Int32 → Int32 → Int32 → jW → Option (Int32 × jW)} (hK4 : ∀ (l0 : Option Nat) (l1 : Int32) (l2 : Int32) (l3 : Int32) (M : jW), K4 l0 l1 l2 l3 M = some (v0, M0) → jJ x 4 [(0, jR l0), (1, jI l1), (2, jI l2), (3, jI l3)] [] M 0 0) {l0 : Option Nat} {l1 : Int32} {l2 : Int32} {l3 : Int32} {M : jW} (hF : f_X1_registered_b157 K4 l0 l1 l2 l3 M = some (v0, M0)) : jJ x 157 [(0, jR l0), (1, jI l1), (2, jI l2), (3, jI l3)] [] M 0 0 := by
  unfold f_X1_registered_b157 at hF
  refine jj_iinc (c := 1) (L' := [(3, jI (l3 + (1 : Int32))), (0, jR l0), (1, jI l1), (2, jI l2)]) C 3 rfl (by decide) rfl (by rw [hxn]; decide) dX1_registered_157 ?_
  refine jj_goto (tgt := 4) C dX1_registered_160 (by decide) ?_
  refine jj_sub [1, 2, 3, 0] rfl ?_
  exact hK4 _ _ _ _ _ hF
def f_X1_registered_b156 (K4 : Option Nat → Int32 → Int32 → Int32 → jW → Option (Int32 × jW)) (l0 : Option Nat) (l1 : Int32) (l3 : Int32) (s0 : Int32) (M : jW) : Option (Int32 × jW) := f_X1_registered_b157 K4 l0 l1 s0 l3 M
set_option maxHeartbeats 4000000 in
theorem w_X1_registered_b156 {x : jX} (C : jOk x cX1_registered RX1 rm_X1_registered (some .int)) (hxn : xn x = 6) {v0 : Int32} {M0 : jW} (hQ : jEnd x rm_X1_registered (some (jI v0)) M0) {K4 : Option Nat → Int32 → Int32 → Int32 → jW → Option (Int32 × jW)} (hK4 : ∀ (l0 : Option Nat) (l1 : Int32) (l2 : Int32) (l3 : Int32) (M : jW), K4 l0 l1 l2 l3 M = some (v0, M0) → jJ x 4 [(0, jR l0), (1, jI l1), (2, jI l2), (3, jI l3)] [] M 0 0) {l0 : Option Nat} {l1 : Int32} {l3 : Int32} {s0 : Int32} {M : jW} (hF : f_X1_registered_b156 K4 l0 l1 l3 s0 M = some (v0, M0)) : jJ x 156 [(0, jR l0), (1, jI l1), (3, jI l3)] [jI s0] M 0 0 := by
  unfold f_X1_registered_b156 at hF
  refine jj_istore_n (L' := [(2, jI s0), (0, jR l0), (1, jI l1), (3, jI l3)]) C rfl (by rw [hxn]; decide) dX1_registered_156 rfl ?_
  refine jj_sub [1, 2, 0, 3] rfl ?_
  exact w_X1_registered_b157 C hxn hQ hK4 hF
def f_X1_registered_b146 (K4 : Option Nat → Int32 → Int32 → Int32 → jW → Option (Int32 × jW)) (l0 : Option Nat) (l1 : Int32) (l2 : Int32) (l3 : Int32) (M : jW) : Option (Int32 × jW) := if l2 = (-1 : Int32) then (f_X1_registered_b156 K4 l0 l1 l3 l3 M)
  else (f_X1_registered_b156 K4 l0 l1 l3 l2 M)
set_option maxHeartbeats 4000000 in
theorem w_X1_registered_b146 {x : jX} (C : jOk x cX1_registered RX1 rm_X1_registered (some .int)) (hxn : xn x = 6) {v0 : Int32} {M0 : jW} (hQ : jEnd x rm_X1_registered (some (jI v0)) M0) {K4 : Option Nat → Int32 → Int32 → Int32 → jW → Option (Int32 × jW)} (hK4 : ∀ (l0 : Option Nat) (l1 : Int32) (l2 : Int32) (l3 : Int32) (M : jW), K4 l0 l1 l2 l3 M = some (v0, M0) → jJ x 4 [(0, jR l0), (1, jI l1), (2, jI l2), (3, jI l3)] [] M 0 0) {l0 : Option Nat} {l1 : Int32} {l2 : Int32} {l3 : Int32} {M : jW} (hF : f_X1_registered_b146 K4 l0 l1 l2 l3 M = some (v0, M0)) : jJ x 146 [(0, jR l0), (1, jI l1), (2, jI l2), (3, jI l3)] [] M 0 0 := by
  unfold f_X1_registered_b146 at hF
  refine jj_iload_n C 2 rfl dX1_registered_146 rfl ?_
  refine jj_iconst (v := -1) C dX1_registered_147 (by decide) ?_
  refine jj_icmp_ne (tgt := 155) C dX1_registered_148 (by decide) hF (fun hF => ?_) (fun hF => ?_)
  · refine jj_iload_n C 2 rfl dX1_registered_155 rfl ?_
    refine jj_sub [0, 1, 3] rfl ?_
    exact w_X1_registered_b156 C hxn hQ hK4 hF
  · refine jj_iload_n C 3 rfl dX1_registered_151 rfl ?_
    refine jj_goto (tgt := 156) C dX1_registered_152 (by decide) ?_
    refine jj_sub [0, 1, 3] rfl ?_
    exact w_X1_registered_b156 C hxn hQ hK4 hF
def f_X1_registered_b128 (K4 : Option Nat → Int32 → Int32 → Int32 → jW → Option (Int32 × jW)) (l0 : Option Nat) (l1 : Int32) (l2 : Int32) (l3 : Int32) (l4 : Option Nat) (s0 : Int32) (M : jW) : Option (Int32 × jW) := pO M l4 5 fun b132 _ => pB (f_X7_side (some b132)  M) fun r132 M132 =>
  if r132 = l1 then (if s0 = 0 then (some (l3, M132))
  else (f_X1_registered_b146 K4 l0 l1 l2 l3 M132))
  else (f_X1_registered_b146 K4 l0 l1 l2 l3 M132)
set_option maxHeartbeats 4000000 in
theorem w_X1_registered_b128 {x : jX} (C : jOk x cX1_registered RX1 rm_X1_registered (some .int)) (hxn : xn x = 6) {v0 : Int32} {M0 : jW} (hQ : jEnd x rm_X1_registered (some (jI v0)) M0) {K4 : Option Nat → Int32 → Int32 → Int32 → jW → Option (Int32 × jW)} (hK4 : ∀ (l0 : Option Nat) (l1 : Int32) (l2 : Int32) (l3 : Int32) (M : jW), K4 l0 l1 l2 l3 M = some (v0, M0) → jJ x 4 [(0, jR l0), (1, jI l1), (2, jI l2), (3, jI l3)] [] M 0 0) {l0 : Option Nat} {l1 : Int32} {l2 : Int32} {l3 : Int32} {l4 : Option Nat} {s0 : Int32} {M : jW} (hF : f_X1_registered_b128 K4 l0 l1 l2 l3 l4 s0 M = some (v0, M0)) : jJ x 128 [(0, jR l0), (1, jI l1), (2, jI l2), (3, jI l3), (4, jR l4)] [jI s0] M 0 0 := by
  unfold f_X1_registered_b128 at hF
  refine jj_istore (L' := [(5, jI s0), (0, jR l0), (1, jI l1), (2, jI l2), (3, jI l3), (4, jR l4)]) C rfl (by rw [hxn]; decide) dX1_registered_128 ?_
  refine jj_aload C 5 rfl dX1_registered_130 ?_
  obtain ⟨b132, fs132, he132, hb132, hF⟩ := pO_spec hF
  obtain ⟨r132, M132, hG, hF⟩ := pB_spec hF
  refine jj_callV (k' := 0) (n' := 0) C [] [] [jI r132] he132 (m_X7_side _ _ hG) hb132 rfl q651 q652 q653 q67 q654 ⟨rfl, hd_X7_side⟩ rfl (Nat.le_of_ble_eq_true rfl) ⟨Nat.le_of_ble_eq_true rfl, Nat.le_of_ble_eq_true rfl⟩ ⟨Nat.le_refl _, Nat.le_refl _, Nat.le_refl _, Nat.le_refl _⟩ dX1_registered_132 rfl ?_
  refine jj_iload_n C 2 rfl dX1_registered_135 rfl ?_
  refine jj_icmp_ne (tgt := 146) C dX1_registered_136 (by decide) hF (fun hF => ?_) (fun hF => ?_)
  · refine jj_sub [1, 2, 3, 4] rfl ?_
    exact w_X1_registered_b146 C hxn hQ hK4 hF
  · refine jj_iload C 0 rfl dX1_registered_139 ?_
    refine jj_if_ne (tgt := 146) C dX1_registered_141 (by decide) hF (fun hF => ?_) (fun hF => ?_)
    · refine jj_sub [1, 2, 3, 4] rfl ?_
      exact w_X1_registered_b146 C hxn hQ hK4 hF
    · refine jj_iload_n C 4 rfl dX1_registered_144 rfl ?_
      exact jj_iret C hQ dX1_registered_145 hF (Nat.zero_le _) (Nat.zero_le _)
def f_X1_registered_b127 (K4 : Option Nat → Int32 → Int32 → Int32 → jW → Option (Int32 × jW)) (l0 : Option Nat) (l1 : Int32) (l2 : Int32) (l3 : Int32) (l4 : Option Nat) (M : jW) : Option (Int32 × jW) := f_X1_registered_b128 K4 l0 l1 l2 l3 l4 (0 : Int32) M
set_option maxHeartbeats 4000000 in
theorem w_X1_registered_b127 {x : jX} (C : jOk x cX1_registered RX1 rm_X1_registered (some .int)) (hxn : xn x = 6) {v0 : Int32} {M0 : jW} (hQ : jEnd x rm_X1_registered (some (jI v0)) M0) {K4 : Option Nat → Int32 → Int32 → Int32 → jW → Option (Int32 × jW)} (hK4 : ∀ (l0 : Option Nat) (l1 : Int32) (l2 : Int32) (l3 : Int32) (M : jW), K4 l0 l1 l2 l3 M = some (v0, M0) → jJ x 4 [(0, jR l0), (1, jI l1), (2, jI l2), (3, jI l3)] [] M 0 0) {l0 : Option Nat} {l1 : Int32} {l2 : Int32} {l3 : Int32} {l4 : Option Nat} {M : jW} (hF : f_X1_registered_b127 K4 l0 l1 l2 l3 l4 M = some (v0, M0)) : jJ x 127 [(0, jR l0), (1, jI l1), (2, jI l2), (3, jI l3), (4, jR l4)] [] M 0 0 := by
  unfold f_X1_registered_b127 at hF
  refine jj_iconst (v := 0) C dX1_registered_127 (by decide) ?_
  refine jj_sub [0, 1, 2, 3, 4] rfl ?_
  exact w_X1_registered_b128 C hxn hQ hK4 hF
def f_X1_registered_b4 : Nat → Option Nat → Int32 → Int32 → Int32 → jW → Option (Int32 × jW)
  | 0, _, _, _, _, _ => none
  | q + 1, l0, l1, l2, l3, M => pR M l0 0 3 fun v6 =>
  pO M v6 9 fun b9 _ => pB (f_J2_size (some b9)  M) fun r9 M9 =>
  if r9 ≤ l3 then (some ((-1 : Int32), M9))
  else (pR M9 l0 0 4 fun v16 =>
  pZ v16 (some ((-1 : Int32), M9))
  (pR M9 l0 0 3 fun v23 =>
  pO M9 v23 9 fun b27 _ => pB (f_J2_get (some b27) l3 M9) fun r27 M27 =>
  pIO M27 r27 5 fun v34 =>
  if v34 = 0 then (f_X1_registered_b157 (f_X1_registered_b4 q) l0 l1 l2 l3 M27)
  else (pCC M27 r27 5 fun v42 =>
  pO M27 v42 5 fun b49 _ => pB (f_X7_span (some b49)  M27) fun r49 M49 =>
  pR M49 l0 0 4 fun v53 =>
  pR M49 v53 3 1 fun v56 =>
  pWF M49 v56 0 fun v59 =>
  if r49 < v59 then (f_X1_registered_b157 (f_X1_registered_b4 q) l0 l1 l2 l3 M49)
  else (pR M49 l0 0 4 fun v66 =>
  pR M49 v66 3 1 fun v69 =>
  pO M49 v42 5 fun b74 _ => pB (f_X7_target (some b74)  M49) fun r74 M74 =>
  pB (pWcounts M74 v69 r74) fun r77 M77 =>
  if r77 = 0 then (f_X1_registered_b157 (f_X1_registered_b4 q) l0 l1 l2 l3 M77)
  else (if l2 = (-1 : Int32) then (f_X1_registered_b127 (f_X1_registered_b4 q) l0 l1 l2 l3 v42 M77)
  else (pO M77 v42 5 fun b90 _ => pB (f_X7_time (some b90)  M77) fun r90 M90 =>
  pR M90 l0 0 3 fun v94 =>
  pO M90 v94 9 fun b98 _ => pB (f_J2_get (some b98) l2 M90) fun r98 M98 =>
  pCP M98 r98 fun v101 =>
  pB (pTime M98 v101) fun r104 M104 =>
  pR M104 l0 0 4 fun v111 =>
  pR M104 v111 3 1 fun v114 =>
  pWF M104 v114 1 fun v117 =>
  if (r90 - r104) ≤ v117 then (f_X1_registered_b127 (f_X1_registered_b4 q) l0 l1 l2 l3 v42 M104)
  else (f_X1_registered_b128 (f_X1_registered_b4 q) l0 l1 l2 l3 v42 (1 : Int32) M104)))))))
theorem f_X1_registered_b4_s (q : Nat) (l0 : Option Nat) (l1 : Int32) (l2 : Int32) (l3 : Int32) (M : jW) : f_X1_registered_b4 (q + 1) l0 l1 l2 l3 M = (pR M l0 0 3 fun v6 =>
  pO M v6 9 fun b9 _ => pB (f_J2_size (some b9)  M) fun r9 M9 =>
  if r9 ≤ l3 then (some ((-1 : Int32), M9))
  else (pR M9 l0 0 4 fun v16 =>
  pZ v16 (some ((-1 : Int32), M9))
  (pR M9 l0 0 3 fun v23 =>
  pO M9 v23 9 fun b27 _ => pB (f_J2_get (some b27) l3 M9) fun r27 M27 =>
  pIO M27 r27 5 fun v34 =>
  if v34 = 0 then (f_X1_registered_b157 (f_X1_registered_b4 q) l0 l1 l2 l3 M27)
  else (pCC M27 r27 5 fun v42 =>
  pO M27 v42 5 fun b49 _ => pB (f_X7_span (some b49)  M27) fun r49 M49 =>
  pR M49 l0 0 4 fun v53 =>
  pR M49 v53 3 1 fun v56 =>
  pWF M49 v56 0 fun v59 =>
  if r49 < v59 then (f_X1_registered_b157 (f_X1_registered_b4 q) l0 l1 l2 l3 M49)
  else (pR M49 l0 0 4 fun v66 =>
  pR M49 v66 3 1 fun v69 =>
  pO M49 v42 5 fun b74 _ => pB (f_X7_target (some b74)  M49) fun r74 M74 =>
  pB (pWcounts M74 v69 r74) fun r77 M77 =>
  if r77 = 0 then (f_X1_registered_b157 (f_X1_registered_b4 q) l0 l1 l2 l3 M77)
  else (if l2 = (-1 : Int32) then (f_X1_registered_b127 (f_X1_registered_b4 q) l0 l1 l2 l3 v42 M77)
  else (pO M77 v42 5 fun b90 _ => pB (f_X7_time (some b90)  M77) fun r90 M90 =>
  pR M90 l0 0 3 fun v94 =>
  pO M90 v94 9 fun b98 _ => pB (f_J2_get (some b98) l2 M90) fun r98 M98 =>
  pCP M98 r98 fun v101 =>
  pB (pTime M98 v101) fun r104 M104 =>
  pR M104 l0 0 4 fun v111 =>
  pR M104 v111 3 1 fun v114 =>
  pWF M104 v114 1 fun v117 =>
  if (r90 - r104) ≤ v117 then (f_X1_registered_b127 (f_X1_registered_b4 q) l0 l1 l2 l3 v42 M104)
  else (f_X1_registered_b128 (f_X1_registered_b4 q) l0 l1 l2 l3 v42 (1 : Int32) M104)))))))) := rfl
set_option maxHeartbeats 4000000 in
theorem w_X1_registered_b4 {x : jX} (C : jOk x cX1_registered RX1 rm_X1_registered (some .int)) (hxn : xn x = 6) {v0 : Int32} {M0 : jW} (hQ : jEnd x rm_X1_registered (some (jI v0)) M0) : ∀ (n4 : Nat) (l0 : Option Nat) (l1 : Int32) (l2 : Int32) (l3 : Int32) (M : jW), f_X1_registered_b4 n4 l0 l1 l2 l3 M = some (v0, M0) → jJ x 4 [(0, jR l0), (1, jI l1), (2, jI l2), (3, jI l3)] [] M 0 0 := by
  intro n4
  induction n4 with
  | zero =>
    intro l0 l1 l2 l3 M hF
    cases hF
  | succ n4 hK4 =>
    intro l0 l1 l2 l3 M hF
    rw [f_X1_registered_b4_s] at hF
    refine jj_iload_n C 3 rfl dX1_registered_4 rfl ?_
    refine jj_aload_n C 0 rfl dX1_registered_5 rfl ?_
    refine jj_pR (f := 3) C jcs_0 (Nat.le_of_ble_eq_true rfl) (jLk.of C q120 rfl) dX1_registered_6 hF (fun v6 hF => ?_)
    obtain ⟨b9, fs9, he9, hb9, hF⟩ := pO_spec hF
    obtain ⟨r9, M9, hG, hF⟩ := pB_spec hF
    refine jj_callV (k' := 0) (n' := 0) C [] [jI l3] [jI r9, jI l3] he9 (m_J2_size _ _ hG) hb9 rfl q147 q148 q149 q45 q150 ⟨rfl, hd_J2_size⟩ rfl (Nat.le_of_ble_eq_true rfl) ⟨Nat.le_of_ble_eq_true rfl, Nat.le_of_ble_eq_true rfl⟩ ⟨Nat.le_refl _, Nat.le_refl _, Nat.le_refl _, Nat.le_refl _⟩ dX1_registered_9 rfl ?_
    refine jj_icmp_ge (tgt := 163) C dX1_registered_12 (by decide) hF (fun hF => ?_) (fun hF => ?_)
    · refine jj_iconst (v := -1) C dX1_registered_163 (by decide) ?_
      exact jj_iret C hQ dX1_registered_164 hF (Nat.zero_le _) (Nat.zero_le _)
    · refine jj_aload_n C 0 rfl dX1_registered_15 rfl ?_
      refine jj_pR (f := 4) C jcs_0 (Nat.le_of_ble_eq_true rfl) (jLk.of C q122 rfl) dX1_registered_16 hF (fun v16 hF => ?_)
      refine jj_ifnull (tgt := 163) C dX1_registered_19 (by decide) hF (fun hF => ?_) (fun hF => ?_)
      · refine jj_iconst (v := -1) C dX1_registered_163 (by decide) ?_
        exact jj_iret C hQ dX1_registered_164 hF (Nat.zero_le _) (Nat.zero_le _)
      · refine jj_aload_n C 0 rfl dX1_registered_22 rfl ?_
        refine jj_pR (f := 3) C jcs_0 (Nat.le_of_ble_eq_true rfl) (jLk.of C q120 rfl) dX1_registered_23 hF (fun v23 hF => ?_)
        refine jj_iload_n C 3 rfl dX1_registered_26 rfl ?_
        obtain ⟨b27, fs27, he27, hb27, hF⟩ := pO_spec hF
        obtain ⟨r27, M27, hG, hF⟩ := pB_spec hF
        refine jj_callV (k' := 0) (n' := 0) C [jI l3] [] [jR r27] he27 (m_J2_get _ _ hG) hb27 rfl q178 q179 q180 q45 q181 ⟨rfl, hd_J2_get⟩ rfl (Nat.le_of_ble_eq_true rfl) ⟨Nat.le_of_ble_eq_true rfl, Nat.le_of_ble_eq_true rfl⟩ ⟨Nat.le_refl _, Nat.le_refl _, Nat.le_refl _, Nat.le_refl _⟩ dX1_registered_27 rfl ?_
        refine jj_astore (L' := [(5, jR r27), (0, jR l0), (1, jI l1), (2, jI l2), (3, jI l3)]) C rfl (by rw [hxn]; decide) dX1_registered_30 ?_
        refine jj_aload C 0 rfl dX1_registered_32 ?_
        refine jj_inst5 C q604 dX1_registered_34 hF (fun v34 hF => ?_)
        refine jj_if_eq (tgt := 157) C dX1_registered_37 (by decide) hF (fun hF => ?_) (fun hF => ?_)
        · refine jj_sub [1, 2, 3, 4] rfl ?_
          exact w_X1_registered_b157 C hxn hQ hK4 hF
        · refine jj_aload C 0 rfl dX1_registered_40 ?_
          refine jj_castC (ci := 5) C rfl q604 dX1_registered_42 hF (fun v42 hF => ?_)
          refine jj_astore (L' := [(4, jR v42), (5, jR r27), (0, jR l0), (1, jI l1), (2, jI l2), (3, jI l3)]) C rfl (by rw [hxn]; decide) dX1_registered_45 ?_
          refine jj_aload C 0 rfl dX1_registered_47 ?_
          obtain ⟨b49, fs49, he49, hb49, hF⟩ := pO_spec hF
          obtain ⟨r49, M49, hG, hF⟩ := pB_spec hF
          refine jj_callV (k' := 0) (n' := 0) C [] [] [jI r49] he49 (m_X7_span _ _ hG) hb49 rfl q634 q635 q636 q67 q637 ⟨rfl, hd_X7_span⟩ rfl (Nat.le_of_ble_eq_true rfl) ⟨Nat.le_of_ble_eq_true rfl, Nat.le_of_ble_eq_true rfl⟩ ⟨Nat.le_refl _, Nat.le_refl _, Nat.le_refl _, Nat.le_refl _⟩ dX1_registered_49 rfl ?_
          refine jj_aload_n C 2 rfl dX1_registered_52 rfl ?_
          refine jj_pR (f := 4) C jcs_0 (Nat.le_of_ble_eq_true rfl) (jLk.of C q122 rfl) dX1_registered_53 hF (fun v53 hF => ?_)
          refine jj_pR (f := 1) C jcs_3 (Nat.le_of_ble_eq_true rfl) (jLk.nest C q495 rfl) dX1_registered_56 hF (fun v56 hF => ?_)
          refine jj_pWFleast C q1571 dX1_registered_59 hF (fun v59 hF => ?_)
          refine jj_icmp_lt (tgt := 157) C dX1_registered_62 (by decide) hF (fun hF => ?_) (fun hF => ?_)
          · refine jj_sub [2, 3, 4, 5] rfl ?_
            exact w_X1_registered_b157 C hxn hQ hK4 hF
          · refine jj_aload_n C 2 rfl dX1_registered_65 rfl ?_
            refine jj_pR (f := 4) C jcs_0 (Nat.le_of_ble_eq_true rfl) (jLk.of C q122 rfl) dX1_registered_66 hF (fun v66 hF => ?_)
            refine jj_pR (f := 1) C jcs_3 (Nat.le_of_ble_eq_true rfl) (jLk.nest C q495 rfl) dX1_registered_69 hF (fun v69 hF => ?_)
            refine jj_aload C 0 rfl dX1_registered_72 ?_
            obtain ⟨b74, fs74, he74, hb74, hF⟩ := pO_spec hF
            obtain ⟨r74, M74, hG, hF⟩ := pB_spec hF
            refine jj_callV (k' := 0) (n' := 0) C [] [jR v69] [jI r74, jR v69] he74 (m_X7_target _ _ hG) hb74 rfl q638 q639 q640 q67 q641 ⟨rfl, hd_X7_target⟩ rfl (Nat.le_of_ble_eq_true rfl) ⟨Nat.le_of_ble_eq_true rfl, Nat.le_of_ble_eq_true rfl⟩ ⟨Nat.le_refl _, Nat.le_refl _, Nat.le_refl _, Nat.le_refl _⟩ dX1_registered_74 rfl ?_
            obtain ⟨r77, M77, hG, hF⟩ := pB_spec hF
            refine jj_wcounts (k' := 0) (n' := 0) C [] [jI r77] hG ⟨Nat.le_of_ble_eq_true rfl, Nat.le_of_ble_eq_true rfl⟩ ⟨Nat.le_refl _, Nat.le_refl _, Nat.le_refl _, Nat.le_refl _⟩ rfl (Nat.le_of_ble_eq_true rfl) dX1_registered_77 ?_
            refine jj_if_eq (tgt := 157) C dX1_registered_80 (by decide) hF (fun hF => ?_) (fun hF => ?_)
            · refine jj_sub [2, 3, 4, 5] rfl ?_
              exact w_X1_registered_b157 C hxn hQ hK4 hF
            · refine jj_iload_n C 4 rfl dX1_registered_83 rfl ?_
              refine jj_iconst (v := -1) C dX1_registered_84 (by decide) ?_
              refine jj_icmp_eq (tgt := 127) C dX1_registered_85 (by decide) hF (fun hF => ?_) (fun hF => ?_)
              · refine jj_sub [2, 3, 4, 5, 0] rfl ?_
                exact w_X1_registered_b127 C hxn hQ hK4 hF
              · refine jj_aload C 0 rfl dX1_registered_88 ?_
                obtain ⟨b90, fs90, he90, hb90, hF⟩ := pO_spec hF
                obtain ⟨r90, M90, hG, hF⟩ := pB_spec hF
                refine jj_callV (k' := 0) (n' := 0) C [] [] [jI r90] he90 (m_X7_time _ _ hG) hb90 rfl q650 q594 q1529 q67 q596 ⟨rfl, hd_X7_time⟩ rfl (Nat.le_of_ble_eq_true rfl) ⟨Nat.le_of_ble_eq_true rfl, Nat.le_of_ble_eq_true rfl⟩ ⟨Nat.le_refl _, Nat.le_refl _, Nat.le_refl _, Nat.le_refl _⟩ dX1_registered_90 rfl ?_
                refine jj_aload_n C 2 rfl dX1_registered_93 rfl ?_
                refine jj_pR (f := 3) C jcs_0 (Nat.le_of_ble_eq_true rfl) (jLk.of C q120 rfl) dX1_registered_94 hF (fun v94 hF => ?_)
                refine jj_iload_n C 4 rfl dX1_registered_97 rfl ?_
                obtain ⟨b98, fs98, he98, hb98, hF⟩ := pO_spec hF
                obtain ⟨r98, M98, hG, hF⟩ := pB_spec hF
                refine jj_callV (k' := 0) (n' := 0) C [jI l2] [jI r90] [jR r98, jI r90] he98 (m_J2_get _ _ hG) hb98 rfl q178 q179 q180 q45 q181 ⟨rfl, hd_J2_get⟩ rfl (Nat.le_of_ble_eq_true rfl) ⟨Nat.le_of_ble_eq_true rfl, Nat.le_of_ble_eq_true rfl⟩ ⟨Nat.le_refl _, Nat.le_refl _, Nat.le_refl _, Nat.le_refl _⟩ dX1_registered_98 rfl ?_
                refine jj_castP C q582 dX1_registered_101 hF (fun v101 hF => ?_)
                obtain ⟨r104, M104, hG, hF⟩ := pB_spec hF
                refine jj_time (k' := 0) (n' := 0) C [jI r90] [jI r104, jI r90] hG ⟨Nat.le_of_ble_eq_true rfl, Nat.le_of_ble_eq_true rfl⟩ ⟨Nat.le_refl _, Nat.le_refl _, Nat.le_refl _, Nat.le_refl _⟩ rfl (Nat.le_of_ble_eq_true rfl) dX1_registered_104 ?_
                refine jj_isub C dX1_registered_109 ?_
                refine jj_aload_n C 2 rfl dX1_registered_110 rfl ?_
                refine jj_pR (f := 4) C jcs_0 (Nat.le_of_ble_eq_true rfl) (jLk.of C q122 rfl) dX1_registered_111 hF (fun v111 hF => ?_)
                refine jj_pR (f := 1) C jcs_3 (Nat.le_of_ble_eq_true rfl) (jLk.nest C q495 rfl) dX1_registered_114 hF (fun v114 hF => ?_)
                refine jj_pWFlockout C q1572 dX1_registered_117 hF (fun v117 hF => ?_)
                refine jj_icmp_le (tgt := 127) C dX1_registered_120 (by decide) hF (fun hF => ?_) (fun hF => ?_)
                · refine jj_sub [2, 3, 4, 5, 0] rfl ?_
                  exact w_X1_registered_b127 C hxn hQ hK4 hF
                · refine jj_iconst (v := 1) C dX1_registered_123 (by decide) ?_
                  refine jj_goto (tgt := 128) C dX1_registered_124 (by decide) ?_
                  refine jj_sub [2, 3, 4, 5, 0] rfl ?_
                  exact w_X1_registered_b128 C hxn hQ hK4 hF
def f_X1_registered (a0 : Option Nat) (a1 : Int32) (M : jW) : Option (Int32 × jW) := f_X1_registered_b4 1000 a0 a1 (-1 : Int32) (0 : Int32) M
set_option maxHeartbeats 4000000 in
theorem m_X1_registered (l : Launch) (g : jG) {a0 : Option Nat} {a1 : Int32} {M M0 : jW} {v0 : Int32} (hF : f_X1_registered a0 a1 M = some (v0, M0)) : jMet l g yX1_registered cX1_registered 6 (some .int) rm_X1_registered [jR a0, jI a1] M (some (jI v0)) M0 := by
  refine jMet.of (L := [(0, jR a0), (1, jI a1)]) (by decide) rfl (Nat.le_of_ble_eq_true rfl) (fun x C hxn hg hl hQ hin => ?_)
  subst hg
  unfold f_X1_registered at hF
  refine jj_iconst (v := -1) C dX1_registered_0 (by decide) ?_
  refine jj_istore_n (L' := [(2, jI (-1 : Int32)), (0, jR a0), (1, jI a1)]) C rfl (by rw [hxn]; decide) dX1_registered_1 rfl ?_
  refine jj_iconst (v := 0) C dX1_registered_2 (by decide) ?_
  refine jj_istore_n (L' := [(3, jI (0 : Int32)), (2, jI (-1 : Int32)), (0, jR a0), (1, jI a1)]) C rfl (by rw [hxn]; decide) dX1_registered_3 rfl ?_
  refine jj_sub [2, 3, 1, 0] rfl ?_
  exact w_X1_registered_b4 C hxn hQ 1000 _ _ _ _ _ hF
/-! Phrasehall.lampOf(I)I -/
def rm_X1_lampOf : Room := ({ frames := 4, cells := 0, slots := 0, locals := 128 } : Room)
theorem hd_X1_lampOf : yX1_lampOf.cls ≠ "java/lang/invoke/MethodHandle" ∧ yX1_lampOf.cls ≠ "java/lang/invoke/VarHandle" ∧ (parseMethodDescriptor yX1_lampOf.desc).map (fun d => d.parameters.length) = some 1 := ⟨by decide, by decide, by decide +kernel⟩
def f_X1_lampOf (a0 : Option Nat) (a1 : Int32) (M : jW) : Option (Int32 × jW) := if a1 = (-1 : Int32) then (some ((-1 : Int32), M))
  else (pR M a0 0 3 fun v6 =>
  pO M v6 9 fun b10 _ => pB (f_J2_get (some b10) a1 M) fun r10 M10 =>
  pIO M10 r10 5 fun v15 =>
  if v15 = 0 then (some ((-1 : Int32), M10))
  else (pCC M10 r10 5 fun v22 =>
  pO M10 v22 5 fun b27 _ => pB (f_X7_target (some b27)  M10) fun r27 M27 =>
  some (r27, M27)))
set_option maxHeartbeats 4000000 in
theorem m_X1_lampOf (l : Launch) (g : jG) {a0 : Option Nat} {a1 : Int32} {M M0 : jW} {v0 : Int32} (hF : f_X1_lampOf a0 a1 M = some (v0, M0)) : jMet l g yX1_lampOf cX1_lampOf 4 (some .int) rm_X1_lampOf [jR a0, jI a1] M (some (jI v0)) M0 := by
  refine jMet.of (L := [(0, jR a0), (1, jI a1)]) (by decide) rfl (Nat.le_of_ble_eq_true rfl) (fun x C hxn hg hl hQ hin => ?_)
  subst hg
  unfold f_X1_lampOf at hF
  refine jj_iload_n C 1 rfl dX1_lampOf_0 rfl ?_
  refine jj_iconst (v := -1) C dX1_lampOf_1 (by decide) ?_
  refine jj_icmp_eq (tgt := 33) C dX1_lampOf_2 (by decide) hF (fun hF => ?_) (fun hF => ?_)
  · refine jj_iconst (v := -1) C dX1_lampOf_33 (by decide) ?_
    exact jj_iret C hQ dX1_lampOf_34 hF (Nat.zero_le _) (Nat.zero_le _)
  · refine jj_aload_n C 0 rfl dX1_lampOf_5 rfl ?_
    refine jj_pR (f := 3) C jcs_0 (Nat.le_of_ble_eq_true rfl) (jLk.of C q120 rfl) dX1_lampOf_6 hF (fun v6 hF => ?_)
    refine jj_iload_n C 1 rfl dX1_lampOf_9 rfl ?_
    obtain ⟨b10, fs10, he10, hb10, hF⟩ := pO_spec hF
    obtain ⟨r10, M10, hG, hF⟩ := pB_spec hF
    refine jj_callV (k' := 0) (n' := 0) C [jI a1] [] [jR r10] he10 (m_J2_get _ _ hG) hb10 rfl q178 q179 q180 q45 q181 ⟨rfl, hd_J2_get⟩ rfl (Nat.le_of_ble_eq_true rfl) ⟨Nat.le_of_ble_eq_true rfl, Nat.le_of_ble_eq_true rfl⟩ ⟨Nat.le_refl _, Nat.le_refl _, Nat.le_refl _, Nat.le_refl _⟩ dX1_lampOf_10 rfl ?_
    refine jj_astore_n (L' := [(3, jR r10), (0, jR a0), (1, jI a1)]) C rfl (by rw [hxn]; decide) dX1_lampOf_13 rfl ?_
    refine jj_aload_n C 0 rfl dX1_lampOf_14 rfl ?_
    refine jj_inst5 C q604 dX1_lampOf_15 hF (fun v15 hF => ?_)
    refine jj_if_eq (tgt := 33) C dX1_lampOf_18 (by decide) hF (fun hF => ?_) (fun hF => ?_)
    · refine jj_iconst (v := -1) C dX1_lampOf_33 (by decide) ?_
      exact jj_iret C hQ dX1_lampOf_34 hF (Nat.zero_le _) (Nat.zero_le _)
    · refine jj_aload_n C 0 rfl dX1_lampOf_21 rfl ?_
      refine jj_castC (ci := 5) C rfl q604 dX1_lampOf_22 hF (fun v22 hF => ?_)
      refine jj_astore_n (L' := [(2, jR v22), (3, jR r10), (0, jR a0), (1, jI a1)]) C rfl (by rw [hxn]; decide) dX1_lampOf_25 rfl ?_
      refine jj_aload_n C 0 rfl dX1_lampOf_26 rfl ?_
      obtain ⟨b27, fs27, he27, hb27, hF⟩ := pO_spec hF
      obtain ⟨r27, M27, hG, hF⟩ := pB_spec hF
      refine jj_callV (k' := 0) (n' := 0) C [] [] [jI r27] he27 (m_X7_target _ _ hG) hb27 rfl q638 q639 q640 q67 q641 ⟨rfl, hd_X7_target⟩ rfl (Nat.le_of_ble_eq_true rfl) ⟨Nat.le_of_ble_eq_true rfl, Nat.le_of_ble_eq_true rfl⟩ ⟨Nat.le_refl _, Nat.le_refl _, Nat.le_refl _, Nat.le_refl _⟩ dX1_lampOf_27 rfl ?_
      refine jj_goto (tgt := 34) C dX1_lampOf_30 (by decide) ?_
      exact jj_iret C hQ dX1_lampOf_34 hF (Nat.zero_le _) (Nat.zero_le _)
/-! Phrasehall.byRight(II)I -/
def rm_X1_byRight : Room := ({ frames := 5, cells := 1, slots := 5, locals := 159 } : Room)
theorem hd_X1_byRight : yX1_byRight.cls ≠ "java/lang/invoke/MethodHandle" ∧ yX1_byRight.cls ≠ "java/lang/invoke/VarHandle" ∧ (parseMethodDescriptor yX1_byRight.desc).map (fun d => d.parameters.length) = some 2 := ⟨by decide, by decide, by decide +kernel⟩
def f_X1_byRight_b128 (l0 : Option Nat) (l3 : Int32) (s0 : Option Nat) (s1 : Int32) (M : jW) : Option (Int32 × jW) := pP M s0 0 5 (jI s1) fun M128 =>
  pI M128 l0 0 5 fun v132 =>
  if v132 = (2 : Int32) then (some ((0 : Int32), M128))
  else (if l3 = 0 then (some ((1 : Int32), M128))
  else (some ((2 : Int32), M128)))
set_option maxHeartbeats 4000000 in
theorem w_X1_byRight_b128 {x : jX} (C : jOk x cX1_byRight RX1 rm_X1_byRight (some .int)) (hxn : xn x = 6) {v0 : Int32} {M0 : jW} (hQ : jEnd x rm_X1_byRight (some (jI v0)) M0) {l0 : Option Nat} {l3 : Int32} {s0 : Option Nat} {s1 : Int32} {M : jW} {k n : Nat} (hk : k ≤ 1 ∧ n ≤ 5) (hF : f_X1_byRight_b128 l0 l3 s0 s1 M = some (v0, M0)) : jJ x 128 [(0, jR l0), (3, jI l3)] [jI s1, jR s0] M k n := by
  unfold f_X1_byRight_b128 at hF
  refine jj_pP (f := 5) C jcs_0 (Nat.le_of_ble_eq_true rfl) (jLk.of C q123 rfl) (Or.inl rfl) dX1_byRight_128 (jfit_i _) hF (fun M128 hF => ?_)
  refine jj_aload_n C 0 rfl dX1_byRight_131 rfl ?_
  refine jj_pI (f := 5) C jcs_0 (Nat.le_of_ble_eq_true rfl) (jLk.of C q123 rfl) dX1_byRight_132 hF (fun v132 hF => ?_)
  refine jj_iconst (v := 2) C dX1_byRight_135 (by decide) ?_
  refine jj_icmp_ne (tgt := 143) C dX1_byRight_136 (by decide) hF (fun hF => ?_) (fun hF => ?_)
  · refine jj_iload_n C 1 rfl dX1_byRight_143 rfl ?_
    refine jj_if_ne (tgt := 151) C dX1_byRight_144 (by decide) hF (fun hF => ?_) (fun hF => ?_)
    · refine jj_iconst (v := 2) C dX1_byRight_151 (by decide) ?_
      exact jj_iret C hQ dX1_byRight_152 hF (by show k ≤ 1; omega) (by show n ≤ 5; omega)
    · refine jj_iconst (v := 1) C dX1_byRight_147 (by decide) ?_
      refine jj_goto (tgt := 152) C dX1_byRight_148 (by decide) ?_
      exact jj_iret C hQ dX1_byRight_152 hF (by show k ≤ 1; omega) (by show n ≤ 5; omega)
  · refine jj_iconst (v := 0) C dX1_byRight_139 (by decide) ?_
    refine jj_goto (tgt := 152) C dX1_byRight_140 (by decide) ?_
    exact jj_iret C hQ dX1_byRight_152 hF (by show k ≤ 1; omega) (by show n ≤ 5; omega)
def f_X1_byRight_b112 (l0 : Option Nat) (l3 : Int32) (l4 : Int32) (M : jW) : Option (Int32 × jW) := pO M l0 0 fun b116 _ => pB (f_X1_lampOf (some b116) l4 M) fun r116 M116 =>
  if r116 = 0 then (f_X1_byRight_b128 l0 l3 l0 (6 : Int32) M116)
  else (f_X1_byRight_b128 l0 l3 l0 (2 : Int32) M116)
set_option maxHeartbeats 4000000 in
theorem w_X1_byRight_b112 {x : jX} (C : jOk x cX1_byRight RX1 rm_X1_byRight (some .int)) (hxn : xn x = 6) {v0 : Int32} {M0 : jW} (hQ : jEnd x rm_X1_byRight (some (jI v0)) M0) {l0 : Option Nat} {l3 : Int32} {l4 : Int32} {M : jW} {k n : Nat} (hk : k ≤ 1 ∧ n ≤ 5) (hF : f_X1_byRight_b112 l0 l3 l4 M = some (v0, M0)) : jJ x 112 [(0, jR l0), (3, jI l3), (4, jI l4)] [] M k n := by
  unfold f_X1_byRight_b112 at hF
  refine jj_aload_n C 0 rfl dX1_byRight_112 rfl ?_
  refine jj_aload_n C 0 rfl dX1_byRight_113 rfl ?_
  refine jj_iload C 2 rfl dX1_byRight_114 ?_
  obtain ⟨b116, fs116, he116, hb116, hF⟩ := pO_spec hF
  obtain ⟨r116, M116, hG, hF⟩ := pB_spec hF
  refine jj_callV (k' := k) (n' := n) C [jI l4] [jR l0] [jI r116, jR l0] he116 (m_X1_lampOf _ _ hG) hb116 rfl q660 q662 qs11 q42 q663 ⟨rfl, hd_X1_lampOf⟩ rfl (Nat.le_of_ble_eq_true rfl) ⟨Nat.le_of_ble_eq_true rfl, Nat.le_of_ble_eq_true rfl⟩ ⟨by show k + 0 ≤ k; omega, by show n + 0 ≤ n; omega, by show k ≤ 1; omega, by show n ≤ 5; omega⟩ dX1_byRight_116 rfl ?_
  refine jj_if_ne (tgt := 127) C dX1_byRight_119 (by decide) hF (fun hF => ?_) (fun hF => ?_)
  · refine jj_iconst (v := 2) C dX1_byRight_127 (by decide) ?_
    refine jj_sub [0, 1] rfl ?_
    exact w_X1_byRight_b128 C hxn hQ (by omega) hF
  · refine jj_bipush (v := 6) C dX1_byRight_122 (by decide) ?_
    refine jj_goto (tgt := 128) C dX1_byRight_124 (by decide) ?_
    refine jj_sub [0, 1] rfl ?_
    exact w_X1_byRight_b128 C hxn hQ (by omega) hF
def f_X1_byRight_b45 (l0 : Option Nat) (l3 : Int32) (l4 : Int32) (s0 : Int32) (M : jW) : Option (Int32 × jW) := pO M l0 0 fun b50 _ => pB (f_X1_lampOf (some b50) s0 M) fun r50 M50 =>
  if r50 = 0 then (pR M50 l0 0 3 fun v57 =>
  pO M50 v57 9 fun b62 _ => pB (f_J2_get (some b62) l4 M50) fun r62 M62 =>
  pCP M62 r62 fun v65 =>
  pB (pTime M62 v65) fun r68 M68 =>
  pR M68 l0 0 3 fun v74 =>
  pO M68 v74 9 fun b79 _ => pB (f_J2_get (some b79) s0 M68) fun r79 M79 =>
  pCP M79 r79 fun v82 =>
  pB (pTime M79 v82) fun r85 M85 =>
  if (r68 - r85) < (150 : Int32) then (f_X1_byRight_b112 l0 l3 l4 M85)
  else (pP M85 l0 0 5 (jI (5 : Int32)) fun M99 =>
  if l3 = 0 then (some ((2 : Int32), M99))
  else (some ((1 : Int32), M99))))
  else (f_X1_byRight_b112 l0 l3 l4 M50)
set_option maxHeartbeats 4000000 in
theorem w_X1_byRight_b45 {x : jX} (C : jOk x cX1_byRight RX1 rm_X1_byRight (some .int)) (hxn : xn x = 6) {v0 : Int32} {M0 : jW} (hQ : jEnd x rm_X1_byRight (some (jI v0)) M0) {l0 : Option Nat} {l3 : Int32} {l4 : Int32} {s0 : Int32} {M : jW} {k n : Nat} (hk : k ≤ 1 ∧ n ≤ 5) (hF : f_X1_byRight_b45 l0 l3 l4 s0 M = some (v0, M0)) : jJ x 45 [(0, jR l0), (3, jI l3), (4, jI l4)] [jI s0] M k n := by
  unfold f_X1_byRight_b45 at hF
  refine jj_istore (L' := [(5, jI s0), (0, jR l0), (3, jI l3), (4, jI l4)]) C rfl (by rw [hxn]; decide) dX1_byRight_45 ?_
  refine jj_aload_n C 1 rfl dX1_byRight_47 rfl ?_
  refine jj_iload C 0 rfl dX1_byRight_48 ?_
  obtain ⟨b50, fs50, he50, hb50, hF⟩ := pO_spec hF
  obtain ⟨r50, M50, hG, hF⟩ := pB_spec hF
  refine jj_callV (k' := k) (n' := n) C [jI s0] [] [jI r50] he50 (m_X1_lampOf _ _ hG) hb50 rfl q660 q662 qs11 q42 q663 ⟨rfl, hd_X1_lampOf⟩ rfl (Nat.le_of_ble_eq_true rfl) ⟨Nat.le_of_ble_eq_true rfl, Nat.le_of_ble_eq_true rfl⟩ ⟨by show k + 0 ≤ k; omega, by show n + 0 ≤ n; omega, by show k ≤ 1; omega, by show n ≤ 5; omega⟩ dX1_byRight_50 rfl ?_
  refine jj_if_ne (tgt := 112) C dX1_byRight_53 (by decide) hF (fun hF => ?_) (fun hF => ?_)
  · refine jj_sub [1, 2, 3] rfl ?_
    exact w_X1_byRight_b112 C hxn hQ (by omega) hF
  · refine jj_aload_n C 1 rfl dX1_byRight_56 rfl ?_
    refine jj_pR (f := 3) C jcs_0 (Nat.le_of_ble_eq_true rfl) (jLk.of C q120 rfl) dX1_byRight_57 hF (fun v57 hF => ?_)
    refine jj_iload C 3 rfl dX1_byRight_60 ?_
    obtain ⟨b62, fs62, he62, hb62, hF⟩ := pO_spec hF
    obtain ⟨r62, M62, hG, hF⟩ := pB_spec hF
    refine jj_callV (k' := k) (n' := n) C [jI l4] [] [jR r62] he62 (m_J2_get _ _ hG) hb62 rfl q178 q179 q180 q45 q181 ⟨rfl, hd_J2_get⟩ rfl (Nat.le_of_ble_eq_true rfl) ⟨Nat.le_of_ble_eq_true rfl, Nat.le_of_ble_eq_true rfl⟩ ⟨by show k + 0 ≤ k; omega, by show n + 0 ≤ n; omega, by show k ≤ 1; omega, by show n ≤ 5; omega⟩ dX1_byRight_62 rfl ?_
    refine jj_castP C q582 dX1_byRight_65 hF (fun v65 hF => ?_)
    obtain ⟨r68, M68, hG, hF⟩ := pB_spec hF
    refine jj_time (k' := k) (n' := n) C [] [jI r68] hG ⟨Nat.le_of_ble_eq_true rfl, Nat.le_of_ble_eq_true rfl⟩ ⟨Nat.le_refl _, Nat.le_refl _, by show k ≤ 1; omega, by show n ≤ 5; omega⟩ rfl (Nat.le_of_ble_eq_true rfl) dX1_byRight_68 ?_
    refine jj_aload_n C 1 rfl dX1_byRight_73 rfl ?_
    refine jj_pR (f := 3) C jcs_0 (Nat.le_of_ble_eq_true rfl) (jLk.of C q120 rfl) dX1_byRight_74 hF (fun v74 hF => ?_)
    refine jj_iload C 0 rfl dX1_byRight_77 ?_
    obtain ⟨b79, fs79, he79, hb79, hF⟩ := pO_spec hF
    obtain ⟨r79, M79, hG, hF⟩ := pB_spec hF
    refine jj_callV (k' := k) (n' := n) C [jI s0] [jI r68] [jR r79, jI r68] he79 (m_J2_get _ _ hG) hb79 rfl q178 q179 q180 q45 q181 ⟨rfl, hd_J2_get⟩ rfl (Nat.le_of_ble_eq_true rfl) ⟨Nat.le_of_ble_eq_true rfl, Nat.le_of_ble_eq_true rfl⟩ ⟨by show k + 0 ≤ k; omega, by show n + 0 ≤ n; omega, by show k ≤ 1; omega, by show n ≤ 5; omega⟩ dX1_byRight_79 rfl ?_
    refine jj_castP C q582 dX1_byRight_82 hF (fun v82 hF => ?_)
    obtain ⟨r85, M85, hG, hF⟩ := pB_spec hF
    refine jj_time (k' := k) (n' := n) C [jI r68] [jI r85, jI r68] hG ⟨Nat.le_of_ble_eq_true rfl, Nat.le_of_ble_eq_true rfl⟩ ⟨Nat.le_refl _, Nat.le_refl _, by show k ≤ 1; omega, by show n ≤ 5; omega⟩ rfl (Nat.le_of_ble_eq_true rfl) dX1_byRight_85 ?_
    refine jj_isub C dX1_byRight_90 ?_
    refine jj_sipush (v := 150) C dX1_byRight_91 (by decide) ?_
    refine jj_icmp_lt (tgt := 112) C dX1_byRight_94 (by decide) hF (fun hF => ?_) (fun hF => ?_)
    · refine jj_sub [1, 2, 3] rfl ?_
      exact w_X1_byRight_b112 C hxn hQ (by omega) hF
    · refine jj_aload_n C 1 rfl dX1_byRight_97 rfl ?_
      refine jj_iconst (v := 5) C dX1_byRight_98 (by decide) ?_
      refine jj_pP (f := 5) C jcs_0 (Nat.le_of_ble_eq_true rfl) (jLk.of C q123 rfl) (Or.inl rfl) dX1_byRight_99 (jfit_i _) hF (fun M99 hF => ?_)
      refine jj_iload_n C 2 rfl dX1_byRight_102 rfl ?_
      refine jj_if_ne (tgt := 110) C dX1_byRight_103 (by decide) hF (fun hF => ?_) (fun hF => ?_)
      · refine jj_iconst (v := 1) C dX1_byRight_110 (by decide) ?_
        exact jj_iret C hQ dX1_byRight_111 hF (by show k ≤ 1; omega) (by show n ≤ 5; omega)
      · refine jj_iconst (v := 2) C dX1_byRight_106 (by decide) ?_
        refine jj_goto (tgt := 111) C dX1_byRight_107 (by decide) ?_
        exact jj_iret C hQ dX1_byRight_111 hF (by show k ≤ 1; omega) (by show n ≤ 5; omega)
def f_X1_byRight_b34 (l0 : Option Nat) (l1 : Int32) (l2 : Int32) (l3 : Int32) (s0 : Int32) (M : jW) : Option (Int32 × jW) := if l3 = 0 then (f_X1_byRight_b45 l0 l3 s0 l2 M)
  else (f_X1_byRight_b45 l0 l3 s0 l1 M)
set_option maxHeartbeats 4000000 in
theorem w_X1_byRight_b34 {x : jX} (C : jOk x cX1_byRight RX1 rm_X1_byRight (some .int)) (hxn : xn x = 6) {v0 : Int32} {M0 : jW} (hQ : jEnd x rm_X1_byRight (some (jI v0)) M0) {l0 : Option Nat} {l1 : Int32} {l2 : Int32} {l3 : Int32} {s0 : Int32} {M : jW} {k n : Nat} (hk : k ≤ 1 ∧ n ≤ 5) (hF : f_X1_byRight_b34 l0 l1 l2 l3 s0 M = some (v0, M0)) : jJ x 34 [(0, jR l0), (1, jI l1), (2, jI l2), (3, jI l3)] [jI s0] M k n := by
  unfold f_X1_byRight_b34 at hF
  refine jj_istore (L' := [(4, jI s0), (0, jR l0), (1, jI l1), (2, jI l2), (3, jI l3)]) C rfl (by rw [hxn]; decide) dX1_byRight_34 ?_
  refine jj_iload_n C 4 rfl dX1_byRight_36 rfl ?_
  refine jj_if_ne (tgt := 44) C dX1_byRight_37 (by decide) hF (fun hF => ?_) (fun hF => ?_)
  · refine jj_iload_n C 2 rfl dX1_byRight_44 rfl ?_
    refine jj_sub [1, 4, 0] rfl ?_
    exact w_X1_byRight_b45 C hxn hQ (by omega) hF
  · refine jj_iload_n C 3 rfl dX1_byRight_40 rfl ?_
    refine jj_goto (tgt := 45) C dX1_byRight_41 (by decide) ?_
    refine jj_sub [1, 4, 0] rfl ?_
    exact w_X1_byRight_b45 C hxn hQ (by omega) hF
def f_X1_byRight (a0 : Option Nat) (a1 : Int32) (a2 : Int32) (M : jW) : Option (Int32 × jW) := pO M a0 0 fun b6 _ => pB (f_X1_wayUpTo (some b6) (if a1 < a2 then a2 else a1) M) fun r6 M6 =>
  pI M6 r6 6 0 fun v9 =>
  if v9 = (-1 : Int32) then (pP M6 a0 0 5 (jI (4 : Int32)) fun M20 =>
  some ((0 : Int32), M20))
  else (if v9 = 0 then (f_X1_byRight_b34 a0 a1 a2 v9 a1 M6)
  else (f_X1_byRight_b34 a0 a1 a2 v9 a2 M6))
set_option maxHeartbeats 4000000 in
theorem m_X1_byRight (l : Launch) (g : jG) {a0 : Option Nat} {a1 : Int32} {a2 : Int32} {M M0 : jW} {v0 : Int32} (hF : f_X1_byRight a0 a1 a2 M = some (v0, M0)) : jMet l g yX1_byRight cX1_byRight 6 (some .int) rm_X1_byRight [jR a0, jI a1, jI a2] M (some (jI v0)) M0 := by
  refine jMet.of (L := [(0, jR a0), (1, jI a1), (2, jI a2)]) (by decide) rfl (Nat.le_of_ble_eq_true rfl) (fun x C hxn hg hl hQ hin => ?_)
  subst hg
  unfold f_X1_byRight at hF
  refine jj_aload_n C 0 rfl dX1_byRight_0 rfl ?_
  refine jj_iload_n C 1 rfl dX1_byRight_1 rfl ?_
  refine jj_iload_n C 2 rfl dX1_byRight_2 rfl ?_
  refine jj_max C q659 (by show 0 ≤ 1; omega) (by show 0 ≤ 5; omega) ⟨Nat.le_of_ble_eq_true rfl, Nat.le_of_ble_eq_true rfl⟩ dX1_byRight_3 ?_
  obtain ⟨b6, fs6, he6, hb6, hF⟩ := pO_spec hF
  obtain ⟨r6, M6, hG, hF⟩ := pB_spec hF
  refine jj_callV (k' := 0 + 1) (n' := 0 + 5) C [jI (if a1 < a2 then a2 else a1)] [] [jR r6] he6 (m_X1_wayUpTo _ _ hG) hb6 rfl q151 q153 qs0 q42 q154 ⟨rfl, hd_X1_wayUpTo⟩ rfl (Nat.le_of_ble_eq_true rfl) ⟨Nat.le_of_ble_eq_true rfl, Nat.le_of_ble_eq_true rfl⟩ ⟨by show 0 + 1 ≤ 0 + 1; omega, by show 0 + 5 ≤ 0 + 5; omega, by show 0 + 1 ≤ 1; omega, by show 0 + 5 ≤ 5; omega⟩ dX1_byRight_6 rfl ?_
  refine jj_pI (f := 0) C jcs_6 (Nat.le_of_ble_eq_true rfl) (jLk.nest C q162 rfl) dX1_byRight_9 hF (fun v9 hF => ?_)
  refine jj_istore_n (L' := [(3, jI v9), (0, jR a0), (1, jI a1), (2, jI a2)]) C rfl (by rw [hxn]; decide) dX1_byRight_12 rfl ?_
  refine jj_iload_n C 0 rfl dX1_byRight_13 rfl ?_
  refine jj_iconst (v := -1) C dX1_byRight_14 (by decide) ?_
  refine jj_icmp_ne (tgt := 25) C dX1_byRight_15 (by decide) hF (fun hF => ?_) (fun hF => ?_)
  · refine jj_iload_n C 0 rfl dX1_byRight_25 rfl ?_
    refine jj_if_ne (tgt := 33) C dX1_byRight_26 (by decide) hF (fun hF => ?_) (fun hF => ?_)
    · refine jj_iload_n C 3 rfl dX1_byRight_33 rfl ?_
      refine jj_sub [1, 2, 3, 0] rfl ?_
      exact w_X1_byRight_b34 C hxn hQ (by omega) hF
    · refine jj_iload_n C 2 rfl dX1_byRight_29 rfl ?_
      refine jj_goto (tgt := 34) C dX1_byRight_30 (by decide) ?_
      refine jj_sub [1, 2, 3, 0] rfl ?_
      exact w_X1_byRight_b34 C hxn hQ (by omega) hF
  · refine jj_aload_n C 1 rfl dX1_byRight_18 rfl ?_
    refine jj_iconst (v := 4) C dX1_byRight_19 (by decide) ?_
    refine jj_pP (f := 5) C jcs_0 (Nat.le_of_ble_eq_true rfl) (jLk.of C q123 rfl) (Or.inl rfl) dX1_byRight_20 (jfit_i _) hF (fun M20 hF => ?_)
    refine jj_iconst (v := 0) C dX1_byRight_23 (by decide) ?_
    exact jj_iret C hQ dX1_byRight_24 hF (by show 0 + 1 ≤ 1; omega) (by show 0 + 5 ≤ 5; omega)
/-! Phrasehall.given(II)I -/
def rm_X1_given : Room := ({ frames := 6, cells := 1, slots := 5, locals := 184 } : Room)
theorem hd_X1_given : yX1_given.cls ≠ "java/lang/invoke/MethodHandle" ∧ yX1_given.cls ≠ "java/lang/invoke/VarHandle" ∧ (parseMethodDescriptor yX1_given.desc).map (fun d => d.parameters.length) = some 2 := ⟨by decide, by decide, by decide +kernel⟩
def f_X1_given_b45 (l0 : Option Nat) (l1 : Int32) (s0 : Option Nat) (s1 : Int32) (M : jW) : Option (Int32 × jW) := pP M s0 0 5 (jI s1) fun M45 =>
  pI M45 l0 0 5 fun v49 =>
  if v49 = (2 : Int32) then (some ((0 : Int32), M45))
  else (if l1 = (-1 : Int32) then (some ((2 : Int32), M45))
  else (some ((1 : Int32), M45)))
set_option maxHeartbeats 4000000 in
theorem w_X1_given_b45 {x : jX} (C : jOk x cX1_given RX1 rm_X1_given (some .int)) (hxn : xn x = 3) {v0 : Int32} {M0 : jW} (hQ : jEnd x rm_X1_given (some (jI v0)) M0) {l0 : Option Nat} {l1 : Int32} {s0 : Option Nat} {s1 : Int32} {M : jW} {k n : Nat} (hk : k ≤ 1 ∧ n ≤ 5) (hF : f_X1_given_b45 l0 l1 s0 s1 M = some (v0, M0)) : jJ x 45 [(0, jR l0), (1, jI l1)] [jI s1, jR s0] M k n := by
  unfold f_X1_given_b45 at hF
  refine jj_pP (f := 5) C jcs_0 (Nat.le_of_ble_eq_true rfl) (jLk.of C q123 rfl) (Or.inl rfl) dX1_given_45 (jfit_i _) hF (fun M45 hF => ?_)
  refine jj_aload_n C 0 rfl dX1_given_48 rfl ?_
  refine jj_pI (f := 5) C jcs_0 (Nat.le_of_ble_eq_true rfl) (jLk.of C q123 rfl) dX1_given_49 hF (fun v49 hF => ?_)
  refine jj_iconst (v := 2) C dX1_given_52 (by decide) ?_
  refine jj_icmp_ne (tgt := 60) C dX1_given_53 (by decide) hF (fun hF => ?_) (fun hF => ?_)
  · refine jj_iload_n C 1 rfl dX1_given_60 rfl ?_
    refine jj_iconst (v := -1) C dX1_given_61 (by decide) ?_
    refine jj_icmp_eq (tgt := 69) C dX1_given_62 (by decide) hF (fun hF => ?_) (fun hF => ?_)
    · refine jj_iconst (v := 2) C dX1_given_69 (by decide) ?_
      exact jj_iret C hQ dX1_given_70 hF (by show k ≤ 1; omega) (by show n ≤ 5; omega)
    · refine jj_iconst (v := 1) C dX1_given_65 (by decide) ?_
      refine jj_goto (tgt := 70) C dX1_given_66 (by decide) ?_
      exact jj_iret C hQ dX1_given_70 hF (by show k ≤ 1; omega) (by show n ≤ 5; omega)
  · refine jj_iconst (v := 0) C dX1_given_56 (by decide) ?_
    refine jj_goto (tgt := 70) C dX1_given_57 (by decide) ?_
    exact jj_iret C hQ dX1_given_70 hF (by show k ≤ 1; omega) (by show n ≤ 5; omega)
def f_X1_given_b27 (l0 : Option Nat) (l1 : Int32) (l2 : Int32) (M : jW) : Option (Int32 × jW) := pO M l0 0 fun b34 _ => pB (f_X1_lampOf (some b34) (if l1 < l2 then l2 else l1) M) fun r34 M34 =>
  if r34 = 0 then (f_X1_given_b45 l0 l1 l0 (1 : Int32) M34)
  else (f_X1_given_b45 l0 l1 l0 (2 : Int32) M34)
set_option maxHeartbeats 4000000 in
theorem w_X1_given_b27 {x : jX} (C : jOk x cX1_given RX1 rm_X1_given (some .int)) (hxn : xn x = 3) {v0 : Int32} {M0 : jW} (hQ : jEnd x rm_X1_given (some (jI v0)) M0) {l0 : Option Nat} {l1 : Int32} {l2 : Int32} {M : jW} {k n : Nat} (hk : k ≤ 1 ∧ n ≤ 5) (hF : f_X1_given_b27 l0 l1 l2 M = some (v0, M0)) : jJ x 27 [(0, jR l0), (1, jI l1), (2, jI l2)] [] M k n := by
  unfold f_X1_given_b27 at hF
  refine jj_aload_n C 0 rfl dX1_given_27 rfl ?_
  refine jj_aload_n C 0 rfl dX1_given_28 rfl ?_
  refine jj_iload_n C 1 rfl dX1_given_29 rfl ?_
  refine jj_iload_n C 2 rfl dX1_given_30 rfl ?_
  refine jj_max C q659 (by show k ≤ 1; omega) (by show n ≤ 5; omega) ⟨Nat.le_of_ble_eq_true rfl, Nat.le_of_ble_eq_true rfl⟩ dX1_given_31 ?_
  obtain ⟨b34, fs34, he34, hb34, hF⟩ := pO_spec hF
  obtain ⟨r34, M34, hG, hF⟩ := pB_spec hF
  refine jj_callV (k' := k) (n' := n) C [jI (if l1 < l2 then l2 else l1)] [jR l0] [jI r34, jR l0] he34 (m_X1_lampOf _ _ hG) hb34 rfl q660 q662 qs11 q42 q663 ⟨rfl, hd_X1_lampOf⟩ rfl (Nat.le_of_ble_eq_true rfl) ⟨Nat.le_of_ble_eq_true rfl, Nat.le_of_ble_eq_true rfl⟩ ⟨by show k + 0 ≤ k; omega, by show n + 0 ≤ n; omega, by show k ≤ 1; omega, by show n ≤ 5; omega⟩ dX1_given_34 rfl ?_
  refine jj_if_ne (tgt := 44) C dX1_given_37 (by decide) hF (fun hF => ?_) (fun hF => ?_)
  · refine jj_iconst (v := 2) C dX1_given_44 (by decide) ?_
    refine jj_sub [0, 1] rfl ?_
    exact w_X1_given_b45 C hxn hQ (by omega) hF
  · refine jj_iconst (v := 1) C dX1_given_40 (by decide) ?_
    refine jj_goto (tgt := 45) C dX1_given_41 (by decide) ?_
    refine jj_sub [0, 1] rfl ?_
    exact w_X1_given_b45 C hxn hQ (by omega) hF
def f_X1_given_b17 (l0 : Option Nat) (l1 : Int32) (l2 : Int32) (M : jW) : Option (Int32 × jW) := if l1 = (-1 : Int32) then (f_X1_given_b27 l0 l1 l2 M)
  else (if l2 = (-1 : Int32) then (f_X1_given_b27 l0 l1 l2 M)
  else (pR M l0 0 4 fun v72 =>
  pR M v72 3 1 fun v75 =>
  if v75 = (some (M.2.2 1)) then (pP M l0 0 5 (jI (3 : Int32)) fun M86 =>
  pR M86 l0 0 4 fun v90 =>
  pR M86 v90 3 4 fun v93 =>
  pAI M86 v93 0 (0 : Int32) fun v97 =>
  pR M86 l0 0 4 fun v101 =>
  pI M86 v101 3 2 fun v104 =>
  if (v97 + (1 : Int32)) < v104 then (some ((3 : Int32), M86))
  else (pR M86 l0 0 4 fun v111 =>
  pR M86 v111 3 4 fun v114 =>
  pAI M86 v114 0 (1 : Int32) fun v118 =>
  pR M86 l0 0 4 fun v122 =>
  pI M86 v122 3 2 fun v125 =>
  if (v118 + (1 : Int32)) < v125 then (some ((3 : Int32), M86))
  else (some ((0 : Int32), M86))))
  else (pO M l0 0 fun b140 _ => pB (f_X1_byRight (some b140) l1 l2 M) fun r140 M140 =>
  some (r140, M140))))
set_option maxHeartbeats 4000000 in
theorem w_X1_given_b17 {x : jX} (C : jOk x cX1_given RX1 rm_X1_given (some .int)) (hxn : xn x = 3) {v0 : Int32} {M0 : jW} (hQ : jEnd x rm_X1_given (some (jI v0)) M0) {l0 : Option Nat} {l1 : Int32} {l2 : Int32} {M : jW} {k n : Nat} (hk : k + 1 ≤ 1 ∧ n + 5 ≤ 5) (hF : f_X1_given_b17 l0 l1 l2 M = some (v0, M0)) : jJ x 17 [(0, jR l0), (1, jI l1), (2, jI l2)] [] M k n := by
  unfold f_X1_given_b17 at hF
  refine jj_iload_n C 1 rfl dX1_given_17 rfl ?_
  refine jj_iconst (v := -1) C dX1_given_18 (by decide) ?_
  refine jj_icmp_eq (tgt := 27) C dX1_given_19 (by decide) hF (fun hF => ?_) (fun hF => ?_)
  · refine jj_sub [0, 1, 2] rfl ?_
    exact w_X1_given_b27 C hxn hQ (by omega) hF
  · refine jj_iload_n C 2 rfl dX1_given_22 rfl ?_
    refine jj_iconst (v := -1) C dX1_given_23 (by decide) ?_
    refine jj_icmp_ne (tgt := 71) C dX1_given_24 (by decide) hF (fun hF => ?_) (fun hF => ?_)
    · refine jj_aload_n C 0 rfl dX1_given_71 rfl ?_
      refine jj_pR (f := 4) C jcs_0 (Nat.le_of_ble_eq_true rfl) (jLk.of C q122 rfl) dX1_given_72 hF (fun v72 hF => ?_)
      refine jj_pR (f := 1) C jcs_3 (Nat.le_of_ble_eq_true rfl) (jLk.nest C q495 rfl) dX1_given_75 hF (fun v75 hF => ?_)
      refine jj_gets1 C q664 dX1_given_78 ?_
      refine jj_acmp_ne (tgt := 137) C dX1_given_81 (by decide) hF (fun hF => ?_) (fun hF => ?_)
      · refine jj_aload_n C 0 rfl dX1_given_137 rfl ?_
        refine jj_iload_n C 1 rfl dX1_given_138 rfl ?_
        refine jj_iload_n C 2 rfl dX1_given_139 rfl ?_
        obtain ⟨b140, fs140, he140, hb140, hF⟩ := pO_spec hF
        obtain ⟨r140, M140, hG, hF⟩ := pB_spec hF
        refine jj_callV (k' := k + 1) (n' := n + 5) C [jI l1, jI l2] [] [jI r140] he140 (m_X1_byRight _ _ hG) hb140 rfl q665 q667 qs12 q42 q668 ⟨rfl, hd_X1_byRight⟩ rfl (Nat.le_of_ble_eq_true rfl) ⟨Nat.le_of_ble_eq_true rfl, Nat.le_of_ble_eq_true rfl⟩ ⟨by show k + 1 ≤ k + 1; omega, by show n + 5 ≤ n + 5; omega, by show k + 1 ≤ 1; omega, by show n + 5 ≤ 5; omega⟩ dX1_given_140 rfl ?_
        exact jj_iret C hQ dX1_given_143 hF (by show k + 1 ≤ 1; omega) (by show n + 5 ≤ 5; omega)
      · refine jj_aload_n C 0 rfl dX1_given_84 rfl ?_
        refine jj_iconst (v := 3) C dX1_given_85 (by decide) ?_
        refine jj_pP (f := 5) C jcs_0 (Nat.le_of_ble_eq_true rfl) (jLk.of C q123 rfl) (Or.inl rfl) dX1_given_86 (jfit_i _) hF (fun M86 hF => ?_)
        refine jj_aload_n C 0 rfl dX1_given_89 rfl ?_
        refine jj_pR (f := 4) C jcs_0 (Nat.le_of_ble_eq_true rfl) (jLk.of C q122 rfl) dX1_given_90 hF (fun v90 hF => ?_)
        refine jj_pR (f := 4) C jcs_3 (Nat.le_of_ble_eq_true rfl) (jLk.nest C q502 rfl) dX1_given_93 hF (fun v93 hF => ?_)
        refine jj_iconst (v := 0) C dX1_given_96 (by decide) ?_
        refine jj_iald C dX1_given_97 hF (fun v97 hF => ?_)
        refine jj_iconst (v := 1) C dX1_given_98 (by decide) ?_
        refine jj_iadd C dX1_given_99 ?_
        refine jj_aload_n C 0 rfl dX1_given_100 rfl ?_
        refine jj_pR (f := 4) C jcs_0 (Nat.le_of_ble_eq_true rfl) (jLk.of C q122 rfl) dX1_given_101 hF (fun v101 hF => ?_)
        refine jj_pI (f := 2) C jcs_3 (Nat.le_of_ble_eq_true rfl) (jLk.nest C q497 rfl) dX1_given_104 hF (fun v104 hF => ?_)
        refine jj_icmp_lt (tgt := 135) C dX1_given_107 (by decide) hF (fun hF => ?_) (fun hF => ?_)
        · refine jj_iconst (v := 3) C dX1_given_135 (by decide) ?_
          exact jj_iret C hQ dX1_given_136 hF (by show k ≤ 1; omega) (by show n ≤ 5; omega)
        · refine jj_aload_n C 0 rfl dX1_given_110 rfl ?_
          refine jj_pR (f := 4) C jcs_0 (Nat.le_of_ble_eq_true rfl) (jLk.of C q122 rfl) dX1_given_111 hF (fun v111 hF => ?_)
          refine jj_pR (f := 4) C jcs_3 (Nat.le_of_ble_eq_true rfl) (jLk.nest C q502 rfl) dX1_given_114 hF (fun v114 hF => ?_)
          refine jj_iconst (v := 1) C dX1_given_117 (by decide) ?_
          refine jj_iald C dX1_given_118 hF (fun v118 hF => ?_)
          refine jj_iconst (v := 1) C dX1_given_119 (by decide) ?_
          refine jj_iadd C dX1_given_120 ?_
          refine jj_aload_n C 0 rfl dX1_given_121 rfl ?_
          refine jj_pR (f := 4) C jcs_0 (Nat.le_of_ble_eq_true rfl) (jLk.of C q122 rfl) dX1_given_122 hF (fun v122 hF => ?_)
          refine jj_pI (f := 2) C jcs_3 (Nat.le_of_ble_eq_true rfl) (jLk.nest C q497 rfl) dX1_given_125 hF (fun v125 hF => ?_)
          refine jj_icmp_lt (tgt := 135) C dX1_given_128 (by decide) hF (fun hF => ?_) (fun hF => ?_)
          · refine jj_iconst (v := 3) C dX1_given_135 (by decide) ?_
            exact jj_iret C hQ dX1_given_136 hF (by show k ≤ 1; omega) (by show n ≤ 5; omega)
          · refine jj_iconst (v := 0) C dX1_given_131 (by decide) ?_
            refine jj_goto (tgt := 136) C dX1_given_132 (by decide) ?_
            exact jj_iret C hQ dX1_given_136 hF (by show k ≤ 1; omega) (by show n ≤ 5; omega)
    · refine jj_sub [0, 1, 2] rfl ?_
      exact w_X1_given_b27 C hxn hQ (by omega) hF
def f_X1_given (a0 : Option Nat) (a1 : Int32) (a2 : Int32) (M : jW) : Option (Int32 × jW) := if a1 = (-1 : Int32) then (if a2 = (-1 : Int32) then (pP M a0 0 5 (jI (0 : Int32)) fun M12 =>
  some ((0 : Int32), M12))
  else (f_X1_given_b17 a0 a1 a2 M))
  else (f_X1_given_b17 a0 a1 a2 M)
set_option maxHeartbeats 4000000 in
theorem m_X1_given (l : Launch) (g : jG) {a0 : Option Nat} {a1 : Int32} {a2 : Int32} {M M0 : jW} {v0 : Int32} (hF : f_X1_given a0 a1 a2 M = some (v0, M0)) : jMet l g yX1_given cX1_given 3 (some .int) rm_X1_given [jR a0, jI a1, jI a2] M (some (jI v0)) M0 := by
  refine jMet.of (L := [(0, jR a0), (1, jI a1), (2, jI a2)]) (by decide) rfl (Nat.le_of_ble_eq_true rfl) (fun x C hxn hg hl hQ hin => ?_)
  subst hg
  unfold f_X1_given at hF
  refine jj_iload_n C 1 rfl dX1_given_0 rfl ?_
  refine jj_iconst (v := -1) C dX1_given_1 (by decide) ?_
  refine jj_icmp_ne (tgt := 17) C dX1_given_2 (by decide) hF (fun hF => ?_) (fun hF => ?_)
  · refine jj_sub [0, 1, 2] rfl ?_
    exact w_X1_given_b17 C hxn hQ (by omega) hF
  · refine jj_iload_n C 2 rfl dX1_given_5 rfl ?_
    refine jj_iconst (v := -1) C dX1_given_6 (by decide) ?_
    refine jj_icmp_ne (tgt := 17) C dX1_given_7 (by decide) hF (fun hF => ?_) (fun hF => ?_)
    · refine jj_sub [0, 1, 2] rfl ?_
      exact w_X1_given_b17 C hxn hQ (by omega) hF
    · refine jj_aload_n C 0 rfl dX1_given_10 rfl ?_
      refine jj_iconst (v := 0) C dX1_given_11 (by decide) ?_
      refine jj_pP (f := 5) C jcs_0 (Nat.le_of_ble_eq_true rfl) (jLk.of C q123 rfl) (Or.inl rfl) dX1_given_12 (jfit_i _) hF (fun M12 hF => ?_)
      refine jj_iconst (v := 0) C dX1_given_15 (by decide) ?_
      exact jj_iret C hQ dX1_given_16 hF (by show 0 ≤ 1; omega) (by show 0 ≤ 5; omega)
/-! Phrasehall$Bout.better()I -/
def rm_X4_better : Room := ({ frames := 1, cells := 0, slots := 0, locals := 64 } : Room)
theorem hd_X4_better : yX4_better.cls ≠ "java/lang/invoke/MethodHandle" ∧ yX4_better.cls ≠ "java/lang/invoke/VarHandle" ∧ (parseMethodDescriptor yX4_better.desc).map (fun d => d.parameters.length) = some 0 := ⟨by decide, by decide, by decide +kernel⟩
def f_X4_better (a0 : Option Nat) (M : jW) : Option (Int32 × jW) := pR M a0 3 4 fun v1 =>
  pAI M v1 0 (0 : Int32) fun v5 =>
  pR M a0 3 4 fun v7 =>
  pAI M v7 0 (1 : Int32) fun v11 =>
  pLt (v5 - v11) fun t13 =>
  if t13 ≤ 0 then (if 0 ≤ t13 then (pR M a0 3 0 fun v31 =>
  pAR M v31 4 (0 : Int32) fun v35 =>
  pI M v35 2 0 fun v36 =>
  pR M a0 3 0 fun v40 =>
  pAR M v40 4 (1 : Int32) fun v44 =>
  pI M v44 2 0 fun v45 =>
  if v45 ≤ v36 then (some ((1 : Int32), M))
  else (some ((0 : Int32), M)))
  else (some ((1 : Int32), M)))
  else (some ((0 : Int32), M))
set_option maxHeartbeats 4000000 in
theorem m_X4_better (l : Launch) (g : jG) {a0 : Option Nat} {M M0 : jW} {v0 : Int32} (hF : f_X4_better a0 M = some (v0, M0)) : jMet l g yX4_better cX4_better 2 (some .int) rm_X4_better [jR a0] M (some (jI v0)) M0 := by
  refine jMet.of (L := [(0, jR a0)]) (by decide) rfl (Nat.le_of_ble_eq_true rfl) (fun x C hxn hg hl hQ hin => ?_)
  subst hg
  unfold f_X4_better at hF
  refine jj_aload_n C 0 rfl dX4_better_0 rfl ?_
  refine jj_pR (f := 4) C jcs_3 (Nat.le_of_ble_eq_true rfl) (jLk.of C q500 rfl) dX4_better_1 hF (fun v1 hF => ?_)
  refine jj_iconst (v := 0) C dX4_better_4 (by decide) ?_
  refine jj_iald C dX4_better_5 hF (fun v5 hF => ?_)
  refine jj_aload_n C 0 rfl dX4_better_6 rfl ?_
  refine jj_pR (f := 4) C jcs_3 (Nat.le_of_ble_eq_true rfl) (jLk.of C q500 rfl) dX4_better_7 hF (fun v7 hF => ?_)
  refine jj_iconst (v := 1) C dX4_better_10 (by decide) ?_
  refine jj_iald C dX4_better_11 hF (fun v11 hF => ?_)
  refine jj_isub C dX4_better_12 ?_
  refine jj_letI hF (fun t13 hF => ?_)
  refine jj_istore_n (L' := [(1, jI t13), (0, jR a0)]) C rfl (by rw [hxn]; decide) dX4_better_13 rfl ?_
  refine jj_iload_n C 0 rfl dX4_better_14 rfl ?_
  refine jj_if_le (tgt := 22) C dX4_better_15 (by decide) hF (fun hF => ?_) (fun hF => ?_)
  · refine jj_iload_n C 0 rfl dX4_better_22 rfl ?_
    refine jj_if_ge (tgt := 30) C dX4_better_23 (by decide) hF (fun hF => ?_) (fun hF => ?_)
    · refine jj_aload_n C 1 rfl dX4_better_30 rfl ?_
      refine jj_pR (f := 0) C jcs_3 (Nat.le_of_ble_eq_true rfl) (jLk.of C q491 rfl) dX4_better_31 hF (fun v31 hF => ?_)
      refine jj_iconst (v := 0) C dX4_better_34 (by decide) ?_
      refine jj_aald (t := 4) C rfl dX4_better_35 hF (fun v35 hF => ?_)
      refine jj_pI (f := 0) C jcs_2 (Nat.le_of_ble_eq_true rfl) (jLk.nest C q308 rfl) dX4_better_36 hF (fun v36 hF => ?_)
      refine jj_aload_n C 1 rfl dX4_better_39 rfl ?_
      refine jj_pR (f := 0) C jcs_3 (Nat.le_of_ble_eq_true rfl) (jLk.of C q491 rfl) dX4_better_40 hF (fun v40 hF => ?_)
      refine jj_iconst (v := 1) C dX4_better_43 (by decide) ?_
      refine jj_aald (t := 4) C rfl dX4_better_44 hF (fun v44 hF => ?_)
      refine jj_pI (f := 0) C jcs_2 (Nat.le_of_ble_eq_true rfl) (jLk.nest C q308 rfl) dX4_better_45 hF (fun v45 hF => ?_)
      refine jj_icmp_ge (tgt := 55) C dX4_better_48 (by decide) hF (fun hF => ?_) (fun hF => ?_)
      · refine jj_iconst (v := 1) C dX4_better_55 (by decide) ?_
        exact jj_iret C hQ dX4_better_56 hF (Nat.zero_le _) (Nat.zero_le _)
      · refine jj_iconst (v := 0) C dX4_better_51 (by decide) ?_
        refine jj_goto (tgt := 56) C dX4_better_52 (by decide) ?_
        exact jj_iret C hQ dX4_better_56 hF (Nat.zero_le _) (Nat.zero_le _)
    · refine jj_iconst (v := 1) C dX4_better_26 (by decide) ?_
      refine jj_goto (tgt := 56) C dX4_better_27 (by decide) ?_
      exact jj_iret C hQ dX4_better_56 hF (Nat.zero_le _) (Nat.zero_le _)
  · refine jj_iconst (v := 0) C dX4_better_18 (by decide) ?_
    refine jj_goto (tgt := 56) C dX4_better_19 (by decide) ?_
    exact jj_iret C hQ dX4_better_56 hF (Nat.zero_le _) (Nat.zero_le _)
/-! Phrasehall$Pool.counts(LPhrasehall$Bout;)Z -/
def rm_X9_counts : Room := ({ frames := 3, cells := 0, slots := 0, locals := 106 } : Room)
theorem hd_X9_counts : yX9_counts.cls ≠ "java/lang/invoke/MethodHandle" ∧ yX9_counts.cls ≠ "java/lang/invoke/VarHandle" ∧ (parseMethodDescriptor yX9_counts.desc).map (fun d => d.parameters.length) = some 1 := ⟨by decide, by decide, by decide +kernel⟩
def f_X9_counts (a0 : Option Nat) (a1 : Option Nat) (M : jW) : Option (Int32 × jW) := pR M a1 3 0 fun v2 =>
  pAR M v2 4 (0 : Int32) fun v6 =>
  pI M v6 2 0 fun v7 =>
  pO M a0 7 fun b10 _ => pB (f_X9_isIn (some b10) v7 M) fun r10 M10 =>
  if r10 = 0 then (pRZ (0 : Int32) M10)
  else (pR M10 a1 3 0 fun v18 =>
  pAR M10 v18 4 (1 : Int32) fun v22 =>
  pI M10 v22 2 0 fun v23 =>
  pO M10 a0 7 fun b26 _ => pB (f_X9_isIn (some b26) v23 M10) fun r26 M26 =>
  if r26 = 0 then (pRZ (0 : Int32) M26)
  else (pRZ (1 : Int32) M26))
set_option maxHeartbeats 4000000 in
theorem m_X9_counts (l : Launch) (g : jG) {a0 : Option Nat} {a1 : Option Nat} {M M0 : jW} {v0 : Int32} (hF : f_X9_counts a0 a1 M = some (v0, M0)) : jMet l g yX9_counts cX9_counts 2 (some .boolean) rm_X9_counts [jR a0, jR a1] M (some (jI v0)) M0 := by
  refine jMet.of (L := [(0, jR a0), (1, jR a1)]) (by decide) rfl (Nat.le_of_ble_eq_true rfl) (fun x C hxn hg hl hQ hin => ?_)
  subst hg
  unfold f_X9_counts at hF
  refine jj_aload_n C 0 rfl dX9_counts_0 rfl ?_
  refine jj_aload_n C 1 rfl dX9_counts_1 rfl ?_
  refine jj_pR (f := 0) C jcs_3 (Nat.le_of_ble_eq_true rfl) (jLk.nest C q492 rfl) dX9_counts_2 hF (fun v2 hF => ?_)
  refine jj_iconst (v := 0) C dX9_counts_5 (by decide) ?_
  refine jj_aald (t := 4) C rfl dX9_counts_6 hF (fun v6 hF => ?_)
  refine jj_pI (f := 0) C jcs_2 (Nat.le_of_ble_eq_true rfl) (jLk.nest C q309 rfl) dX9_counts_7 hF (fun v7 hF => ?_)
  obtain ⟨b10, fs10, he10, hb10, hF⟩ := pO_spec hF
  obtain ⟨r10, M10, hG, hF⟩ := pB_spec hF
  refine jj_callV (k' := 0) (n' := 0) C [jI v7] [] [jI r10] he10 (m_X9_isIn _ _ hG) hb10 rfl q690 q470 q471 q71 q472 ⟨rfl, hd_X9_isIn⟩ rfl (Nat.le_of_ble_eq_true rfl) ⟨Nat.le_of_ble_eq_true rfl, Nat.le_of_ble_eq_true rfl⟩ ⟨Nat.le_refl _, Nat.le_refl _, Nat.le_refl _, Nat.le_refl _⟩ dX9_counts_10 rfl ?_
  refine jj_if_eq (tgt := 36) C dX9_counts_13 (by decide) hF (fun hF => ?_) (fun hF => ?_)
  · refine jj_iconst (v := 0) C dX9_counts_36 (by decide) ?_
    exact jj_zret C hQ dX9_counts_37 hF (Nat.zero_le _) (Nat.zero_le _)
  · refine jj_aload_n C 0 rfl dX9_counts_16 rfl ?_
    refine jj_aload_n C 1 rfl dX9_counts_17 rfl ?_
    refine jj_pR (f := 0) C jcs_3 (Nat.le_of_ble_eq_true rfl) (jLk.nest C q492 rfl) dX9_counts_18 hF (fun v18 hF => ?_)
    refine jj_iconst (v := 1) C dX9_counts_21 (by decide) ?_
    refine jj_aald (t := 4) C rfl dX9_counts_22 hF (fun v22 hF => ?_)
    refine jj_pI (f := 0) C jcs_2 (Nat.le_of_ble_eq_true rfl) (jLk.nest C q309 rfl) dX9_counts_23 hF (fun v23 hF => ?_)
    obtain ⟨b26, fs26, he26, hb26, hF⟩ := pO_spec hF
    obtain ⟨r26, M26, hG, hF⟩ := pB_spec hF
    refine jj_callV (k' := 0) (n' := 0) C [jI v23] [] [jI r26] he26 (m_X9_isIn _ _ hG) hb26 rfl q690 q470 q471 q71 q472 ⟨rfl, hd_X9_isIn⟩ rfl (Nat.le_of_ble_eq_true rfl) ⟨Nat.le_of_ble_eq_true rfl, Nat.le_of_ble_eq_true rfl⟩ ⟨Nat.le_refl _, Nat.le_refl _, Nat.le_refl _, Nat.le_refl _⟩ dX9_counts_26 rfl ?_
    refine jj_if_eq (tgt := 36) C dX9_counts_29 (by decide) hF (fun hF => ?_) (fun hF => ?_)
    · refine jj_iconst (v := 0) C dX9_counts_36 (by decide) ?_
      exact jj_zret C hQ dX9_counts_37 hF (Nat.zero_le _) (Nat.zero_le _)
    · refine jj_iconst (v := 1) C dX9_counts_32 (by decide) ?_
      refine jj_goto (tgt := 37) C dX9_counts_33 (by decide) ?_
      exact jj_zret C hQ dX9_counts_37 hF (Nat.zero_le _) (Nat.zero_le _)
/-! Phrasehall$Pool.adds(LPhrasehall$Bout;I)V -/
def rm_X9_adds : Room := ({ frames := 2, cells := 0, slots := 0, locals := 87 } : Room)
theorem hd_X9_adds : yX9_adds.cls ≠ "java/lang/invoke/MethodHandle" ∧ yX9_adds.cls ≠ "java/lang/invoke/VarHandle" ∧ (parseMethodDescriptor yX9_adds.desc).map (fun d => d.parameters.length) = some 2 := ⟨by decide, by decide, by decide +kernel⟩
def f_X9_adds_b2 : Nat → Option Nat → Option Nat → Int32 → Int32 → jW → Option (Unit × jW)
  | 0, _, _, _, _, _ => none
  | q + 1, l0, l1, l2, l3, M => if (2 : Int32) ≤ l3 then (some ((), M))
  else (pR M l0 7 1 fun v8 =>
  pR M l1 3 0 fun v12 =>
  pAR M v12 4 l3 fun v16 =>
  pI M v16 2 0 fun v17 =>
  pAR M v8 5 v17 fun v20 =>
  pO M v20 8 fun b24 _ => pB (f_X10_adds (some b24) l1 l3 l2 M) fun _ M24 =>
  (f_X9_adds_b2 q) l0 l1 l2 (l3 + (1 : Int32)) M24)
theorem f_X9_adds_b2_s (q : Nat) (l0 : Option Nat) (l1 : Option Nat) (l2 : Int32) (l3 : Int32) (M : jW) : f_X9_adds_b2 (q + 1) l0 l1 l2 l3 M = (if (2 : Int32) ≤ l3 then (some ((), M))
  else (pR M l0 7 1 fun v8 =>
  pR M l1 3 0 fun v12 =>
  pAR M v12 4 l3 fun v16 =>
  pI M v16 2 0 fun v17 =>
  pAR M v8 5 v17 fun v20 =>
  pO M v20 8 fun b24 _ => pB (f_X10_adds (some b24) l1 l3 l2 M) fun _ M24 =>
  (f_X9_adds_b2 q) l0 l1 l2 (l3 + (1 : Int32)) M24)) := rfl
set_option maxHeartbeats 4000000 in
theorem w_X9_adds_b2 {x : jX} (C : jOk x cX9_adds RX9 rm_X9_adds none) (hxn : xn x = 4) {v0 : Unit} {M0 : jW} (hQ : jEnd x rm_X9_adds none M0) : ∀ (n2 : Nat) (l0 : Option Nat) (l1 : Option Nat) (l2 : Int32) (l3 : Int32) (M : jW), f_X9_adds_b2 n2 l0 l1 l2 l3 M = some (v0, M0) → jJ x 2 [(0, jR l0), (1, jR l1), (2, jI l2), (3, jI l3)] [] M 0 0 := by
  intro n2
  induction n2 with
  | zero =>
    intro l0 l1 l2 l3 M hF
    cases hF
  | succ n2 hK2 =>
    intro l0 l1 l2 l3 M hF
    rw [f_X9_adds_b2_s] at hF
    refine jj_iload_n C 3 rfl dX9_adds_2 rfl ?_
    refine jj_iconst (v := 2) C dX9_adds_3 (by decide) ?_
    refine jj_icmp_ge (tgt := 33) C dX9_adds_4 (by decide) hF (fun hF => ?_) (fun hF => ?_)
    · exact jj_vret C hQ dX9_adds_33 hF (Nat.zero_le _) (Nat.zero_le _)
    · refine jj_aload_n C 0 rfl dX9_adds_7 rfl ?_
      refine jj_pR (f := 1) C jcs_7 (Nat.le_of_ble_eq_true rfl) (jLk.of C q802 rfl) dX9_adds_8 hF (fun v8 hF => ?_)
      refine jj_aload_n C 1 rfl dX9_adds_11 rfl ?_
      refine jj_pR (f := 0) C jcs_3 (Nat.le_of_ble_eq_true rfl) (jLk.nest C q492 rfl) dX9_adds_12 hF (fun v12 hF => ?_)
      refine jj_iload_n C 3 rfl dX9_adds_15 rfl ?_
      refine jj_aald (t := 4) C rfl dX9_adds_16 hF (fun v16 hF => ?_)
      refine jj_pI (f := 0) C jcs_2 (Nat.le_of_ble_eq_true rfl) (jLk.nest C q309 rfl) dX9_adds_17 hF (fun v17 hF => ?_)
      refine jj_aald (t := 5) C rfl dX9_adds_20 hF (fun v20 hF => ?_)
      refine jj_aload_n C 1 rfl dX9_adds_21 rfl ?_
      refine jj_iload_n C 3 rfl dX9_adds_22 rfl ?_
      refine jj_iload_n C 2 rfl dX9_adds_23 rfl ?_
      obtain ⟨b24, fs24, he24, hb24, hF⟩ := pO_spec hF
      obtain ⟨r24, M24, hG, hF⟩ := pB_spec hF
      refine jj_callV (k' := 0) (n' := 0) C [jR l1, jI l3, jI l2] [] [] he24 (m_X10_adds _ _ hG) hb24 rfl q695 q696 q697 q72 q698 ⟨rfl, hd_X10_adds⟩ rfl (Nat.le_of_ble_eq_true rfl) ⟨Nat.le_of_ble_eq_true rfl, Nat.le_of_ble_eq_true rfl⟩ ⟨Nat.le_refl _, Nat.le_refl _, Nat.le_refl _, Nat.le_refl _⟩ dX9_adds_24 rfl ?_
      refine jj_iinc (c := 1) (L' := [(3, jI (l3 + (1 : Int32))), (0, jR l0), (1, jR l1), (2, jI l2)]) C 3 rfl (by decide) rfl (by rw [hxn]; decide) dX9_adds_27 ?_
      refine jj_goto (tgt := 2) C dX9_adds_30 (by decide) ?_
      refine jj_sub [1, 2, 3, 0] rfl ?_
      exact hK2 _ _ _ _ _ hF
def f_X9_adds (a0 : Option Nat) (a1 : Option Nat) (a2 : Int32) (M : jW) : Option (Unit × jW) := f_X9_adds_b2 1000 a0 a1 a2 (0 : Int32) M
set_option maxHeartbeats 4000000 in
theorem m_X9_adds (l : Launch) (g : jG) {a0 : Option Nat} {a1 : Option Nat} {a2 : Int32} {M M0 : jW} {v0 : Unit} (hF : f_X9_adds a0 a1 a2 M = some (v0, M0)) : jMet l g yX9_adds cX9_adds 4 none rm_X9_adds [jR a0, jR a1, jI a2] M none M0 := by
  refine jMet.of (L := [(0, jR a0), (1, jR a1), (2, jI a2)]) (by decide) rfl (Nat.le_of_ble_eq_true rfl) (fun x C hxn hg hl hQ hin => ?_)
  subst hg
  unfold f_X9_adds at hF
  refine jj_iconst (v := 0) C dX9_adds_0 (by decide) ?_
  refine jj_istore_n (L' := [(3, jI (0 : Int32)), (0, jR a0), (1, jR a1), (2, jI a2)]) C rfl (by rw [hxn]; decide) dX9_adds_1 rfl ?_
  refine jj_sub [1, 2, 3, 0] rfl ?_
  exact w_X9_adds_b2 C hxn hQ 1000 _ _ _ _ _ hF
/-! Phrasehall$Bout.ends(I)V -/
def rm_X4_ends : Room := ({ frames := 4, cells := 0, slots := 0, locals := 127 } : Room)
theorem hd_X4_ends : yX4_ends.cls ≠ "java/lang/invoke/MethodHandle" ∧ yX4_ends.cls ≠ "java/lang/invoke/VarHandle" ∧ (parseMethodDescriptor yX4_ends.desc).map (fun d => d.parameters.length) = some 1 := ⟨by decide, by decide, by decide +kernel⟩
def f_X4_ends (a0 : Option Nat) (a1 : Int32) (M : jW) : Option (Unit × jW) := pP M a0 3 7 (jI a1) fun M2 =>
  pR M2 a0 3 12 fun v6 =>
  pP M2 v6 0 4 (jR none) fun M10 =>
  pR M10 a0 3 12 fun v14 =>
  pR M10 v14 0 3 fun v17 =>
  pO M10 v17 9 fun b20 _ => pB (f_J2_clear (some b20)  M10) fun _ M20 =>
  pR M20 a0 3 3 fun v24 =>
  pZ v24 (some ((), M20))
  (pR M20 a0 3 3 fun v31 =>
  pO M20 v31 7 fun b35 _ => pB (f_X9_counts (some b35) a0 M20) fun r35 M35 =>
  if r35 = 0 then (some ((), M35))
  else (pR M35 a0 3 3 fun v42 =>
  pO M35 v42 7 fun b47 _ => pB (f_X9_adds (some b47) a0 (1 : Int32) M35) fun _ M47 =>
  some ((), M47)))
set_option maxHeartbeats 4000000 in
theorem m_X4_ends (l : Launch) (g : jG) {a0 : Option Nat} {a1 : Int32} {M M0 : jW} {v0 : Unit} (hF : f_X4_ends a0 a1 M = some (v0, M0)) : jMet l g yX4_ends cX4_ends 2 none rm_X4_ends [jR a0, jI a1] M none M0 := by
  refine jMet.of (L := [(0, jR a0), (1, jI a1)]) (by decide) rfl (Nat.le_of_ble_eq_true rfl) (fun x C hxn hg hl hQ hin => ?_)
  subst hg
  unfold f_X4_ends at hF
  refine jj_aload_n C 0 rfl dX4_ends_0 rfl ?_
  refine jj_iload_n C 1 rfl dX4_ends_1 rfl ?_
  refine jj_pP (f := 7) C jcs_3 (Nat.le_of_ble_eq_true rfl) (jLk.of C q505 rfl) (Or.inl rfl) dX4_ends_2 (jfit_i _) hF (fun M2 hF => ?_)
  refine jj_aload_n C 0 rfl dX4_ends_5 rfl ?_
  refine jj_pR (f := 12) C jcs_3 (Nat.le_of_ble_eq_true rfl) (jLk.of C q515 rfl) dX4_ends_6 hF (fun v6 hF => ?_)
  refine jj_null C dX4_ends_9 ?_
  refine jj_pP (f := 4) C jcs_0 (Nat.le_of_ble_eq_true rfl) (jLk.nest C q121 rfl) (Or.inl rfl) dX4_ends_10 (jfit_o _ _) hF (fun M10 hF => ?_)
  refine jj_aload_n C 0 rfl dX4_ends_13 rfl ?_
  refine jj_pR (f := 12) C jcs_3 (Nat.le_of_ble_eq_true rfl) (jLk.of C q515 rfl) dX4_ends_14 hF (fun v14 hF => ?_)
  refine jj_pR (f := 3) C jcs_0 (Nat.le_of_ble_eq_true rfl) (jLk.nest C q119 rfl) dX4_ends_17 hF (fun v17 hF => ?_)
  obtain ⟨b20, fs20, he20, hb20, hF⟩ := pO_spec hF
  obtain ⟨r20, M20, hG, hF⟩ := pB_spec hF
  refine jj_callV (k' := 0) (n' := 0) C [] [] [] he20 (m_J2_clear _ _ hG) hb20 rfl q685 q670 q671 q45 q672 ⟨rfl, hd_J2_clear⟩ rfl (Nat.le_of_ble_eq_true rfl) ⟨Nat.le_of_ble_eq_true rfl, Nat.le_of_ble_eq_true rfl⟩ ⟨Nat.le_refl _, Nat.le_refl _, Nat.le_refl _, Nat.le_refl _⟩ dX4_ends_20 rfl ?_
  refine jj_aload_n C 0 rfl dX4_ends_23 rfl ?_
  refine jj_pR (f := 3) C jcs_3 (Nat.le_of_ble_eq_true rfl) (jLk.of C q498 rfl) dX4_ends_24 hF (fun v24 hF => ?_)
  refine jj_ifnull (tgt := 50) C dX4_ends_27 (by decide) hF (fun hF => ?_) (fun hF => ?_)
  · exact jj_vret C hQ dX4_ends_50 hF (Nat.zero_le _) (Nat.zero_le _)
  · refine jj_aload_n C 0 rfl dX4_ends_30 rfl ?_
    refine jj_pR (f := 3) C jcs_3 (Nat.le_of_ble_eq_true rfl) (jLk.of C q498 rfl) dX4_ends_31 hF (fun v31 hF => ?_)
    refine jj_aload_n C 0 rfl dX4_ends_34 rfl ?_
    obtain ⟨b35, fs35, he35, hb35, hF⟩ := pO_spec hF
    obtain ⟨r35, M35, hG, hF⟩ := pB_spec hF
    refine jj_callV (k' := 0) (n' := 0) C [jR a0] [] [jI r35] he35 (m_X9_counts _ _ hG) hb35 rfl q686 q687 q688 q71 q689 ⟨rfl, hd_X9_counts⟩ rfl (Nat.le_of_ble_eq_true rfl) ⟨Nat.le_of_ble_eq_true rfl, Nat.le_of_ble_eq_true rfl⟩ ⟨Nat.le_refl _, Nat.le_refl _, Nat.le_refl _, Nat.le_refl _⟩ dX4_ends_35 rfl ?_
    refine jj_if_eq (tgt := 50) C dX4_ends_38 (by decide) hF (fun hF => ?_) (fun hF => ?_)
    · exact jj_vret C hQ dX4_ends_50 hF (Nat.zero_le _) (Nat.zero_le _)
    · refine jj_aload_n C 0 rfl dX4_ends_41 rfl ?_
      refine jj_pR (f := 3) C jcs_3 (Nat.le_of_ble_eq_true rfl) (jLk.of C q498 rfl) dX4_ends_42 hF (fun v42 hF => ?_)
      refine jj_aload_n C 0 rfl dX4_ends_45 rfl ?_
      refine jj_iconst (v := 1) C dX4_ends_46 (by decide) ?_
      obtain ⟨b47, fs47, he47, hb47, hF⟩ := pO_spec hF
      obtain ⟨r47, M47, hG, hF⟩ := pB_spec hF
      refine jj_callV (k' := 0) (n' := 0) C [jR a0, jI (1 : Int32)] [] [] he47 (m_X9_adds _ _ hG) hb47 rfl q691 q692 q693 q71 q694 ⟨rfl, hd_X9_adds⟩ rfl (Nat.le_of_ble_eq_true rfl) ⟨Nat.le_of_ble_eq_true rfl, Nat.le_of_ble_eq_true rfl⟩ ⟨Nat.le_refl _, Nat.le_refl _, Nat.le_refl _, Nat.le_refl _⟩ dX4_ends_47 rfl ?_
      exact jj_vret C hQ dX4_ends_50 hF (Nat.zero_le _) (Nat.zero_le _)
/-! Phrasehall$Bout.gives(IZ)V -/
def rm_X4_gives : Room := ({ frames := 5, cells := 0, slots := 0, locals := 148 } : Room)
theorem hd_X4_gives : yX4_gives.cls ≠ "java/lang/invoke/MethodHandle" ∧ yX4_gives.cls ≠ "java/lang/invoke/VarHandle" ∧ (parseMethodDescriptor yX4_gives.desc).map (fun d => d.parameters.length) = some 2 := ⟨by decide, by decide, by decide +kernel⟩
def f_X4_gives_b105 (l0 : Option Nat) (M : jW) : Option (Unit × jW) := pO M l0 3 fun b107 _ => pB (f_X4_better (some b107)  M) fun r107 M107 =>
  pO M107 l0 3 fun b110 _ => pB (f_X4_ends (some b110) r107 M107) fun _ M110 =>
  some ((), M110)
set_option maxHeartbeats 4000000 in
theorem w_X4_gives_b105 {x : jX} (C : jOk x cX4_gives RX4 rm_X4_gives none) (hxn : xn x = 4) {v0 : Unit} {M0 : jW} (hQ : jEnd x rm_X4_gives none M0) {l0 : Option Nat} {M : jW} (hF : f_X4_gives_b105 l0 M = some (v0, M0)) : jJ x 105 [(0, jR l0)] [] M 0 0 := by
  unfold f_X4_gives_b105 at hF
  refine jj_aload_n C 0 rfl dX4_gives_105 rfl ?_
  refine jj_aload_n C 0 rfl dX4_gives_106 rfl ?_
  obtain ⟨b107, fs107, he107, hb107, hF⟩ := pO_spec hF
  obtain ⟨r107, M107, hG, hF⟩ := pB_spec hF
  refine jj_callV (k' := 0) (n' := 0) C [] [jR l0] [jI r107, jR l0] he107 (m_X4_better _ _ hG) hb107 rfl q677 q679 qs13 q62 q680 ⟨rfl, hd_X4_better⟩ rfl (Nat.le_of_ble_eq_true rfl) ⟨Nat.le_of_ble_eq_true rfl, Nat.le_of_ble_eq_true rfl⟩ ⟨Nat.le_refl _, Nat.le_refl _, Nat.le_refl _, Nat.le_refl _⟩ dX4_gives_107 rfl ?_
  obtain ⟨b110, fs110, he110, hb110, hF⟩ := pO_spec hF
  obtain ⟨r110, M110, hG, hF⟩ := pB_spec hF
  refine jj_callV (k' := 0) (n' := 0) C [jI r107] [] [] he110 (m_X4_ends _ _ hG) hb110 rfl q681 q682 q683 q62 q684 ⟨rfl, hd_X4_ends⟩ rfl (Nat.le_of_ble_eq_true rfl) ⟨Nat.le_of_ble_eq_true rfl, Nat.le_of_ble_eq_true rfl⟩ ⟨Nat.le_refl _, Nat.le_refl _, Nat.le_refl _, Nat.le_refl _⟩ dX4_gives_110 rfl ?_
  exact jj_vret C hQ dX4_gives_113 hF (Nat.zero_le _) (Nat.zero_le _)
def f_X4_gives_b77 (l0 : Option Nat) (s0 : Int32) (M : jW) : Option (Unit × jW) := if s0 = 0 then (pI M l0 3 11 fun v83 =>
  if v83 = (-1 : Int32) then (some ((), M))
  else (pR M l0 3 4 fun v91 =>
  pAI M v91 0 (0 : Int32) fun v95 =>
  pR M l0 3 4 fun v97 =>
  pAI M v97 0 (1 : Int32) fun v101 =>
  if v95 = v101 then (some ((), M))
  else (f_X4_gives_b105 l0 M)))
  else (f_X4_gives_b105 l0 M)
set_option maxHeartbeats 4000000 in
theorem w_X4_gives_b77 {x : jX} (C : jOk x cX4_gives RX4 rm_X4_gives none) (hxn : xn x = 4) {v0 : Unit} {M0 : jW} (hQ : jEnd x rm_X4_gives none M0) {l0 : Option Nat} {s0 : Int32} {M : jW} (hF : f_X4_gives_b77 l0 s0 M = some (v0, M0)) : jJ x 77 [(0, jR l0)] [jI s0] M 0 0 := by
  unfold f_X4_gives_b77 at hF
  refine jj_istore_n (L' := [(3, jI s0), (0, jR l0)]) C rfl (by rw [hxn]; decide) dX4_gives_77 rfl ?_
  refine jj_iload_n C 0 rfl dX4_gives_78 rfl ?_
  refine jj_if_ne (tgt := 105) C dX4_gives_79 (by decide) hF (fun hF => ?_) (fun hF => ?_)
  · refine jj_sub [1] rfl ?_
    exact w_X4_gives_b105 C hxn hQ hF
  · refine jj_aload_n C 1 rfl dX4_gives_82 rfl ?_
    refine jj_pI (f := 11) C jcs_3 (Nat.le_of_ble_eq_true rfl) (jLk.of C q513 rfl) dX4_gives_83 hF (fun v83 hF => ?_)
    refine jj_iconst (v := -1) C dX4_gives_86 (by decide) ?_
    refine jj_icmp_eq (tgt := 113) C dX4_gives_87 (by decide) hF (fun hF => ?_) (fun hF => ?_)
    · exact jj_vret C hQ dX4_gives_113 hF (Nat.zero_le _) (Nat.zero_le _)
    · refine jj_aload_n C 1 rfl dX4_gives_90 rfl ?_
      refine jj_pR (f := 4) C jcs_3 (Nat.le_of_ble_eq_true rfl) (jLk.of C q500 rfl) dX4_gives_91 hF (fun v91 hF => ?_)
      refine jj_iconst (v := 0) C dX4_gives_94 (by decide) ?_
      refine jj_iald C dX4_gives_95 hF (fun v95 hF => ?_)
      refine jj_aload_n C 1 rfl dX4_gives_96 rfl ?_
      refine jj_pR (f := 4) C jcs_3 (Nat.le_of_ble_eq_true rfl) (jLk.of C q500 rfl) dX4_gives_97 hF (fun v97 hF => ?_)
      refine jj_iconst (v := 1) C dX4_gives_100 (by decide) ?_
      refine jj_iald C dX4_gives_101 hF (fun v101 hF => ?_)
      refine jj_icmp_eq (tgt := 113) C dX4_gives_102 (by decide) hF (fun hF => ?_) (fun hF => ?_)
      · exact jj_vret C hQ dX4_gives_113 hF (Nat.zero_le _) (Nat.zero_le _)
      · refine jj_sub [1] rfl ?_
        exact w_X4_gives_b105 C hxn hQ hF
def f_X4_gives_b72 (l0 : Option Nat) (M : jW) : Option (Unit × jW) := f_X4_gives_b77 l0 (1 : Int32) M
set_option maxHeartbeats 4000000 in
theorem w_X4_gives_b72 {x : jX} (C : jOk x cX4_gives RX4 rm_X4_gives none) (hxn : xn x = 4) {v0 : Unit} {M0 : jW} (hQ : jEnd x rm_X4_gives none M0) {l0 : Option Nat} {M : jW} (hF : f_X4_gives_b72 l0 M = some (v0, M0)) : jJ x 72 [(0, jR l0)] [] M 0 0 := by
  unfold f_X4_gives_b72 at hF
  refine jj_iconst (v := 1) C dX4_gives_72 (by decide) ?_
  refine jj_goto (tgt := 77) C dX4_gives_73 (by decide) ?_
  refine jj_sub [0] rfl ?_
  exact w_X4_gives_b77 C hxn hQ hF
def f_X4_gives_b43 (l0 : Option Nat) (s0 : Option Nat) (s1 : Int32) (M : jW) : Option (Unit × jW) := pP M s0 3 9 (jI s1) fun M43 =>
  pR M43 l0 3 4 fun v47 =>
  pAI M43 v47 0 (0 : Int32) fun v51 =>
  pI M43 l0 3 2 fun v53 =>
  if v53 ≤ v51 then (f_X4_gives_b72 l0 M43)
  else (pR M43 l0 3 4 fun v60 =>
  pAI M43 v60 0 (1 : Int32) fun v64 =>
  pI M43 l0 3 2 fun v66 =>
  if v64 < v66 then (f_X4_gives_b77 l0 (0 : Int32) M43)
  else (f_X4_gives_b72 l0 M43))
set_option maxHeartbeats 4000000 in
theorem w_X4_gives_b43 {x : jX} (C : jOk x cX4_gives RX4 rm_X4_gives none) (hxn : xn x = 4) {v0 : Unit} {M0 : jW} (hQ : jEnd x rm_X4_gives none M0) {l0 : Option Nat} {s0 : Option Nat} {s1 : Int32} {M : jW} (hF : f_X4_gives_b43 l0 s0 s1 M = some (v0, M0)) : jJ x 43 [(0, jR l0)] [jI s1, jR s0] M 0 0 := by
  unfold f_X4_gives_b43 at hF
  refine jj_pP (f := 9) C jcs_3 (Nat.le_of_ble_eq_true rfl) (jLk.of C q510 rfl) (Or.inl rfl) dX4_gives_43 (jfit_i _) hF (fun M43 hF => ?_)
  refine jj_aload_n C 0 rfl dX4_gives_46 rfl ?_
  refine jj_pR (f := 4) C jcs_3 (Nat.le_of_ble_eq_true rfl) (jLk.of C q500 rfl) dX4_gives_47 hF (fun v47 hF => ?_)
  refine jj_iconst (v := 0) C dX4_gives_50 (by decide) ?_
  refine jj_iald C dX4_gives_51 hF (fun v51 hF => ?_)
  refine jj_aload_n C 0 rfl dX4_gives_52 rfl ?_
  refine jj_pI (f := 2) C jcs_3 (Nat.le_of_ble_eq_true rfl) (jLk.of C q496 rfl) dX4_gives_53 hF (fun v53 hF => ?_)
  refine jj_icmp_ge (tgt := 72) C dX4_gives_56 (by decide) hF (fun hF => ?_) (fun hF => ?_)
  · refine jj_sub [0] rfl ?_
    exact w_X4_gives_b72 C hxn hQ hF
  · refine jj_aload_n C 0 rfl dX4_gives_59 rfl ?_
    refine jj_pR (f := 4) C jcs_3 (Nat.le_of_ble_eq_true rfl) (jLk.of C q500 rfl) dX4_gives_60 hF (fun v60 hF => ?_)
    refine jj_iconst (v := 1) C dX4_gives_63 (by decide) ?_
    refine jj_iald C dX4_gives_64 hF (fun v64 hF => ?_)
    refine jj_aload_n C 0 rfl dX4_gives_65 rfl ?_
    refine jj_pI (f := 2) C jcs_3 (Nat.le_of_ble_eq_true rfl) (jLk.of C q496 rfl) dX4_gives_66 hF (fun v66 hF => ?_)
    refine jj_icmp_lt (tgt := 76) C dX4_gives_69 (by decide) hF (fun hF => ?_) (fun hF => ?_)
    · refine jj_iconst (v := 0) C dX4_gives_76 (by decide) ?_
      refine jj_sub [0] rfl ?_
      exact w_X4_gives_b77 C hxn hQ hF
    · refine jj_sub [0] rfl ?_
      exact w_X4_gives_b72 C hxn hQ hF
def f_X4_gives_b39 (l0 : Option Nat) (s0 : Option Nat) (M : jW) : Option (Unit × jW) := pI M l0 3 9 fun v40 =>
  f_X4_gives_b43 l0 s0 v40 M
set_option maxHeartbeats 4000000 in
theorem w_X4_gives_b39 {x : jX} (C : jOk x cX4_gives RX4 rm_X4_gives none) (hxn : xn x = 4) {v0 : Unit} {M0 : jW} (hQ : jEnd x rm_X4_gives none M0) {l0 : Option Nat} {s0 : Option Nat} {M : jW} (hF : f_X4_gives_b39 l0 s0 M = some (v0, M0)) : jJ x 39 [(0, jR l0)] [jR s0] M 0 0 := by
  unfold f_X4_gives_b39 at hF
  refine jj_aload_n C 0 rfl dX4_gives_39 rfl ?_
  refine jj_pI (f := 9) C jcs_3 (Nat.le_of_ble_eq_true rfl) (jLk.of C q510 rfl) dX4_gives_40 hF (fun v40 hF => ?_)
  refine jj_sub [0] rfl ?_
  exact w_X4_gives_b43 C hxn hQ hF
def f_X4_gives (a0 : Option Nat) (a1 : Int32) (a2 : Int32) (M : jW) : Option (Unit × jW) := pR M a0 3 4 fun v1 =>
  pAI M v1 0 (0 : Int32) fun v6 =>
  pSI M v1 (0 : Int32) (v6 + (a1 &&& (1 : Int32))) fun M11 =>
  pR M11 a0 3 4 fun v13 =>
  pAI M11 v13 0 (1 : Int32) fun v18 =>
  pSI M11 v13 (1 : Int32) (v18 + ((a1 >>> ((1 : Int32) &&& 31)) &&& (1 : Int32))) fun M25 =>
  if a2 = 0 then (f_X4_gives_b39 a0 a0 M25)
  else (if a1 ≤ 0 then (f_X4_gives_b39 a0 a0 M25)
  else (f_X4_gives_b43 a0 a0 (0 : Int32) M25))
set_option maxHeartbeats 4000000 in
theorem m_X4_gives (l : Launch) (g : jG) {a0 : Option Nat} {a1 : Int32} {a2 : Int32} {M M0 : jW} {v0 : Unit} (hF : f_X4_gives a0 a1 a2 M = some (v0, M0)) : jMet l g yX4_gives cX4_gives 4 none rm_X4_gives [jR a0, jI a1, jI a2] M none M0 := by
  refine jMet.of (L := [(0, jR a0), (1, jI a1), (2, jI a2)]) (by decide) rfl (Nat.le_of_ble_eq_true rfl) (fun x C hxn hg hl hQ hin => ?_)
  subst hg
  unfold f_X4_gives at hF
  refine jj_aload_n C 0 rfl dX4_gives_0 rfl ?_
  refine jj_pR (f := 4) C jcs_3 (Nat.le_of_ble_eq_true rfl) (jLk.of C q500 rfl) dX4_gives_1 hF (fun v1 hF => ?_)
  refine jj_iconst (v := 0) C dX4_gives_4 (by decide) ?_
  refine jj_dup2 C dX4_gives_5 rfl rfl ?_
  refine jj_iald C dX4_gives_6 hF (fun v6 hF => ?_)
  refine jj_iload_n C 1 rfl dX4_gives_7 rfl ?_
  refine jj_iconst (v := 1) C dX4_gives_8 (by decide) ?_
  refine jj_iand C dX4_gives_9 ?_
  refine jj_iadd C dX4_gives_10 ?_
  refine jj_iast C dX4_gives_11 hF (fun M11 hF => ?_)
  refine jj_aload_n C 0 rfl dX4_gives_12 rfl ?_
  refine jj_pR (f := 4) C jcs_3 (Nat.le_of_ble_eq_true rfl) (jLk.of C q500 rfl) dX4_gives_13 hF (fun v13 hF => ?_)
  refine jj_iconst (v := 1) C dX4_gives_16 (by decide) ?_
  refine jj_dup2 C dX4_gives_17 rfl rfl ?_
  refine jj_iald C dX4_gives_18 hF (fun v18 hF => ?_)
  refine jj_iload_n C 1 rfl dX4_gives_19 rfl ?_
  refine jj_iconst (v := 1) C dX4_gives_20 (by decide) ?_
  refine jj_ishr C dX4_gives_21 ?_
  refine jj_iconst (v := 1) C dX4_gives_22 (by decide) ?_
  refine jj_iand C dX4_gives_23 ?_
  refine jj_iadd C dX4_gives_24 ?_
  refine jj_iast C dX4_gives_25 hF (fun M25 hF => ?_)
  refine jj_aload_n C 0 rfl dX4_gives_26 rfl ?_
  refine jj_iload_n C 2 rfl dX4_gives_27 rfl ?_
  refine jj_if_eq (tgt := 39) C dX4_gives_28 (by decide) hF (fun hF => ?_) (fun hF => ?_)
  · refine jj_sub [0] rfl ?_
    exact w_X4_gives_b39 C hxn hQ hF
  · refine jj_iload_n C 1 rfl dX4_gives_31 rfl ?_
    refine jj_if_le (tgt := 39) C dX4_gives_32 (by decide) hF (fun hF => ?_) (fun hF => ?_)
    · refine jj_sub [0] rfl ?_
      exact w_X4_gives_b39 C hxn hQ hF
    · refine jj_iconst (v := 0) C dX4_gives_35 (by decide) ?_
      refine jj_goto (tgt := 43) C dX4_gives_36 (by decide) ?_
      refine jj_sub [0] rfl ?_
      exact w_X4_gives_b43 C hxn hQ hF
/-! Phrasehall.judge()I -/
def rm_X1_judge : Room := ({ frames := 7, cells := 2, slots := 11, locals := 206 } : Room)
theorem hd_X1_judge : yX1_judge.cls ≠ "java/lang/invoke/MethodHandle" ∧ yX1_judge.cls ≠ "java/lang/invoke/VarHandle" ∧ (parseMethodDescriptor yX1_judge.desc).map (fun d => d.parameters.length) = some 0 := ⟨by decide, by decide, by decide +kernel⟩
def f_X1_judge_b12 (l0 : Option Nat) (s0 : Int32) (M : jW) : Option ((Int32 ⊕ Nat) × jW) := pX (f_X1_requireState s0 M) fun _ M12 =>
  pO M12 l0 0 fun b18 _ => pB (f_X1_registered (some b18) (0 : Int32) M12) fun r18 M18 =>
  pO M18 l0 0 fun b23 _ => pB (f_X1_registered (some b23) (1 : Int32) M18) fun r23 M23 =>
  pO M23 l0 0 fun b26 _ => pB (f_X1_given (some b26) r18 r23 M23) fun r26 M26 =>
  pR M26 l0 0 3 fun v31 =>
  pO M26 v31 9 fun b34 _ => pB (f_J2_clear (some b34)  M26) fun _ M34 =>
  pR M34 l0 0 4 fun v38 =>
  pO M34 v38 3 fun b43 _ => pB (f_X4_gives (some b43) r26 (1 : Int32) M34) fun _ M43 =>
  some (.inl r26, M43)
set_option maxHeartbeats 4000000 in
theorem w_X1_judge_b12 {x : jX} (C : jOk x cX1_judge RX1 rm_X1_judge (some .int)) (hxn : xn x = 2) {v0 : (Int32 ⊕ Nat)} {M0 : jW} (hQ : jEndX x rm_X1_judge (jri v0) M0) {l0 : Option Nat} {s0 : Int32} {M : jW} {k n : Nat} (hk : k + 2 ≤ 2 ∧ n + 11 ≤ 11) (hF : f_X1_judge_b12 l0 s0 M = some (v0, M0)) : jJ x 12 [(0, jR l0)] [jI s0] M k n := by
  unfold f_X1_judge_b12 at hF
  rcases pX_spec2 hF with ⟨r12, M12, hG, hF⟩ | ⟨r12, M12, hG, hF⟩
  · cases hF
    exact jj_callSXx (k' := k + 1) (n' := n + 6) C hQ [jI s0] [] (m_X1_requireState _ _ hQ.2.2 hG) rfl rfl q233 q234 q42 q235 hd_X1_requireState rfl (Nat.le_of_ble_eq_true rfl) ⟨Nat.le_of_ble_eq_true rfl, Nat.le_of_ble_eq_true rfl⟩ ⟨by show k + 1 ≤ k + 1; omega, by show n + 6 ≤ n + 6; omega, by show k + 1 ≤ 2; omega, by show n + 6 ≤ 11; omega⟩ dX1_judge_12
  refine jj_callSX (k' := k + 1) (n' := n + 6) C [jI s0] [] [] (m_X1_requireState _ _ hQ.2.2 hG) rfl q233 q234 q42 q235 hd_X1_requireState rfl (Nat.le_of_ble_eq_true rfl) ⟨Nat.le_of_ble_eq_true rfl, Nat.le_of_ble_eq_true rfl⟩ ⟨by show k + 1 ≤ k + 1; omega, by show n + 6 ≤ n + 6; omega, by show k + 1 ≤ 2; omega, by show n + 6 ≤ 11; omega⟩ dX1_judge_12 rfl ?_
  refine jj_aload_n C 0 rfl dX1_judge_15 rfl ?_
  refine jj_aload_n C 0 rfl dX1_judge_16 rfl ?_
  refine jj_iconst (v := 0) C dX1_judge_17 (by decide) ?_
  obtain ⟨b18, fs18, he18, hb18, hF⟩ := pO_spec hF
  obtain ⟨r18, M18, hG, hF⟩ := pB_spec hF
  refine jj_callV (k' := k + 1) (n' := n + 6) C [jI (0 : Int32)] [jR l0] [jI r18, jR l0] he18 (m_X1_registered _ _ hG) hb18 rfl q630 q632 qs9 q42 q633 ⟨rfl, hd_X1_registered⟩ rfl (Nat.le_of_ble_eq_true rfl) ⟨Nat.le_of_ble_eq_true rfl, Nat.le_of_ble_eq_true rfl⟩ ⟨by show k + 1 + 0 ≤ k + 1; omega, by show n + 6 + 0 ≤ n + 6; omega, by show k + 1 ≤ 2; omega, by show n + 6 ≤ 11; omega⟩ dX1_judge_18 rfl ?_
  refine jj_aload_n C 0 rfl dX1_judge_21 rfl ?_
  refine jj_iconst (v := 1) C dX1_judge_22 (by decide) ?_
  obtain ⟨b23, fs23, he23, hb23, hF⟩ := pO_spec hF
  obtain ⟨r23, M23, hG, hF⟩ := pB_spec hF
  refine jj_callV (k' := k + 1) (n' := n + 6) C [jI (1 : Int32)] [jI r18, jR l0] [jI r23, jI r18, jR l0] he23 (m_X1_registered _ _ hG) hb23 rfl q630 q632 qs9 q42 q633 ⟨rfl, hd_X1_registered⟩ rfl (Nat.le_of_ble_eq_true rfl) ⟨Nat.le_of_ble_eq_true rfl, Nat.le_of_ble_eq_true rfl⟩ ⟨by show k + 1 + 0 ≤ k + 1; omega, by show n + 6 + 0 ≤ n + 6; omega, by show k + 1 ≤ 2; omega, by show n + 6 ≤ 11; omega⟩ dX1_judge_23 rfl ?_
  obtain ⟨b26, fs26, he26, hb26, hF⟩ := pO_spec hF
  obtain ⟨r26, M26, hG, hF⟩ := pB_spec hF
  refine jj_callV (k' := k + 1 + 1) (n' := n + 6 + 5) C [jI r18, jI r23] [] [jI r26] he26 (m_X1_given _ _ hG) hb26 rfl q655 q657 qs10 q42 q658 ⟨rfl, hd_X1_given⟩ rfl (Nat.le_of_ble_eq_true rfl) ⟨Nat.le_of_ble_eq_true rfl, Nat.le_of_ble_eq_true rfl⟩ ⟨by show k + 1 + 1 ≤ k + 1 + 1; omega, by show n + 6 + 5 ≤ n + 6 + 5; omega, by show k + 1 + 1 ≤ 2; omega, by show n + 6 + 5 ≤ 11; omega⟩ dX1_judge_26 rfl ?_
  refine jj_istore_n (L' := [(1, jI r26), (0, jR l0)]) C rfl (by rw [hxn]; decide) dX1_judge_29 rfl ?_
  refine jj_aload_n C 1 rfl dX1_judge_30 rfl ?_
  refine jj_pR (f := 3) C jcs_0 (Nat.le_of_ble_eq_true rfl) (jLk.of C q120 rfl) dX1_judge_31 hF (fun v31 hF => ?_)
  obtain ⟨b34, fs34, he34, hb34, hF⟩ := pO_spec hF
  obtain ⟨r34, M34, hG, hF⟩ := pB_spec hF
  refine jj_callV (k' := k + 1 + 1) (n' := n + 6 + 5) C [] [] [] he34 (m_J2_clear _ _ hG) hb34 rfl q669 q670 q671 q45 q672 ⟨rfl, hd_J2_clear⟩ rfl (Nat.le_of_ble_eq_true rfl) ⟨Nat.le_of_ble_eq_true rfl, Nat.le_of_ble_eq_true rfl⟩ ⟨by show k + 1 + 1 + 0 ≤ k + 1 + 1; omega, by show n + 6 + 5 + 0 ≤ n + 6 + 5; omega, by show k + 1 + 1 ≤ 2; omega, by show n + 6 + 5 ≤ 11; omega⟩ dX1_judge_34 rfl ?_
  refine jj_aload_n C 1 rfl dX1_judge_37 rfl ?_
  refine jj_pR (f := 4) C jcs_0 (Nat.le_of_ble_eq_true rfl) (jLk.of C q122 rfl) dX1_judge_38 hF (fun v38 hF => ?_)
  refine jj_iload_n C 0 rfl dX1_judge_41 rfl ?_
  refine jj_iconst (v := 1) C dX1_judge_42 (by decide) ?_
  obtain ⟨b43, fs43, he43, hb43, hF⟩ := pO_spec hF
  obtain ⟨r43, M43, hG, hF⟩ := pB_spec hF
  refine jj_callV (k' := k + 1 + 1) (n' := n + 6 + 5) C [jI r26, jI (1 : Int32)] [] [] he43 (m_X4_gives _ _ hG) hb43 rfl q673 q674 q675 q62 q676 ⟨rfl, hd_X4_gives⟩ rfl (Nat.le_of_ble_eq_true rfl) ⟨Nat.le_of_ble_eq_true rfl, Nat.le_of_ble_eq_true rfl⟩ ⟨by show k + 1 + 1 + 0 ≤ k + 1 + 1; omega, by show n + 6 + 5 + 0 ≤ n + 6 + 5; omega, by show k + 1 + 1 ≤ 2; omega, by show n + 6 + 5 ≤ 11; omega⟩ dX1_judge_43 rfl ?_
  refine jj_iload_n C 0 rfl dX1_judge_46 rfl ?_
  exact jj_iretX C hQ dX1_judge_47 hF (by show k + 1 + 1 ≤ 2; omega) (by show n + 6 + 5 ≤ 11; omega)
def f_X1_judge (a0 : Option Nat) (M : jW) : Option ((Int32 ⊕ Nat) × jW) := pR M a0 0 4 fun v1 =>
  pZ v1 (f_X1_judge_b12 a0 (0 : Int32) M)
  (f_X1_judge_b12 a0 (1 : Int32) M)
set_option maxHeartbeats 4000000 in
theorem m_X1_judge (l : Launch) (g : jG) (hfl : l.stackTraces = false) {a0 : Option Nat} {M M0 : jW} {v0 : (Int32 ⊕ Nat)} (hF : f_X1_judge a0 M = some (v0, M0)) : jMetX l g yX1_judge cX1_judge 2 (some .int) rm_X1_judge [jR a0] M (jri v0) M0 := by
  refine jMetX.of (L := [(0, jR a0)]) hfl (by decide) rfl (Nat.le_of_ble_eq_true rfl) (fun x C hxn hg hl hQ => ?_)
  subst hg
  unfold f_X1_judge at hF
  refine jj_aload_n C 0 rfl dX1_judge_0 rfl ?_
  refine jj_pR (f := 4) C jcs_0 (Nat.le_of_ble_eq_true rfl) (jLk.of C q122 rfl) dX1_judge_1 hF (fun v1 hF => ?_)
  refine jj_ifnull (tgt := 11) C dX1_judge_4 (by decide) hF (fun hF => ?_) (fun hF => ?_)
  · refine jj_iconst (v := 0) C dX1_judge_11 (by decide) ?_
    refine jj_sub [0] rfl ?_
    exact w_X1_judge_b12 C hxn hQ (by omega) hF
  · refine jj_iconst (v := 1) C dX1_judge_7 (by decide) ?_
    refine jj_goto (tgt := 12) C dX1_judge_8 (by decide) ?_
    refine jj_sub [0] rfl ?_
    exact w_X1_judge_b12 C hxn hQ (by omega) hF
/-! Phrasehall$Bout.cards(II)I -/
def rm_X4_cards : Room := ({ frames := 6, cells := 0, slots := 0, locals := 171 } : Room)
theorem hd_X4_cards : yX4_cards.cls ≠ "java/lang/invoke/MethodHandle" ∧ yX4_cards.cls ≠ "java/lang/invoke/VarHandle" ∧ (parseMethodDescriptor yX4_cards.desc).map (fun d => d.parameters.length) = some 2 := ⟨by decide, by decide, by decide +kernel⟩
def f_X4_cards_b116 (l4 : Int32) (s0 : Option Nat) (s1 : Int32) (M : jW) : Option (Int32 × jW) := pO M s0 3 fun b117 _ => pB (f_X4_gives (some b117) s1 (1 : Int32) M) fun _ M117 =>
  some (l4, M117)
set_option maxHeartbeats 4000000 in
theorem w_X4_cards_b116 {x : jX} (C : jOk x cX4_cards RX4 rm_X4_cards (some .int)) (hxn : xn x = 5) {v0 : Int32} {M0 : jW} (hQ : jEnd x rm_X4_cards (some (jI v0)) M0) {l4 : Int32} {s0 : Option Nat} {s1 : Int32} {M : jW} (hF : f_X4_cards_b116 l4 s0 s1 M = some (v0, M0)) : jJ x 116 [(4, jI l4)] [jI s1, jR s0] M 0 0 := by
  unfold f_X4_cards_b116 at hF
  refine jj_iconst (v := 1) C dX4_cards_116 (by decide) ?_
  obtain ⟨b117, fs117, he117, hb117, hF⟩ := pO_spec hF
  obtain ⟨r117, M117, hG, hF⟩ := pB_spec hF
  refine jj_callV (k' := 0) (n' := 0) C [jI s1, jI (1 : Int32)] [] [] he117 (m_X4_gives _ _ hG) hb117 rfl q710 q674 q675 q62 q676 ⟨rfl, hd_X4_gives⟩ rfl (Nat.le_of_ble_eq_true rfl) ⟨Nat.le_of_ble_eq_true rfl, Nat.le_of_ble_eq_true rfl⟩ ⟨Nat.le_refl _, Nat.le_refl _, Nat.le_refl _, Nat.le_refl _⟩ dX4_cards_117 rfl ?_
  refine jj_iload C 0 rfl dX4_cards_120 ?_
  exact jj_iret C hQ dX4_cards_122 hF (Nat.zero_le _) (Nat.zero_le _)
def f_X4_cards_b83 (l0 : Option Nat) (l1 : Int32) (l4 : Int32) (s0 : Option Nat) (s1 : Int32) (s2 : Int32) (M : jW) : Option (Int32 × jW) := pSZ M s0 s1 s2 fun M83 =>
  if l4 = (3 : Int32) then (pO M83 l0 3 fun b94 _ => pB (f_X4_ends (some b94) ((1 : Int32) - l1) M83) fun _ M94 =>
  some (l4, M94))
  else (if l4 = (2 : Int32) then (if l1 = 0 then (f_X4_cards_b116 l4 l0 (2 : Int32) M83)
  else (f_X4_cards_b116 l4 l0 (1 : Int32) M83))
  else (some (l4, M83)))
set_option maxHeartbeats 4000000 in
theorem w_X4_cards_b83 {x : jX} (C : jOk x cX4_cards RX4 rm_X4_cards (some .int)) (hxn : xn x = 5) {v0 : Int32} {M0 : jW} (hQ : jEnd x rm_X4_cards (some (jI v0)) M0) {l0 : Option Nat} {l1 : Int32} {l4 : Int32} {s0 : Option Nat} {s1 : Int32} {s2 : Int32} {M : jW} (hF : f_X4_cards_b83 l0 l1 l4 s0 s1 s2 M = some (v0, M0)) : jJ x 83 [(0, jR l0), (1, jI l1), (4, jI l4)] [jI s2, jI s1, jR s0] M 0 0 := by
  unfold f_X4_cards_b83 at hF
  refine jj_zast C dX4_cards_83 hF (fun M83 hF => ?_)
  refine jj_iload C 2 rfl dX4_cards_84 ?_
  refine jj_iconst (v := 3) C dX4_cards_86 (by decide) ?_
  refine jj_icmp_ne (tgt := 100) C dX4_cards_87 (by decide) hF (fun hF => ?_) (fun hF => ?_)
  · refine jj_iload C 2 rfl dX4_cards_100 ?_
    refine jj_iconst (v := 2) C dX4_cards_102 (by decide) ?_
    refine jj_icmp_ne (tgt := 120) C dX4_cards_103 (by decide) hF (fun hF => ?_) (fun hF => ?_)
    · refine jj_iload C 2 rfl dX4_cards_120 ?_
      exact jj_iret C hQ dX4_cards_122 hF (Nat.zero_le _) (Nat.zero_le _)
    · refine jj_aload_n C 0 rfl dX4_cards_106 rfl ?_
      refine jj_iload_n C 1 rfl dX4_cards_107 rfl ?_
      refine jj_if_ne (tgt := 115) C dX4_cards_108 (by decide) hF (fun hF => ?_) (fun hF => ?_)
      · refine jj_iconst (v := 1) C dX4_cards_115 (by decide) ?_
        refine jj_sub [2] rfl ?_
        exact w_X4_cards_b116 C hxn hQ hF
      · refine jj_iconst (v := 2) C dX4_cards_111 (by decide) ?_
        refine jj_goto (tgt := 116) C dX4_cards_112 (by decide) ?_
        refine jj_sub [2] rfl ?_
        exact w_X4_cards_b116 C hxn hQ hF
  · refine jj_aload_n C 0 rfl dX4_cards_90 rfl ?_
    refine jj_iconst (v := 1) C dX4_cards_91 (by decide) ?_
    refine jj_iload_n C 1 rfl dX4_cards_92 rfl ?_
    refine jj_isub C dX4_cards_93 ?_
    obtain ⟨b94, fs94, he94, hb94, hF⟩ := pO_spec hF
    obtain ⟨r94, M94, hG, hF⟩ := pB_spec hF
    refine jj_callV (k' := 0) (n' := 0) C [jI ((1 : Int32) - l1)] [] [] he94 (m_X4_ends _ _ hG) hb94 rfl q681 q682 q683 q62 q684 ⟨rfl, hd_X4_ends⟩ rfl (Nat.le_of_ble_eq_true rfl) ⟨Nat.le_of_ble_eq_true rfl, Nat.le_of_ble_eq_true rfl⟩ ⟨Nat.le_refl _, Nat.le_refl _, Nat.le_refl _, Nat.le_refl _⟩ dX4_cards_94 rfl ?_
    refine jj_goto (tgt := 120) C dX4_cards_97 (by decide) ?_
    refine jj_iload C 2 rfl dX4_cards_120 ?_
    exact jj_iret C hQ dX4_cards_122 hF (Nat.zero_le _) (Nat.zero_le _)
def f_X4_cards_b78 (l0 : Option Nat) (l1 : Int32) (l4 : Int32) (s0 : Option Nat) (s1 : Int32) (M : jW) : Option (Int32 × jW) := f_X4_cards_b83 l0 l1 l4 s0 s1 (1 : Int32) M
set_option maxHeartbeats 4000000 in
theorem w_X4_cards_b78 {x : jX} (C : jOk x cX4_cards RX4 rm_X4_cards (some .int)) (hxn : xn x = 5) {v0 : Int32} {M0 : jW} (hQ : jEnd x rm_X4_cards (some (jI v0)) M0) {l0 : Option Nat} {l1 : Int32} {l4 : Int32} {s0 : Option Nat} {s1 : Int32} {M : jW} (hF : f_X4_cards_b78 l0 l1 l4 s0 s1 M = some (v0, M0)) : jJ x 78 [(0, jR l0), (1, jI l1), (4, jI l4)] [jI s1, jR s0] M 0 0 := by
  unfold f_X4_cards_b78 at hF
  refine jj_iconst (v := 1) C dX4_cards_78 (by decide) ?_
  refine jj_goto (tgt := 83) C dX4_cards_79 (by decide) ?_
  refine jj_sub [0, 1, 2] rfl ?_
  exact w_X4_cards_b83 C hxn hQ hF
def f_X4_cards_b47 (l0 : Option Nat) (l1 : Int32) (l2 : Int32) (s0 : Int32) (M : jW) : Option (Int32 × jW) := pR M l0 3 5 fun v50 =>
  pAI M v50 0 l1 fun v55 =>
  pSI M v50 l1 (v55 + (1 : Int32)) fun M58 =>
  pR M58 l0 3 6 fun v60 =>
  pR M58 l0 3 6 fun v65 =>
  pAI M58 v65 1 l1 fun v69 =>
  if v69 = 0 then (if l2 = (3 : Int32) then (f_X4_cards_b78 l0 l1 s0 v60 l1 M58)
  else (f_X4_cards_b83 l0 l1 s0 v60 l1 (0 : Int32) M58))
  else (f_X4_cards_b78 l0 l1 s0 v60 l1 M58)
set_option maxHeartbeats 4000000 in
theorem w_X4_cards_b47 {x : jX} (C : jOk x cX4_cards RX4 rm_X4_cards (some .int)) (hxn : xn x = 5) {v0 : Int32} {M0 : jW} (hQ : jEnd x rm_X4_cards (some (jI v0)) M0) {l0 : Option Nat} {l1 : Int32} {l2 : Int32} {s0 : Int32} {M : jW} (hF : f_X4_cards_b47 l0 l1 l2 s0 M = some (v0, M0)) : jJ x 47 [(0, jR l0), (1, jI l1), (2, jI l2)] [jI s0] M 0 0 := by
  unfold f_X4_cards_b47 at hF
  refine jj_istore (L' := [(4, jI s0), (0, jR l0), (1, jI l1), (2, jI l2)]) C rfl (by rw [hxn]; decide) dX4_cards_47 ?_
  refine jj_aload_n C 1 rfl dX4_cards_49 rfl ?_
  refine jj_pR (f := 5) C jcs_3 (Nat.le_of_ble_eq_true rfl) (jLk.of C q503 rfl) dX4_cards_50 hF (fun v50 hF => ?_)
  refine jj_iload_n C 2 rfl dX4_cards_53 rfl ?_
  refine jj_dup2 C dX4_cards_54 rfl rfl ?_
  refine jj_iald C dX4_cards_55 hF (fun v55 hF => ?_)
  refine jj_iconst (v := 1) C dX4_cards_56 (by decide) ?_
  refine jj_iadd C dX4_cards_57 ?_
  refine jj_iast C dX4_cards_58 hF (fun M58 hF => ?_)
  refine jj_aload_n C 1 rfl dX4_cards_59 rfl ?_
  refine jj_pR (f := 6) C jcs_3 (Nat.le_of_ble_eq_true rfl) (jLk.of C q504 rfl) dX4_cards_60 hF (fun v60 hF => ?_)
  refine jj_iload_n C 2 rfl dX4_cards_63 rfl ?_
  refine jj_aload_n C 1 rfl dX4_cards_64 rfl ?_
  refine jj_pR (f := 6) C jcs_3 (Nat.le_of_ble_eq_true rfl) (jLk.of C q504 rfl) dX4_cards_65 hF (fun v65 hF => ?_)
  refine jj_iload_n C 2 rfl dX4_cards_68 rfl ?_
  refine jj_zald C dX4_cards_69 hF (fun v69 hF => ?_)
  refine jj_if_ne (tgt := 78) C dX4_cards_70 (by decide) hF (fun hF => ?_) (fun hF => ?_)
  · refine jj_sub [1, 2, 0] rfl ?_
    exact w_X4_cards_b78 C hxn hQ hF
  · refine jj_iload_n C 3 rfl dX4_cards_73 rfl ?_
    refine jj_iconst (v := 3) C dX4_cards_74 (by decide) ?_
    refine jj_icmp_ne (tgt := 82) C dX4_cards_75 (by decide) hF (fun hF => ?_) (fun hF => ?_)
    · refine jj_iconst (v := 0) C dX4_cards_82 (by decide) ?_
      refine jj_sub [1, 2, 0] rfl ?_
      exact w_X4_cards_b83 C hxn hQ hF
    · refine jj_sub [1, 2, 0] rfl ?_
      exact w_X4_cards_b78 C hxn hQ hF
def f_X4_cards_b46 (l0 : Option Nat) (l1 : Int32) (l2 : Int32) (M : jW) : Option (Int32 × jW) := f_X4_cards_b47 l0 l1 l2 (2 : Int32) M
set_option maxHeartbeats 4000000 in
theorem w_X4_cards_b46 {x : jX} (C : jOk x cX4_cards RX4 rm_X4_cards (some .int)) (hxn : xn x = 5) {v0 : Int32} {M0 : jW} (hQ : jEnd x rm_X4_cards (some (jI v0)) M0) {l0 : Option Nat} {l1 : Int32} {l2 : Int32} {M : jW} (hF : f_X4_cards_b46 l0 l1 l2 M = some (v0, M0)) : jJ x 46 [(0, jR l0), (1, jI l1), (2, jI l2)] [] M 0 0 := by
  unfold f_X4_cards_b46 at hF
  refine jj_iconst (v := 2) C dX4_cards_46 (by decide) ?_
  refine jj_sub [0, 1, 2] rfl ?_
  exact w_X4_cards_b47 C hxn hQ hF
def f_X4_cards_b19 (l0 : Option Nat) (l1 : Int32) (l2 : Int32) (s0 : Int32) (M : jW) : Option (Int32 × jW) := if s0 = 0 then (if l2 = (1 : Int32) then (pR M l0 3 5 fun v34 =>
  pAI M v34 0 l1 fun v38 =>
  if v38 = 0 then (f_X4_cards_b47 l0 l1 l2 (1 : Int32) M)
  else (f_X4_cards_b46 l0 l1 l2 M))
  else (f_X4_cards_b46 l0 l1 l2 M))
  else (f_X4_cards_b47 l0 l1 l2 (3 : Int32) M)
set_option maxHeartbeats 4000000 in
theorem w_X4_cards_b19 {x : jX} (C : jOk x cX4_cards RX4 rm_X4_cards (some .int)) (hxn : xn x = 5) {v0 : Int32} {M0 : jW} (hQ : jEnd x rm_X4_cards (some (jI v0)) M0) {l0 : Option Nat} {l1 : Int32} {l2 : Int32} {s0 : Int32} {M : jW} (hF : f_X4_cards_b19 l0 l1 l2 s0 M = some (v0, M0)) : jJ x 19 [(0, jR l0), (1, jI l1), (2, jI l2)] [jI s0] M 0 0 := by
  unfold f_X4_cards_b19 at hF
  refine jj_istore_n (L' := [(3, jI s0), (0, jR l0), (1, jI l1), (2, jI l2)]) C rfl (by rw [hxn]; decide) dX4_cards_19 rfl ?_
  refine jj_iload_n C 0 rfl dX4_cards_20 rfl ?_
  refine jj_if_eq (tgt := 28) C dX4_cards_21 (by decide) hF (fun hF => ?_) (fun hF => ?_)
  · refine jj_iload_n C 3 rfl dX4_cards_28 rfl ?_
    refine jj_iconst (v := 1) C dX4_cards_29 (by decide) ?_
    refine jj_icmp_ne (tgt := 46) C dX4_cards_30 (by decide) hF (fun hF => ?_) (fun hF => ?_)
    · refine jj_sub [1, 2, 3] rfl ?_
      exact w_X4_cards_b46 C hxn hQ hF
    · refine jj_aload_n C 1 rfl dX4_cards_33 rfl ?_
      refine jj_pR (f := 5) C jcs_3 (Nat.le_of_ble_eq_true rfl) (jLk.of C q503 rfl) dX4_cards_34 hF (fun v34 hF => ?_)
      refine jj_iload_n C 2 rfl dX4_cards_37 rfl ?_
      refine jj_iald C dX4_cards_38 hF (fun v38 hF => ?_)
      refine jj_if_ne (tgt := 46) C dX4_cards_39 (by decide) hF (fun hF => ?_) (fun hF => ?_)
      · refine jj_sub [1, 2, 3] rfl ?_
        exact w_X4_cards_b46 C hxn hQ hF
      · refine jj_iconst (v := 1) C dX4_cards_42 (by decide) ?_
        refine jj_goto (tgt := 47) C dX4_cards_43 (by decide) ?_
        refine jj_sub [1, 2, 3] rfl ?_
        exact w_X4_cards_b47 C hxn hQ hF
  · refine jj_iconst (v := 3) C dX4_cards_24 (by decide) ?_
    refine jj_goto (tgt := 47) C dX4_cards_25 (by decide) ?_
    refine jj_sub [1, 2, 3] rfl ?_
    exact w_X4_cards_b47 C hxn hQ hF
def f_X4_cards_b18 (l0 : Option Nat) (l1 : Int32) (l2 : Int32) (M : jW) : Option (Int32 × jW) := f_X4_cards_b19 l0 l1 l2 (0 : Int32) M
set_option maxHeartbeats 4000000 in
theorem w_X4_cards_b18 {x : jX} (C : jOk x cX4_cards RX4 rm_X4_cards (some .int)) (hxn : xn x = 5) {v0 : Int32} {M0 : jW} (hQ : jEnd x rm_X4_cards (some (jI v0)) M0) {l0 : Option Nat} {l1 : Int32} {l2 : Int32} {M : jW} (hF : f_X4_cards_b18 l0 l1 l2 M = some (v0, M0)) : jJ x 18 [(0, jR l0), (1, jI l1), (2, jI l2)] [] M 0 0 := by
  unfold f_X4_cards_b18 at hF
  refine jj_iconst (v := 0) C dX4_cards_18 (by decide) ?_
  refine jj_sub [0, 1, 2] rfl ?_
  exact w_X4_cards_b19 C hxn hQ hF
def f_X4_cards (a0 : Option Nat) (a1 : Int32) (a2 : Int32) (M : jW) : Option (Int32 × jW) := if a2 = (3 : Int32) then (pR M a0 3 6 fun v6 =>
  pAI M v6 1 a1 fun v10 =>
  if v10 = 0 then (f_X4_cards_b18 a0 a1 a2 M)
  else (f_X4_cards_b19 a0 a1 a2 (1 : Int32) M))
  else (f_X4_cards_b18 a0 a1 a2 M)
set_option maxHeartbeats 4000000 in
theorem m_X4_cards (l : Launch) (g : jG) {a0 : Option Nat} {a1 : Int32} {a2 : Int32} {M M0 : jW} {v0 : Int32} (hF : f_X4_cards a0 a1 a2 M = some (v0, M0)) : jMet l g yX4_cards cX4_cards 5 (some .int) rm_X4_cards [jR a0, jI a1, jI a2] M (some (jI v0)) M0 := by
  refine jMet.of (L := [(0, jR a0), (1, jI a1), (2, jI a2)]) (by decide) rfl (Nat.le_of_ble_eq_true rfl) (fun x C hxn hg hl hQ hin => ?_)
  subst hg
  unfold f_X4_cards at hF
  refine jj_iload_n C 2 rfl dX4_cards_0 rfl ?_
  refine jj_iconst (v := 3) C dX4_cards_1 (by decide) ?_
  refine jj_icmp_ne (tgt := 18) C dX4_cards_2 (by decide) hF (fun hF => ?_) (fun hF => ?_)
  · refine jj_sub [0, 1, 2] rfl ?_
    exact w_X4_cards_b18 C hxn hQ hF
  · refine jj_aload_n C 0 rfl dX4_cards_5 rfl ?_
    refine jj_pR (f := 6) C jcs_3 (Nat.le_of_ble_eq_true rfl) (jLk.of C q504 rfl) dX4_cards_6 hF (fun v6 hF => ?_)
    refine jj_iload_n C 1 rfl dX4_cards_9 rfl ?_
    refine jj_zald C dX4_cards_10 hF (fun v10 hF => ?_)
    refine jj_if_eq (tgt := 18) C dX4_cards_11 (by decide) hF (fun hF => ?_) (fun hF => ?_)
    · refine jj_sub [0, 1, 2] rfl ?_
      exact w_X4_cards_b18 C hxn hQ hF
    · refine jj_iconst (v := 1) C dX4_cards_14 (by decide) ?_
      refine jj_goto (tgt := 19) C dX4_cards_15 (by decide) ?_
      refine jj_sub [0, 1, 2] rfl ?_
      exact w_X4_cards_b19 C hxn hQ hF
/-! Phrasehall.card(II)I -/
def rm_X1_card : Room := ({ frames := 7, cells := 2, slots := 12, locals := 195 } : Room)
theorem hd_X1_card : yX1_card.cls ≠ "java/lang/invoke/MethodHandle" ∧ yX1_card.cls ≠ "java/lang/invoke/VarHandle" ∧ (parseMethodDescriptor yX1_card.desc).map (fun d => d.parameters.length) = some 2 := ⟨by decide, by decide, by decide +kernel⟩
def f_X1_card_b36 (l0 : Option Nat) (l1 : Int32) (l2 : Int32) (s0 : Int32) (M : jW) : Option ((Int32 ⊕ Nat) × jW) := pX (f_X1_requireState s0 M) fun _ M36 =>
  pR M36 l0 0 4 fun v40 =>
  pO M36 v40 3 fun b45 _ => pB (f_X4_cards (some b45) l1 l2 M36) fun r45 M45 =>
  some (.inl r45, M45)
set_option maxHeartbeats 4000000 in
theorem w_X1_card_b36 {x : jX} (C : jOk x cX1_card RX1 rm_X1_card (some .int)) (hxn : xn x = 3) {v0 : (Int32 ⊕ Nat)} {M0 : jW} (hQ : jEndX x rm_X1_card (jri v0) M0) {l0 : Option Nat} {l1 : Int32} {l2 : Int32} {s0 : Int32} {M : jW} {k n : Nat} (hk : k + 1 ≤ 2 ∧ n + 6 ≤ 12) (hF : f_X1_card_b36 l0 l1 l2 s0 M = some (v0, M0)) : jJ x 36 [(0, jR l0), (1, jI l1), (2, jI l2)] [jI s0] M k n := by
  unfold f_X1_card_b36 at hF
  rcases pX_spec2 hF with ⟨r36, M36, hG, hF⟩ | ⟨r36, M36, hG, hF⟩
  · cases hF
    exact jj_callSXx (k' := k + 1) (n' := n + 6) C hQ [jI s0] [] (m_X1_requireState _ _ hQ.2.2 hG) rfl rfl q233 q234 q42 q235 hd_X1_requireState rfl (Nat.le_of_ble_eq_true rfl) ⟨Nat.le_of_ble_eq_true rfl, Nat.le_of_ble_eq_true rfl⟩ ⟨by show k + 1 ≤ k + 1; omega, by show n + 6 ≤ n + 6; omega, by show k + 1 ≤ 2; omega, by show n + 6 ≤ 12; omega⟩ dX1_card_36
  refine jj_callSX (k' := k + 1) (n' := n + 6) C [jI s0] [] [] (m_X1_requireState _ _ hQ.2.2 hG) rfl q233 q234 q42 q235 hd_X1_requireState rfl (Nat.le_of_ble_eq_true rfl) ⟨Nat.le_of_ble_eq_true rfl, Nat.le_of_ble_eq_true rfl⟩ ⟨by show k + 1 ≤ k + 1; omega, by show n + 6 ≤ n + 6; omega, by show k + 1 ≤ 2; omega, by show n + 6 ≤ 12; omega⟩ dX1_card_36 rfl ?_
  refine jj_aload_n C 0 rfl dX1_card_39 rfl ?_
  refine jj_pR (f := 4) C jcs_0 (Nat.le_of_ble_eq_true rfl) (jLk.of C q122 rfl) dX1_card_40 hF (fun v40 hF => ?_)
  refine jj_iload_n C 1 rfl dX1_card_43 rfl ?_
  refine jj_iload_n C 2 rfl dX1_card_44 rfl ?_
  obtain ⟨b45, fs45, he45, hb45, hF⟩ := pO_spec hF
  obtain ⟨r45, M45, hG, hF⟩ := pB_spec hF
  refine jj_callV (k' := k + 1) (n' := n + 6) C [jI l1, jI l2] [] [jI r45] he45 (m_X4_cards _ _ hG) hb45 rfl q706 q707 q708 q62 q709 ⟨rfl, hd_X4_cards⟩ rfl (Nat.le_of_ble_eq_true rfl) ⟨Nat.le_of_ble_eq_true rfl, Nat.le_of_ble_eq_true rfl⟩ ⟨by show k + 1 + 0 ≤ k + 1; omega, by show n + 6 + 0 ≤ n + 6; omega, by show k + 1 ≤ 2; omega, by show n + 6 ≤ 12; omega⟩ dX1_card_45 rfl ?_
  exact jj_iretX C hQ dX1_card_48 hF (by show k + 1 ≤ 2; omega) (by show n + 6 ≤ 12; omega)
def f_X1_card_b21 (l0 : Option Nat) (l1 : Int32) (l2 : Int32) (s0 : Int32) (M : jW) : Option ((Int32 ⊕ Nat) × jW) := pX (f_X1_requireArgument s0 M) fun _ M21 =>
  pR M21 l0 0 4 fun v25 =>
  pZ v25 (f_X1_card_b36 l0 l1 l2 (0 : Int32) M21)
  (f_X1_card_b36 l0 l1 l2 (1 : Int32) M21)
set_option maxHeartbeats 4000000 in
theorem w_X1_card_b21 {x : jX} (C : jOk x cX1_card RX1 rm_X1_card (some .int)) (hxn : xn x = 3) {v0 : (Int32 ⊕ Nat)} {M0 : jW} (hQ : jEndX x rm_X1_card (jri v0) M0) {l0 : Option Nat} {l1 : Int32} {l2 : Int32} {s0 : Int32} {M : jW} {k n : Nat} (hk : k + 2 ≤ 2 ∧ n + 12 ≤ 12) (hF : f_X1_card_b21 l0 l1 l2 s0 M = some (v0, M0)) : jJ x 21 [(0, jR l0), (1, jI l1), (2, jI l2)] [jI s0] M k n := by
  unfold f_X1_card_b21 at hF
  rcases pX_spec2 hF with ⟨r21, M21, hG, hF⟩ | ⟨r21, M21, hG, hF⟩
  · cases hF
    exact jj_callSXx (k' := k + 1) (n' := n + 6) C hQ [jI s0] [] (m_X1_requireArgument _ _ hQ.2.2 hG) rfl rfl q451 q452 q42 q453 hd_X1_requireArgument rfl (Nat.le_of_ble_eq_true rfl) ⟨Nat.le_of_ble_eq_true rfl, Nat.le_of_ble_eq_true rfl⟩ ⟨by show k + 1 ≤ k + 1; omega, by show n + 6 ≤ n + 6; omega, by show k + 1 ≤ 2; omega, by show n + 6 ≤ 12; omega⟩ dX1_card_21
  refine jj_callSX (k' := k + 1) (n' := n + 6) C [jI s0] [] [] (m_X1_requireArgument _ _ hQ.2.2 hG) rfl q451 q452 q42 q453 hd_X1_requireArgument rfl (Nat.le_of_ble_eq_true rfl) ⟨Nat.le_of_ble_eq_true rfl, Nat.le_of_ble_eq_true rfl⟩ ⟨by show k + 1 ≤ k + 1; omega, by show n + 6 ≤ n + 6; omega, by show k + 1 ≤ 2; omega, by show n + 6 ≤ 12; omega⟩ dX1_card_21 rfl ?_
  refine jj_aload_n C 0 rfl dX1_card_24 rfl ?_
  refine jj_pR (f := 4) C jcs_0 (Nat.le_of_ble_eq_true rfl) (jLk.of C q122 rfl) dX1_card_25 hF (fun v25 hF => ?_)
  refine jj_ifnull (tgt := 35) C dX1_card_28 (by decide) hF (fun hF => ?_) (fun hF => ?_)
  · refine jj_iconst (v := 0) C dX1_card_35 (by decide) ?_
    refine jj_sub [0, 1, 2] rfl ?_
    exact w_X1_card_b36 C hxn hQ (by omega) hF
  · refine jj_iconst (v := 1) C dX1_card_31 (by decide) ?_
    refine jj_goto (tgt := 36) C dX1_card_32 (by decide) ?_
    refine jj_sub [0, 1, 2] rfl ?_
    exact w_X1_card_b36 C hxn hQ (by omega) hF
def f_X1_card_b20 (l0 : Option Nat) (l1 : Int32) (l2 : Int32) (M : jW) : Option ((Int32 ⊕ Nat) × jW) := f_X1_card_b21 l0 l1 l2 (0 : Int32) M
set_option maxHeartbeats 4000000 in
theorem w_X1_card_b20 {x : jX} (C : jOk x cX1_card RX1 rm_X1_card (some .int)) (hxn : xn x = 3) {v0 : (Int32 ⊕ Nat)} {M0 : jW} (hQ : jEndX x rm_X1_card (jri v0) M0) {l0 : Option Nat} {l1 : Int32} {l2 : Int32} {M : jW} {k n : Nat} (hk : k + 2 ≤ 2 ∧ n + 12 ≤ 12) (hF : f_X1_card_b20 l0 l1 l2 M = some (v0, M0)) : jJ x 20 [(0, jR l0), (1, jI l1), (2, jI l2)] [] M k n := by
  unfold f_X1_card_b20 at hF
  refine jj_iconst (v := 0) C dX1_card_20 (by decide) ?_
  refine jj_sub [0, 1, 2] rfl ?_
  exact w_X1_card_b21 C hxn hQ (by omega) hF
def f_X1_card (a0 : Option Nat) (a1 : Int32) (a2 : Int32) (M : jW) : Option ((Int32 ⊕ Nat) × jW) := pB (f_X1_isSide a1 M) fun r1 M1 =>
  if r1 = 0 then (f_X1_card_b20 a0 a1 a2 M1)
  else (pB (f_X1_inRange a2 (1 : Int32) (3 : Int32) M1) fun r10 M10 =>
  if r10 = 0 then (f_X1_card_b20 a0 a1 a2 M10)
  else (f_X1_card_b21 a0 a1 a2 (1 : Int32) M10))
set_option maxHeartbeats 4000000 in
theorem m_X1_card (l : Launch) (g : jG) (hfl : l.stackTraces = false) {a0 : Option Nat} {a1 : Int32} {a2 : Int32} {M M0 : jW} {v0 : (Int32 ⊕ Nat)} (hF : f_X1_card a0 a1 a2 M = some (v0, M0)) : jMetX l g yX1_card cX1_card 3 (some .int) rm_X1_card [jR a0, jI a1, jI a2] M (jri v0) M0 := by
  refine jMetX.of (L := [(0, jR a0), (1, jI a1), (2, jI a2)]) hfl (by decide) rfl (Nat.le_of_ble_eq_true rfl) (fun x C hxn hg hl hQ => ?_)
  subst hg
  unfold f_X1_card at hF
  refine jj_iload_n C 1 rfl dX1_card_0 rfl ?_
  obtain ⟨r1, M1, hG, hF⟩ := pB_spec hF
  refine jj_callS (k' := 0) (n' := 0) C [jI a1] [] [jI r1] (m_X1_isSide _ _ hG) q552 q553 q42 q554 hd_X1_isSide rfl (Nat.le_of_ble_eq_true rfl) ⟨Nat.le_of_ble_eq_true rfl, Nat.le_of_ble_eq_true rfl⟩ ⟨by show 0 + 0 ≤ 0; omega, by show 0 + 0 ≤ 0; omega, by show 0 ≤ 2; omega, by show 0 ≤ 12; omega⟩ dX1_card_1 rfl ?_
  refine jj_if_eq (tgt := 20) C dX1_card_4 (by decide) hF (fun hF => ?_) (fun hF => ?_)
  · refine jj_sub [0, 1, 2] rfl ?_
    exact w_X1_card_b20 C hxn hQ (by omega) hF
  · refine jj_iload_n C 2 rfl dX1_card_7 rfl ?_
    refine jj_iconst (v := 1) C dX1_card_8 (by decide) ?_
    refine jj_iconst (v := 3) C dX1_card_9 (by decide) ?_
    obtain ⟨r10, M10, hG, hF⟩ := pB_spec hF
    refine jj_callS (k' := 0) (n' := 0) C [jI a2, jI (1 : Int32), jI (3 : Int32)] [] [jI r10] (m_X1_inRange _ _ hG) q425 q426 q42 q427 hd_X1_inRange rfl (Nat.le_of_ble_eq_true rfl) ⟨Nat.le_of_ble_eq_true rfl, Nat.le_of_ble_eq_true rfl⟩ ⟨by show 0 + 0 ≤ 0; omega, by show 0 + 0 ≤ 0; omega, by show 0 ≤ 2; omega, by show 0 ≤ 12; omega⟩ dX1_card_10 rfl ?_
    refine jj_if_eq (tgt := 20) C dX1_card_13 (by decide) hF (fun hF => ?_) (fun hF => ?_)
    · refine jj_sub [0, 1, 2] rfl ?_
      exact w_X1_card_b20 C hxn hQ (by omega) hF
    · refine jj_iconst (v := 1) C dX1_card_16 (by decide) ?_
      refine jj_goto (tgt := 21) C dX1_card_17 (by decide) ?_
      refine jj_sub [0, 1, 2] rfl ?_
      exact w_X1_card_b21 C hxn hQ (by omega) hF
/-! Phrasehall.draw()I -/
def rm_X1_draw : Room := ({ frames := 1, cells := 0, slots := 0, locals := 64 } : Room)
theorem hd_X1_draw : yX1_draw.cls ≠ "java/lang/invoke/MethodHandle" ∧ yX1_draw.cls ≠ "java/lang/invoke/VarHandle" ∧ (parseMethodDescriptor yX1_draw.desc).map (fun d => d.parameters.length) = some 0 := ⟨by decide, by decide, by decide +kernel⟩
def f_X1_draw (a0 : Option Nat) (M : jW) : Option (Int32 × jW) := pL M a0 0 6 fun v5 =>
  pP M a0 0 6 (jL ((((1103515245 : Int64) * v5) + (12345 : Int64)) - (((1103515245 : Int64) * v5) + (12345 : Int64)) / (2147483648 : Int64) * (2147483648 : Int64))) fun M17 =>
  pL M17 a0 0 6 fun v21 =>
  some (((v21 / (65536 : Int64)) - (v21 / (65536 : Int64)) / (2 : Int64) * (2 : Int64)).toInt32, M17)
set_option maxHeartbeats 4000000 in
theorem m_X1_draw (l : Launch) (g : jG) {a0 : Option Nat} {M M0 : jW} {v0 : Int32} (hF : f_X1_draw a0 M = some (v0, M0)) : jMet l g yX1_draw cX1_draw 1 (some .int) rm_X1_draw [jR a0] M (some (jI v0)) M0 := by
  refine jMet.of (L := [(0, jR a0)]) (by decide) rfl (Nat.le_of_ble_eq_true rfl) (fun x C hxn hg hl hQ hin => ?_)
  subst hg
  unfold f_X1_draw at hF
  refine jj_aload_n C 0 rfl dX1_draw_0 rfl ?_
  refine jj_ldc2 (v := 1103515245) C q730 dX1_draw_1 ?_
  refine jj_aload_n C 0 rfl dX1_draw_4 rfl ?_
  refine jj_pL (f := 6) C jcs_0 (Nat.le_of_ble_eq_true rfl) (jLk.of C q124 rfl) dX1_draw_5 hF (fun v5 hF => ?_)
  refine jj_lmul C dX1_draw_8 ?_
  refine jj_ldc2 (v := 12345) C q731 dX1_draw_9 ?_
  refine jj_ladd C dX1_draw_12 ?_
  refine jj_ldc2 (v := 2147483648) C q732 dX1_draw_13 ?_
  refine jj_lremL C dX1_draw_16 (by decide) ?_
  refine jj_pP (f := 6) C jcs_0 (Nat.le_of_ble_eq_true rfl) (jLk.of C q124 rfl) (Or.inl rfl) dX1_draw_17 (jfit_l _) hF (fun M17 hF => ?_)
  refine jj_aload_n C 0 rfl dX1_draw_20 rfl ?_
  refine jj_pL (f := 6) C jcs_0 (Nat.le_of_ble_eq_true rfl) (jLk.of C q124 rfl) dX1_draw_21 hF (fun v21 hF => ?_)
  refine jj_ldc2 (v := 65536) C q733 dX1_draw_24 ?_
  refine jj_ldivL C dX1_draw_27 (by decide) ?_
  refine jj_ldc2 (v := 2) C q734 dX1_draw_28 ?_
  refine jj_lremL C dX1_draw_31 (by decide) ?_
  refine jj_l2i C dX1_draw_32 ?_
  exact jj_iret C hQ dX1_draw_33 hF (Nat.zero_le _) (Nat.zero_le _)
/-! Phrasehall$Bout.times()V -/
def rm_X4_times : Room := ({ frames := 5, cells := 0, slots := 0, locals := 148 } : Room)
theorem hd_X4_times : yX4_times.cls ≠ "java/lang/invoke/MethodHandle" ∧ yX4_times.cls ≠ "java/lang/invoke/VarHandle" ∧ (parseMethodDescriptor yX4_times.desc).map (fun d => d.parameters.length) = some 0 := ⟨by decide, by decide, by decide +kernel⟩
def f_X4_times_b39 (l0 : Option Nat) (M : jW) : Option (Unit × jW) := pI M l0 3 8 fun v40 =>
  if v40 = (180 : Int32) then (pO M l0 3 fun b51 _ => pB (f_X4_better (some b51)  M) fun r51 M51 =>
  pO M51 l0 3 fun b54 _ => pB (f_X4_ends (some b54) r51 M51) fun _ M54 =>
  some ((), M54))
  else (pI M l0 3 8 fun v61 =>
  if v61 = (240 : Int32) then (pI M l0 3 11 fun v72 =>
  pO M l0 3 fun b75 _ => pB (f_X4_ends (some b75) v72 M) fun _ M75 =>
  some ((), M75))
  else (some ((), M)))
set_option maxHeartbeats 4000000 in
theorem w_X4_times_b39 {x : jX} (C : jOk x cX4_times RX4 rm_X4_times none) (hxn : xn x = 1) {v0 : Unit} {M0 : jW} (hQ : jEnd x rm_X4_times none M0) {l0 : Option Nat} {M : jW} (hF : f_X4_times_b39 l0 M = some (v0, M0)) : jJ x 39 [(0, jR l0)] [] M 0 0 := by
  unfold f_X4_times_b39 at hF
  refine jj_aload_n C 0 rfl dX4_times_39 rfl ?_
  refine jj_pI (f := 8) C jcs_3 (Nat.le_of_ble_eq_true rfl) (jLk.of C q508 rfl) dX4_times_40 hF (fun v40 hF => ?_)
  refine jj_sipush (v := 180) C dX4_times_43 (by decide) ?_
  refine jj_icmp_ne (tgt := 60) C dX4_times_46 (by decide) hF (fun hF => ?_) (fun hF => ?_)
  · refine jj_aload_n C 0 rfl dX4_times_60 rfl ?_
    refine jj_pI (f := 8) C jcs_3 (Nat.le_of_ble_eq_true rfl) (jLk.of C q508 rfl) dX4_times_61 hF (fun v61 hF => ?_)
    refine jj_sipush (v := 240) C dX4_times_64 (by decide) ?_
    refine jj_icmp_ne (tgt := 78) C dX4_times_67 (by decide) hF (fun hF => ?_) (fun hF => ?_)
    · exact jj_vret C hQ dX4_times_78 hF (Nat.zero_le _) (Nat.zero_le _)
    · refine jj_aload_n C 0 rfl dX4_times_70 rfl ?_
      refine jj_aload_n C 0 rfl dX4_times_71 rfl ?_
      refine jj_pI (f := 11) C jcs_3 (Nat.le_of_ble_eq_true rfl) (jLk.of C q513 rfl) dX4_times_72 hF (fun v72 hF => ?_)
      obtain ⟨b75, fs75, he75, hb75, hF⟩ := pO_spec hF
      obtain ⟨r75, M75, hG, hF⟩ := pB_spec hF
      refine jj_callV (k' := 0) (n' := 0) C [jI v72] [] [] he75 (m_X4_ends _ _ hG) hb75 rfl q681 q682 q683 q62 q684 ⟨rfl, hd_X4_ends⟩ rfl (Nat.le_of_ble_eq_true rfl) ⟨Nat.le_of_ble_eq_true rfl, Nat.le_of_ble_eq_true rfl⟩ ⟨Nat.le_refl _, Nat.le_refl _, Nat.le_refl _, Nat.le_refl _⟩ dX4_times_75 rfl ?_
      exact jj_vret C hQ dX4_times_78 hF (Nat.zero_le _) (Nat.zero_le _)
  · refine jj_aload_n C 0 rfl dX4_times_49 rfl ?_
    refine jj_aload_n C 0 rfl dX4_times_50 rfl ?_
    obtain ⟨b51, fs51, he51, hb51, hF⟩ := pO_spec hF
    obtain ⟨r51, M51, hG, hF⟩ := pB_spec hF
    refine jj_callV (k' := 0) (n' := 0) C [] [jR l0] [jI r51, jR l0] he51 (m_X4_better _ _ hG) hb51 rfl q677 q679 qs13 q62 q680 ⟨rfl, hd_X4_better⟩ rfl (Nat.le_of_ble_eq_true rfl) ⟨Nat.le_of_ble_eq_true rfl, Nat.le_of_ble_eq_true rfl⟩ ⟨Nat.le_refl _, Nat.le_refl _, Nat.le_refl _, Nat.le_refl _⟩ dX4_times_51 rfl ?_
    obtain ⟨b54, fs54, he54, hb54, hF⟩ := pO_spec hF
    obtain ⟨r54, M54, hG, hF⟩ := pB_spec hF
    refine jj_callV (k' := 0) (n' := 0) C [jI r51] [] [] he54 (m_X4_ends _ _ hG) hb54 rfl q681 q682 q683 q62 q684 ⟨rfl, hd_X4_ends⟩ rfl (Nat.le_of_ble_eq_true rfl) ⟨Nat.le_of_ble_eq_true rfl, Nat.le_of_ble_eq_true rfl⟩ ⟨Nat.le_refl _, Nat.le_refl _, Nat.le_refl _, Nat.le_refl _⟩ dX4_times_54 rfl ?_
    refine jj_goto (tgt := 78) C dX4_times_57 (by decide) ?_
    exact jj_vret C hQ dX4_times_78 hF (Nat.zero_le _) (Nat.zero_le _)
def f_X4_times (a0 : Option Nat) (M : jW) : Option (Unit × jW) := pI M a0 3 8 fun v1 =>
  if v1 = (180 : Int32) then (pR M a0 3 4 fun v11 =>
  pAI M v11 0 (0 : Int32) fun v15 =>
  pR M a0 3 4 fun v17 =>
  pAI M v17 0 (1 : Int32) fun v21 =>
  if v15 = v21 then (pR M a0 3 12 fun v27 =>
  pO M v27 0 fun b30 _ => pB (f_X1_draw (some b30)  M) fun r30 M30 =>
  pP M30 a0 3 11 (jI r30) fun M33 =>
  some ((), M33))
  else (f_X4_times_b39 a0 M))
  else (f_X4_times_b39 a0 M)
set_option maxHeartbeats 4000000 in
theorem m_X4_times (l : Launch) (g : jG) {a0 : Option Nat} {M M0 : jW} {v0 : Unit} (hF : f_X4_times a0 M = some (v0, M0)) : jMet l g yX4_times cX4_times 1 none rm_X4_times [jR a0] M none M0 := by
  refine jMet.of (L := [(0, jR a0)]) (by decide) rfl (Nat.le_of_ble_eq_true rfl) (fun x C hxn hg hl hQ hin => ?_)
  subst hg
  unfold f_X4_times at hF
  refine jj_aload_n C 0 rfl dX4_times_0 rfl ?_
  refine jj_pI (f := 8) C jcs_3 (Nat.le_of_ble_eq_true rfl) (jLk.of C q508 rfl) dX4_times_1 hF (fun v1 hF => ?_)
  refine jj_sipush (v := 180) C dX4_times_4 (by decide) ?_
  refine jj_icmp_ne (tgt := 39) C dX4_times_7 (by decide) hF (fun hF => ?_) (fun hF => ?_)
  · refine jj_sub [0] rfl ?_
    exact w_X4_times_b39 C hxn hQ hF
  · refine jj_aload_n C 0 rfl dX4_times_10 rfl ?_
    refine jj_pR (f := 4) C jcs_3 (Nat.le_of_ble_eq_true rfl) (jLk.of C q500 rfl) dX4_times_11 hF (fun v11 hF => ?_)
    refine jj_iconst (v := 0) C dX4_times_14 (by decide) ?_
    refine jj_iald C dX4_times_15 hF (fun v15 hF => ?_)
    refine jj_aload_n C 0 rfl dX4_times_16 rfl ?_
    refine jj_pR (f := 4) C jcs_3 (Nat.le_of_ble_eq_true rfl) (jLk.of C q500 rfl) dX4_times_17 hF (fun v17 hF => ?_)
    refine jj_iconst (v := 1) C dX4_times_20 (by decide) ?_
    refine jj_iald C dX4_times_21 hF (fun v21 hF => ?_)
    refine jj_icmp_ne (tgt := 39) C dX4_times_22 (by decide) hF (fun hF => ?_) (fun hF => ?_)
    · refine jj_sub [0] rfl ?_
      exact w_X4_times_b39 C hxn hQ hF
    · refine jj_aload_n C 0 rfl dX4_times_25 rfl ?_
      refine jj_aload_n C 0 rfl dX4_times_26 rfl ?_
      refine jj_pR (f := 12) C jcs_3 (Nat.le_of_ble_eq_true rfl) (jLk.of C q515 rfl) dX4_times_27 hF (fun v27 hF => ?_)
      obtain ⟨b30, fs30, he30, hb30, hF⟩ := pO_spec hF
      obtain ⟨r30, M30, hG, hF⟩ := pB_spec hF
      refine jj_callVN (k' := 0) (n' := 0) C [] [jR a0] [jI r30, jR a0] he30 (m_X1_draw _ _ hG) hb30 rfl q726 q728 qs15 q42 q729 hd_X1_draw rfl (Nat.le_of_ble_eq_true rfl) ⟨Nat.le_of_ble_eq_true rfl, Nat.le_of_ble_eq_true rfl⟩ ⟨Nat.le_refl _, Nat.le_refl _, Nat.le_refl _, Nat.le_refl _⟩ dX4_times_30 rfl ?_
      refine jj_pP (f := 11) C jcs_3 (Nat.le_of_ble_eq_true rfl) (jLk.of C q513 rfl) (Or.inl rfl) dX4_times_33 (jfit_i _) hF (fun M33 hF => ?_)
      refine jj_goto (tgt := 78) C dX4_times_36 (by decide) ?_
      exact jj_vret C hQ dX4_times_78 hF (Nat.zero_le _) (Nat.zero_le _)
/-! Phrasehall$Bout.second()V -/
def rm_X4_second : Room := ({ frames := 6, cells := 0, slots := 0, locals := 171 } : Room)
theorem hd_X4_second : yX4_second.cls ≠ "java/lang/invoke/MethodHandle" ∧ yX4_second.cls ≠ "java/lang/invoke/VarHandle" ∧ (parseMethodDescriptor yX4_second.desc).map (fun d => d.parameters.length) = some 0 := ⟨by decide, by decide, by decide +kernel⟩
def f_X4_second_b77 (l0 : Option Nat) (M : jW) : Option (Unit × jW) := pI M l0 3 7 fun v78 =>
  if v78 = (-1 : Int32) then (pO M l0 3 fun b86 _ => pB (f_X4_times (some b86)  M) fun _ M86 =>
  some ((), M86))
  else (some ((), M))
set_option maxHeartbeats 4000000 in
theorem w_X4_second_b77 {x : jX} (C : jOk x cX4_second RX4 rm_X4_second none) (hxn : xn x = 1) {v0 : Unit} {M0 : jW} (hQ : jEnd x rm_X4_second none M0) {l0 : Option Nat} {M : jW} (hF : f_X4_second_b77 l0 M = some (v0, M0)) : jJ x 77 [(0, jR l0)] [] M 0 0 := by
  unfold f_X4_second_b77 at hF
  refine jj_aload_n C 0 rfl dX4_second_77 rfl ?_
  refine jj_pI (f := 7) C jcs_3 (Nat.le_of_ble_eq_true rfl) (jLk.of C q505 rfl) dX4_second_78 hF (fun v78 hF => ?_)
  refine jj_iconst (v := -1) C dX4_second_81 (by decide) ?_
  refine jj_icmp_ne (tgt := 89) C dX4_second_82 (by decide) hF (fun hF => ?_) (fun hF => ?_)
  · exact jj_vret C hQ dX4_second_89 hF (Nat.zero_le _) (Nat.zero_le _)
  · refine jj_aload_n C 0 rfl dX4_second_85 rfl ?_
    obtain ⟨b86, fs86, he86, hb86, hF⟩ := pO_spec hF
    obtain ⟨r86, M86, hG, hF⟩ := pB_spec hF
    refine jj_callV (k' := 0) (n' := 0) C [] [] [] he86 (m_X4_times _ _ hG) hb86 rfl q722 q724 qs14 q62 q725 ⟨rfl, hd_X4_times⟩ rfl (Nat.le_of_ble_eq_true rfl) ⟨Nat.le_of_ble_eq_true rfl, Nat.le_of_ble_eq_true rfl⟩ ⟨Nat.le_refl _, Nat.le_refl _, Nat.le_refl _, Nat.le_refl _⟩ dX4_second_86 rfl ?_
    exact jj_vret C hQ dX4_second_89 hF (Nat.zero_le _) (Nat.zero_le _)
def f_X4_second (a0 : Option Nat) (M : jW) : Option (Unit × jW) := pI M a0 3 8 fun v2 =>
  pP M a0 3 8 (jI (v2 + (1 : Int32))) fun M7 =>
  pI M7 a0 3 9 fun v12 =>
  pP M7 a0 3 9 (jI (v12 + (1 : Int32))) fun M17 =>
  pI M17 a0 3 9 fun v21 =>
  if v21 = (60 : Int32) then (pP M17 a0 3 9 (jI (0 : Int32)) fun M31 =>
  pI M31 a0 3 10 fun v36 =>
  pP M31 a0 3 10 (jI (v36 + (1 : Int32))) fun M41 =>
  pI M41 a0 3 10 fun v45 =>
  if v45 = (2 : Int32) then (pO M41 a0 3 fun b55 _ => pB (f_X4_gives (some b55) (3 : Int32) (0 : Int32) M41) fun _ M55 =>
  f_X4_second_b77 a0 M55)
  else (pI M41 a0 3 10 fun v62 =>
  if v62 ≤ (2 : Int32) then (f_X4_second_b77 a0 M41)
  else (pO M41 a0 3 fun b71 _ => pB (f_X4_better (some b71)  M41) fun r71 M71 =>
  pO M71 a0 3 fun b74 _ => pB (f_X4_ends (some b74) r71 M71) fun _ M74 =>
  f_X4_second_b77 a0 M74)))
  else (f_X4_second_b77 a0 M17)
set_option maxHeartbeats 4000000 in
theorem m_X4_second (l : Launch) (g : jG) {a0 : Option Nat} {M M0 : jW} {v0 : Unit} (hF : f_X4_second a0 M = some (v0, M0)) : jMet l g yX4_second cX4_second 1 none rm_X4_second [jR a0] M none M0 := by
  refine jMet.of (L := [(0, jR a0)]) (by decide) rfl (Nat.le_of_ble_eq_true rfl) (fun x C hxn hg hl hQ hin => ?_)
  subst hg
  unfold f_X4_second at hF
  refine jj_aload_n C 0 rfl dX4_second_0 rfl ?_
  refine jj_dup C dX4_second_1 rfl ?_
  refine jj_pI (f := 8) C jcs_3 (Nat.le_of_ble_eq_true rfl) (jLk.of C q508 rfl) dX4_second_2 hF (fun v2 hF => ?_)
  refine jj_iconst (v := 1) C dX4_second_5 (by decide) ?_
  refine jj_iadd C dX4_second_6 ?_
  refine jj_pP (f := 8) C jcs_3 (Nat.le_of_ble_eq_true rfl) (jLk.of C q508 rfl) (Or.inl rfl) dX4_second_7 (jfit_i _) hF (fun M7 hF => ?_)
  refine jj_aload_n C 0 rfl dX4_second_10 rfl ?_
  refine jj_dup C dX4_second_11 rfl ?_
  refine jj_pI (f := 9) C jcs_3 (Nat.le_of_ble_eq_true rfl) (jLk.of C q510 rfl) dX4_second_12 hF (fun v12 hF => ?_)
  refine jj_iconst (v := 1) C dX4_second_15 (by decide) ?_
  refine jj_iadd C dX4_second_16 ?_
  refine jj_pP (f := 9) C jcs_3 (Nat.le_of_ble_eq_true rfl) (jLk.of C q510 rfl) (Or.inl rfl) dX4_second_17 (jfit_i _) hF (fun M17 hF => ?_)
  refine jj_aload_n C 0 rfl dX4_second_20 rfl ?_
  refine jj_pI (f := 9) C jcs_3 (Nat.le_of_ble_eq_true rfl) (jLk.of C q510 rfl) dX4_second_21 hF (fun v21 hF => ?_)
  refine jj_bipush (v := 60) C dX4_second_24 (by decide) ?_
  refine jj_icmp_ne (tgt := 77) C dX4_second_26 (by decide) hF (fun hF => ?_) (fun hF => ?_)
  · refine jj_sub [0] rfl ?_
    exact w_X4_second_b77 C hxn hQ hF
  · refine jj_aload_n C 0 rfl dX4_second_29 rfl ?_
    refine jj_iconst (v := 0) C dX4_second_30 (by decide) ?_
    refine jj_pP (f := 9) C jcs_3 (Nat.le_of_ble_eq_true rfl) (jLk.of C q510 rfl) (Or.inl rfl) dX4_second_31 (jfit_i _) hF (fun M31 hF => ?_)
    refine jj_aload_n C 0 rfl dX4_second_34 rfl ?_
    refine jj_dup C dX4_second_35 rfl ?_
    refine jj_pI (f := 10) C jcs_3 (Nat.le_of_ble_eq_true rfl) (jLk.of C q511 rfl) dX4_second_36 hF (fun v36 hF => ?_)
    refine jj_iconst (v := 1) C dX4_second_39 (by decide) ?_
    refine jj_iadd C dX4_second_40 ?_
    refine jj_pP (f := 10) C jcs_3 (Nat.le_of_ble_eq_true rfl) (jLk.of C q511 rfl) (Or.inl rfl) dX4_second_41 (jfit_i _) hF (fun M41 hF => ?_)
    refine jj_aload_n C 0 rfl dX4_second_44 rfl ?_
    refine jj_pI (f := 10) C jcs_3 (Nat.le_of_ble_eq_true rfl) (jLk.of C q511 rfl) dX4_second_45 hF (fun v45 hF => ?_)
    refine jj_iconst (v := 2) C dX4_second_48 (by decide) ?_
    refine jj_icmp_ne (tgt := 61) C dX4_second_49 (by decide) hF (fun hF => ?_) (fun hF => ?_)
    · refine jj_aload_n C 0 rfl dX4_second_61 rfl ?_
      refine jj_pI (f := 10) C jcs_3 (Nat.le_of_ble_eq_true rfl) (jLk.of C q511 rfl) dX4_second_62 hF (fun v62 hF => ?_)
      refine jj_iconst (v := 2) C dX4_second_65 (by decide) ?_
      refine jj_icmp_le (tgt := 77) C dX4_second_66 (by decide) hF (fun hF => ?_) (fun hF => ?_)
      · refine jj_sub [0] rfl ?_
        exact w_X4_second_b77 C hxn hQ hF
      · refine jj_aload_n C 0 rfl dX4_second_69 rfl ?_
        refine jj_aload_n C 0 rfl dX4_second_70 rfl ?_
        obtain ⟨b71, fs71, he71, hb71, hF⟩ := pO_spec hF
        obtain ⟨r71, M71, hG, hF⟩ := pB_spec hF
        refine jj_callV (k' := 0) (n' := 0) C [] [jR a0] [jI r71, jR a0] he71 (m_X4_better _ _ hG) hb71 rfl q677 q679 qs13 q62 q680 ⟨rfl, hd_X4_better⟩ rfl (Nat.le_of_ble_eq_true rfl) ⟨Nat.le_of_ble_eq_true rfl, Nat.le_of_ble_eq_true rfl⟩ ⟨Nat.le_refl _, Nat.le_refl _, Nat.le_refl _, Nat.le_refl _⟩ dX4_second_71 rfl ?_
        obtain ⟨b74, fs74, he74, hb74, hF⟩ := pO_spec hF
        obtain ⟨r74, M74, hG, hF⟩ := pB_spec hF
        refine jj_callV (k' := 0) (n' := 0) C [jI r71] [] [] he74 (m_X4_ends _ _ hG) hb74 rfl q681 q682 q683 q62 q684 ⟨rfl, hd_X4_ends⟩ rfl (Nat.le_of_ble_eq_true rfl) ⟨Nat.le_of_ble_eq_true rfl, Nat.le_of_ble_eq_true rfl⟩ ⟨Nat.le_refl _, Nat.le_refl _, Nat.le_refl _, Nat.le_refl _⟩ dX4_second_74 rfl ?_
        refine jj_sub [0] rfl ?_
        exact w_X4_second_b77 C hxn hQ hF
    · refine jj_aload_n C 0 rfl dX4_second_52 rfl ?_
      refine jj_iconst (v := 3) C dX4_second_53 (by decide) ?_
      refine jj_iconst (v := 0) C dX4_second_54 (by decide) ?_
      obtain ⟨b55, fs55, he55, hb55, hF⟩ := pO_spec hF
      obtain ⟨r55, M55, hG, hF⟩ := pB_spec hF
      refine jj_callV (k' := 0) (n' := 0) C [jI (3 : Int32), jI (0 : Int32)] [] [] he55 (m_X4_gives _ _ hG) hb55 rfl q710 q674 q675 q62 q676 ⟨rfl, hd_X4_gives⟩ rfl (Nat.le_of_ble_eq_true rfl) ⟨Nat.le_of_ble_eq_true rfl, Nat.le_of_ble_eq_true rfl⟩ ⟨Nat.le_refl _, Nat.le_refl _, Nat.le_refl _, Nat.le_refl _⟩ dX4_second_55 rfl ?_
      refine jj_goto (tgt := 77) C dX4_second_58 (by decide) ?_
      refine jj_sub [0] rfl ?_
      exact w_X4_second_b77 C hxn hQ hF
/-! Phrasehall$Bout.left()I -/
def rm_X4_left : Room := ({ frames := 1, cells := 0, slots := 0, locals := 64 } : Room)
theorem hd_X4_left : yX4_left.cls ≠ "java/lang/invoke/MethodHandle" ∧ yX4_left.cls ≠ "java/lang/invoke/VarHandle" ∧ (parseMethodDescriptor yX4_left.desc).map (fun d => d.parameters.length) = some 0 := ⟨by decide, by decide, by decide +kernel⟩
def f_X4_left_b29 (l0 : Option Nat) (s0 : Int32) (s1 : Int32) (M : jW) : Option (Int32 × jW) := pI M l0 3 8 fun v31 =>
  some (((s0 + s1) - v31), M)
set_option maxHeartbeats 4000000 in
theorem w_X4_left_b29 {x : jX} (C : jOk x cX4_left RX4 rm_X4_left (some .int)) (hxn : xn x = 1) {v0 : Int32} {M0 : jW} (hQ : jEnd x rm_X4_left (some (jI v0)) M0) {l0 : Option Nat} {s0 : Int32} {s1 : Int32} {M : jW} (hF : f_X4_left_b29 l0 s0 s1 M = some (v0, M0)) : jJ x 29 [(0, jR l0)] [jI s1, jI s0] M 0 0 := by
  unfold f_X4_left_b29 at hF
  refine jj_iadd C dX4_left_29 ?_
  refine jj_aload_n C 0 rfl dX4_left_30 rfl ?_
  refine jj_pI (f := 8) C jcs_3 (Nat.le_of_ble_eq_true rfl) (jLk.of C q508 rfl) dX4_left_31 hF (fun v31 hF => ?_)
  refine jj_isub C dX4_left_34 ?_
  exact jj_iret C hQ dX4_left_35 hF (Nat.zero_le _) (Nat.zero_le _)
def f_X4_left (a0 : Option Nat) (M : jW) : Option (Int32 × jW) := pI M a0 3 7 fun v1 =>
  if v1 = (-1 : Int32) then (pI M a0 3 11 fun v16 =>
  if v16 = (-1 : Int32) then (f_X4_left_b29 a0 (180 : Int32) (0 : Int32) M)
  else (f_X4_left_b29 a0 (180 : Int32) (60 : Int32) M))
  else (some ((0 : Int32), M))
set_option maxHeartbeats 4000000 in
theorem m_X4_left (l : Launch) (g : jG) {a0 : Option Nat} {M M0 : jW} {v0 : Int32} (hF : f_X4_left a0 M = some (v0, M0)) : jMet l g yX4_left cX4_left 1 (some .int) rm_X4_left [jR a0] M (some (jI v0)) M0 := by
  refine jMet.of (L := [(0, jR a0)]) (by decide) rfl (Nat.le_of_ble_eq_true rfl) (fun x C hxn hg hl hQ hin => ?_)
  subst hg
  unfold f_X4_left at hF
  refine jj_aload_n C 0 rfl dX4_left_0 rfl ?_
  refine jj_pI (f := 7) C jcs_3 (Nat.le_of_ble_eq_true rfl) (jLk.of C q505 rfl) dX4_left_1 hF (fun v1 hF => ?_)
  refine jj_iconst (v := -1) C dX4_left_4 (by decide) ?_
  refine jj_icmp_eq (tgt := 12) C dX4_left_5 (by decide) hF (fun hF => ?_) (fun hF => ?_)
  · refine jj_sipush (v := 180) C dX4_left_12 (by decide) ?_
    refine jj_aload_n C 0 rfl dX4_left_15 rfl ?_
    refine jj_pI (f := 11) C jcs_3 (Nat.le_of_ble_eq_true rfl) (jLk.of C q513 rfl) dX4_left_16 hF (fun v16 hF => ?_)
    refine jj_iconst (v := -1) C dX4_left_19 (by decide) ?_
    refine jj_icmp_ne (tgt := 27) C dX4_left_20 (by decide) hF (fun hF => ?_) (fun hF => ?_)
    · refine jj_bipush (v := 60) C dX4_left_27 (by decide) ?_
      refine jj_sub [0] rfl ?_
      exact w_X4_left_b29 C hxn hQ hF
    · refine jj_iconst (v := 0) C dX4_left_23 (by decide) ?_
      refine jj_goto (tgt := 29) C dX4_left_24 (by decide) ?_
      refine jj_sub [0] rfl ?_
      exact w_X4_left_b29 C hxn hQ hF
  · refine jj_iconst (v := 0) C dX4_left_8 (by decide) ?_
    refine jj_goto (tgt := 35) C dX4_left_9 (by decide) ?_
    exact jj_iret C hQ dX4_left_35 hF (Nat.zero_le _) (Nat.zero_le _)
/-! Phrasehall.clock(I)I -/
def rm_X1_clock : Room := ({ frames := 7, cells := 2, slots := 12, locals := 191 } : Room)
theorem hd_X1_clock : yX1_clock.cls ≠ "java/lang/invoke/MethodHandle" ∧ yX1_clock.cls ≠ "java/lang/invoke/VarHandle" ∧ (parseMethodDescriptor yX1_clock.desc).map (fun d => d.parameters.length) = some 1 := ⟨by decide, by decide, by decide +kernel⟩
def f_X1_clock_b56 (l2 : Option Nat) (M : jW) : Option ((Int32 ⊕ Nat) × jW) := pO M l2 3 fun b57 _ => pB (f_X4_left (some b57)  M) fun r57 M57 =>
  some (.inl r57, M57)
set_option maxHeartbeats 4000000 in
theorem w_X1_clock_b56 {x : jX} (C : jOk x cX1_clock RX1 rm_X1_clock (some .int)) (hxn : xn x = 4) {v0 : (Int32 ⊕ Nat)} {M0 : jW} (hQ : jEndX x rm_X1_clock (jri v0) M0) {l2 : Option Nat} {M : jW} {k n : Nat} (hk : k ≤ 2 ∧ n ≤ 12) (hF : f_X1_clock_b56 l2 M = some (v0, M0)) : jJ x 56 [(2, jR l2)] [] M k n := by
  unfold f_X1_clock_b56 at hF
  refine jj_aload_n C 0 rfl dX1_clock_56 rfl ?_
  obtain ⟨b57, fs57, he57, hb57, hF⟩ := pO_spec hF
  obtain ⟨r57, M57, hG, hF⟩ := pB_spec hF
  refine jj_callV (k' := k) (n' := n) C [] [] [jI r57] he57 (m_X4_left _ _ hG) hb57 rfl q735 q736 q737 q62 q738 ⟨rfl, hd_X4_left⟩ rfl (Nat.le_of_ble_eq_true rfl) ⟨Nat.le_of_ble_eq_true rfl, Nat.le_of_ble_eq_true rfl⟩ ⟨by show k + 0 ≤ k; omega, by show n + 0 ≤ n; omega, by show k ≤ 2; omega, by show n ≤ 12; omega⟩ dX1_clock_57 rfl ?_
  exact jj_iretX C hQ dX1_clock_60 hF (by show k ≤ 2; omega) (by show n ≤ 12; omega)
def f_X1_clock_b33 : Nat → Int32 → Option Nat → Int32 → jW → Option ((Int32 ⊕ Nat) × jW)
  | 0, _, _, _, _ => none
  | q + 1, l1, l2, l3, M => if l1 ≤ l3 then (f_X1_clock_b56 l2 M)
  else (pI M l2 3 7 fun v39 =>
  if v39 = (-1 : Int32) then (pO M l2 3 fun b47 _ => pB (f_X4_second (some b47)  M) fun _ M47 =>
  (f_X1_clock_b33 q) l1 l2 (l3 + (1 : Int32)) M47)
  else (f_X1_clock_b56 l2 M))
theorem f_X1_clock_b33_s (q : Nat) (l1 : Int32) (l2 : Option Nat) (l3 : Int32) (M : jW) : f_X1_clock_b33 (q + 1) l1 l2 l3 M = (if l1 ≤ l3 then (f_X1_clock_b56 l2 M)
  else (pI M l2 3 7 fun v39 =>
  if v39 = (-1 : Int32) then (pO M l2 3 fun b47 _ => pB (f_X4_second (some b47)  M) fun _ M47 =>
  (f_X1_clock_b33 q) l1 l2 (l3 + (1 : Int32)) M47)
  else (f_X1_clock_b56 l2 M))) := rfl
set_option maxHeartbeats 4000000 in
theorem w_X1_clock_b33 {x : jX} (C : jOk x cX1_clock RX1 rm_X1_clock (some .int)) (hxn : xn x = 4) {v0 : (Int32 ⊕ Nat)} {M0 : jW} (hQ : jEndX x rm_X1_clock (jri v0) M0) : ∀ (n33 : Nat) (l1 : Int32) (l2 : Option Nat) (l3 : Int32) (M : jW) (k n : Nat), k ≤ 2 ∧ n ≤ 12 → f_X1_clock_b33 n33 l1 l2 l3 M = some (v0, M0) → jJ x 33 [(1, jI l1), (2, jR l2), (3, jI l3)] [] M k n := by
  intro n33
  induction n33 with
  | zero =>
    intro l1 l2 l3 M k n hk hF
    cases hF
  | succ n33 hK33 =>
    intro l1 l2 l3 M k n hk hF
    rw [f_X1_clock_b33_s] at hF
    refine jj_iload_n C 2 rfl dX1_clock_33 rfl ?_
    refine jj_iload_n C 0 rfl dX1_clock_34 rfl ?_
    refine jj_icmp_ge (tgt := 56) C dX1_clock_35 (by decide) hF (fun hF => ?_) (fun hF => ?_)
    · refine jj_sub [1] rfl ?_
      exact w_X1_clock_b56 C hxn hQ (by omega) hF
    · refine jj_aload_n C 1 rfl dX1_clock_38 rfl ?_
      refine jj_pI (f := 7) C jcs_3 (Nat.le_of_ble_eq_true rfl) (jLk.nest C q507 rfl) dX1_clock_39 hF (fun v39 hF => ?_)
      refine jj_iconst (v := -1) C dX1_clock_42 (by decide) ?_
      refine jj_icmp_ne (tgt := 56) C dX1_clock_43 (by decide) hF (fun hF => ?_) (fun hF => ?_)
      · refine jj_sub [1] rfl ?_
        exact w_X1_clock_b56 C hxn hQ (by omega) hF
      · refine jj_aload_n C 1 rfl dX1_clock_46 rfl ?_
        obtain ⟨b47, fs47, he47, hb47, hF⟩ := pO_spec hF
        obtain ⟨r47, M47, hG, hF⟩ := pB_spec hF
        refine jj_callV (k' := k) (n' := n) C [] [] [] he47 (m_X4_second _ _ hG) hb47 rfl q718 q719 q720 q62 q721 ⟨rfl, hd_X4_second⟩ rfl (Nat.le_of_ble_eq_true rfl) ⟨Nat.le_of_ble_eq_true rfl, Nat.le_of_ble_eq_true rfl⟩ ⟨by show k + 0 ≤ k; omega, by show n + 0 ≤ n; omega, by show k ≤ 2; omega, by show n ≤ 12; omega⟩ dX1_clock_47 rfl ?_
        refine jj_iinc (c := 1) (L' := [(3, jI (l3 + (1 : Int32))), (1, jI l1), (2, jR l2)]) C 2 rfl (by decide) rfl (by rw [hxn]; decide) dX1_clock_50 ?_
        refine jj_goto (tgt := 33) C dX1_clock_53 (by decide) ?_
        refine jj_sub [1, 2, 0] rfl ?_
        exact hK33 _ _ _ _ _ _ (by omega) hF
def f_X1_clock_b23 (l0 : Option Nat) (l1 : Int32) (s0 : Int32) (M : jW) : Option ((Int32 ⊕ Nat) × jW) := pX (f_X1_requireState s0 M) fun _ M23 =>
  pR M23 l0 0 4 fun v27 =>
  f_X1_clock_b33 1000 l1 v27 (0 : Int32) M23
set_option maxHeartbeats 4000000 in
theorem w_X1_clock_b23 {x : jX} (C : jOk x cX1_clock RX1 rm_X1_clock (some .int)) (hxn : xn x = 4) {v0 : (Int32 ⊕ Nat)} {M0 : jW} (hQ : jEndX x rm_X1_clock (jri v0) M0) {l0 : Option Nat} {l1 : Int32} {s0 : Int32} {M : jW} {k n : Nat} (hk : k + 1 ≤ 2 ∧ n + 6 ≤ 12) (hF : f_X1_clock_b23 l0 l1 s0 M = some (v0, M0)) : jJ x 23 [(0, jR l0), (1, jI l1)] [jI s0] M k n := by
  unfold f_X1_clock_b23 at hF
  rcases pX_spec2 hF with ⟨r23, M23, hG, hF⟩ | ⟨r23, M23, hG, hF⟩
  · cases hF
    exact jj_callSXx (k' := k + 1) (n' := n + 6) C hQ [jI s0] [] (m_X1_requireState _ _ hQ.2.2 hG) rfl rfl q233 q234 q42 q235 hd_X1_requireState rfl (Nat.le_of_ble_eq_true rfl) ⟨Nat.le_of_ble_eq_true rfl, Nat.le_of_ble_eq_true rfl⟩ ⟨by show k + 1 ≤ k + 1; omega, by show n + 6 ≤ n + 6; omega, by show k + 1 ≤ 2; omega, by show n + 6 ≤ 12; omega⟩ dX1_clock_23
  refine jj_callSX (k' := k + 1) (n' := n + 6) C [jI s0] [] [] (m_X1_requireState _ _ hQ.2.2 hG) rfl q233 q234 q42 q235 hd_X1_requireState rfl (Nat.le_of_ble_eq_true rfl) ⟨Nat.le_of_ble_eq_true rfl, Nat.le_of_ble_eq_true rfl⟩ ⟨by show k + 1 ≤ k + 1; omega, by show n + 6 ≤ n + 6; omega, by show k + 1 ≤ 2; omega, by show n + 6 ≤ 12; omega⟩ dX1_clock_23 rfl ?_
  refine jj_aload_n C 0 rfl dX1_clock_26 rfl ?_
  refine jj_pR (f := 4) C jcs_0 (Nat.le_of_ble_eq_true rfl) (jLk.of C q122 rfl) dX1_clock_27 hF (fun v27 hF => ?_)
  refine jj_astore_n (L' := [(2, jR v27), (0, jR l0), (1, jI l1)]) C rfl (by rw [hxn]; decide) dX1_clock_30 rfl ?_
  refine jj_iconst (v := 0) C dX1_clock_31 (by decide) ?_
  refine jj_istore_n (L' := [(3, jI (0 : Int32)), (2, jR v27), (0, jR l0), (1, jI l1)]) C rfl (by rw [hxn]; decide) dX1_clock_32 rfl ?_
  refine jj_sub [3, 1, 0] rfl ?_
  exact w_X1_clock_b33 C hxn hQ 1000 _ _ _ _ _ _ (by omega) hF
def f_X1_clock (a0 : Option Nat) (a1 : Int32) (M : jW) : Option ((Int32 ⊕ Nat) × jW) := pB (f_X1_inRange a1 (1 : Int32) (240 : Int32) M) fun r5 M5 =>
  pX (f_X1_requireArgument r5 M5) fun _ M8 =>
  pR M8 a0 0 4 fun v12 =>
  pZ v12 (f_X1_clock_b23 a0 a1 (0 : Int32) M8)
  (f_X1_clock_b23 a0 a1 (1 : Int32) M8)
set_option maxHeartbeats 4000000 in
theorem m_X1_clock (l : Launch) (g : jG) (hfl : l.stackTraces = false) {a0 : Option Nat} {a1 : Int32} {M M0 : jW} {v0 : (Int32 ⊕ Nat)} (hF : f_X1_clock a0 a1 M = some (v0, M0)) : jMetX l g yX1_clock cX1_clock 4 (some .int) rm_X1_clock [jR a0, jI a1] M (jri v0) M0 := by
  refine jMetX.of (L := [(0, jR a0), (1, jI a1)]) hfl (by decide) rfl (Nat.le_of_ble_eq_true rfl) (fun x C hxn hg hl hQ => ?_)
  subst hg
  unfold f_X1_clock at hF
  refine jj_iload_n C 1 rfl dX1_clock_0 rfl ?_
  refine jj_iconst (v := 1) C dX1_clock_1 (by decide) ?_
  refine jj_sipush (v := 240) C dX1_clock_2 (by decide) ?_
  obtain ⟨r5, M5, hG, hF⟩ := pB_spec hF
  refine jj_callS (k' := 0) (n' := 0) C [jI a1, jI (1 : Int32), jI (240 : Int32)] [] [jI r5] (m_X1_inRange _ _ hG) q425 q426 q42 q427 hd_X1_inRange rfl (Nat.le_of_ble_eq_true rfl) ⟨Nat.le_of_ble_eq_true rfl, Nat.le_of_ble_eq_true rfl⟩ ⟨by show 0 + 0 ≤ 0; omega, by show 0 + 0 ≤ 0; omega, by show 0 ≤ 2; omega, by show 0 ≤ 12; omega⟩ dX1_clock_5 rfl ?_
  rcases pX_spec2 hF with ⟨r8, M8, hG, hF⟩ | ⟨r8, M8, hG, hF⟩
  · cases hF
    exact jj_callSXx (k' := 0 + 1) (n' := 0 + 6) C hQ [jI r5] [] (m_X1_requireArgument _ _ hQ.2.2 hG) rfl rfl q451 q452 q42 q453 hd_X1_requireArgument rfl (Nat.le_of_ble_eq_true rfl) ⟨Nat.le_of_ble_eq_true rfl, Nat.le_of_ble_eq_true rfl⟩ ⟨by show 0 + 1 ≤ 0 + 1; omega, by show 0 + 6 ≤ 0 + 6; omega, by show 0 + 1 ≤ 2; omega, by show 0 + 6 ≤ 12; omega⟩ dX1_clock_8
  refine jj_callSX (k' := 0 + 1) (n' := 0 + 6) C [jI r5] [] [] (m_X1_requireArgument _ _ hQ.2.2 hG) rfl q451 q452 q42 q453 hd_X1_requireArgument rfl (Nat.le_of_ble_eq_true rfl) ⟨Nat.le_of_ble_eq_true rfl, Nat.le_of_ble_eq_true rfl⟩ ⟨by show 0 + 1 ≤ 0 + 1; omega, by show 0 + 6 ≤ 0 + 6; omega, by show 0 + 1 ≤ 2; omega, by show 0 + 6 ≤ 12; omega⟩ dX1_clock_8 rfl ?_
  refine jj_aload_n C 0 rfl dX1_clock_11 rfl ?_
  refine jj_pR (f := 4) C jcs_0 (Nat.le_of_ble_eq_true rfl) (jLk.of C q122 rfl) dX1_clock_12 hF (fun v12 hF => ?_)
  refine jj_ifnull (tgt := 22) C dX1_clock_15 (by decide) hF (fun hF => ?_) (fun hF => ?_)
  · refine jj_iconst (v := 0) C dX1_clock_22 (by decide) ?_
    refine jj_sub [0, 1] rfl ?_
    exact w_X1_clock_b23 C hxn hQ (by omega) hF
  · refine jj_iconst (v := 1) C dX1_clock_18 (by decide) ?_
    refine jj_goto (tgt := 23) C dX1_clock_19 (by decide) ?_
    refine jj_sub [0, 1] rfl ?_
    exact w_X1_clock_b23 C hxn hQ (by omega) hF
/-! Phrasehall.end()I -/
def rm_X1_end : Room := ({ frames := 7, cells := 1, slots := 6, locals := 148 } : Room)
theorem hd_X1_end : yX1_end.cls ≠ "java/lang/invoke/MethodHandle" ∧ yX1_end.cls ≠ "java/lang/invoke/VarHandle" ∧ (parseMethodDescriptor yX1_end.desc).map (fun d => d.parameters.length) = some 0 := ⟨by decide, by decide, by decide +kernel⟩
def f_X1_end_b12 (l0 : Option Nat) (s0 : Int32) (M : jW) : Option ((Int32 ⊕ Nat) × jW) := pX (f_X1_requireState s0 M) fun _ M12 =>
  pR M12 l0 0 4 fun v16 =>
  pO M12 v16 3 fun b22 _ => pB (f_X4_better (some b22)  M12) fun r22 M22 =>
  pO M22 v16 3 fun b25 _ => pB (f_X4_ends (some b25) r22 M22) fun _ M25 =>
  pI M25 v16 3 7 fun v29 =>
  some (.inl v29, M25)
set_option maxHeartbeats 4000000 in
theorem w_X1_end_b12 {x : jX} (C : jOk x cX1_end RX1 rm_X1_end (some .int)) (hxn : xn x = 2) {v0 : (Int32 ⊕ Nat)} {M0 : jW} (hQ : jEndX x rm_X1_end (jri v0) M0) {l0 : Option Nat} {s0 : Int32} {M : jW} {k n : Nat} (hk : k + 1 ≤ 1 ∧ n + 6 ≤ 6) (hF : f_X1_end_b12 l0 s0 M = some (v0, M0)) : jJ x 12 [(0, jR l0)] [jI s0] M k n := by
  unfold f_X1_end_b12 at hF
  rcases pX_spec2 hF with ⟨r12, M12, hG, hF⟩ | ⟨r12, M12, hG, hF⟩
  · cases hF
    exact jj_callSXx (k' := k + 1) (n' := n + 6) C hQ [jI s0] [] (m_X1_requireState _ _ hQ.2.2 hG) rfl rfl q233 q234 q42 q235 hd_X1_requireState rfl (Nat.le_of_ble_eq_true rfl) ⟨Nat.le_of_ble_eq_true rfl, Nat.le_of_ble_eq_true rfl⟩ ⟨by show k + 1 ≤ k + 1; omega, by show n + 6 ≤ n + 6; omega, by show k + 1 ≤ 1; omega, by show n + 6 ≤ 6; omega⟩ dX1_end_12
  refine jj_callSX (k' := k + 1) (n' := n + 6) C [jI s0] [] [] (m_X1_requireState _ _ hQ.2.2 hG) rfl q233 q234 q42 q235 hd_X1_requireState rfl (Nat.le_of_ble_eq_true rfl) ⟨Nat.le_of_ble_eq_true rfl, Nat.le_of_ble_eq_true rfl⟩ ⟨by show k + 1 ≤ k + 1; omega, by show n + 6 ≤ n + 6; omega, by show k + 1 ≤ 1; omega, by show n + 6 ≤ 6; omega⟩ dX1_end_12 rfl ?_
  refine jj_aload_n C 0 rfl dX1_end_15 rfl ?_
  refine jj_pR (f := 4) C jcs_0 (Nat.le_of_ble_eq_true rfl) (jLk.of C q122 rfl) dX1_end_16 hF (fun v16 hF => ?_)
  refine jj_astore_n (L' := [(1, jR v16), (0, jR l0)]) C rfl (by rw [hxn]; decide) dX1_end_19 rfl ?_
  refine jj_aload_n C 0 rfl dX1_end_20 rfl ?_
  refine jj_aload_n C 0 rfl dX1_end_21 rfl ?_
  obtain ⟨b22, fs22, he22, hb22, hF⟩ := pO_spec hF
  obtain ⟨r22, M22, hG, hF⟩ := pB_spec hF
  refine jj_callVN (k' := k + 1) (n' := n + 6) C [] [jR v16] [jI r22, jR v16] he22 (m_X4_better _ _ hG) hb22 rfl q746 q679 qs13 q62 q680 hd_X4_better rfl (Nat.le_of_ble_eq_true rfl) ⟨Nat.le_of_ble_eq_true rfl, Nat.le_of_ble_eq_true rfl⟩ ⟨by show k + 1 + 0 ≤ k + 1; omega, by show n + 6 + 0 ≤ n + 6; omega, by show k + 1 ≤ 1; omega, by show n + 6 ≤ 6; omega⟩ dX1_end_22 rfl ?_
  obtain ⟨b25, fs25, he25, hb25, hF⟩ := pO_spec hF
  obtain ⟨r25, M25, hG, hF⟩ := pB_spec hF
  refine jj_callV (k' := k + 1) (n' := n + 6) C [jI r22] [] [] he25 (m_X4_ends _ _ hG) hb25 rfl q747 q682 q683 q62 q684 ⟨rfl, hd_X4_ends⟩ rfl (Nat.le_of_ble_eq_true rfl) ⟨Nat.le_of_ble_eq_true rfl, Nat.le_of_ble_eq_true rfl⟩ ⟨by show k + 1 + 0 ≤ k + 1; omega, by show n + 6 + 0 ≤ n + 6; omega, by show k + 1 ≤ 1; omega, by show n + 6 ≤ 6; omega⟩ dX1_end_25 rfl ?_
  refine jj_aload_n C 0 rfl dX1_end_28 rfl ?_
  refine jj_pI (f := 7) C jcs_3 (Nat.le_of_ble_eq_true rfl) (jLk.nest C q507 rfl) dX1_end_29 hF (fun v29 hF => ?_)
  exact jj_iretX C hQ dX1_end_32 hF (by show k + 1 ≤ 1; omega) (by show n + 6 ≤ 6; omega)
def f_X1_end (a0 : Option Nat) (M : jW) : Option ((Int32 ⊕ Nat) × jW) := pR M a0 0 4 fun v1 =>
  pZ v1 (f_X1_end_b12 a0 (0 : Int32) M)
  (f_X1_end_b12 a0 (1 : Int32) M)
set_option maxHeartbeats 4000000 in
theorem m_X1_end (l : Launch) (g : jG) (hfl : l.stackTraces = false) {a0 : Option Nat} {M M0 : jW} {v0 : (Int32 ⊕ Nat)} (hF : f_X1_end a0 M = some (v0, M0)) : jMetX l g yX1_end cX1_end 2 (some .int) rm_X1_end [jR a0] M (jri v0) M0 := by
  refine jMetX.of (L := [(0, jR a0)]) hfl (by decide) rfl (Nat.le_of_ble_eq_true rfl) (fun x C hxn hg hl hQ => ?_)
  subst hg
  unfold f_X1_end at hF
  refine jj_aload_n C 0 rfl dX1_end_0 rfl ?_
  refine jj_pR (f := 4) C jcs_0 (Nat.le_of_ble_eq_true rfl) (jLk.of C q122 rfl) dX1_end_1 hF (fun v1 hF => ?_)
  refine jj_ifnull (tgt := 11) C dX1_end_4 (by decide) hF (fun hF => ?_) (fun hF => ?_)
  · refine jj_iconst (v := 0) C dX1_end_11 (by decide) ?_
    refine jj_sub [0] rfl ?_
    exact w_X1_end_b12 C hxn hQ (by omega) hF
  · refine jj_iconst (v := 1) C dX1_end_7 (by decide) ?_
    refine jj_goto (tgt := 12) C dX1_end_8 (by decide) ?_
    refine jj_sub [0] rfl ?_
    exact w_X1_end_b12 C hxn hQ (by omega) hF
