/-! Pool, Bout, Phrasehall (printed by gen) -/
set_option maxRecDepth 100000
/-! Phrasehall.<init>()V -/
def rm_X1_init : Room := ({ frames := 4, cells := 5, slots := 15, locals := 124 } : Room)
theorem hd_X1_init : yX1_init.cls ≠ "java/lang/invoke/MethodHandle" ∧ yX1_init.cls ≠ "java/lang/invoke/VarHandle" ∧ (parseMethodDescriptor yX1_init.desc).map (fun d => d.parameters.length) = some 0 := ⟨by decide, by decide, by decide +kernel⟩
def f_X1_init (a0 : Option Nat) (M : jW) : Option (Unit × jW) := pSm a0 fun b1 =>
  pN M 9 [.int 0, .null, .int 0] fun q5 M5 =>
  pSm (some q5) fun b9 => pB (f_J2_init (some b9)  M5) fun _ M9 =>
  pP M9 a0 0 0 (jR (some q5)) fun M12 =>
  pN M12 9 [.int 0, .null, .int 0] fun q16 M16 =>
  pSm (some q16) fun b20 => pB (f_J2_init (some b20)  M16) fun _ M20 =>
  pP M20 a0 0 1 (jR (some q16)) fun M23 =>
  pN M23 9 [.int 0, .null, .int 0] fun q27 M27 =>
  pSm (some q27) fun b31 => pB (f_J2_init (some b31)  M27) fun _ M31 =>
  pP M31 a0 0 2 (jR (some q27)) fun M34 =>
  pN M34 9 [.int 0, .null, .int 0] fun q38 M38 =>
  pSm (some q38) fun b42 => pB (f_J2_init (some b42)  M38) fun _ M42 =>
  pP M42 a0 0 3 (jR (some q38)) fun M45 =>
  pP M45 a0 0 5 (jI (-1 : Int32)) fun M50 =>
  pN M50 9 [.int 0, .null, .int 0] fun q54 M54 =>
  pSm (some q54) fun b58 => pB (f_J2_init (some b58)  M54) fun _ M58 =>
  pP M58 a0 0 7 (jR (some q54)) fun M61 =>
  some ((), M61)
set_option maxHeartbeats 4000000 in
theorem m_X1_init (l : Launch) (g : jG) {a0 : Option Nat} {M M0 : jW} {v0 : Unit} (hF : f_X1_init a0 M = some (v0, M0)) : jMet l g yX1_init cX1_init 1 none rm_X1_init [jR a0] M none M0 := by
  refine jMet.of (L := [(0, jR a0)]) (by decide) rfl (Nat.le_of_ble_eq_true rfl) (fun x C hxn hg hl hQ hin => ?_)
  have hin := hin rfl
  subst hg
  unfold f_X1_init at hF
  refine jj_aload_n C 0 rfl dX1_init_0 rfl ?_
  obtain ⟨b1, hb1, hF⟩ := pSm_spec hF
  refine jj_objInit C ⟨_, hb1⟩ q84 q85 q86 ⟨Nat.le_of_ble_eq_true rfl, Nat.le_of_ble_eq_true rfl⟩ dX1_init_1 ?_
  refine jj_aload_n C 0 rfl dX1_init_4 rfl ?_
  refine jj_new C jcs_9 q87 q88 q45 (by intro j hj; rcases (show j = 0 ∨ j = 1 ∨ j = 2 by omega) with rfl | rfl | rfl <;> rfl) (by show 0 + 1 ≤ 5; omega) (by show 0 + 3 ≤ 15; omega) dX1_init_5 hF (fun q5 M5 hF => ?_)
  refine jj_dup C dX1_init_8 rfl ?_
  obtain ⟨b9, hb9, hF⟩ := pSm_spec hF
  obtain ⟨r9, M9, hG, hF⟩ := pB_spec hF
  refine jj_callI (k' := 0 + 1) (n' := 0 + 3) C [] [jR (some q5), jR a0] hb9 (m_J2_init _ _ hG) q89 q90 q45 q91 rfl hd_J2_init rfl (Nat.le_of_ble_eq_true rfl) ⟨Nat.le_of_ble_eq_true rfl, Nat.le_of_ble_eq_true rfl⟩ ⟨by show 0 + 1 + 0 ≤ 0 + 1; omega, by show 0 + 3 + 0 ≤ 0 + 3; omega, by show 0 + 1 ≤ 5; omega, by show 0 + 3 ≤ 15; omega⟩ dX1_init_9 ?_
  refine jj_pP (f := 0) C jcs_0 (Nat.le_of_ble_eq_true rfl) (jLk.of C q116 rfl) (Or.inr ⟨rfl, hin, rfl⟩) dX1_init_12 (jfit_o _ _) hF (fun M12 hF => ?_)
  refine jj_aload_n C 0 rfl dX1_init_15 rfl ?_
  refine jj_new C jcs_9 q87 q88 q45 (by intro j hj; rcases (show j = 0 ∨ j = 1 ∨ j = 2 by omega) with rfl | rfl | rfl <;> rfl) (by show 0 + 1 + 1 ≤ 5; omega) (by show 0 + 3 + 3 ≤ 15; omega) dX1_init_16 hF (fun q16 M16 hF => ?_)
  refine jj_dup C dX1_init_19 rfl ?_
  obtain ⟨b20, hb20, hF⟩ := pSm_spec hF
  obtain ⟨r20, M20, hG, hF⟩ := pB_spec hF
  refine jj_callI (k' := 0 + 1 + 1) (n' := 0 + 3 + 3) C [] [jR (some q16), jR a0] hb20 (m_J2_init _ _ hG) q89 q90 q45 q91 rfl hd_J2_init rfl (Nat.le_of_ble_eq_true rfl) ⟨Nat.le_of_ble_eq_true rfl, Nat.le_of_ble_eq_true rfl⟩ ⟨by show 0 + 1 + 1 + 0 ≤ 0 + 1 + 1; omega, by show 0 + 3 + 3 + 0 ≤ 0 + 3 + 3; omega, by show 0 + 1 + 1 ≤ 5; omega, by show 0 + 3 + 3 ≤ 15; omega⟩ dX1_init_20 ?_
  refine jj_pP (f := 1) C jcs_0 (Nat.le_of_ble_eq_true rfl) (jLk.of C q117 rfl) (Or.inr ⟨rfl, hin, rfl⟩) dX1_init_23 (jfit_o _ _) hF (fun M23 hF => ?_)
  refine jj_aload_n C 0 rfl dX1_init_26 rfl ?_
  refine jj_new C jcs_9 q87 q88 q45 (by intro j hj; rcases (show j = 0 ∨ j = 1 ∨ j = 2 by omega) with rfl | rfl | rfl <;> rfl) (by show 0 + 1 + 1 + 1 ≤ 5; omega) (by show 0 + 3 + 3 + 3 ≤ 15; omega) dX1_init_27 hF (fun q27 M27 hF => ?_)
  refine jj_dup C dX1_init_30 rfl ?_
  obtain ⟨b31, hb31, hF⟩ := pSm_spec hF
  obtain ⟨r31, M31, hG, hF⟩ := pB_spec hF
  refine jj_callI (k' := 0 + 1 + 1 + 1) (n' := 0 + 3 + 3 + 3) C [] [jR (some q27), jR a0] hb31 (m_J2_init _ _ hG) q89 q90 q45 q91 rfl hd_J2_init rfl (Nat.le_of_ble_eq_true rfl) ⟨Nat.le_of_ble_eq_true rfl, Nat.le_of_ble_eq_true rfl⟩ ⟨by show 0 + 1 + 1 + 1 + 0 ≤ 0 + 1 + 1 + 1; omega, by show 0 + 3 + 3 + 3 + 0 ≤ 0 + 3 + 3 + 3; omega, by show 0 + 1 + 1 + 1 ≤ 5; omega, by show 0 + 3 + 3 + 3 ≤ 15; omega⟩ dX1_init_31 ?_
  refine jj_pP (f := 2) C jcs_0 (Nat.le_of_ble_eq_true rfl) (jLk.of C q118 rfl) (Or.inr ⟨rfl, hin, rfl⟩) dX1_init_34 (jfit_o _ _) hF (fun M34 hF => ?_)
  refine jj_aload_n C 0 rfl dX1_init_37 rfl ?_
  refine jj_new C jcs_9 q87 q88 q45 (by intro j hj; rcases (show j = 0 ∨ j = 1 ∨ j = 2 by omega) with rfl | rfl | rfl <;> rfl) (by show 0 + 1 + 1 + 1 + 1 ≤ 5; omega) (by show 0 + 3 + 3 + 3 + 3 ≤ 15; omega) dX1_init_38 hF (fun q38 M38 hF => ?_)
  refine jj_dup C dX1_init_41 rfl ?_
  obtain ⟨b42, hb42, hF⟩ := pSm_spec hF
  obtain ⟨r42, M42, hG, hF⟩ := pB_spec hF
  refine jj_callI (k' := 0 + 1 + 1 + 1 + 1) (n' := 0 + 3 + 3 + 3 + 3) C [] [jR (some q38), jR a0] hb42 (m_J2_init _ _ hG) q89 q90 q45 q91 rfl hd_J2_init rfl (Nat.le_of_ble_eq_true rfl) ⟨Nat.le_of_ble_eq_true rfl, Nat.le_of_ble_eq_true rfl⟩ ⟨by show 0 + 1 + 1 + 1 + 1 + 0 ≤ 0 + 1 + 1 + 1 + 1; omega, by show 0 + 3 + 3 + 3 + 3 + 0 ≤ 0 + 3 + 3 + 3 + 3; omega, by show 0 + 1 + 1 + 1 + 1 ≤ 5; omega, by show 0 + 3 + 3 + 3 + 3 ≤ 15; omega⟩ dX1_init_42 ?_
  refine jj_pP (f := 3) C jcs_0 (Nat.le_of_ble_eq_true rfl) (jLk.of C q120 rfl) (Or.inr ⟨rfl, hin, rfl⟩) dX1_init_45 (jfit_o _ _) hF (fun M45 hF => ?_)
  refine jj_aload_n C 0 rfl dX1_init_48 rfl ?_
  refine jj_iconst (v := -1) C dX1_init_49 (by decide) ?_
  refine jj_pP (f := 5) C jcs_0 (Nat.le_of_ble_eq_true rfl) (jLk.of C q123 rfl) (Or.inl rfl) dX1_init_50 (jfit_i _) hF (fun M50 hF => ?_)
  refine jj_aload_n C 0 rfl dX1_init_53 rfl ?_
  refine jj_new C jcs_9 q87 q88 q45 (by intro j hj; rcases (show j = 0 ∨ j = 1 ∨ j = 2 by omega) with rfl | rfl | rfl <;> rfl) (by show 0 + 1 + 1 + 1 + 1 + 1 ≤ 5; omega) (by show 0 + 3 + 3 + 3 + 3 + 3 ≤ 15; omega) dX1_init_54 hF (fun q54 M54 hF => ?_)
  refine jj_dup C dX1_init_57 rfl ?_
  obtain ⟨b58, hb58, hF⟩ := pSm_spec hF
  obtain ⟨r58, M58, hG, hF⟩ := pB_spec hF
  refine jj_callI (k' := 0 + 1 + 1 + 1 + 1 + 1) (n' := 0 + 3 + 3 + 3 + 3 + 3) C [] [jR (some q54), jR a0] hb58 (m_J2_init _ _ hG) q89 q90 q45 q91 rfl hd_J2_init rfl (Nat.le_of_ble_eq_true rfl) ⟨Nat.le_of_ble_eq_true rfl, Nat.le_of_ble_eq_true rfl⟩ ⟨by show 0 + 1 + 1 + 1 + 1 + 1 + 0 ≤ 0 + 1 + 1 + 1 + 1 + 1; omega, by show 0 + 3 + 3 + 3 + 3 + 3 + 0 ≤ 0 + 3 + 3 + 3 + 3 + 3; omega, by show 0 + 1 + 1 + 1 + 1 + 1 ≤ 5; omega, by show 0 + 3 + 3 + 3 + 3 + 3 ≤ 15; omega⟩ dX1_init_58 ?_
  refine jj_pP (f := 7) C jcs_0 (Nat.le_of_ble_eq_true rfl) (jLk.of C q125 rfl) (Or.inr ⟨rfl, hin, rfl⟩) dX1_init_61 (jfit_o _ _) hF (fun M61 hF => ?_)
  exact jj_vret C hQ dX1_init_64 hF (by show 0 + 1 + 1 + 1 + 1 + 1 ≤ 5; omega) (by show 0 + 3 + 3 + 3 + 3 + 3 ≤ 15; omega)
/-! Phrasehall.wayUpTo(I)LPhrasehall$Way; -/
def rm_X1_wayUpTo : Room := ({ frames := 4, cells := 1, slots := 5, locals := 134 } : Room)
theorem hd_X1_wayUpTo : yX1_wayUpTo.cls ≠ "java/lang/invoke/MethodHandle" ∧ yX1_wayUpTo.cls ≠ "java/lang/invoke/VarHandle" ∧ (parseMethodDescriptor yX1_wayUpTo.desc).map (fun d => d.parameters.length) = some 1 := ⟨by decide, by decide, by decide +kernel⟩
def f_X1_wayUpTo_b46 (K10 : Option Nat → Int32 → Option Nat → Int32 → jW → Option (Option Nat × jW)) (l0 : Option Nat) (l1 : Int32) (l2 : Option Nat) (l3 : Int32) (M : jW) : Option (Option Nat × jW) := K10 l0 l1 l2 (l3 + (1 : Int32)) M
set_option maxHeartbeats 4000000 in
theorem w_X1_wayUpTo_b46 {x : jX} (C : jOk x cX1_wayUpTo RX1 rm_X1_wayUpTo (some (.object "Phrasehall$Way"))) (hxn : xn x = 6) {v0 : Option Nat} {M0 : jW} (hQ : jEnd x rm_X1_wayUpTo (some (jR v0)) M0) {K10 : Option Nat → Int32 → Option Nat → Int32 → jW → Option (Option Nat × jW)} (hK10 : ∀ (l0 : Option Nat) (l1 : Int32) (l2 : Option Nat) (l3 : Int32) (M : jW) (k n : Nat), k ≤ 1 ∧ n ≤ 5 → K10 l0 l1 l2 l3 M = some (v0, M0) → jJ x 10 [(0, jR l0), (1, jI l1), (2, jR l2), (3, jI l3)] [] M k n) {l0 : Option Nat} {l1 : Int32} {l2 : Option Nat} {l3 : Int32} {M : jW} {k n : Nat} (hk : k ≤ 1 ∧ n ≤ 5) (hF : f_X1_wayUpTo_b46 K10 l0 l1 l2 l3 M = some (v0, M0)) : jJ x 46 [(0, jR l0), (1, jI l1), (2, jR l2), (3, jI l3)] [] M k n := by
  unfold f_X1_wayUpTo_b46 at hF
  refine jj_iinc (c := 1) (L' := [(3, jI (l3 + (1 : Int32))), (0, jR l0), (1, jI l1), (2, jR l2)]) C 3 rfl (by decide) rfl (by rw [hxn]; decide) dX1_wayUpTo_46 ?_
  refine jj_goto (tgt := 10) C dX1_wayUpTo_49 (by decide) ?_
  refine jj_sub [1, 2, 3, 0] rfl ?_
  exact hK10 _ _ _ _ _ _ _ (by omega) hF
def f_X1_wayUpTo_b10 : Nat → Option Nat → Int32 → Option Nat → Int32 → jW → Option (Option Nat × jW)
  | 0, _, _, _, _, _ => none
  | q + 1, l0, l1, l2, l3, M => if l1 ≤ l3 then (some (l2, M))
  else (pR M l0 0 3 fun v16 =>
  pO M v16 9 fun b20 _ => pB (f_J2_get (some b20) l3 M) fun r20 M20 =>
  pIO M20 r20 4 fun v27 =>
  if v27 = 0 then (f_X1_wayUpTo_b46 (f_X1_wayUpTo_b10 q) l0 l1 l2 l3 M20)
  else (pCC M20 r20 4 fun v35 =>
  pO M20 l2 6 fun b43 _ => pB (f_X8_takes (some b43) v35 M20) fun _ M43 =>
  f_X1_wayUpTo_b46 (f_X1_wayUpTo_b10 q) l0 l1 l2 l3 M43))
theorem f_X1_wayUpTo_b10_s (q : Nat) (l0 : Option Nat) (l1 : Int32) (l2 : Option Nat) (l3 : Int32) (M : jW) : f_X1_wayUpTo_b10 (q + 1) l0 l1 l2 l3 M = (if l1 ≤ l3 then (some (l2, M))
  else (pR M l0 0 3 fun v16 =>
  pO M v16 9 fun b20 _ => pB (f_J2_get (some b20) l3 M) fun r20 M20 =>
  pIO M20 r20 4 fun v27 =>
  if v27 = 0 then (f_X1_wayUpTo_b46 (f_X1_wayUpTo_b10 q) l0 l1 l2 l3 M20)
  else (pCC M20 r20 4 fun v35 =>
  pO M20 l2 6 fun b43 _ => pB (f_X8_takes (some b43) v35 M20) fun _ M43 =>
  f_X1_wayUpTo_b46 (f_X1_wayUpTo_b10 q) l0 l1 l2 l3 M43))) := rfl
set_option maxHeartbeats 4000000 in
theorem w_X1_wayUpTo_b10 {x : jX} (C : jOk x cX1_wayUpTo RX1 rm_X1_wayUpTo (some (.object "Phrasehall$Way"))) (hxn : xn x = 6) {v0 : Option Nat} {M0 : jW} (hQ : jEnd x rm_X1_wayUpTo (some (jR v0)) M0) : ∀ (n10 : Nat) (l0 : Option Nat) (l1 : Int32) (l2 : Option Nat) (l3 : Int32) (M : jW) (k n : Nat), k ≤ 1 ∧ n ≤ 5 → f_X1_wayUpTo_b10 n10 l0 l1 l2 l3 M = some (v0, M0) → jJ x 10 [(0, jR l0), (1, jI l1), (2, jR l2), (3, jI l3)] [] M k n := by
  intro n10
  induction n10 with
  | zero =>
    intro l0 l1 l2 l3 M k n hk hF
    cases hF
  | succ n10 hK10 =>
    intro l0 l1 l2 l3 M k n hk hF
    rw [f_X1_wayUpTo_b10_s] at hF
    refine jj_iload_n C 3 rfl dX1_wayUpTo_10 rfl ?_
    refine jj_iload_n C 1 rfl dX1_wayUpTo_11 rfl ?_
    refine jj_icmp_ge (tgt := 52) C dX1_wayUpTo_12 (by decide) hF (fun hF => ?_) (fun hF => ?_)
    · refine jj_aload_n C 2 rfl dX1_wayUpTo_52 rfl ?_
      exact jj_aret C (by first | exact Or.inl ⟨_, rfl⟩ | exact Or.inr ⟨_, rfl⟩) hQ dX1_wayUpTo_53 hF (by show k ≤ 1; omega) (by show n ≤ 5; omega)
    · refine jj_aload_n C 0 rfl dX1_wayUpTo_15 rfl ?_
      refine jj_pR (f := 3) C jcs_0 (Nat.le_of_ble_eq_true rfl) (jLk.of C q120 rfl) dX1_wayUpTo_16 hF (fun v16 hF => ?_)
      refine jj_iload_n C 3 rfl dX1_wayUpTo_19 rfl ?_
      obtain ⟨b20, fs20, he20, hb20, hF⟩ := pO_spec hF
      obtain ⟨r20, M20, hG, hF⟩ := pB_spec hF
      refine jj_callV (k' := k) (n' := n) C [jI l3] [] [jR r20] he20 (m_J2_get _ _ hG) hb20 rfl q178 q179 q180 q45 q181 ⟨rfl, hd_J2_get⟩ rfl (Nat.le_of_ble_eq_true rfl) ⟨Nat.le_of_ble_eq_true rfl, Nat.le_of_ble_eq_true rfl⟩ ⟨by show k + 0 ≤ k; omega, by show n + 0 ≤ n; omega, by show k ≤ 1; omega, by show n ≤ 5; omega⟩ dX1_wayUpTo_20 rfl ?_
      refine jj_astore (L' := [(5, jR r20), (0, jR l0), (1, jI l1), (2, jR l2), (3, jI l3)]) C rfl (by rw [hxn]; decide) dX1_wayUpTo_23 ?_
      refine jj_aload C 0 rfl dX1_wayUpTo_25 ?_
      refine jj_inst4 C q192 dX1_wayUpTo_27 hF (fun v27 hF => ?_)
      refine jj_if_eq (tgt := 46) C dX1_wayUpTo_30 (by decide) hF (fun hF => ?_) (fun hF => ?_)
      · refine jj_sub [1, 2, 3, 4] rfl ?_
        exact w_X1_wayUpTo_b46 C hxn hQ hK10 (by omega) hF
      · refine jj_aload C 0 rfl dX1_wayUpTo_33 ?_
        refine jj_castC (ci := 4) C rfl q192 dX1_wayUpTo_35 hF (fun v35 hF => ?_)
        refine jj_astore (L' := [(4, jR v35), (5, jR r20), (0, jR l0), (1, jI l1), (2, jR l2), (3, jI l3)]) C rfl (by rw [hxn]; decide) dX1_wayUpTo_38 ?_
        refine jj_aload_n C 4 rfl dX1_wayUpTo_40 rfl ?_
        refine jj_aload C 0 rfl dX1_wayUpTo_41 ?_
        obtain ⟨b43, fs43, he43, hb43, hF⟩ := pO_spec hF
        obtain ⟨r43, M43, hG, hF⟩ := pB_spec hF
        refine jj_callV (k' := k) (n' := n) C [jR v35] [] [] he43 (m_X8_takes _ _ hG) hb43 rfl q193 q194 q195 q68 q196 ⟨rfl, hd_X8_takes⟩ rfl (Nat.le_of_ble_eq_true rfl) ⟨Nat.le_of_ble_eq_true rfl, Nat.le_of_ble_eq_true rfl⟩ ⟨by show k + 0 ≤ k; omega, by show n + 0 ≤ n; omega, by show k ≤ 1; omega, by show n ≤ 5; omega⟩ dX1_wayUpTo_43 rfl ?_
        refine jj_sub [2, 3, 4, 5] rfl ?_
        exact w_X1_wayUpTo_b46 C hxn hQ hK10 (by omega) hF
def f_X1_wayUpTo (a0 : Option Nat) (a1 : Int32) (M : jW) : Option (Option Nat × jW) := pN M 6 [.int 0, .int 0, .int 0, .int 0, .int 0] fun q0 M0 =>
  pSm (some q0) fun b4 => pB (f_X8_init (some b4)  M0) fun _ M4 =>
  f_X1_wayUpTo_b10 1000 a0 a1 (some q0) (0 : Int32) M4
set_option maxHeartbeats 4000000 in
theorem m_X1_wayUpTo (l : Launch) (g : jG) {a0 : Option Nat} {a1 : Int32} {M M0 : jW} {v0 : Option Nat} (hF : f_X1_wayUpTo a0 a1 M = some (v0, M0)) : jMet l g yX1_wayUpTo cX1_wayUpTo 6 (some (.object "Phrasehall$Way")) rm_X1_wayUpTo [jR a0, jI a1] M (some (jR v0)) M0 := by
  refine jMet.of (L := [(0, jR a0), (1, jI a1)]) (by decide) rfl (Nat.le_of_ble_eq_true rfl) (fun x C hxn hg hl hQ hin => ?_)
  subst hg
  unfold f_X1_wayUpTo at hF
  refine jj_new C jcs_6 q155 q156 q68 (by intro j hj; rcases (show j = 0 ∨ j = 1 ∨ j = 2 ∨ j = 3 ∨ j = 4 by omega) with rfl | rfl | rfl | rfl | rfl <;> rfl) (by show 0 + 1 ≤ 1; omega) (by show 0 + 5 ≤ 5; omega) dX1_wayUpTo_0 hF (fun q0 M0 hF => ?_)
  refine jj_dup C dX1_wayUpTo_3 rfl ?_
  obtain ⟨b4, hb4, hF⟩ := pSm_spec hF
  obtain ⟨r4, M4, hG, hF⟩ := pB_spec hF
  refine jj_callIN (k' := 0 + 1) (n' := 0 + 5) C [] [jR (some q0)] hb4 (m_X8_init _ _ hG) q157 q158 q68 q159 rfl hd_X8_init rfl (Nat.le_of_ble_eq_true rfl) ⟨Nat.le_of_ble_eq_true rfl, Nat.le_of_ble_eq_true rfl⟩ ⟨by show 0 + 1 + 0 ≤ 0 + 1; omega, by show 0 + 5 + 0 ≤ 0 + 5; omega, by show 0 + 1 ≤ 1; omega, by show 0 + 5 ≤ 5; omega⟩ dX1_wayUpTo_4 ?_
  refine jj_astore_n (L' := [(2, jR (some q0)), (0, jR a0), (1, jI a1)]) C rfl (by rw [hxn]; decide) dX1_wayUpTo_7 rfl ?_
  refine jj_iconst (v := 0) C dX1_wayUpTo_8 (by decide) ?_
  refine jj_istore_n (L' := [(3, jI (0 : Int32)), (2, jR (some q0)), (0, jR a0), (1, jI a1)]) C rfl (by rw [hxn]; decide) dX1_wayUpTo_9 rfl ?_
  refine jj_sub [2, 3, 1, 0] rfl ?_
  exact w_X1_wayUpTo_b10 C hxn hQ 1000 _ _ _ _ _ _ _ (by omega) hF
/-! Phrasehall.holder()I -/
def rm_X1_holder : Room := ({ frames := 5, cells := 1, slots := 5, locals := 159 } : Room)
theorem hd_X1_holder : yX1_holder.cls ≠ "java/lang/invoke/MethodHandle" ∧ yX1_holder.cls ≠ "java/lang/invoke/VarHandle" ∧ (parseMethodDescriptor yX1_holder.desc).map (fun d => d.parameters.length) = some 0 := ⟨by decide, by decide, by decide +kernel⟩
def f_X1_holder (a0 : Option Nat) (M : jW) : Option (Int32 × jW) := pR M a0 0 3 fun v2 =>
  pO M v2 9 fun b5 _ => pB (f_J2_size (some b5)  M) fun r5 M5 =>
  pO M5 a0 0 fun b8 _ => pB (f_X1_wayUpTo (some b8) r5 M5) fun r8 M8 =>
  pI M8 r8 6 0 fun v11 =>
  some (v11, M8)
set_option maxHeartbeats 4000000 in
theorem m_X1_holder (l : Launch) (g : jG) {a0 : Option Nat} {M M0 : jW} {v0 : Int32} (hF : f_X1_holder a0 M = some (v0, M0)) : jMet l g yX1_holder cX1_holder 1 (some .int) rm_X1_holder [jR a0] M (some (jI v0)) M0 := by
  refine jMet.of (L := [(0, jR a0)]) (by decide) rfl (Nat.le_of_ble_eq_true rfl) (fun x C hxn hg hl hQ hin => ?_)
  subst hg
  unfold f_X1_holder at hF
  refine jj_aload_n C 0 rfl dX1_holder_0 rfl ?_
  refine jj_aload_n C 0 rfl dX1_holder_1 rfl ?_
  refine jj_pR (f := 3) C jcs_0 (Nat.le_of_ble_eq_true rfl) (jLk.of C q120 rfl) dX1_holder_2 hF (fun v2 hF => ?_)
  obtain ⟨b5, fs5, he5, hb5, hF⟩ := pO_spec hF
  obtain ⟨r5, M5, hG, hF⟩ := pB_spec hF
  refine jj_callV (k' := 0) (n' := 0) C [] [jR a0] [jI r5, jR a0] he5 (m_J2_size _ _ hG) hb5 rfl q147 q148 q149 q45 q150 ⟨rfl, hd_J2_size⟩ rfl (Nat.le_of_ble_eq_true rfl) ⟨Nat.le_of_ble_eq_true rfl, Nat.le_of_ble_eq_true rfl⟩ ⟨by show 0 + 0 ≤ 0; omega, by show 0 + 0 ≤ 0; omega, by show 0 ≤ 1; omega, by show 0 ≤ 5; omega⟩ dX1_holder_5 rfl ?_
  obtain ⟨b8, fs8, he8, hb8, hF⟩ := pO_spec hF
  obtain ⟨r8, M8, hG, hF⟩ := pB_spec hF
  refine jj_callV (k' := 0 + 1) (n' := 0 + 5) C [jI r5] [] [jR r8] he8 (m_X1_wayUpTo _ _ hG) hb8 rfl q151 q153 qs0 q42 q154 ⟨rfl, hd_X1_wayUpTo⟩ rfl (Nat.le_of_ble_eq_true rfl) ⟨Nat.le_of_ble_eq_true rfl, Nat.le_of_ble_eq_true rfl⟩ ⟨by show 0 + 1 ≤ 0 + 1; omega, by show 0 + 5 ≤ 0 + 5; omega, by show 0 + 1 ≤ 1; omega, by show 0 + 5 ≤ 5; omega⟩ dX1_holder_8 rfl ?_
  refine jj_pI (f := 0) C jcs_6 (Nat.le_of_ble_eq_true rfl) (jLk.nest C q162 rfl) dX1_holder_11 hF (fun v11 hF => ?_)
  exact jj_iret C hQ dX1_holder_14 hF (by show 0 + 1 ≤ 1; omega) (by show 0 + 5 ≤ 5; omega)
/-! Phrasehall.reason()I -/
def rm_X1_reason : Room := ({ frames := 1, cells := 0, slots := 0, locals := 64 } : Room)
theorem hd_X1_reason : yX1_reason.cls ≠ "java/lang/invoke/MethodHandle" ∧ yX1_reason.cls ≠ "java/lang/invoke/VarHandle" ∧ (parseMethodDescriptor yX1_reason.desc).map (fun d => d.parameters.length) = some 0 := ⟨by decide, by decide, by decide +kernel⟩
def f_X1_reason (a0 : Option Nat) (M : jW) : Option (Int32 × jW) := pI M a0 0 5 fun v1 =>
  some (v1, M)
set_option maxHeartbeats 4000000 in
theorem m_X1_reason (l : Launch) (g : jG) {a0 : Option Nat} {M M0 : jW} {v0 : Int32} (hF : f_X1_reason a0 M = some (v0, M0)) : jMet l g yX1_reason cX1_reason 1 (some .int) rm_X1_reason [jR a0] M (some (jI v0)) M0 := by
  refine jMet.of (L := [(0, jR a0)]) (by decide) rfl (Nat.le_of_ble_eq_true rfl) (fun x C hxn hg hl hQ hin => ?_)
  subst hg
  unfold f_X1_reason at hF
  refine jj_aload_n C 0 rfl dX1_reason_0 rfl ?_
  refine jj_pI (f := 5) C jcs_0 (Nat.le_of_ble_eq_true rfl) (jLk.of C q123 rfl) dX1_reason_1 hF (fun v1 hF => ?_)
  exact jj_iret C hQ dX1_reason_4 hF (Nat.zero_le _) (Nat.zero_le _)
/-! Phrasehall.requireState(Z)V -/
def rm_X1_requireState : Room := ({ frames := 6, cells := 1, slots := 6, locals := 128 } : Room)
theorem hd_X1_requireState : yX1_requireState.cls ≠ "java/lang/invoke/MethodHandle" ∧ yX1_requireState.cls ≠ "java/lang/invoke/VarHandle" ∧ (parseMethodDescriptor yX1_requireState.desc).map (fun d => d.parameters.length) = some 1 := ⟨by decide, by decide, by decide +kernel⟩
def f_X1_requireState (a0 : Int32) (M : jW) : Option ((Unit ⊕ Nat) × jW) := if a0 = 0 then (some (.inr 3, M))
  else (some (.inl (), M))
set_option maxHeartbeats 4000000 in
theorem m_X1_requireState (l : Launch) (g : jG) (hfl : l.stackTraces = false) {a0 : Int32} {M M0 : jW} {v0 : (Unit ⊕ Nat)} (hF : f_X1_requireState a0 M = some (v0, M0)) : jMetX l g yX1_requireState cX1_requireState 1 none rm_X1_requireState [jI a0] M (jru v0) M0 := by
  refine jMetX.of (L := [(0, jI a0)]) hfl (by decide) rfl (Nat.le_of_ble_eq_true rfl) (fun x C hxn hg hl hQ => ?_)
  subst hg
  unfold f_X1_requireState at hF
  refine jj_iload_n C 0 rfl dX1_requireState_0 rfl ?_
  refine jj_if_ne (tgt := 12) C dX1_requireState_1 (by decide) hF (fun hF => ?_) (fun hF => ?_)
  · exact jj_vretX C hQ dX1_requireState_12 hF (by show 0 ≤ 1; omega) (by show 0 ≤ 6; omega)
  · cases hF
    exact jj_throw (e := 3) C (show jEndX x rm_X1_requireState (.inr 3) _ from hQ) (names := ["java/lang/RuntimeException", "java/lang/Exception"]) (by decide) (by decide) q236 q50 (jat C _ jat_3 jag_3) (fun w hw => List.all_eq_true.mp jah_3 w hw) rfl dX1_requireState_4 dX1_requireState_7 dX1_requireState_8 dX1_requireState_11 ⟨by decide, by decide⟩ (by show 0 + 1 ≤ 1; omega) (by show 0 + 6 ≤ 6; omega)
/-! Phrasehall.fencer()I -/
def rm_X1_fencer : Room := ({ frames := 7, cells := 3, slots := 135, locals := 195 } : Room)
theorem hd_X1_fencer : yX1_fencer.cls ≠ "java/lang/invoke/MethodHandle" ∧ yX1_fencer.cls ≠ "java/lang/invoke/VarHandle" ∧ (parseMethodDescriptor yX1_fencer.desc).map (fun d => d.parameters.length) = some 0 := ⟨by decide, by decide, by decide +kernel⟩
def f_X1_fencer_b17 (l0 : Option Nat) (s0 : Int32) (M : jW) : Option ((Int32 ⊕ Nat) × jW) := pX (f_X1_requireState s0 M) fun _ M17 =>
  pR M17 l0 0 0 fun v21 =>
  pN M17 2 [.int 0] fun q24 M24 =>
  pR M24 l0 0 0 fun v29 =>
  pO M24 v29 9 fun b32 _ => pB (f_J2_size (some b32)  M24) fun r32 M32 =>
  pSm (some q24) fun b35 => pB (f_X3_init (some b35) r32 M32) fun _ M35 =>
  pO M35 v21 9 fun b38 _ => pB (f_J2_add (some b38) (some q24) M35) fun r38 M38 =>
  pR M38 l0 0 0 fun v43 =>
  pO M38 v43 9 fun b46 _ => pB (f_J2_size (some b46)  M38) fun r46 M46 =>
  some (.inl (r46 - (1 : Int32)), M46)
set_option maxHeartbeats 4000000 in
theorem w_X1_fencer_b17 {x : jX} (C : jOk x cX1_fencer RX1 rm_X1_fencer (some .int)) (hxn : xn x = 1) {v0 : (Int32 ⊕ Nat)} {M0 : jW} (hQ : jEndX x rm_X1_fencer (jri v0) M0) {l0 : Option Nat} {s0 : Int32} {M : jW} {k n : Nat} (hk : k + 3 ≤ 3 ∧ n + 135 ≤ 135) (hF : f_X1_fencer_b17 l0 s0 M = some (v0, M0)) : jJ x 17 [(0, jR l0)] [jI s0] M k n := by
  unfold f_X1_fencer_b17 at hF
  rcases pX_spec2 hF with ⟨r17, M17, hG, hF⟩ | ⟨r17, M17, hG, hF⟩
  · cases hF
    exact jj_callSXx (k' := k + 1) (n' := n + 6) C hQ [jI s0] [] (m_X1_requireState _ _ hQ.2.2 hG) rfl rfl q233 q234 q42 q235 hd_X1_requireState rfl (Nat.le_of_ble_eq_true rfl) ⟨Nat.le_of_ble_eq_true rfl, Nat.le_of_ble_eq_true rfl⟩ ⟨by show k + 1 ≤ k + 1; omega, by show n + 6 ≤ n + 6; omega, by show k + 1 ≤ 3; omega, by show n + 6 ≤ 135; omega⟩ dX1_fencer_17
  refine jj_callSX (k' := k + 1) (n' := n + 6) C [jI s0] [] [] (m_X1_requireState _ _ hQ.2.2 hG) rfl q233 q234 q42 q235 hd_X1_requireState rfl (Nat.le_of_ble_eq_true rfl) ⟨Nat.le_of_ble_eq_true rfl, Nat.le_of_ble_eq_true rfl⟩ ⟨by show k + 1 ≤ k + 1; omega, by show n + 6 ≤ n + 6; omega, by show k + 1 ≤ 3; omega, by show n + 6 ≤ 135; omega⟩ dX1_fencer_17 rfl ?_
  refine jj_aload_n C 0 rfl dX1_fencer_20 rfl ?_
  refine jj_pR (f := 0) C jcs_0 (Nat.le_of_ble_eq_true rfl) (jLk.of C q116 rfl) dX1_fencer_21 hF (fun v21 hF => ?_)
  refine jj_new C jcs_2 q301 q302 q51 (by intro j hj; rcases (show j = 0 by omega) with rfl <;> rfl) (by show k + 1 + 1 ≤ 3; omega) (by show n + 6 + 1 ≤ 135; omega) dX1_fencer_24 hF (fun q24 M24 hF => ?_)
  refine jj_dup C dX1_fencer_27 rfl ?_
  refine jj_aload_n C 0 rfl dX1_fencer_28 rfl ?_
  refine jj_pR (f := 0) C jcs_0 (Nat.le_of_ble_eq_true rfl) (jLk.of C q116 rfl) dX1_fencer_29 hF (fun v29 hF => ?_)
  obtain ⟨b32, fs32, he32, hb32, hF⟩ := pO_spec hF
  obtain ⟨r32, M32, hG, hF⟩ := pB_spec hF
  refine jj_callV (k' := k + 1 + 1) (n' := n + 6 + 1) C [] [jR (some q24), jR (some q24), jR v21] [jI r32, jR (some q24), jR (some q24), jR v21] he32 (m_J2_size _ _ hG) hb32 rfl q147 q148 q149 q45 q150 ⟨rfl, hd_J2_size⟩ rfl (Nat.le_of_ble_eq_true rfl) ⟨Nat.le_of_ble_eq_true rfl, Nat.le_of_ble_eq_true rfl⟩ ⟨by show k + 1 + 1 + 0 ≤ k + 1 + 1; omega, by show n + 6 + 1 + 0 ≤ n + 6 + 1; omega, by show k + 1 + 1 ≤ 3; omega, by show n + 6 + 1 ≤ 135; omega⟩ dX1_fencer_32 rfl ?_
  obtain ⟨b35, hb35, hF⟩ := pSm_spec hF
  obtain ⟨r35, M35, hG, hF⟩ := pB_spec hF
  refine jj_callI (k' := k + 1 + 1) (n' := n + 6 + 1) C [jI r32] [jR (some q24), jR v21] hb35 (m_X3_init _ _ hG) q303 q304 q51 q305 rfl hd_X3_init rfl (Nat.le_of_ble_eq_true rfl) ⟨Nat.le_of_ble_eq_true rfl, Nat.le_of_ble_eq_true rfl⟩ ⟨by show k + 1 + 1 + 0 ≤ k + 1 + 1; omega, by show n + 6 + 1 + 0 ≤ n + 6 + 1; omega, by show k + 1 + 1 ≤ 3; omega, by show n + 6 + 1 ≤ 135; omega⟩ dX1_fencer_35 ?_
  obtain ⟨b38, fs38, he38, hb38, hF⟩ := pO_spec hF
  obtain ⟨r38, M38, hG, hF⟩ := pB_spec hF
  refine jj_callV (k' := k + 1 + 1 + 1) (n' := n + 6 + 1 + 128) C [jR (some q24)] [] [jI r38] he38 (m_J2_add _ _ hG) hb38 rfl q314 q315 q316 q45 q317 ⟨rfl, hd_J2_add⟩ rfl (Nat.le_of_ble_eq_true rfl) ⟨Nat.le_of_ble_eq_true rfl, Nat.le_of_ble_eq_true rfl⟩ ⟨by show k + 1 + 1 + 1 ≤ k + 1 + 1 + 1; omega, by show n + 6 + 1 + 128 ≤ n + 6 + 1 + 128; omega, by show k + 1 + 1 + 1 ≤ 3; omega, by show n + 6 + 1 + 128 ≤ 135; omega⟩ dX1_fencer_38 rfl ?_
  refine jj_pop C dX1_fencer_41 rfl ?_
  refine jj_aload_n C 0 rfl dX1_fencer_42 rfl ?_
  refine jj_pR (f := 0) C jcs_0 (Nat.le_of_ble_eq_true rfl) (jLk.of C q116 rfl) dX1_fencer_43 hF (fun v43 hF => ?_)
  obtain ⟨b46, fs46, he46, hb46, hF⟩ := pO_spec hF
  obtain ⟨r46, M46, hG, hF⟩ := pB_spec hF
  refine jj_callV (k' := k + 1 + 1 + 1) (n' := n + 6 + 1 + 128) C [] [] [jI r46] he46 (m_J2_size _ _ hG) hb46 rfl q147 q148 q149 q45 q150 ⟨rfl, hd_J2_size⟩ rfl (Nat.le_of_ble_eq_true rfl) ⟨Nat.le_of_ble_eq_true rfl, Nat.le_of_ble_eq_true rfl⟩ ⟨by show k + 1 + 1 + 1 + 0 ≤ k + 1 + 1 + 1; omega, by show n + 6 + 1 + 128 + 0 ≤ n + 6 + 1 + 128; omega, by show k + 1 + 1 + 1 ≤ 3; omega, by show n + 6 + 1 + 128 ≤ 135; omega⟩ dX1_fencer_46 rfl ?_
  refine jj_iconst (v := 1) C dX1_fencer_49 (by decide) ?_
  refine jj_isub C dX1_fencer_50 ?_
  exact jj_iretX C hQ dX1_fencer_51 hF (by show k + 1 + 1 + 1 ≤ 3; omega) (by show n + 6 + 1 + 128 ≤ 135; omega)
def f_X1_fencer (a0 : Option Nat) (M : jW) : Option ((Int32 ⊕ Nat) × jW) := pR M a0 0 0 fun v1 =>
  pO M v1 9 fun b4 _ => pB (f_J2_size (some b4)  M) fun r4 M4 =>
  if (12 : Int32) ≤ r4 then (f_X1_fencer_b17 a0 (0 : Int32) M4)
  else (f_X1_fencer_b17 a0 (1 : Int32) M4)
set_option maxHeartbeats 4000000 in
theorem m_X1_fencer (l : Launch) (g : jG) (hfl : l.stackTraces = false) {a0 : Option Nat} {M M0 : jW} {v0 : (Int32 ⊕ Nat)} (hF : f_X1_fencer a0 M = some (v0, M0)) : jMetX l g yX1_fencer cX1_fencer 1 (some .int) rm_X1_fencer [jR a0] M (jri v0) M0 := by
  refine jMetX.of (L := [(0, jR a0)]) hfl (by decide) rfl (Nat.le_of_ble_eq_true rfl) (fun x C hxn hg hl hQ => ?_)
  subst hg
  unfold f_X1_fencer at hF
  refine jj_aload_n C 0 rfl dX1_fencer_0 rfl ?_
  refine jj_pR (f := 0) C jcs_0 (Nat.le_of_ble_eq_true rfl) (jLk.of C q116 rfl) dX1_fencer_1 hF (fun v1 hF => ?_)
  obtain ⟨b4, fs4, he4, hb4, hF⟩ := pO_spec hF
  obtain ⟨r4, M4, hG, hF⟩ := pB_spec hF
  refine jj_callV (k' := 0) (n' := 0) C [] [] [jI r4] he4 (m_J2_size _ _ hG) hb4 rfl q147 q148 q149 q45 q150 ⟨rfl, hd_J2_size⟩ rfl (Nat.le_of_ble_eq_true rfl) ⟨Nat.le_of_ble_eq_true rfl, Nat.le_of_ble_eq_true rfl⟩ ⟨by show 0 + 0 ≤ 0; omega, by show 0 + 0 ≤ 0; omega, by show 0 ≤ 3; omega, by show 0 ≤ 135; omega⟩ dX1_fencer_4 rfl ?_
  refine jj_bipush (v := 12) C dX1_fencer_7 (by decide) ?_
  refine jj_icmp_ge (tgt := 16) C dX1_fencer_9 (by decide) hF (fun hF => ?_) (fun hF => ?_)
  · refine jj_iconst (v := 0) C dX1_fencer_16 (by decide) ?_
    refine jj_sub [0] rfl ?_
    exact w_X1_fencer_b17 C hxn hQ (by omega) hF
  · refine jj_iconst (v := 1) C dX1_fencer_12 (by decide) ?_
    refine jj_goto (tgt := 17) C dX1_fencer_13 (by decide) ?_
    refine jj_sub [0] rfl ?_
    exact w_X1_fencer_b17 C hxn hQ (by omega) hF
/-! Phrasehall.inRange(III)Z -/
def rm_X1_inRange : Room := ({ frames := 1, cells := 0, slots := 0, locals := 64 } : Room)
theorem hd_X1_inRange : yX1_inRange.cls ≠ "java/lang/invoke/MethodHandle" ∧ yX1_inRange.cls ≠ "java/lang/invoke/VarHandle" ∧ (parseMethodDescriptor yX1_inRange.desc).map (fun d => d.parameters.length) = some 3 := ⟨by decide, by decide, by decide +kernel⟩
def f_X1_inRange (a0 : Int32) (a1 : Int32) (a2 : Int32) (M : jW) : Option (Int32 × jW) := if a0 < a1 then (pRZ (0 : Int32) M)
  else (if a2 < a0 then (pRZ (0 : Int32) M)
  else (pRZ (1 : Int32) M))
set_option maxHeartbeats 4000000 in
theorem m_X1_inRange (l : Launch) (g : jG) {a0 : Int32} {a1 : Int32} {a2 : Int32} {M M0 : jW} {v0 : Int32} (hF : f_X1_inRange a0 a1 a2 M = some (v0, M0)) : jMet l g yX1_inRange cX1_inRange 3 (some .boolean) rm_X1_inRange [jI a0, jI a1, jI a2] M (some (jI v0)) M0 := by
  refine jMet.of (L := [(0, jI a0), (1, jI a1), (2, jI a2)]) (by decide) rfl (Nat.le_of_ble_eq_true rfl) (fun x C hxn hg hl hQ hin => ?_)
  subst hg
  unfold f_X1_inRange at hF
  refine jj_iload_n C 0 rfl dX1_inRange_0 rfl ?_
  refine jj_iload_n C 1 rfl dX1_inRange_1 rfl ?_
  refine jj_icmp_lt (tgt := 14) C dX1_inRange_2 (by decide) hF (fun hF => ?_) (fun hF => ?_)
  · refine jj_iconst (v := 0) C dX1_inRange_14 (by decide) ?_
    exact jj_zret C hQ dX1_inRange_15 hF (Nat.zero_le _) (Nat.zero_le _)
  · refine jj_iload_n C 0 rfl dX1_inRange_5 rfl ?_
    refine jj_iload_n C 2 rfl dX1_inRange_6 rfl ?_
    refine jj_icmp_gt (tgt := 14) C dX1_inRange_7 (by decide) hF (fun hF => ?_) (fun hF => ?_)
    · refine jj_iconst (v := 0) C dX1_inRange_14 (by decide) ?_
      exact jj_zret C hQ dX1_inRange_15 hF (Nat.zero_le _) (Nat.zero_le _)
    · refine jj_iconst (v := 1) C dX1_inRange_10 (by decide) ?_
      refine jj_goto (tgt := 15) C dX1_inRange_11 (by decide) ?_
      exact jj_zret C hQ dX1_inRange_15 hF (Nat.zero_le _) (Nat.zero_le _)
/-! Phrasehall.requireIndex(Z)V -/
def rm_X1_requireIndex : Room := ({ frames := 6, cells := 1, slots := 6, locals := 128 } : Room)
theorem hd_X1_requireIndex : yX1_requireIndex.cls ≠ "java/lang/invoke/MethodHandle" ∧ yX1_requireIndex.cls ≠ "java/lang/invoke/VarHandle" ∧ (parseMethodDescriptor yX1_requireIndex.desc).map (fun d => d.parameters.length) = some 1 := ⟨by decide, by decide, by decide +kernel⟩
def f_X1_requireIndex (a0 : Int32) (M : jW) : Option ((Unit ⊕ Nat) × jW) := if a0 = 0 then (some (.inr 1, M))
  else (some (.inl (), M))
set_option maxHeartbeats 4000000 in
theorem m_X1_requireIndex (l : Launch) (g : jG) (hfl : l.stackTraces = false) {a0 : Int32} {M M0 : jW} {v0 : (Unit ⊕ Nat)} (hF : f_X1_requireIndex a0 M = some (v0, M0)) : jMetX l g yX1_requireIndex cX1_requireIndex 1 none rm_X1_requireIndex [jI a0] M (jru v0) M0 := by
  refine jMetX.of (L := [(0, jI a0)]) hfl (by decide) rfl (Nat.le_of_ble_eq_true rfl) (fun x C hxn hg hl hQ => ?_)
  subst hg
  unfold f_X1_requireIndex at hF
  refine jj_iload_n C 0 rfl dX1_requireIndex_0 rfl ?_
  refine jj_if_ne (tgt := 12) C dX1_requireIndex_1 (by decide) hF (fun hF => ?_) (fun hF => ?_)
  · exact jj_vretX C hQ dX1_requireIndex_12 hF (by show 0 ≤ 1; omega) (by show 0 ≤ 6; omega)
  · cases hF
    exact jj_throw (e := 1) C (show jEndX x rm_X1_requireIndex (.inr 1) _ from hQ) (names := ["java/lang/RuntimeException", "java/lang/Exception"]) (by decide) (by decide) q431 q56 (jat C _ jat_1 jag_1) (fun w hw => List.all_eq_true.mp jah_1 w hw) rfl dX1_requireIndex_4 dX1_requireIndex_7 dX1_requireIndex_8 dX1_requireIndex_11 ⟨by decide, by decide⟩ (by show 0 + 1 ≤ 1; omega) (by show 0 + 6 ≤ 6; omega)
/-! Phrasehall.at(Ljava/util/ArrayList;I)Ljava/lang/Object; -/
def rm_X1_at : Room := ({ frames := 7, cells := 1, slots := 6, locals := 148 } : Room)
theorem hd_X1_at : yX1_at.cls ≠ "java/lang/invoke/MethodHandle" ∧ yX1_at.cls ≠ "java/lang/invoke/VarHandle" ∧ (parseMethodDescriptor yX1_at.desc).map (fun d => d.parameters.length) = some 2 := ⟨by decide, by decide, by decide +kernel⟩
def f_X1_at (a0 : Option Nat) (a1 : Int32) (M : jW) : Option ((Option Nat ⊕ Nat) × jW) := pO M a0 9 fun b3 _ => pB (f_J2_size (some b3)  M) fun r3 M3 =>
  pB (f_X1_inRange a1 (0 : Int32) (r3 - (1 : Int32)) M3) fun r8 M8 =>
  pX (f_X1_requireIndex r8 M8) fun _ M11 =>
  pO M11 a0 9 fun b16 _ => pB (f_J2_get (some b16) a1 M11) fun r16 M16 =>
  some (.inl r16, M16)
set_option maxHeartbeats 4000000 in
theorem m_X1_at (l : Launch) (g : jG) (hfl : l.stackTraces = false) {a0 : Option Nat} {a1 : Int32} {M M0 : jW} {v0 : (Option Nat ⊕ Nat)} (hF : f_X1_at a0 a1 M = some (v0, M0)) : jMetX l g yX1_at cX1_at 2 (some (.object "java/lang/Object")) rm_X1_at [jR a0, jI a1] M (jrr v0) M0 := by
  refine jMetX.of (L := [(0, jR a0), (1, jI a1)]) hfl (by decide) rfl (Nat.le_of_ble_eq_true rfl) (fun x C hxn hg hl hQ => ?_)
  subst hg
  unfold f_X1_at at hF
  refine jj_iload_n C 1 rfl dX1_at_0 rfl ?_
  refine jj_iconst (v := 0) C dX1_at_1 (by decide) ?_
  refine jj_aload_n C 0 rfl dX1_at_2 rfl ?_
  obtain ⟨b3, fs3, he3, hb3, hF⟩ := pO_spec hF
  obtain ⟨r3, M3, hG, hF⟩ := pB_spec hF
  refine jj_callV (k' := 0) (n' := 0) C [] [jI (0 : Int32), jI a1] [jI r3, jI (0 : Int32), jI a1] he3 (m_J2_size _ _ hG) hb3 rfl q147 q148 q149 q45 q150 ⟨rfl, hd_J2_size⟩ rfl (Nat.le_of_ble_eq_true rfl) ⟨Nat.le_of_ble_eq_true rfl, Nat.le_of_ble_eq_true rfl⟩ ⟨by show 0 + 0 ≤ 0; omega, by show 0 + 0 ≤ 0; omega, by show 0 ≤ 1; omega, by show 0 ≤ 6; omega⟩ dX1_at_3 rfl ?_
  refine jj_iconst (v := 1) C dX1_at_6 (by decide) ?_
  refine jj_isub C dX1_at_7 ?_
  obtain ⟨r8, M8, hG, hF⟩ := pB_spec hF
  refine jj_callS (k' := 0) (n' := 0) C [jI a1, jI (0 : Int32), jI (r3 - (1 : Int32))] [] [jI r8] (m_X1_inRange _ _ hG) q425 q426 q42 q427 hd_X1_inRange rfl (Nat.le_of_ble_eq_true rfl) ⟨Nat.le_of_ble_eq_true rfl, Nat.le_of_ble_eq_true rfl⟩ ⟨by show 0 + 0 ≤ 0; omega, by show 0 + 0 ≤ 0; omega, by show 0 ≤ 1; omega, by show 0 ≤ 6; omega⟩ dX1_at_8 rfl ?_
  rcases pX_spec2 hF with ⟨r11, M11, hG, hF⟩ | ⟨r11, M11, hG, hF⟩
  · cases hF
    exact jj_callSXx (k' := 0 + 1) (n' := 0 + 6) C hQ [jI r8] [] (m_X1_requireIndex _ _ hQ.2.2 hG) rfl rfl q428 q429 q42 q430 hd_X1_requireIndex rfl (Nat.le_of_ble_eq_true rfl) ⟨Nat.le_of_ble_eq_true rfl, Nat.le_of_ble_eq_true rfl⟩ ⟨by show 0 + 1 ≤ 0 + 1; omega, by show 0 + 6 ≤ 0 + 6; omega, by show 0 + 1 ≤ 1; omega, by show 0 + 6 ≤ 6; omega⟩ dX1_at_11
  refine jj_callSX (k' := 0 + 1) (n' := 0 + 6) C [jI r8] [] [] (m_X1_requireIndex _ _ hQ.2.2 hG) rfl q428 q429 q42 q430 hd_X1_requireIndex rfl (Nat.le_of_ble_eq_true rfl) ⟨Nat.le_of_ble_eq_true rfl, Nat.le_of_ble_eq_true rfl⟩ ⟨by show 0 + 1 ≤ 0 + 1; omega, by show 0 + 6 ≤ 0 + 6; omega, by show 0 + 1 ≤ 1; omega, by show 0 + 6 ≤ 6; omega⟩ dX1_at_11 rfl ?_
  refine jj_aload_n C 0 rfl dX1_at_14 rfl ?_
  refine jj_iload_n C 1 rfl dX1_at_15 rfl ?_
  obtain ⟨b16, fs16, he16, hb16, hF⟩ := pO_spec hF
  obtain ⟨r16, M16, hG, hF⟩ := pB_spec hF
  refine jj_callV (k' := 0 + 1) (n' := 0 + 6) C [jI a1] [] [jR r16] he16 (m_J2_get _ _ hG) hb16 rfl q178 q179 q180 q45 q181 ⟨rfl, hd_J2_get⟩ rfl (Nat.le_of_ble_eq_true rfl) ⟨Nat.le_of_ble_eq_true rfl, Nat.le_of_ble_eq_true rfl⟩ ⟨by show 0 + 1 + 0 ≤ 0 + 1; omega, by show 0 + 6 + 0 ≤ 0 + 6; omega, by show 0 + 1 ≤ 1; omega, by show 0 + 6 ≤ 6; omega⟩ dX1_at_16 rfl ?_
  exact jj_aretX C (by first | exact Or.inl ⟨_, rfl⟩ | exact Or.inr ⟨_, rfl⟩) hQ dX1_at_19 hF (by show 0 + 1 ≤ 1; omega) (by show 0 + 6 ≤ 6; omega)
/-! Phrasehall$Pool.has(I)Z -/
def rm_X9_has : Room := ({ frames := 1, cells := 0, slots := 0, locals := 64 } : Room)
theorem hd_X9_has : yX9_has.cls ≠ "java/lang/invoke/MethodHandle" ∧ yX9_has.cls ≠ "java/lang/invoke/VarHandle" ∧ (parseMethodDescriptor yX9_has.desc).map (fun d => d.parameters.length) = some 1 := ⟨by decide, by decide, by decide +kernel⟩
def f_X9_has (a0 : Option Nat) (a1 : Int32) (M : jW) : Option (Int32 × jW) := pI M a0 7 0 fun v1 =>
  if ((v1 >>> (a1 &&& 31)) &&& (1 : Int32)) = (1 : Int32) then (pRZ (1 : Int32) M)
  else (pRZ (0 : Int32) M)
set_option maxHeartbeats 4000000 in
theorem m_X9_has (l : Launch) (g : jG) {a0 : Option Nat} {a1 : Int32} {M M0 : jW} {v0 : Int32} (hF : f_X9_has a0 a1 M = some (v0, M0)) : jMet l g yX9_has cX9_has 2 (some .boolean) rm_X9_has [jR a0, jI a1] M (some (jI v0)) M0 := by
  refine jMet.of (L := [(0, jR a0), (1, jI a1)]) (by decide) rfl (Nat.le_of_ble_eq_true rfl) (fun x C hxn hg hl hQ hin => ?_)
  subst hg
  unfold f_X9_has at hF
  refine jj_aload_n C 0 rfl dX9_has_0 rfl ?_
  refine jj_pI (f := 0) C jcs_7 (Nat.le_of_ble_eq_true rfl) (jLk.of C q801 rfl) dX9_has_1 hF (fun v1 hF => ?_)
  refine jj_iload_n C 1 rfl dX9_has_4 rfl ?_
  refine jj_ishr C dX9_has_5 ?_
  refine jj_iconst (v := 1) C dX9_has_6 (by decide) ?_
  refine jj_iand C dX9_has_7 ?_
  refine jj_iconst (v := 1) C dX9_has_8 (by decide) ?_
  refine jj_icmp_ne (tgt := 16) C dX9_has_9 (by decide) hF (fun hF => ?_) (fun hF => ?_)
  · refine jj_iconst (v := 0) C dX9_has_16 (by decide) ?_
    exact jj_zret C hQ dX9_has_17 hF (Nat.zero_le _) (Nat.zero_le _)
  · refine jj_iconst (v := 1) C dX9_has_12 (by decide) ?_
    refine jj_goto (tgt := 17) C dX9_has_13 (by decide) ?_
    exact jj_zret C hQ dX9_has_17 hF (Nat.zero_le _) (Nat.zero_le _)
/-! Phrasehall.requireArgument(Z)V -/
def rm_X1_requireArgument : Room := ({ frames := 6, cells := 1, slots := 6, locals := 128 } : Room)
theorem hd_X1_requireArgument : yX1_requireArgument.cls ≠ "java/lang/invoke/MethodHandle" ∧ yX1_requireArgument.cls ≠ "java/lang/invoke/VarHandle" ∧ (parseMethodDescriptor yX1_requireArgument.desc).map (fun d => d.parameters.length) = some 1 := ⟨by decide, by decide, by decide +kernel⟩
def f_X1_requireArgument (a0 : Int32) (M : jW) : Option ((Unit ⊕ Nat) × jW) := if a0 = 0 then (some (.inr 2, M))
  else (some (.inl (), M))
set_option maxHeartbeats 4000000 in
theorem m_X1_requireArgument (l : Launch) (g : jG) (hfl : l.stackTraces = false) {a0 : Int32} {M M0 : jW} {v0 : (Unit ⊕ Nat)} (hF : f_X1_requireArgument a0 M = some (v0, M0)) : jMetX l g yX1_requireArgument cX1_requireArgument 1 none rm_X1_requireArgument [jI a0] M (jru v0) M0 := by
  refine jMetX.of (L := [(0, jI a0)]) hfl (by decide) rfl (Nat.le_of_ble_eq_true rfl) (fun x C hxn hg hl hQ => ?_)
  subst hg
  unfold f_X1_requireArgument at hF
  refine jj_iload_n C 0 rfl dX1_requireArgument_0 rfl ?_
  refine jj_if_ne (tgt := 12) C dX1_requireArgument_1 (by decide) hF (fun hF => ?_) (fun hF => ?_)
  · exact jj_vretX C hQ dX1_requireArgument_12 hF (by show 0 ≤ 1; omega) (by show 0 ≤ 6; omega)
  · cases hF
    exact jj_throw (e := 2) C (show jEndX x rm_X1_requireArgument (.inr 2) _ from hQ) (names := ["java/lang/RuntimeException", "java/lang/Exception"]) (by decide) (by decide) q454 q61 (jat C _ jat_2 jag_2) (fun w hw => List.all_eq_true.mp jah_2 w hw) rfl dX1_requireArgument_4 dX1_requireArgument_7 dX1_requireArgument_8 dX1_requireArgument_11 ⟨by decide, by decide⟩ (by show 0 + 1 ≤ 1; omega) (by show 0 + 6 ≤ 6; omega)
/-! Phrasehall$Pool.isIn(I)Z -/
def rm_X9_isIn : Room := ({ frames := 2, cells := 0, slots := 0, locals := 85 } : Room)
theorem hd_X9_isIn : yX9_isIn.cls ≠ "java/lang/invoke/MethodHandle" ∧ yX9_isIn.cls ≠ "java/lang/invoke/VarHandle" ∧ (parseMethodDescriptor yX9_isIn.desc).map (fun d => d.parameters.length) = some 1 := ⟨by decide, by decide, by decide +kernel⟩
def f_X9_isIn (a0 : Option Nat) (a1 : Int32) (M : jW) : Option (Int32 × jW) := pO M a0 7 fun b2 _ => pB (f_X9_has (some b2) a1 M) fun r2 M2 =>
  if r2 = 0 then (pRZ (0 : Int32) M2)
  else (pR M2 a0 7 1 fun v9 =>
  pAR M2 v9 5 a1 fun v13 =>
  pI M2 v13 8 4 fun v14 =>
  if v14 = 0 then (pRZ (1 : Int32) M2)
  else (pRZ (0 : Int32) M2))
set_option maxHeartbeats 4000000 in
theorem m_X9_isIn (l : Launch) (g : jG) {a0 : Option Nat} {a1 : Int32} {M M0 : jW} {v0 : Int32} (hF : f_X9_isIn a0 a1 M = some (v0, M0)) : jMet l g yX9_isIn cX9_isIn 2 (some .boolean) rm_X9_isIn [jR a0, jI a1] M (some (jI v0)) M0 := by
  refine jMet.of (L := [(0, jR a0), (1, jI a1)]) (by decide) rfl (Nat.le_of_ble_eq_true rfl) (fun x C hxn hg hl hQ hin => ?_)
  subst hg
  unfold f_X9_isIn at hF
  refine jj_aload_n C 0 rfl dX9_isIn_0 rfl ?_
  refine jj_iload_n C 1 rfl dX9_isIn_1 rfl ?_
  obtain ⟨b2, fs2, he2, hb2, hF⟩ := pO_spec hF
  obtain ⟨r2, M2, hG, hF⟩ := pB_spec hF
  refine jj_callV (k' := 0) (n' := 0) C [jI a1] [] [jI r2] he2 (m_X9_has _ _ hG) hb2 rfl q473 q448 q449 q71 q450 ⟨rfl, hd_X9_has⟩ rfl (Nat.le_of_ble_eq_true rfl) ⟨Nat.le_of_ble_eq_true rfl, Nat.le_of_ble_eq_true rfl⟩ ⟨Nat.le_refl _, Nat.le_refl _, Nat.le_refl _, Nat.le_refl _⟩ dX9_isIn_2 rfl ?_
  refine jj_if_eq (tgt := 24) C dX9_isIn_5 (by decide) hF (fun hF => ?_) (fun hF => ?_)
  · refine jj_iconst (v := 0) C dX9_isIn_24 (by decide) ?_
    exact jj_zret C hQ dX9_isIn_25 hF (Nat.zero_le _) (Nat.zero_le _)
  · refine jj_aload_n C 0 rfl dX9_isIn_8 rfl ?_
    refine jj_pR (f := 1) C jcs_7 (Nat.le_of_ble_eq_true rfl) (jLk.of C q802 rfl) dX9_isIn_9 hF (fun v9 hF => ?_)
    refine jj_iload_n C 1 rfl dX9_isIn_12 rfl ?_
    refine jj_aald (t := 5) C rfl dX9_isIn_13 hF (fun v13 hF => ?_)
    refine jj_pI (f := 4) C jcs_8 (Nat.le_of_ble_eq_true rfl) (jLk.nest C q788 rfl) dX9_isIn_14 hF (fun v14 hF => ?_)
    refine jj_if_ne (tgt := 24) C dX9_isIn_17 (by decide) hF (fun hF => ?_) (fun hF => ?_)
    · refine jj_iconst (v := 0) C dX9_isIn_24 (by decide) ?_
      exact jj_zret C hQ dX9_isIn_25 hF (Nat.zero_le _) (Nat.zero_le _)
    · refine jj_iconst (v := 1) C dX9_isIn_20 (by decide) ?_
      refine jj_goto (tgt := 25) C dX9_isIn_21 (by decide) ?_
      exact jj_zret C hQ dX9_isIn_25 hF (Nat.zero_le _) (Nat.zero_le _)
/-! Phrasehall$Bout.<init>(LPhrasehall;LPhrasehall$Fencer;LPhrasehall$Fencer;LPhrasehall$Weapon;ILPhrasehall$Pool;)V -/
def rm_X4_init : Room := ({ frames := 1, cells := 4, slots := 8, locals := 64 } : Room)
theorem hd_X4_init : yX4_init.cls ≠ "java/lang/invoke/MethodHandle" ∧ yX4_init.cls ≠ "java/lang/invoke/VarHandle" ∧ (parseMethodDescriptor yX4_init.desc).map (fun d => d.parameters.length) = some 6 := ⟨by decide, by decide, by decide +kernel⟩
def f_X4_init (a0 : Option Nat) (a1 : Option Nat) (a2 : Option Nat) (a3 : Option Nat) (a4 : Option Nat) (a5 : Int32) (a6 : Option Nat) (M : jW) : Option (Unit × jW) := pP M a0 3 12 (jR a1) fun M2 =>
  pSm a0 fun b6 =>
  pNA M2 0 2 (2 : Int32) fun q11 M11 =>
  pP M11 a0 3 4 (jR (some q11)) fun M13 =>
  pNA M13 0 2 (2 : Int32) fun q18 M18 =>
  pP M18 a0 3 5 (jR (some q18)) fun M20 =>
  pNA M20 1 2 (2 : Int32) fun q25 M25 =>
  pP M25 a0 3 6 (jR (some q25)) fun M27 =>
  pP M27 a0 3 7 (jI (-1 : Int32)) fun M32 =>
  pP M32 a0 3 11 (jI (-1 : Int32)) fun M37 =>
  pNA M37 4 2 (2 : Int32) fun q42 M42 =>
  pSR M42 (some q42) 4 (0 : Int32) a2 fun M48 =>
  pSR M48 (some q42) 4 (1 : Int32) a3 fun M52 =>
  pP M52 a0 3 0 (jR (some q42)) fun M53 =>
  pP M53 a0 3 1 (jR a4) fun M59 =>
  pP M59 a0 3 2 (jI a5) fun M65 =>
  pP M65 a0 3 3 (jR a6) fun M71 =>
  some ((), M71)
set_option maxHeartbeats 4000000 in
theorem m_X4_init (l : Launch) (g : jG) {a0 : Option Nat} {a1 : Option Nat} {a2 : Option Nat} {a3 : Option Nat} {a4 : Option Nat} {a5 : Int32} {a6 : Option Nat} {M M0 : jW} {v0 : Unit} (hF : f_X4_init a0 a1 a2 a3 a4 a5 a6 M = some (v0, M0)) : jMet l g yX4_init cX4_init 7 none rm_X4_init [jR a0, jR a1, jR a2, jR a3, jR a4, jI a5, jR a6] M none M0 := by
  refine jMet.of (L := [(0, jR a0), (1, jR a1), (2, jR a2), (3, jR a3), (4, jR a4), (5, jI a5), (6, jR a6)]) (by decide) rfl (Nat.le_of_ble_eq_true rfl) (fun x C hxn hg hl hQ hin => ?_)
  have hin := hin rfl
  subst hg
  unfold f_X4_init at hF
  refine jj_aload_n C 0 rfl dX4_init_0 rfl ?_
  refine jj_aload_n C 1 rfl dX4_init_1 rfl ?_
  refine jj_pP (f := 12) C jcs_3 (Nat.le_of_ble_eq_true rfl) (jLk.of C q515 rfl) (Or.inr ⟨rfl, hin, rfl⟩) dX4_init_2 (jfit_o _ _) hF (fun M2 hF => ?_)
  refine jj_aload_n C 0 rfl dX4_init_5 rfl ?_
  obtain ⟨b6, hb6, hF⟩ := pSm_spec hF
  refine jj_objInit C ⟨_, hb6⟩ q488 q85 q86 ⟨Nat.le_of_ble_eq_true rfl, Nat.le_of_ble_eq_true rfl⟩ dX4_init_6 ?_
  refine jj_aload_n C 0 rfl dX4_init_9 rfl ?_
  refine jj_iconst (v := 2) C dX4_init_10 (by decide) ?_
  refine jj_newarr (t := 0) (nb := 2) (ty := .int) C rfl (by decide) q543 (by decide) (by show 0 + 1 ≤ 4; omega) (by show 0 + 2 ≤ 8; omega) dX4_init_11 hF (fun q11 M11 hF => ?_)
  refine jj_pP (f := 4) C jcs_3 (Nat.le_of_ble_eq_true rfl) (jLk.of C q500 rfl) (Or.inr ⟨rfl, hin, rfl⟩) dX4_init_13 (jfit_a _ _) hF (fun M13 hF => ?_)
  refine jj_aload_n C 0 rfl dX4_init_16 rfl ?_
  refine jj_iconst (v := 2) C dX4_init_17 (by decide) ?_
  refine jj_newarr (t := 0) (nb := 2) (ty := .int) C rfl (by decide) q543 (by decide) (by show 0 + 1 + 1 ≤ 4; omega) (by show 0 + 2 + 2 ≤ 8; omega) dX4_init_18 hF (fun q18 M18 hF => ?_)
  refine jj_pP (f := 5) C jcs_3 (Nat.le_of_ble_eq_true rfl) (jLk.of C q503 rfl) (Or.inr ⟨rfl, hin, rfl⟩) dX4_init_20 (jfit_a _ _) hF (fun M20 hF => ?_)
  refine jj_aload_n C 0 rfl dX4_init_23 rfl ?_
  refine jj_iconst (v := 2) C dX4_init_24 (by decide) ?_
  refine jj_newarr (t := 1) (nb := 2) (ty := .boolean) C rfl (by decide) q544 (by decide) (by show 0 + 1 + 1 + 1 ≤ 4; omega) (by show 0 + 2 + 2 + 2 ≤ 8; omega) dX4_init_25 hF (fun q25 M25 hF => ?_)
  refine jj_pP (f := 6) C jcs_3 (Nat.le_of_ble_eq_true rfl) (jLk.of C q504 rfl) (Or.inr ⟨rfl, hin, rfl⟩) dX4_init_27 (jfit_a _ _) hF (fun M27 hF => ?_)
  refine jj_aload_n C 0 rfl dX4_init_30 rfl ?_
  refine jj_iconst (v := -1) C dX4_init_31 (by decide) ?_
  refine jj_pP (f := 7) C jcs_3 (Nat.le_of_ble_eq_true rfl) (jLk.of C q505 rfl) (Or.inl rfl) dX4_init_32 (jfit_i _) hF (fun M32 hF => ?_)
  refine jj_aload_n C 0 rfl dX4_init_35 rfl ?_
  refine jj_iconst (v := -1) C dX4_init_36 (by decide) ?_
  refine jj_pP (f := 11) C jcs_3 (Nat.le_of_ble_eq_true rfl) (jLk.of C q513 rfl) (Or.inl rfl) dX4_init_37 (jfit_i _) hF (fun M37 hF => ?_)
  refine jj_aload_n C 0 rfl dX4_init_40 rfl ?_
  refine jj_iconst (v := 2) C dX4_init_41 (by decide) ?_
  refine jj_anew (t := 4) (nb := 2) C (by decide) rfl q489 C.kk.2.2.1.2.1 (by decide) (by show 0 + 1 + 1 + 1 + 1 ≤ 4; omega) (by show 0 + 2 + 2 + 2 + 2 ≤ 8; omega) dX4_init_42 hF (fun q42 M42 hF => ?_)
  refine jj_dup C dX4_init_45 rfl ?_
  refine jj_iconst (v := 0) C dX4_init_46 (by decide) ?_
  refine jj_aload_n C 2 rfl dX4_init_47 rfl ?_
  refine jj_aast (t := 4) C rfl (by decide) dX4_init_48 hF (fun M48 hF => ?_)
  refine jj_dup C dX4_init_49 rfl ?_
  refine jj_iconst (v := 1) C dX4_init_50 (by decide) ?_
  refine jj_aload_n C 3 rfl dX4_init_51 rfl ?_
  refine jj_aast (t := 4) C rfl (by decide) dX4_init_52 hF (fun M52 hF => ?_)
  refine jj_pP (f := 0) C jcs_3 (Nat.le_of_ble_eq_true rfl) (jLk.of C q491 rfl) (Or.inr ⟨rfl, hin, rfl⟩) dX4_init_53 (jfit_a _ _) hF (fun M53 hF => ?_)
  refine jj_aload_n C 0 rfl dX4_init_56 rfl ?_
  refine jj_aload C 4 rfl dX4_init_57 ?_
  refine jj_pP (f := 1) C jcs_3 (Nat.le_of_ble_eq_true rfl) (jLk.of C q494 rfl) (Or.inr ⟨rfl, hin, rfl⟩) dX4_init_59 (jfit_o _ _) hF (fun M59 hF => ?_)
  refine jj_aload_n C 0 rfl dX4_init_62 rfl ?_
  refine jj_iload C 5 rfl dX4_init_63 ?_
  refine jj_pP (f := 2) C jcs_3 (Nat.le_of_ble_eq_true rfl) (jLk.of C q496 rfl) (Or.inr ⟨rfl, hin, rfl⟩) dX4_init_65 (jfit_i _) hF (fun M65 hF => ?_)
  refine jj_aload_n C 0 rfl dX4_init_68 rfl ?_
  refine jj_aload C 6 rfl dX4_init_69 ?_
  refine jj_pP (f := 3) C jcs_3 (Nat.le_of_ble_eq_true rfl) (jLk.of C q498 rfl) (Or.inr ⟨rfl, hin, rfl⟩) dX4_init_71 (jfit_o _ _) hF (fun M71 hF => ?_)
  exact jj_vret C hQ dX4_init_74 hF (by show 0 + 1 + 1 + 1 + 1 ≤ 4; omega) (by show 0 + 2 + 2 + 2 + 2 ≤ 8; omega)
/-! Phrasehall.begin(IIIII)I -/
def rm_X1_begin : Room := ({ frames := 8, cells := 11, slots := 179, locals := 195 } : Room)
theorem hd_X1_begin : yX1_begin.cls ≠ "java/lang/invoke/MethodHandle" ∧ yX1_begin.cls ≠ "java/lang/invoke/VarHandle" ∧ (parseMethodDescriptor yX1_begin.desc).map (fun d => d.parameters.length) = some 5 := ⟨by decide, by decide, by decide +kernel⟩
def f_X1_begin_b153 (l0 : Option Nat) (l3 : Int32) (l4 : Int32) (l6 : Option Nat) (l7 : Option Nat) (l8 : Option Nat) (s0 : Int32) (M : jW) : Option ((Int32 ⊕ Nat) × jW) := pX (f_X1_requireState s0 M) fun _ M153 =>
  pN M153 3 [.null, .null, .int 0, .null, .null, .null, .null, .int 0, .int 0, .int 0, .int 0, .int 0, .null] fun q157 M157 =>
  pB (f_X5_of l3 M157) fun r167 M167 =>
  pSm (some q157) fun b174 => pB (f_X4_init (some b174) l0 l6 l7 r167 l4 l8 M167) fun _ M174 =>
  pP M174 l0 0 4 (jR (some q157)) fun M177 =>
  pR M177 l0 0 1 fun v181 =>
  pR M177 l0 0 4 fun v185 =>
  pO M177 v181 9 fun b188 _ => pB (f_J2_add (some b188) v185 M177) fun r188 M188 =>
  pR M188 l0 0 1 fun v193 =>
  pO M188 v193 9 fun b196 _ => pB (f_J2_size (some b196)  M188) fun r196 M196 =>
  some (.inl (r196 - (1 : Int32)), M196)
set_option maxHeartbeats 4000000 in
theorem w_X1_begin_b153 {x : jX} (C : jOk x cX1_begin RX1 rm_X1_begin (some .int)) (hxn : xn x = 9) {v0 : (Int32 ⊕ Nat)} {M0 : jW} (hQ : jEndX x rm_X1_begin (jri v0) M0) {l0 : Option Nat} {l3 : Int32} {l4 : Int32} {l6 : Option Nat} {l7 : Option Nat} {l8 : Option Nat} {s0 : Int32} {M : jW} {k n : Nat} (hk : k + 7 ≤ 11 ∧ n + 155 ≤ 179) (hF : f_X1_begin_b153 l0 l3 l4 l6 l7 l8 s0 M = some (v0, M0)) : jJ x 153 [(0, jR l0), (3, jI l3), (4, jI l4), (6, jR l6), (7, jR l7), (8, jR l8)] [jI s0] M k n := by
  unfold f_X1_begin_b153 at hF
  rcases pX_spec2 hF with ⟨r153, M153, hG, hF⟩ | ⟨r153, M153, hG, hF⟩
  · cases hF
    exact jj_callSXx (k' := k + 1) (n' := n + 6) C hQ [jI s0] [] (m_X1_requireState _ _ hQ.2.2 hG) rfl rfl q233 q234 q42 q235 hd_X1_requireState rfl (Nat.le_of_ble_eq_true rfl) ⟨Nat.le_of_ble_eq_true rfl, Nat.le_of_ble_eq_true rfl⟩ ⟨by show k + 1 ≤ k + 1; omega, by show n + 6 ≤ n + 6; omega, by show k + 1 ≤ 11; omega, by show n + 6 ≤ 179; omega⟩ dX1_begin_153
  refine jj_callSX (k' := k + 1) (n' := n + 6) C [jI s0] [] [] (m_X1_requireState _ _ hQ.2.2 hG) rfl q233 q234 q42 q235 hd_X1_requireState rfl (Nat.le_of_ble_eq_true rfl) ⟨Nat.le_of_ble_eq_true rfl, Nat.le_of_ble_eq_true rfl⟩ ⟨by show k + 1 ≤ k + 1; omega, by show n + 6 ≤ n + 6; omega, by show k + 1 ≤ 11; omega, by show n + 6 ≤ 179; omega⟩ dX1_begin_153 rfl ?_
  refine jj_aload_n C 0 rfl dX1_begin_156 rfl ?_
  refine jj_new C jcs_3 q474 q475 q62 (by intro j hj; rcases (show j = 0 ∨ j = 1 ∨ j = 2 ∨ j = 3 ∨ j = 4 ∨ j = 5 ∨ j = 6 ∨ j = 7 ∨ j = 8 ∨ j = 9 ∨ j = 10 ∨ j = 11 ∨ j = 12 by omega) with rfl | rfl | rfl | rfl | rfl | rfl | rfl | rfl | rfl | rfl | rfl | rfl | rfl <;> rfl) (by show k + 1 + 1 ≤ 11; omega) (by show n + 6 + 13 ≤ 179; omega) dX1_begin_157 hF (fun q157 M157 hF => ?_)
  refine jj_dup C dX1_begin_160 rfl ?_
  refine jj_aload_n C 0 rfl dX1_begin_161 rfl ?_
  refine jj_aload C 3 rfl dX1_begin_162 ?_
  refine jj_aload C 4 rfl dX1_begin_164 ?_
  refine jj_iload_n C 1 rfl dX1_begin_166 rfl ?_
  obtain ⟨r167, M167, hG, hF⟩ := pB_spec hF
  refine jj_callS (k' := k + 1 + 1) (n' := n + 6 + 13) C [jI l3] [jR l7, jR l6, jR l0, jR (some q157), jR (some q157), jR l0] [jR r167, jR l7, jR l6, jR l0, jR (some q157), jR (some q157), jR l0] (m_X5_of _ _ hG) q476 q477 q64 q478 hd_X5_of rfl (Nat.le_of_ble_eq_true rfl) ⟨Nat.le_of_ble_eq_true rfl, Nat.le_of_ble_eq_true rfl⟩ ⟨by show k + 1 + 1 + 0 ≤ k + 1 + 1; omega, by show n + 6 + 13 + 0 ≤ n + 6 + 13; omega, by show k + 1 + 1 ≤ 11; omega, by show n + 6 + 13 ≤ 179; omega⟩ dX1_begin_167 rfl ?_
  refine jj_iload C 2 rfl dX1_begin_170 ?_
  refine jj_aload C 5 rfl dX1_begin_172 ?_
  obtain ⟨b174, hb174, hF⟩ := pSm_spec hF
  obtain ⟨r174, M174, hG, hF⟩ := pB_spec hF
  refine jj_callI (k' := k + 1 + 1 + 4) (n' := n + 6 + 13 + 8) C [jR l0, jR l6, jR l7, jR r167, jI l4, jR l8] [jR (some q157), jR l0] hb174 (m_X4_init _ _ hG) q485 q486 q62 q487 rfl hd_X4_init rfl (Nat.le_of_ble_eq_true rfl) ⟨Nat.le_of_ble_eq_true rfl, Nat.le_of_ble_eq_true rfl⟩ ⟨by show k + 1 + 1 + 4 ≤ k + 1 + 1 + 4; omega, by show n + 6 + 13 + 8 ≤ n + 6 + 13 + 8; omega, by show k + 1 + 1 + 4 ≤ 11; omega, by show n + 6 + 13 + 8 ≤ 179; omega⟩ dX1_begin_174 ?_
  refine jj_pP (f := 4) C jcs_0 (Nat.le_of_ble_eq_true rfl) (jLk.of C q122 rfl) (Or.inl rfl) dX1_begin_177 (jfit_o _ _) hF (fun M177 hF => ?_)
  refine jj_aload_n C 0 rfl dX1_begin_180 rfl ?_
  refine jj_pR (f := 1) C jcs_0 (Nat.le_of_ble_eq_true rfl) (jLk.of C q117 rfl) dX1_begin_181 hF (fun v181 hF => ?_)
  refine jj_aload_n C 0 rfl dX1_begin_184 rfl ?_
  refine jj_pR (f := 4) C jcs_0 (Nat.le_of_ble_eq_true rfl) (jLk.of C q122 rfl) dX1_begin_185 hF (fun v185 hF => ?_)
  obtain ⟨b188, fs188, he188, hb188, hF⟩ := pO_spec hF
  obtain ⟨r188, M188, hG, hF⟩ := pB_spec hF
  refine jj_callV (k' := k + 1 + 1 + 4 + 1) (n' := n + 6 + 13 + 8 + 128) C [jR v185] [] [jI r188] he188 (m_J2_add _ _ hG) hb188 rfl q314 q315 q316 q45 q317 ⟨rfl, hd_J2_add⟩ rfl (Nat.le_of_ble_eq_true rfl) ⟨Nat.le_of_ble_eq_true rfl, Nat.le_of_ble_eq_true rfl⟩ ⟨by show k + 1 + 1 + 4 + 1 ≤ k + 1 + 1 + 4 + 1; omega, by show n + 6 + 13 + 8 + 128 ≤ n + 6 + 13 + 8 + 128; omega, by show k + 1 + 1 + 4 + 1 ≤ 11; omega, by show n + 6 + 13 + 8 + 128 ≤ 179; omega⟩ dX1_begin_188 rfl ?_
  refine jj_pop C dX1_begin_191 rfl ?_
  refine jj_aload_n C 0 rfl dX1_begin_192 rfl ?_
  refine jj_pR (f := 1) C jcs_0 (Nat.le_of_ble_eq_true rfl) (jLk.of C q117 rfl) dX1_begin_193 hF (fun v193 hF => ?_)
  obtain ⟨b196, fs196, he196, hb196, hF⟩ := pO_spec hF
  obtain ⟨r196, M196, hG, hF⟩ := pB_spec hF
  refine jj_callV (k' := k + 1 + 1 + 4 + 1) (n' := n + 6 + 13 + 8 + 128) C [] [] [jI r196] he196 (m_J2_size _ _ hG) hb196 rfl q147 q148 q149 q45 q150 ⟨rfl, hd_J2_size⟩ rfl (Nat.le_of_ble_eq_true rfl) ⟨Nat.le_of_ble_eq_true rfl, Nat.le_of_ble_eq_true rfl⟩ ⟨by show k + 1 + 1 + 4 + 1 + 0 ≤ k + 1 + 1 + 4 + 1; omega, by show n + 6 + 13 + 8 + 128 + 0 ≤ n + 6 + 13 + 8 + 128; omega, by show k + 1 + 1 + 4 + 1 ≤ 11; omega, by show n + 6 + 13 + 8 + 128 ≤ 179; omega⟩ dX1_begin_196 rfl ?_
  refine jj_iconst (v := 1) C dX1_begin_199 (by decide) ?_
  refine jj_isub C dX1_begin_200 ?_
  exact jj_iretX C hQ dX1_begin_201 hF (by show k + 1 + 1 + 4 + 1 ≤ 11; omega) (by show n + 6 + 13 + 8 + 128 ≤ 179; omega)
def f_X1_begin_b152 (l0 : Option Nat) (l3 : Int32) (l4 : Int32) (l6 : Option Nat) (l7 : Option Nat) (l8 : Option Nat) (M : jW) : Option ((Int32 ⊕ Nat) × jW) := f_X1_begin_b153 l0 l3 l4 l6 l7 l8 (0 : Int32) M
set_option maxHeartbeats 4000000 in
theorem w_X1_begin_b152 {x : jX} (C : jOk x cX1_begin RX1 rm_X1_begin (some .int)) (hxn : xn x = 9) {v0 : (Int32 ⊕ Nat)} {M0 : jW} (hQ : jEndX x rm_X1_begin (jri v0) M0) {l0 : Option Nat} {l3 : Int32} {l4 : Int32} {l6 : Option Nat} {l7 : Option Nat} {l8 : Option Nat} {M : jW} {k n : Nat} (hk : k + 7 ≤ 11 ∧ n + 155 ≤ 179) (hF : f_X1_begin_b152 l0 l3 l4 l6 l7 l8 M = some (v0, M0)) : jJ x 152 [(0, jR l0), (3, jI l3), (4, jI l4), (6, jR l6), (7, jR l7), (8, jR l8)] [] M k n := by
  unfold f_X1_begin_b152 at hF
  refine jj_iconst (v := 0) C dX1_begin_152 (by decide) ?_
  refine jj_sub [0, 1, 2, 3, 4, 5] rfl ?_
  exact w_X1_begin_b153 C hxn hQ (by omega) hF
def f_X1_begin_b136 (l0 : Option Nat) (l3 : Int32) (l4 : Int32) (l6 : Option Nat) (l7 : Option Nat) (l8 : Option Nat) (M : jW) : Option ((Int32 ⊕ Nat) × jW) := pR M l0 0 1 fun v137 =>
  pO M v137 9 fun b140 _ => pB (f_J2_size (some b140)  M) fun r140 M140 =>
  if (80 : Int32) ≤ r140 then (f_X1_begin_b152 l0 l3 l4 l6 l7 l8 M140)
  else (f_X1_begin_b153 l0 l3 l4 l6 l7 l8 (1 : Int32) M140)
set_option maxHeartbeats 4000000 in
theorem w_X1_begin_b136 {x : jX} (C : jOk x cX1_begin RX1 rm_X1_begin (some .int)) (hxn : xn x = 9) {v0 : (Int32 ⊕ Nat)} {M0 : jW} (hQ : jEndX x rm_X1_begin (jri v0) M0) {l0 : Option Nat} {l3 : Int32} {l4 : Int32} {l6 : Option Nat} {l7 : Option Nat} {l8 : Option Nat} {M : jW} {k n : Nat} (hk : k + 7 ≤ 11 ∧ n + 155 ≤ 179) (hF : f_X1_begin_b136 l0 l3 l4 l6 l7 l8 M = some (v0, M0)) : jJ x 136 [(0, jR l0), (3, jI l3), (4, jI l4), (6, jR l6), (7, jR l7), (8, jR l8)] [] M k n := by
  unfold f_X1_begin_b136 at hF
  refine jj_aload_n C 0 rfl dX1_begin_136 rfl ?_
  refine jj_pR (f := 1) C jcs_0 (Nat.le_of_ble_eq_true rfl) (jLk.of C q117 rfl) dX1_begin_137 hF (fun v137 hF => ?_)
  obtain ⟨b140, fs140, he140, hb140, hF⟩ := pO_spec hF
  obtain ⟨r140, M140, hG, hF⟩ := pB_spec hF
  refine jj_callV (k' := k) (n' := n) C [] [] [jI r140] he140 (m_J2_size _ _ hG) hb140 rfl q147 q148 q149 q45 q150 ⟨rfl, hd_J2_size⟩ rfl (Nat.le_of_ble_eq_true rfl) ⟨Nat.le_of_ble_eq_true rfl, Nat.le_of_ble_eq_true rfl⟩ ⟨by show k + 0 ≤ k; omega, by show n + 0 ≤ n; omega, by show k ≤ 11; omega, by show n ≤ 179; omega⟩ dX1_begin_140 rfl ?_
  refine jj_bipush (v := 80) C dX1_begin_143 (by decide) ?_
  refine jj_icmp_ge (tgt := 152) C dX1_begin_145 (by decide) hF (fun hF => ?_) (fun hF => ?_)
  · refine jj_sub [0, 1, 2, 3, 4, 5] rfl ?_
    exact w_X1_begin_b152 C hxn hQ (by omega) hF
  · refine jj_iconst (v := 1) C dX1_begin_148 (by decide) ?_
    refine jj_goto (tgt := 153) C dX1_begin_149 (by decide) ?_
    refine jj_sub [0, 1, 2, 3, 4, 5] rfl ?_
    exact w_X1_begin_b153 C hxn hQ (by omega) hF
def f_X1_begin_b103 (l0 : Option Nat) (l1 : Int32) (l2 : Int32) (l3 : Int32) (l4 : Int32) (l6 : Option Nat) (l7 : Option Nat) (l8 : Option Nat) (s0 : Int32) (M : jW) : Option ((Int32 ⊕ Nat) × jW) := pX (f_X1_requireArgument s0 M) fun _ M103 =>
  pR M103 l0 0 4 fun v107 =>
  pZ v107 (pZ l8 (f_X1_begin_b136 l0 l3 l4 l6 l7 l8 M103)
  (pO M103 l8 7 fun b121 _ => pB (f_X9_isIn (some b121) l1 M103) fun r121 M121 =>
  if r121 = 0 then (f_X1_begin_b152 l0 l3 l4 l6 l7 l8 M121)
  else (pO M121 l8 7 fun b130 _ => pB (f_X9_isIn (some b130) l2 M121) fun r130 M130 =>
  if r130 = 0 then (f_X1_begin_b152 l0 l3 l4 l6 l7 l8 M130)
  else (f_X1_begin_b136 l0 l3 l4 l6 l7 l8 M130))))
  (f_X1_begin_b152 l0 l3 l4 l6 l7 l8 M103)
set_option maxHeartbeats 4000000 in
theorem w_X1_begin_b103 {x : jX} (C : jOk x cX1_begin RX1 rm_X1_begin (some .int)) (hxn : xn x = 9) {v0 : (Int32 ⊕ Nat)} {M0 : jW} (hQ : jEndX x rm_X1_begin (jri v0) M0) {l0 : Option Nat} {l1 : Int32} {l2 : Int32} {l3 : Int32} {l4 : Int32} {l6 : Option Nat} {l7 : Option Nat} {l8 : Option Nat} {s0 : Int32} {M : jW} {k n : Nat} (hk : k + 8 ≤ 11 ∧ n + 161 ≤ 179) (hF : f_X1_begin_b103 l0 l1 l2 l3 l4 l6 l7 l8 s0 M = some (v0, M0)) : jJ x 103 [(0, jR l0), (1, jI l1), (2, jI l2), (3, jI l3), (4, jI l4), (6, jR l6), (7, jR l7), (8, jR l8)] [jI s0] M k n := by
  unfold f_X1_begin_b103 at hF
  rcases pX_spec2 hF with ⟨r103, M103, hG, hF⟩ | ⟨r103, M103, hG, hF⟩
  · cases hF
    exact jj_callSXx (k' := k + 1) (n' := n + 6) C hQ [jI s0] [] (m_X1_requireArgument _ _ hQ.2.2 hG) rfl rfl q451 q452 q42 q453 hd_X1_requireArgument rfl (Nat.le_of_ble_eq_true rfl) ⟨Nat.le_of_ble_eq_true rfl, Nat.le_of_ble_eq_true rfl⟩ ⟨by show k + 1 ≤ k + 1; omega, by show n + 6 ≤ n + 6; omega, by show k + 1 ≤ 11; omega, by show n + 6 ≤ 179; omega⟩ dX1_begin_103
  refine jj_callSX (k' := k + 1) (n' := n + 6) C [jI s0] [] [] (m_X1_requireArgument _ _ hQ.2.2 hG) rfl q451 q452 q42 q453 hd_X1_requireArgument rfl (Nat.le_of_ble_eq_true rfl) ⟨Nat.le_of_ble_eq_true rfl, Nat.le_of_ble_eq_true rfl⟩ ⟨by show k + 1 ≤ k + 1; omega, by show n + 6 ≤ n + 6; omega, by show k + 1 ≤ 11; omega, by show n + 6 ≤ 179; omega⟩ dX1_begin_103 rfl ?_
  refine jj_aload_n C 0 rfl dX1_begin_106 rfl ?_
  refine jj_pR (f := 4) C jcs_0 (Nat.le_of_ble_eq_true rfl) (jLk.of C q122 rfl) dX1_begin_107 hF (fun v107 hF => ?_)
  refine jj_ifnonnull (tgt := 152) C dX1_begin_110 (by decide) hF (fun hF => ?_) (fun hF => ?_)
  · refine jj_sub [0, 3, 4, 5, 6, 7] rfl ?_
    exact w_X1_begin_b152 C hxn hQ (by omega) hF
  · refine jj_aload C 7 rfl dX1_begin_113 ?_
    refine jj_ifnull (tgt := 136) C dX1_begin_115 (by decide) hF (fun hF => ?_) (fun hF => ?_)
    · refine jj_sub [0, 3, 4, 5, 6, 7] rfl ?_
      exact w_X1_begin_b136 C hxn hQ (by omega) hF
    · refine jj_aload C 7 rfl dX1_begin_118 ?_
      refine jj_iload_n C 1 rfl dX1_begin_120 rfl ?_
      obtain ⟨b121, fs121, he121, hb121, hF⟩ := pO_spec hF
      obtain ⟨r121, M121, hG, hF⟩ := pB_spec hF
      refine jj_callV (k' := k + 1) (n' := n + 6) C [jI l1] [] [jI r121] he121 (m_X9_isIn _ _ hG) hb121 rfl q469 q470 q471 q71 q472 ⟨rfl, hd_X9_isIn⟩ rfl (Nat.le_of_ble_eq_true rfl) ⟨Nat.le_of_ble_eq_true rfl, Nat.le_of_ble_eq_true rfl⟩ ⟨by show k + 1 + 0 ≤ k + 1; omega, by show n + 6 + 0 ≤ n + 6; omega, by show k + 1 ≤ 11; omega, by show n + 6 ≤ 179; omega⟩ dX1_begin_121 rfl ?_
      refine jj_if_eq (tgt := 152) C dX1_begin_124 (by decide) hF (fun hF => ?_) (fun hF => ?_)
      · refine jj_sub [0, 3, 4, 5, 6, 7] rfl ?_
        exact w_X1_begin_b152 C hxn hQ (by omega) hF
      · refine jj_aload C 7 rfl dX1_begin_127 ?_
        refine jj_iload_n C 2 rfl dX1_begin_129 rfl ?_
        obtain ⟨b130, fs130, he130, hb130, hF⟩ := pO_spec hF
        obtain ⟨r130, M130, hG, hF⟩ := pB_spec hF
        refine jj_callV (k' := k + 1) (n' := n + 6) C [jI l2] [] [jI r130] he130 (m_X9_isIn _ _ hG) hb130 rfl q469 q470 q471 q71 q472 ⟨rfl, hd_X9_isIn⟩ rfl (Nat.le_of_ble_eq_true rfl) ⟨Nat.le_of_ble_eq_true rfl, Nat.le_of_ble_eq_true rfl⟩ ⟨by show k + 1 + 0 ≤ k + 1; omega, by show n + 6 + 0 ≤ n + 6; omega, by show k + 1 ≤ 11; omega, by show n + 6 ≤ 179; omega⟩ dX1_begin_130 rfl ?_
        refine jj_if_eq (tgt := 152) C dX1_begin_133 (by decide) hF (fun hF => ?_) (fun hF => ?_)
        · refine jj_sub [0, 3, 4, 5, 6, 7] rfl ?_
          exact w_X1_begin_b152 C hxn hQ (by omega) hF
        · refine jj_sub [0, 3, 4, 5, 6, 7] rfl ?_
          exact w_X1_begin_b136 C hxn hQ (by omega) hF
def f_X1_begin_b102 (l0 : Option Nat) (l1 : Int32) (l2 : Int32) (l3 : Int32) (l4 : Int32) (l6 : Option Nat) (l7 : Option Nat) (l8 : Option Nat) (M : jW) : Option ((Int32 ⊕ Nat) × jW) := f_X1_begin_b103 l0 l1 l2 l3 l4 l6 l7 l8 (0 : Int32) M
set_option maxHeartbeats 4000000 in
theorem w_X1_begin_b102 {x : jX} (C : jOk x cX1_begin RX1 rm_X1_begin (some .int)) (hxn : xn x = 9) {v0 : (Int32 ⊕ Nat)} {M0 : jW} (hQ : jEndX x rm_X1_begin (jri v0) M0) {l0 : Option Nat} {l1 : Int32} {l2 : Int32} {l3 : Int32} {l4 : Int32} {l6 : Option Nat} {l7 : Option Nat} {l8 : Option Nat} {M : jW} {k n : Nat} (hk : k + 8 ≤ 11 ∧ n + 161 ≤ 179) (hF : f_X1_begin_b102 l0 l1 l2 l3 l4 l6 l7 l8 M = some (v0, M0)) : jJ x 102 [(0, jR l0), (1, jI l1), (2, jI l2), (3, jI l3), (4, jI l4), (6, jR l6), (7, jR l7), (8, jR l8)] [] M k n := by
  unfold f_X1_begin_b102 at hF
  refine jj_iconst (v := 0) C dX1_begin_102 (by decide) ?_
  refine jj_sub [0, 1, 2, 3, 4, 5, 6, 7] rfl ?_
  exact w_X1_begin_b103 C hxn hQ (by omega) hF
def f_X1_begin_b98 (l0 : Option Nat) (l1 : Int32) (l2 : Int32) (l3 : Int32) (l4 : Int32) (l6 : Option Nat) (l7 : Option Nat) (l8 : Option Nat) (M : jW) : Option ((Int32 ⊕ Nat) × jW) := f_X1_begin_b103 l0 l1 l2 l3 l4 l6 l7 l8 (1 : Int32) M
set_option maxHeartbeats 4000000 in
theorem w_X1_begin_b98 {x : jX} (C : jOk x cX1_begin RX1 rm_X1_begin (some .int)) (hxn : xn x = 9) {v0 : (Int32 ⊕ Nat)} {M0 : jW} (hQ : jEndX x rm_X1_begin (jri v0) M0) {l0 : Option Nat} {l1 : Int32} {l2 : Int32} {l3 : Int32} {l4 : Int32} {l6 : Option Nat} {l7 : Option Nat} {l8 : Option Nat} {M : jW} {k n : Nat} (hk : k + 8 ≤ 11 ∧ n + 161 ≤ 179) (hF : f_X1_begin_b98 l0 l1 l2 l3 l4 l6 l7 l8 M = some (v0, M0)) : jJ x 98 [(0, jR l0), (1, jI l1), (2, jI l2), (3, jI l3), (4, jI l4), (6, jR l6), (7, jR l7), (8, jR l8)] [] M k n := by
  unfold f_X1_begin_b98 at hF
  refine jj_iconst (v := 1) C dX1_begin_98 (by decide) ?_
  refine jj_goto (tgt := 103) C dX1_begin_99 (by decide) ?_
  refine jj_sub [0, 1, 2, 3, 4, 5, 6, 7] rfl ?_
  exact w_X1_begin_b103 C hxn hQ (by omega) hF
def f_X1_begin_b48 (l0 : Option Nat) (l1 : Int32) (l2 : Int32) (l3 : Int32) (l4 : Int32) (l6 : Option Nat) (l7 : Option Nat) (s0 : Option Nat) (M : jW) : Option ((Int32 ⊕ Nat) × jW) := if l1 = l2 then (f_X1_begin_b102 l0 l1 l2 l3 l4 l6 l7 s0 M)
  else (pB (f_X1_inRange l3 (0 : Int32) (2 : Int32) M) fun r58 M58 =>
  if r58 = 0 then (f_X1_begin_b102 l0 l1 l2 l3 l4 l6 l7 s0 M58)
  else (pB (f_X1_inRange l4 (1 : Int32) (45 : Int32) M58) fun r69 M69 =>
  if r69 = 0 then (f_X1_begin_b102 l0 l1 l2 l3 l4 l6 l7 s0 M69)
  else (pZ s0 (f_X1_begin_b98 l0 l1 l2 l3 l4 l6 l7 s0 M69)
  (pO M69 s0 7 fun b83 _ => pB (f_X9_has (some b83) l1 M69) fun r83 M83 =>
  if r83 = 0 then (f_X1_begin_b102 l0 l1 l2 l3 l4 l6 l7 s0 M83)
  else (pO M83 s0 7 fun b92 _ => pB (f_X9_has (some b92) l2 M83) fun r92 M92 =>
  if r92 = 0 then (f_X1_begin_b102 l0 l1 l2 l3 l4 l6 l7 s0 M92)
  else (f_X1_begin_b98 l0 l1 l2 l3 l4 l6 l7 s0 M92))))))
set_option maxHeartbeats 4000000 in
theorem w_X1_begin_b48 {x : jX} (C : jOk x cX1_begin RX1 rm_X1_begin (some .int)) (hxn : xn x = 9) {v0 : (Int32 ⊕ Nat)} {M0 : jW} (hQ : jEndX x rm_X1_begin (jri v0) M0) {l0 : Option Nat} {l1 : Int32} {l2 : Int32} {l3 : Int32} {l4 : Int32} {l6 : Option Nat} {l7 : Option Nat} {s0 : Option Nat} {M : jW} {k n : Nat} (hk : k + 8 ≤ 11 ∧ n + 161 ≤ 179) (hF : f_X1_begin_b48 l0 l1 l2 l3 l4 l6 l7 s0 M = some (v0, M0)) : jJ x 48 [(0, jR l0), (1, jI l1), (2, jI l2), (3, jI l3), (4, jI l4), (6, jR l6), (7, jR l7)] [jR s0] M k n := by
  unfold f_X1_begin_b48 at hF
  refine jj_astore (L' := [(8, jR s0), (0, jR l0), (1, jI l1), (2, jI l2), (3, jI l3), (4, jI l4), (6, jR l6), (7, jR l7)]) C rfl (by rw [hxn]; decide) dX1_begin_48 ?_
  refine jj_iload_n C 2 rfl dX1_begin_50 rfl ?_
  refine jj_iload_n C 3 rfl dX1_begin_51 rfl ?_
  refine jj_icmp_eq (tgt := 102) C dX1_begin_52 (by decide) hF (fun hF => ?_) (fun hF => ?_)
  · refine jj_sub [1, 2, 3, 4, 5, 6, 7, 0] rfl ?_
    exact w_X1_begin_b102 C hxn hQ (by omega) hF
  · refine jj_iload_n C 4 rfl dX1_begin_55 rfl ?_
    refine jj_iconst (v := 0) C dX1_begin_56 (by decide) ?_
    refine jj_iconst (v := 2) C dX1_begin_57 (by decide) ?_
    obtain ⟨r58, M58, hG, hF⟩ := pB_spec hF
    refine jj_callS (k' := k) (n' := n) C [jI l3, jI (0 : Int32), jI (2 : Int32)] [] [jI r58] (m_X1_inRange _ _ hG) q425 q426 q42 q427 hd_X1_inRange rfl (Nat.le_of_ble_eq_true rfl) ⟨Nat.le_of_ble_eq_true rfl, Nat.le_of_ble_eq_true rfl⟩ ⟨by show k + 0 ≤ k; omega, by show n + 0 ≤ n; omega, by show k ≤ 11; omega, by show n ≤ 179; omega⟩ dX1_begin_58 rfl ?_
    refine jj_if_eq (tgt := 102) C dX1_begin_61 (by decide) hF (fun hF => ?_) (fun hF => ?_)
    · refine jj_sub [1, 2, 3, 4, 5, 6, 7, 0] rfl ?_
      exact w_X1_begin_b102 C hxn hQ (by omega) hF
    · refine jj_iload C 5 rfl dX1_begin_64 ?_
      refine jj_iconst (v := 1) C dX1_begin_66 (by decide) ?_
      refine jj_bipush (v := 45) C dX1_begin_67 (by decide) ?_
      obtain ⟨r69, M69, hG, hF⟩ := pB_spec hF
      refine jj_callS (k' := k) (n' := n) C [jI l4, jI (1 : Int32), jI (45 : Int32)] [] [jI r69] (m_X1_inRange _ _ hG) q425 q426 q42 q427 hd_X1_inRange rfl (Nat.le_of_ble_eq_true rfl) ⟨Nat.le_of_ble_eq_true rfl, Nat.le_of_ble_eq_true rfl⟩ ⟨by show k + 0 ≤ k; omega, by show n + 0 ≤ n; omega, by show k ≤ 11; omega, by show n ≤ 179; omega⟩ dX1_begin_69 rfl ?_
      refine jj_if_eq (tgt := 102) C dX1_begin_72 (by decide) hF (fun hF => ?_) (fun hF => ?_)
      · refine jj_sub [1, 2, 3, 4, 5, 6, 7, 0] rfl ?_
        exact w_X1_begin_b102 C hxn hQ (by omega) hF
      · refine jj_aload C 0 rfl dX1_begin_75 ?_
        refine jj_ifnull (tgt := 98) C dX1_begin_77 (by decide) hF (fun hF => ?_) (fun hF => ?_)
        · refine jj_sub [1, 2, 3, 4, 5, 6, 7, 0] rfl ?_
          exact w_X1_begin_b98 C hxn hQ (by omega) hF
        · refine jj_aload C 0 rfl dX1_begin_80 ?_
          refine jj_iload_n C 2 rfl dX1_begin_82 rfl ?_
          obtain ⟨b83, fs83, he83, hb83, hF⟩ := pO_spec hF
          obtain ⟨r83, M83, hG, hF⟩ := pB_spec hF
          refine jj_callV (k' := k) (n' := n) C [jI l1] [] [jI r83] he83 (m_X9_has _ _ hG) hb83 rfl q447 q448 q449 q71 q450 ⟨rfl, hd_X9_has⟩ rfl (Nat.le_of_ble_eq_true rfl) ⟨Nat.le_of_ble_eq_true rfl, Nat.le_of_ble_eq_true rfl⟩ ⟨by show k + 0 ≤ k; omega, by show n + 0 ≤ n; omega, by show k ≤ 11; omega, by show n ≤ 179; omega⟩ dX1_begin_83 rfl ?_
          refine jj_if_eq (tgt := 102) C dX1_begin_86 (by decide) hF (fun hF => ?_) (fun hF => ?_)
          · refine jj_sub [1, 2, 3, 4, 5, 6, 7, 0] rfl ?_
            exact w_X1_begin_b102 C hxn hQ (by omega) hF
          · refine jj_aload C 0 rfl dX1_begin_89 ?_
            refine jj_iload_n C 3 rfl dX1_begin_91 rfl ?_
            obtain ⟨b92, fs92, he92, hb92, hF⟩ := pO_spec hF
            obtain ⟨r92, M92, hG, hF⟩ := pB_spec hF
            refine jj_callV (k' := k) (n' := n) C [jI l2] [] [jI r92] he92 (m_X9_has _ _ hG) hb92 rfl q447 q448 q449 q71 q450 ⟨rfl, hd_X9_has⟩ rfl (Nat.le_of_ble_eq_true rfl) ⟨Nat.le_of_ble_eq_true rfl, Nat.le_of_ble_eq_true rfl⟩ ⟨by show k + 0 ≤ k; omega, by show n + 0 ≤ n; omega, by show k ≤ 11; omega, by show n ≤ 179; omega⟩ dX1_begin_92 rfl ?_
            refine jj_if_eq (tgt := 102) C dX1_begin_95 (by decide) hF (fun hF => ?_) (fun hF => ?_)
            · refine jj_sub [1, 2, 3, 4, 5, 6, 7, 0] rfl ?_
              exact w_X1_begin_b102 C hxn hQ (by omega) hF
            · refine jj_sub [1, 2, 3, 4, 5, 6, 7, 0] rfl ?_
              exact w_X1_begin_b98 C hxn hQ (by omega) hF
def f_X1_begin (a0 : Option Nat) (a1 : Int32) (a2 : Int32) (a3 : Int32) (a4 : Int32) (a5 : Int32) (M : jW) : Option ((Int32 ⊕ Nat) × jW) := pR M a0 0 0 fun v1 =>
  pX (f_X1_at v1 a1 M) fun r5 M5 =>
  pCC M5 r5 2 fun v8 =>
  pR M5 a0 0 0 fun v14 =>
  pX (f_X1_at v14 a2 M5) fun r18 M18 =>
  pCC M18 r18 2 fun v21 =>
  if a5 = (-1 : Int32) then (f_X1_begin_b48 a0 a1 a2 a3 a4 v8 v21 none M18)
  else (pR M18 a0 0 2 fun v37 =>
  pX (f_X1_at v37 a5 M18) fun r42 M42 =>
  pCC M42 r42 7 fun v45 =>
  f_X1_begin_b48 a0 a1 a2 a3 a4 v8 v21 v45 M42)
set_option maxHeartbeats 4000000 in
theorem m_X1_begin (l : Launch) (g : jG) (hfl : l.stackTraces = false) {a0 : Option Nat} {a1 : Int32} {a2 : Int32} {a3 : Int32} {a4 : Int32} {a5 : Int32} {M M0 : jW} {v0 : (Int32 ⊕ Nat)} (hF : f_X1_begin a0 a1 a2 a3 a4 a5 M = some (v0, M0)) : jMetX l g yX1_begin cX1_begin 9 (some .int) rm_X1_begin [jR a0, jI a1, jI a2, jI a3, jI a4, jI a5] M (jri v0) M0 := by
  refine jMetX.of (L := [(0, jR a0), (1, jI a1), (2, jI a2), (3, jI a3), (4, jI a4), (5, jI a5)]) hfl (by decide) rfl (Nat.le_of_ble_eq_true rfl) (fun x C hxn hg hl hQ => ?_)
  subst hg
  unfold f_X1_begin at hF
  refine jj_aload_n C 0 rfl dX1_begin_0 rfl ?_
  refine jj_pR (f := 0) C jcs_0 (Nat.le_of_ble_eq_true rfl) (jLk.of C q116 rfl) dX1_begin_1 hF (fun v1 hF => ?_)
  refine jj_iload_n C 1 rfl dX1_begin_4 rfl ?_
  rcases pX_spec2 hF with ⟨r5, M5, hG, hF⟩ | ⟨r5, M5, hG, hF⟩
  · cases hF
    exact jj_callSXx (k' := 0 + 1) (n' := 0 + 6) C hQ [jR v1, jI a1] [] (m_X1_at _ _ hQ.2.2 hG) rfl rfl q422 q423 q42 q424 hd_X1_at rfl (Nat.le_of_ble_eq_true rfl) ⟨Nat.le_of_ble_eq_true rfl, Nat.le_of_ble_eq_true rfl⟩ ⟨by show 0 + 1 ≤ 0 + 1; omega, by show 0 + 6 ≤ 0 + 6; omega, by show 0 + 1 ≤ 11; omega, by show 0 + 6 ≤ 179; omega⟩ dX1_begin_5
  refine jj_callSX (k' := 0 + 1) (n' := 0 + 6) C [jR v1, jI a1] [] [jR r5] (m_X1_at _ _ hQ.2.2 hG) rfl q422 q423 q42 q424 hd_X1_at rfl (Nat.le_of_ble_eq_true rfl) ⟨Nat.le_of_ble_eq_true rfl, Nat.le_of_ble_eq_true rfl⟩ ⟨by show 0 + 1 ≤ 0 + 1; omega, by show 0 + 6 ≤ 0 + 6; omega, by show 0 + 1 ≤ 11; omega, by show 0 + 6 ≤ 179; omega⟩ dX1_begin_5 rfl ?_
  refine jj_castC (ci := 2) C rfl q301 dX1_begin_8 hF (fun v8 hF => ?_)
  refine jj_astore (L' := [(6, jR v8), (0, jR a0), (1, jI a1), (2, jI a2), (3, jI a3), (4, jI a4), (5, jI a5)]) C rfl (by rw [hxn]; decide) dX1_begin_11 ?_
  refine jj_aload_n C 1 rfl dX1_begin_13 rfl ?_
  refine jj_pR (f := 0) C jcs_0 (Nat.le_of_ble_eq_true rfl) (jLk.of C q116 rfl) dX1_begin_14 hF (fun v14 hF => ?_)
  refine jj_iload_n C 3 rfl dX1_begin_17 rfl ?_
  rcases pX_spec2 hF with ⟨r18, M18, hG, hF⟩ | ⟨r18, M18, hG, hF⟩
  · cases hF
    exact jj_callSXx (k' := 0 + 1 + 1) (n' := 0 + 6 + 6) C hQ [jR v14, jI a2] [] (m_X1_at _ _ hQ.2.2 hG) rfl rfl q422 q423 q42 q424 hd_X1_at rfl (Nat.le_of_ble_eq_true rfl) ⟨Nat.le_of_ble_eq_true rfl, Nat.le_of_ble_eq_true rfl⟩ ⟨by show 0 + 1 + 1 ≤ 0 + 1 + 1; omega, by show 0 + 6 + 6 ≤ 0 + 6 + 6; omega, by show 0 + 1 + 1 ≤ 11; omega, by show 0 + 6 + 6 ≤ 179; omega⟩ dX1_begin_18
  refine jj_callSX (k' := 0 + 1 + 1) (n' := 0 + 6 + 6) C [jR v14, jI a2] [] [jR r18] (m_X1_at _ _ hQ.2.2 hG) rfl q422 q423 q42 q424 hd_X1_at rfl (Nat.le_of_ble_eq_true rfl) ⟨Nat.le_of_ble_eq_true rfl, Nat.le_of_ble_eq_true rfl⟩ ⟨by show 0 + 1 + 1 ≤ 0 + 1 + 1; omega, by show 0 + 6 + 6 ≤ 0 + 6 + 6; omega, by show 0 + 1 + 1 ≤ 11; omega, by show 0 + 6 + 6 ≤ 179; omega⟩ dX1_begin_18 rfl ?_
  refine jj_castC (ci := 2) C rfl q301 dX1_begin_21 hF (fun v21 hF => ?_)
  refine jj_astore (L' := [(7, jR v21), (6, jR v8), (0, jR a0), (1, jI a1), (2, jI a2), (3, jI a3), (4, jI a4), (5, jI a5)]) C rfl (by rw [hxn]; decide) dX1_begin_24 ?_
  refine jj_iload C 7 rfl dX1_begin_26 ?_
  refine jj_iconst (v := -1) C dX1_begin_28 (by decide) ?_
  refine jj_icmp_ne (tgt := 36) C dX1_begin_29 (by decide) hF (fun hF => ?_) (fun hF => ?_)
  · refine jj_aload_n C 2 rfl dX1_begin_36 rfl ?_
    refine jj_pR (f := 2) C jcs_0 (Nat.le_of_ble_eq_true rfl) (jLk.of C q118 rfl) dX1_begin_37 hF (fun v37 hF => ?_)
    refine jj_iload C 7 rfl dX1_begin_40 ?_
    rcases pX_spec2 hF with ⟨r42, M42, hG, hF⟩ | ⟨r42, M42, hG, hF⟩
    · cases hF
      exact jj_callSXx (k' := 0 + 1 + 1 + 1) (n' := 0 + 6 + 6 + 6) C hQ [jR v37, jI a5] [] (m_X1_at _ _ hQ.2.2 hG) rfl rfl q422 q423 q42 q424 hd_X1_at rfl (Nat.le_of_ble_eq_true rfl) ⟨Nat.le_of_ble_eq_true rfl, Nat.le_of_ble_eq_true rfl⟩ ⟨by show 0 + 1 + 1 + 1 ≤ 0 + 1 + 1 + 1; omega, by show 0 + 6 + 6 + 6 ≤ 0 + 6 + 6 + 6; omega, by show 0 + 1 + 1 + 1 ≤ 11; omega, by show 0 + 6 + 6 + 6 ≤ 179; omega⟩ dX1_begin_42
    refine jj_callSX (k' := 0 + 1 + 1 + 1) (n' := 0 + 6 + 6 + 6) C [jR v37, jI a5] [] [jR r42] (m_X1_at _ _ hQ.2.2 hG) rfl q422 q423 q42 q424 hd_X1_at rfl (Nat.le_of_ble_eq_true rfl) ⟨Nat.le_of_ble_eq_true rfl, Nat.le_of_ble_eq_true rfl⟩ ⟨by show 0 + 1 + 1 + 1 ≤ 0 + 1 + 1 + 1; omega, by show 0 + 6 + 6 + 6 ≤ 0 + 6 + 6 + 6; omega, by show 0 + 1 + 1 + 1 ≤ 11; omega, by show 0 + 6 + 6 + 6 ≤ 179; omega⟩ dX1_begin_42 rfl ?_
    refine jj_castC (ci := 7) C rfl q446 dX1_begin_45 hF (fun v45 hF => ?_)
    refine jj_sub [2, 3, 4, 5, 6, 1, 0] rfl ?_
    exact w_X1_begin_b48 C hxn hQ (by omega) hF
  · refine jj_null C dX1_begin_32 ?_
    refine jj_goto (tgt := 48) C dX1_begin_33 (by decide) ?_
    refine jj_sub [2, 3, 4, 5, 6, 1, 0] rfl ?_
    exact w_X1_begin_b48 C hxn hQ (by omega) hF
/-! Phrasehall.isSide(I)Z -/
def rm_X1_isSide : Room := ({ frames := 2, cells := 0, slots := 0, locals := 86 } : Room)
theorem hd_X1_isSide : yX1_isSide.cls ≠ "java/lang/invoke/MethodHandle" ∧ yX1_isSide.cls ≠ "java/lang/invoke/VarHandle" ∧ (parseMethodDescriptor yX1_isSide.desc).map (fun d => d.parameters.length) = some 1 := ⟨by decide, by decide, by decide +kernel⟩
def f_X1_isSide (a0 : Int32) (M : jW) : Option (Int32 × jW) := pB (f_X1_inRange a0 (0 : Int32) (1 : Int32) M) fun r3 M3 =>
  pRZ r3 M3
set_option maxHeartbeats 4000000 in
theorem m_X1_isSide (l : Launch) (g : jG) {a0 : Int32} {M M0 : jW} {v0 : Int32} (hF : f_X1_isSide a0 M = some (v0, M0)) : jMet l g yX1_isSide cX1_isSide 1 (some .boolean) rm_X1_isSide [jI a0] M (some (jI v0)) M0 := by
  refine jMet.of (L := [(0, jI a0)]) (by decide) rfl (Nat.le_of_ble_eq_true rfl) (fun x C hxn hg hl hQ hin => ?_)
  subst hg
  unfold f_X1_isSide at hF
  refine jj_iload_n C 0 rfl dX1_isSide_0 rfl ?_
  refine jj_iconst (v := 0) C dX1_isSide_1 (by decide) ?_
  refine jj_iconst (v := 1) C dX1_isSide_2 (by decide) ?_
  obtain ⟨r3, M3, hG, hF⟩ := pB_spec hF
  refine jj_callS (k' := 0) (n' := 0) C [jI a0, jI (0 : Int32), jI (1 : Int32)] [] [jI r3] (m_X1_inRange _ _ hG) q425 q426 q42 q427 hd_X1_inRange rfl (Nat.le_of_ble_eq_true rfl) ⟨Nat.le_of_ble_eq_true rfl, Nat.le_of_ble_eq_true rfl⟩ ⟨Nat.le_refl _, Nat.le_refl _, Nat.le_refl _, Nat.le_refl _⟩ dX1_isSide_3 rfl ?_
  exact jj_zret C hQ dX1_isSide_6 hF (Nat.zero_le _) (Nat.zero_le _)
/-! Phrasehall.put(LPhrasehall$Part;)I -/
def rm_X1_put : Room := ({ frames := 7, cells := 2, slots := 134, locals := 195 } : Room)
theorem hd_X1_put : yX1_put.cls ≠ "java/lang/invoke/MethodHandle" ∧ yX1_put.cls ≠ "java/lang/invoke/VarHandle" ∧ (parseMethodDescriptor yX1_put.desc).map (fun d => d.parameters.length) = some 1 := ⟨by decide, by decide, by decide +kernel⟩
def f_X1_put_b77 (l0 : Option Nat) (l1 : Option Nat) (s0 : Int32) (M : jW) : Option ((Int32 ⊕ Nat) × jW) := pX (f_X1_requireState s0 M) fun _ M77 =>
  pR M77 l0 0 3 fun v81 =>
  pO M77 v81 9 fun b85 _ => pB (f_J2_add (some b85) l1 M77) fun r85 M85 =>
  pR M85 l0 0 3 fun v90 =>
  pO M85 v90 9 fun b93 _ => pB (f_J2_size (some b93)  M85) fun r93 M93 =>
  some (.inl r93, M93)
set_option maxHeartbeats 4000000 in
theorem w_X1_put_b77 {x : jX} (C : jOk x cX1_put RX1 rm_X1_put (some .int)) (hxn : xn x = 3) {v0 : (Int32 ⊕ Nat)} {M0 : jW} (hQ : jEndX x rm_X1_put (jri v0) M0) {l0 : Option Nat} {l1 : Option Nat} {s0 : Int32} {M : jW} {k n : Nat} (hk : k + 2 ≤ 2 ∧ n + 134 ≤ 134) (hF : f_X1_put_b77 l0 l1 s0 M = some (v0, M0)) : jJ x 77 [(0, jR l0), (1, jR l1)] [jI s0] M k n := by
  unfold f_X1_put_b77 at hF
  rcases pX_spec2 hF with ⟨r77, M77, hG, hF⟩ | ⟨r77, M77, hG, hF⟩
  · cases hF
    exact jj_callSXx (k' := k + 1) (n' := n + 6) C hQ [jI s0] [] (m_X1_requireState _ _ hQ.2.2 hG) rfl rfl q233 q234 q42 q235 hd_X1_requireState rfl (Nat.le_of_ble_eq_true rfl) ⟨Nat.le_of_ble_eq_true rfl, Nat.le_of_ble_eq_true rfl⟩ ⟨by show k + 1 ≤ k + 1; omega, by show n + 6 ≤ n + 6; omega, by show k + 1 ≤ 2; omega, by show n + 6 ≤ 134; omega⟩ dX1_put_77
  refine jj_callSX (k' := k + 1) (n' := n + 6) C [jI s0] [] [] (m_X1_requireState _ _ hQ.2.2 hG) rfl q233 q234 q42 q235 hd_X1_requireState rfl (Nat.le_of_ble_eq_true rfl) ⟨Nat.le_of_ble_eq_true rfl, Nat.le_of_ble_eq_true rfl⟩ ⟨by show k + 1 ≤ k + 1; omega, by show n + 6 ≤ n + 6; omega, by show k + 1 ≤ 2; omega, by show n + 6 ≤ 134; omega⟩ dX1_put_77 rfl ?_
  refine jj_aload_n C 0 rfl dX1_put_80 rfl ?_
  refine jj_pR (f := 3) C jcs_0 (Nat.le_of_ble_eq_true rfl) (jLk.of C q120 rfl) dX1_put_81 hF (fun v81 hF => ?_)
  refine jj_aload_n C 1 rfl dX1_put_84 rfl ?_
  obtain ⟨b85, fs85, he85, hb85, hF⟩ := pO_spec hF
  obtain ⟨r85, M85, hG, hF⟩ := pB_spec hF
  refine jj_callV (k' := k + 1 + 1) (n' := n + 6 + 128) C [jR l1] [] [jI r85] he85 (m_J2_add _ _ hG) hb85 rfl q314 q315 q316 q45 q317 ⟨rfl, hd_J2_add⟩ rfl (Nat.le_of_ble_eq_true rfl) ⟨Nat.le_of_ble_eq_true rfl, Nat.le_of_ble_eq_true rfl⟩ ⟨by show k + 1 + 1 ≤ k + 1 + 1; omega, by show n + 6 + 128 ≤ n + 6 + 128; omega, by show k + 1 + 1 ≤ 2; omega, by show n + 6 + 128 ≤ 134; omega⟩ dX1_put_85 rfl ?_
  refine jj_pop C dX1_put_88 rfl ?_
  refine jj_aload_n C 0 rfl dX1_put_89 rfl ?_
  refine jj_pR (f := 3) C jcs_0 (Nat.le_of_ble_eq_true rfl) (jLk.of C q120 rfl) dX1_put_90 hF (fun v90 hF => ?_)
  obtain ⟨b93, fs93, he93, hb93, hF⟩ := pO_spec hF
  obtain ⟨r93, M93, hG, hF⟩ := pB_spec hF
  refine jj_callV (k' := k + 1 + 1) (n' := n + 6 + 128) C [] [] [jI r93] he93 (m_J2_size _ _ hG) hb93 rfl q147 q148 q149 q45 q150 ⟨rfl, hd_J2_size⟩ rfl (Nat.le_of_ble_eq_true rfl) ⟨Nat.le_of_ble_eq_true rfl, Nat.le_of_ble_eq_true rfl⟩ ⟨by show k + 1 + 1 + 0 ≤ k + 1 + 1; omega, by show n + 6 + 128 + 0 ≤ n + 6 + 128; omega, by show k + 1 + 1 ≤ 2; omega, by show n + 6 + 128 ≤ 134; omega⟩ dX1_put_93 rfl ?_
  exact jj_iretX C hQ dX1_put_96 hF (by show k + 1 + 1 ≤ 2; omega) (by show n + 6 + 128 ≤ 134; omega)
def f_X1_put_b76 (l0 : Option Nat) (l1 : Option Nat) (M : jW) : Option ((Int32 ⊕ Nat) × jW) := f_X1_put_b77 l0 l1 (0 : Int32) M
set_option maxHeartbeats 4000000 in
theorem w_X1_put_b76 {x : jX} (C : jOk x cX1_put RX1 rm_X1_put (some .int)) (hxn : xn x = 3) {v0 : (Int32 ⊕ Nat)} {M0 : jW} (hQ : jEndX x rm_X1_put (jri v0) M0) {l0 : Option Nat} {l1 : Option Nat} {M : jW} {k n : Nat} (hk : k + 2 ≤ 2 ∧ n + 134 ≤ 134) (hF : f_X1_put_b76 l0 l1 M = some (v0, M0)) : jJ x 76 [(0, jR l0), (1, jR l1)] [] M k n := by
  unfold f_X1_put_b76 at hF
  refine jj_iconst (v := 0) C dX1_put_76 (by decide) ?_
  refine jj_sub [0, 1] rfl ?_
  exact w_X1_put_b77 C hxn hQ (by omega) hF
def f_X1_put_b48 (l0 : Option Nat) (l1 : Option Nat) (s0 : Int32) (M : jW) : Option ((Int32 ⊕ Nat) × jW) := pR M l0 0 4 fun v50 =>
  pZ v50 (f_X1_put_b76 l0 l1 M)
  (if s0 = 0 then (f_X1_put_b76 l0 l1 M)
  else (pR M l0 0 3 fun v61 =>
  pO M v61 9 fun b64 _ => pB (f_J2_size (some b64)  M) fun r64 M64 =>
  if (24 : Int32) ≤ r64 then (f_X1_put_b76 l0 l1 M64)
  else (f_X1_put_b77 l0 l1 (1 : Int32) M64)))
set_option maxHeartbeats 4000000 in
theorem w_X1_put_b48 {x : jX} (C : jOk x cX1_put RX1 rm_X1_put (some .int)) (hxn : xn x = 3) {v0 : (Int32 ⊕ Nat)} {M0 : jW} (hQ : jEndX x rm_X1_put (jri v0) M0) {l0 : Option Nat} {l1 : Option Nat} {s0 : Int32} {M : jW} {k n : Nat} (hk : k + 2 ≤ 2 ∧ n + 134 ≤ 134) (hF : f_X1_put_b48 l0 l1 s0 M = some (v0, M0)) : jJ x 48 [(0, jR l0), (1, jR l1)] [jI s0] M k n := by
  unfold f_X1_put_b48 at hF
  refine jj_istore_n (L' := [(2, jI s0), (0, jR l0), (1, jR l1)]) C rfl (by rw [hxn]; decide) dX1_put_48 rfl ?_
  refine jj_aload_n C 1 rfl dX1_put_49 rfl ?_
  refine jj_pR (f := 4) C jcs_0 (Nat.le_of_ble_eq_true rfl) (jLk.of C q122 rfl) dX1_put_50 hF (fun v50 hF => ?_)
  refine jj_ifnull (tgt := 76) C dX1_put_53 (by decide) hF (fun hF => ?_) (fun hF => ?_)
  · refine jj_sub [1, 2] rfl ?_
    exact w_X1_put_b76 C hxn hQ (by omega) hF
  · refine jj_iload_n C 0 rfl dX1_put_56 rfl ?_
    refine jj_if_eq (tgt := 76) C dX1_put_57 (by decide) hF (fun hF => ?_) (fun hF => ?_)
    · refine jj_sub [1, 2] rfl ?_
      exact w_X1_put_b76 C hxn hQ (by omega) hF
    · refine jj_aload_n C 1 rfl dX1_put_60 rfl ?_
      refine jj_pR (f := 3) C jcs_0 (Nat.le_of_ble_eq_true rfl) (jLk.of C q120 rfl) dX1_put_61 hF (fun v61 hF => ?_)
      obtain ⟨b64, fs64, he64, hb64, hF⟩ := pO_spec hF
      obtain ⟨r64, M64, hG, hF⟩ := pB_spec hF
      refine jj_callV (k' := k) (n' := n) C [] [] [jI r64] he64 (m_J2_size _ _ hG) hb64 rfl q147 q148 q149 q45 q150 ⟨rfl, hd_J2_size⟩ rfl (Nat.le_of_ble_eq_true rfl) ⟨Nat.le_of_ble_eq_true rfl, Nat.le_of_ble_eq_true rfl⟩ ⟨by show k + 0 ≤ k; omega, by show n + 0 ≤ n; omega, by show k ≤ 2; omega, by show n ≤ 134; omega⟩ dX1_put_64 rfl ?_
      refine jj_bipush (v := 24) C dX1_put_67 (by decide) ?_
      refine jj_icmp_ge (tgt := 76) C dX1_put_69 (by decide) hF (fun hF => ?_) (fun hF => ?_)
      · refine jj_sub [1, 2] rfl ?_
        exact w_X1_put_b76 C hxn hQ (by omega) hF
      · refine jj_iconst (v := 1) C dX1_put_72 (by decide) ?_
        refine jj_goto (tgt := 77) C dX1_put_73 (by decide) ?_
        refine jj_sub [1, 2] rfl ?_
        exact w_X1_put_b77 C hxn hQ (by omega) hF
def f_X1_put_b43 (l0 : Option Nat) (l1 : Option Nat) (M : jW) : Option ((Int32 ⊕ Nat) × jW) := f_X1_put_b48 l0 l1 (1 : Int32) M
set_option maxHeartbeats 4000000 in
theorem w_X1_put_b43 {x : jX} (C : jOk x cX1_put RX1 rm_X1_put (some .int)) (hxn : xn x = 3) {v0 : (Int32 ⊕ Nat)} {M0 : jW} (hQ : jEndX x rm_X1_put (jri v0) M0) {l0 : Option Nat} {l1 : Option Nat} {M : jW} {k n : Nat} (hk : k + 2 ≤ 2 ∧ n + 134 ≤ 134) (hF : f_X1_put_b43 l0 l1 M = some (v0, M0)) : jJ x 43 [(0, jR l0), (1, jR l1)] [] M k n := by
  unfold f_X1_put_b43 at hF
  refine jj_iconst (v := 1) C dX1_put_43 (by decide) ?_
  refine jj_goto (tgt := 48) C dX1_put_44 (by decide) ?_
  refine jj_sub [0, 1] rfl ?_
  exact w_X1_put_b48 C hxn hQ (by omega) hF
def f_X1_put (a0 : Option Nat) (a1 : Option Nat) (M : jW) : Option ((Int32 ⊕ Nat) × jW) := pR M a0 0 3 fun v1 =>
  pO M v1 9 fun b4 _ => pB (f_J2_isEmpty (some b4)  M) fun r4 M4 =>
  if r4 = 0 then (pR M4 a0 0 3 fun v11 =>
  pR M4 a0 0 3 fun v15 =>
  pO M4 v15 9 fun b18 _ => pB (f_J2_size (some b18)  M4) fun r18 M18 =>
  pO M18 v11 9 fun b23 _ => pB (f_J2_get (some b23) (r18 - (1 : Int32)) M18) fun r23 M23 =>
  pCP M23 r23 fun v26 =>
  pB (pTime M23 v26) fun r29 M29 =>
  pB (pTime M29 a1) fun r35 M35 =>
  if r35 < r29 then (f_X1_put_b48 a0 a1 (0 : Int32) M35)
  else (f_X1_put_b43 a0 a1 M35))
  else (f_X1_put_b43 a0 a1 M4)
set_option maxHeartbeats 4000000 in
theorem m_X1_put (l : Launch) (g : jG) (hfl : l.stackTraces = false) {a0 : Option Nat} {a1 : Option Nat} {M M0 : jW} {v0 : (Int32 ⊕ Nat)} (hF : f_X1_put a0 a1 M = some (v0, M0)) : jMetX l g yX1_put cX1_put 3 (some .int) rm_X1_put [jR a0, jR a1] M (jri v0) M0 := by
  refine jMetX.of (L := [(0, jR a0), (1, jR a1)]) hfl (by decide) rfl (Nat.le_of_ble_eq_true rfl) (fun x C hxn hg hl hQ => ?_)
  subst hg
  unfold f_X1_put at hF
  refine jj_aload_n C 0 rfl dX1_put_0 rfl ?_
  refine jj_pR (f := 3) C jcs_0 (Nat.le_of_ble_eq_true rfl) (jLk.of C q120 rfl) dX1_put_1 hF (fun v1 hF => ?_)
  obtain ⟨b4, fs4, he4, hb4, hF⟩ := pO_spec hF
  obtain ⟨r4, M4, hG, hF⟩ := pB_spec hF
  refine jj_callV (k' := 0) (n' := 0) C [] [] [jI r4] he4 (m_J2_isEmpty _ _ hG) hb4 rfl q578 q579 q580 q45 q581 ⟨rfl, hd_J2_isEmpty⟩ rfl (Nat.le_of_ble_eq_true rfl) ⟨Nat.le_of_ble_eq_true rfl, Nat.le_of_ble_eq_true rfl⟩ ⟨by show 0 + 0 ≤ 0; omega, by show 0 + 0 ≤ 0; omega, by show 0 ≤ 2; omega, by show 0 ≤ 134; omega⟩ dX1_put_4 rfl ?_
  refine jj_if_ne (tgt := 43) C dX1_put_7 (by decide) hF (fun hF => ?_) (fun hF => ?_)
  · refine jj_sub [0, 1] rfl ?_
    exact w_X1_put_b43 C hxn hQ (by omega) hF
  · refine jj_aload_n C 0 rfl dX1_put_10 rfl ?_
    refine jj_pR (f := 3) C jcs_0 (Nat.le_of_ble_eq_true rfl) (jLk.of C q120 rfl) dX1_put_11 hF (fun v11 hF => ?_)
    refine jj_aload_n C 0 rfl dX1_put_14 rfl ?_
    refine jj_pR (f := 3) C jcs_0 (Nat.le_of_ble_eq_true rfl) (jLk.of C q120 rfl) dX1_put_15 hF (fun v15 hF => ?_)
    obtain ⟨b18, fs18, he18, hb18, hF⟩ := pO_spec hF
    obtain ⟨r18, M18, hG, hF⟩ := pB_spec hF
    refine jj_callV (k' := 0) (n' := 0) C [] [jR v11] [jI r18, jR v11] he18 (m_J2_size _ _ hG) hb18 rfl q147 q148 q149 q45 q150 ⟨rfl, hd_J2_size⟩ rfl (Nat.le_of_ble_eq_true rfl) ⟨Nat.le_of_ble_eq_true rfl, Nat.le_of_ble_eq_true rfl⟩ ⟨by show 0 + 0 ≤ 0; omega, by show 0 + 0 ≤ 0; omega, by show 0 ≤ 2; omega, by show 0 ≤ 134; omega⟩ dX1_put_18 rfl ?_
    refine jj_iconst (v := 1) C dX1_put_21 (by decide) ?_
    refine jj_isub C dX1_put_22 ?_
    obtain ⟨b23, fs23, he23, hb23, hF⟩ := pO_spec hF
    obtain ⟨r23, M23, hG, hF⟩ := pB_spec hF
    refine jj_callV (k' := 0) (n' := 0) C [jI (r18 - (1 : Int32))] [] [jR r23] he23 (m_J2_get _ _ hG) hb23 rfl q178 q179 q180 q45 q181 ⟨rfl, hd_J2_get⟩ rfl (Nat.le_of_ble_eq_true rfl) ⟨Nat.le_of_ble_eq_true rfl, Nat.le_of_ble_eq_true rfl⟩ ⟨by show 0 + 0 ≤ 0; omega, by show 0 + 0 ≤ 0; omega, by show 0 ≤ 2; omega, by show 0 ≤ 134; omega⟩ dX1_put_23 rfl ?_
    refine jj_castP C q582 dX1_put_26 hF (fun v26 hF => ?_)
    obtain ⟨r29, M29, hG, hF⟩ := pB_spec hF
    refine jj_time (k' := 0) (n' := 0) C [] [jI r29] hG ⟨Nat.le_of_ble_eq_true rfl, Nat.le_of_ble_eq_true rfl⟩ ⟨Nat.le_refl _, Nat.le_refl _, by show 0 ≤ 2; omega, by show 0 ≤ 134; omega⟩ rfl (Nat.le_of_ble_eq_true rfl) dX1_put_29 ?_
    refine jj_aload_n C 1 rfl dX1_put_34 rfl ?_
    obtain ⟨r35, M35, hG, hF⟩ := pB_spec hF
    refine jj_time (k' := 0) (n' := 0) C [jI r29] [jI r35, jI r29] hG ⟨Nat.le_of_ble_eq_true rfl, Nat.le_of_ble_eq_true rfl⟩ ⟨Nat.le_refl _, Nat.le_refl _, by show 0 ≤ 2; omega, by show 0 ≤ 134; omega⟩ rfl (Nat.le_of_ble_eq_true rfl) dX1_put_35 ?_
    refine jj_icmp_gt (tgt := 47) C dX1_put_40 (by decide) hF (fun hF => ?_) (fun hF => ?_)
    · refine jj_iconst (v := 0) C dX1_put_47 (by decide) ?_
      refine jj_sub [0, 1] rfl ?_
      exact w_X1_put_b48 C hxn hQ (by omega) hF
    · refine jj_sub [0, 1] rfl ?_
      exact w_X1_put_b43 C hxn hQ (by omega) hF
/-! Phrasehall.act(III)I -/
def rm_X1_act : Room := ({ frames := 8, cells := 4, slots := 143, locals := 217 } : Room)
theorem hd_X1_act : yX1_act.cls ≠ "java/lang/invoke/MethodHandle" ∧ yX1_act.cls ≠ "java/lang/invoke/VarHandle" ∧ (parseMethodDescriptor yX1_act.desc).map (fun d => d.parameters.length) = some 3 := ⟨by decide, by decide, by decide +kernel⟩
def f_X1_act_b32 (l0 : Option Nat) (l1 : Int32) (l2 : Int32) (l3 : Int32) (s0 : Int32) (M : jW) : Option ((Int32 ⊕ Nat) × jW) := pX (f_X1_requireArgument s0 M) fun _ M32 =>
  pN M32 4 [.int 0, .int 0, .int 0] fun q36 M36 =>
  pSm (some q36) fun b43 => pB (f_X6_init (some b43) l1 l2 l3 M36) fun _ M43 =>
  pO M43 l0 0 fun b46 _ => pX (f_X1_put (some b46) (some q36) M43) fun r46 M46 =>
  some (.inl r46, M46)
set_option maxHeartbeats 4000000 in
theorem w_X1_act_b32 {x : jX} (C : jOk x cX1_act RX1 rm_X1_act (some .int)) (hxn : xn x = 4) {v0 : (Int32 ⊕ Nat)} {M0 : jW} (hQ : jEndX x rm_X1_act (jri v0) M0) {l0 : Option Nat} {l1 : Int32} {l2 : Int32} {l3 : Int32} {s0 : Int32} {M : jW} {k n : Nat} (hk : k + 4 ≤ 4 ∧ n + 143 ≤ 143) (hF : f_X1_act_b32 l0 l1 l2 l3 s0 M = some (v0, M0)) : jJ x 32 [(0, jR l0), (1, jI l1), (2, jI l2), (3, jI l3)] [jI s0] M k n := by
  unfold f_X1_act_b32 at hF
  rcases pX_spec2 hF with ⟨r32, M32, hG, hF⟩ | ⟨r32, M32, hG, hF⟩
  · cases hF
    exact jj_callSXx (k' := k + 1) (n' := n + 6) C hQ [jI s0] [] (m_X1_requireArgument _ _ hQ.2.2 hG) rfl rfl q451 q452 q42 q453 hd_X1_requireArgument rfl (Nat.le_of_ble_eq_true rfl) ⟨Nat.le_of_ble_eq_true rfl, Nat.le_of_ble_eq_true rfl⟩ ⟨by show k + 1 ≤ k + 1; omega, by show n + 6 ≤ n + 6; omega, by show k + 1 ≤ 4; omega, by show n + 6 ≤ 143; omega⟩ dX1_act_32
  refine jj_callSX (k' := k + 1) (n' := n + 6) C [jI s0] [] [] (m_X1_requireArgument _ _ hQ.2.2 hG) rfl q451 q452 q42 q453 hd_X1_requireArgument rfl (Nat.le_of_ble_eq_true rfl) ⟨Nat.le_of_ble_eq_true rfl, Nat.le_of_ble_eq_true rfl⟩ ⟨by show k + 1 ≤ k + 1; omega, by show n + 6 ≤ n + 6; omega, by show k + 1 ≤ 4; omega, by show n + 6 ≤ 143; omega⟩ dX1_act_32 rfl ?_
  refine jj_aload_n C 0 rfl dX1_act_35 rfl ?_
  refine jj_new C jcs_4 q192 q556 q66 (by intro j hj; rcases (show j = 0 ∨ j = 1 ∨ j = 2 by omega) with rfl | rfl | rfl <;> rfl) (by show k + 1 + 1 ≤ 4; omega) (by show n + 6 + 3 ≤ 143; omega) dX1_act_36 hF (fun q36 M36 hF => ?_)
  refine jj_dup C dX1_act_39 rfl ?_
  refine jj_iload_n C 1 rfl dX1_act_40 rfl ?_
  refine jj_iload_n C 2 rfl dX1_act_41 rfl ?_
  refine jj_iload_n C 3 rfl dX1_act_42 rfl ?_
  obtain ⟨b43, hb43, hF⟩ := pSm_spec hF
  obtain ⟨r43, M43, hG, hF⟩ := pB_spec hF
  refine jj_callIN (k' := k + 1 + 1) (n' := n + 6 + 3) C [jI l1, jI l2, jI l3] [jR (some q36), jR l0] hb43 (m_X6_init _ _ hG) q557 q558 q66 q559 rfl hd_X6_init rfl (Nat.le_of_ble_eq_true rfl) ⟨Nat.le_of_ble_eq_true rfl, Nat.le_of_ble_eq_true rfl⟩ ⟨by show k + 1 + 1 + 0 ≤ k + 1 + 1; omega, by show n + 6 + 3 + 0 ≤ n + 6 + 3; omega, by show k + 1 + 1 ≤ 4; omega, by show n + 6 + 3 ≤ 143; omega⟩ dX1_act_43 ?_
  obtain ⟨b46, fs46, he46, hb46, hF⟩ := pO_spec hF
  rcases pX_spec2 hF with ⟨r46, M46, hG, hF⟩ | ⟨r46, M46, hG, hF⟩
  · cases hF
    exact jj_callVXx (k' := k + 1 + 1 + 2) (n' := n + 6 + 3 + 134) C hQ [jR (some q36)] [] he46 (m_X1_put _ _ hQ.2.2 hG) rfl rfl hb46 rfl q574 q576 qs8 q42 q577 ⟨rfl, hd_X1_put⟩ rfl (Nat.le_of_ble_eq_true rfl) ⟨Nat.le_of_ble_eq_true rfl, Nat.le_of_ble_eq_true rfl⟩ ⟨by show k + 1 + 1 + 2 ≤ k + 1 + 1 + 2; omega, by show n + 6 + 3 + 134 ≤ n + 6 + 3 + 134; omega, by show k + 1 + 1 + 2 ≤ 4; omega, by show n + 6 + 3 + 134 ≤ 143; omega⟩ dX1_act_46
  refine jj_callVX (k' := k + 1 + 1 + 2) (n' := n + 6 + 3 + 134) C [jR (some q36)] [] [jI r46] he46 (m_X1_put _ _ hQ.2.2 hG) rfl hb46 rfl q574 q576 qs8 q42 q577 ⟨rfl, hd_X1_put⟩ rfl (Nat.le_of_ble_eq_true rfl) ⟨Nat.le_of_ble_eq_true rfl, Nat.le_of_ble_eq_true rfl⟩ ⟨by show k + 1 + 1 + 2 ≤ k + 1 + 1 + 2; omega, by show n + 6 + 3 + 134 ≤ n + 6 + 3 + 134; omega, by show k + 1 + 1 + 2 ≤ 4; omega, by show n + 6 + 3 + 134 ≤ 143; omega⟩ dX1_act_46 rfl ?_
  exact jj_iretX C hQ dX1_act_49 hF (by show k + 1 + 1 + 2 ≤ 4; omega) (by show n + 6 + 3 + 134 ≤ 143; omega)
def f_X1_act_b31 (l0 : Option Nat) (l1 : Int32) (l2 : Int32) (l3 : Int32) (M : jW) : Option ((Int32 ⊕ Nat) × jW) := f_X1_act_b32 l0 l1 l2 l3 (0 : Int32) M
set_option maxHeartbeats 4000000 in
theorem w_X1_act_b31 {x : jX} (C : jOk x cX1_act RX1 rm_X1_act (some .int)) (hxn : xn x = 4) {v0 : (Int32 ⊕ Nat)} {M0 : jW} (hQ : jEndX x rm_X1_act (jri v0) M0) {l0 : Option Nat} {l1 : Int32} {l2 : Int32} {l3 : Int32} {M : jW} {k n : Nat} (hk : k + 4 ≤ 4 ∧ n + 143 ≤ 143) (hF : f_X1_act_b31 l0 l1 l2 l3 M = some (v0, M0)) : jJ x 31 [(0, jR l0), (1, jI l1), (2, jI l2), (3, jI l3)] [] M k n := by
  unfold f_X1_act_b31 at hF
  refine jj_iconst (v := 0) C dX1_act_31 (by decide) ?_
  refine jj_sub [0, 1, 2, 3] rfl ?_
  exact w_X1_act_b32 C hxn hQ (by omega) hF
def f_X1_act (a0 : Option Nat) (a1 : Int32) (a2 : Int32) (a3 : Int32) (M : jW) : Option ((Int32 ⊕ Nat) × jW) := pB (f_X1_isSide a1 M) fun r1 M1 =>
  if r1 = 0 then (f_X1_act_b31 a0 a1 a2 a3 M1)
  else (pB (f_X1_inRange a2 (0 : Int32) (6 : Int32) M1) fun r11 M11 =>
  if r11 = 0 then (f_X1_act_b31 a0 a1 a2 a3 M11)
  else (pB (f_X1_inRange a3 (0 : Int32) (1000000 : Int32) M11) fun r21 M21 =>
  if r21 = 0 then (f_X1_act_b31 a0 a1 a2 a3 M21)
  else (f_X1_act_b32 a0 a1 a2 a3 (1 : Int32) M21)))
set_option maxHeartbeats 4000000 in
theorem m_X1_act (l : Launch) (g : jG) (hfl : l.stackTraces = false) {a0 : Option Nat} {a1 : Int32} {a2 : Int32} {a3 : Int32} {M M0 : jW} {v0 : (Int32 ⊕ Nat)} (hF : f_X1_act a0 a1 a2 a3 M = some (v0, M0)) : jMetX l g yX1_act cX1_act 4 (some .int) rm_X1_act [jR a0, jI a1, jI a2, jI a3] M (jri v0) M0 := by
  refine jMetX.of (L := [(0, jR a0), (1, jI a1), (2, jI a2), (3, jI a3)]) hfl (by decide) rfl (Nat.le_of_ble_eq_true rfl) (fun x C hxn hg hl hQ => ?_)
  subst hg
  unfold f_X1_act at hF
  refine jj_iload_n C 1 rfl dX1_act_0 rfl ?_
  obtain ⟨r1, M1, hG, hF⟩ := pB_spec hF
  refine jj_callS (k' := 0) (n' := 0) C [jI a1] [] [jI r1] (m_X1_isSide _ _ hG) q552 q553 q42 q554 hd_X1_isSide rfl (Nat.le_of_ble_eq_true rfl) ⟨Nat.le_of_ble_eq_true rfl, Nat.le_of_ble_eq_true rfl⟩ ⟨by show 0 + 0 ≤ 0; omega, by show 0 + 0 ≤ 0; omega, by show 0 ≤ 4; omega, by show 0 ≤ 143; omega⟩ dX1_act_1 rfl ?_
  refine jj_if_eq (tgt := 31) C dX1_act_4 (by decide) hF (fun hF => ?_) (fun hF => ?_)
  · refine jj_sub [0, 1, 2, 3] rfl ?_
    exact w_X1_act_b31 C hxn hQ (by omega) hF
  · refine jj_iload_n C 2 rfl dX1_act_7 rfl ?_
    refine jj_iconst (v := 0) C dX1_act_8 (by decide) ?_
    refine jj_bipush (v := 6) C dX1_act_9 (by decide) ?_
    obtain ⟨r11, M11, hG, hF⟩ := pB_spec hF
    refine jj_callS (k' := 0) (n' := 0) C [jI a2, jI (0 : Int32), jI (6 : Int32)] [] [jI r11] (m_X1_inRange _ _ hG) q425 q426 q42 q427 hd_X1_inRange rfl (Nat.le_of_ble_eq_true rfl) ⟨Nat.le_of_ble_eq_true rfl, Nat.le_of_ble_eq_true rfl⟩ ⟨by show 0 + 0 ≤ 0; omega, by show 0 + 0 ≤ 0; omega, by show 0 ≤ 4; omega, by show 0 ≤ 143; omega⟩ dX1_act_11 rfl ?_
    refine jj_if_eq (tgt := 31) C dX1_act_14 (by decide) hF (fun hF => ?_) (fun hF => ?_)
    · refine jj_sub [0, 1, 2, 3] rfl ?_
      exact w_X1_act_b31 C hxn hQ (by omega) hF
    · refine jj_iload_n C 3 rfl dX1_act_17 rfl ?_
      refine jj_iconst (v := 0) C dX1_act_18 (by decide) ?_
      refine jj_ldc (v := 1000000) C q555 dX1_act_19 ?_
      obtain ⟨r21, M21, hG, hF⟩ := pB_spec hF
      refine jj_callS (k' := 0) (n' := 0) C [jI a3, jI (0 : Int32), jI (1000000 : Int32)] [] [jI r21] (m_X1_inRange _ _ hG) q425 q426 q42 q427 hd_X1_inRange rfl (Nat.le_of_ble_eq_true rfl) ⟨Nat.le_of_ble_eq_true rfl, Nat.le_of_ble_eq_true rfl⟩ ⟨by show 0 + 0 ≤ 0; omega, by show 0 + 0 ≤ 0; omega, by show 0 ≤ 4; omega, by show 0 ≤ 143; omega⟩ dX1_act_21 rfl ?_
      refine jj_if_eq (tgt := 31) C dX1_act_24 (by decide) hF (fun hF => ?_) (fun hF => ?_)
      · refine jj_sub [0, 1, 2, 3] rfl ?_
        exact w_X1_act_b31 C hxn hQ (by omega) hF
      · refine jj_iconst (v := 1) C dX1_act_27 (by decide) ?_
        refine jj_goto (tgt := 32) C dX1_act_28 (by decide) ?_
        refine jj_sub [0, 1, 2, 3] rfl ?_
        exact w_X1_act_b32 C hxn hQ (by omega) hF
/-! Phrasehall.hit(IIII)I -/
def rm_X1_hit : Room := ({ frames := 8, cells := 4, slots := 144, locals := 217 } : Room)
theorem hd_X1_hit : yX1_hit.cls ≠ "java/lang/invoke/MethodHandle" ∧ yX1_hit.cls ≠ "java/lang/invoke/VarHandle" ∧ (parseMethodDescriptor yX1_hit.desc).map (fun d => d.parameters.length) = some 4 := ⟨by decide, by decide, by decide +kernel⟩
def f_X1_hit_b43 (l0 : Option Nat) (l1 : Int32) (l2 : Int32) (l3 : Int32) (l4 : Int32) (s0 : Int32) (M : jW) : Option ((Int32 ⊕ Nat) × jW) := pX (f_X1_requireArgument s0 M) fun _ M43 =>
  pN M43 5 [.int 0, .int 0, .int 0, .int 0] fun q47 M47 =>
  pSm (some q47) fun b56 => pB (f_X7_init (some b56) l1 l2 l3 l4 M47) fun _ M56 =>
  pO M56 l0 0 fun b59 _ => pX (f_X1_put (some b59) (some q47) M56) fun r59 M59 =>
  some (.inl r59, M59)
set_option maxHeartbeats 4000000 in
theorem w_X1_hit_b43 {x : jX} (C : jOk x cX1_hit RX1 rm_X1_hit (some .int)) (hxn : xn x = 5) {v0 : (Int32 ⊕ Nat)} {M0 : jW} (hQ : jEndX x rm_X1_hit (jri v0) M0) {l0 : Option Nat} {l1 : Int32} {l2 : Int32} {l3 : Int32} {l4 : Int32} {s0 : Int32} {M : jW} {k n : Nat} (hk : k + 4 ≤ 4 ∧ n + 144 ≤ 144) (hF : f_X1_hit_b43 l0 l1 l2 l3 l4 s0 M = some (v0, M0)) : jJ x 43 [(0, jR l0), (1, jI l1), (2, jI l2), (3, jI l3), (4, jI l4)] [jI s0] M k n := by
  unfold f_X1_hit_b43 at hF
  rcases pX_spec2 hF with ⟨r43, M43, hG, hF⟩ | ⟨r43, M43, hG, hF⟩
  · cases hF
    exact jj_callSXx (k' := k + 1) (n' := n + 6) C hQ [jI s0] [] (m_X1_requireArgument _ _ hQ.2.2 hG) rfl rfl q451 q452 q42 q453 hd_X1_requireArgument rfl (Nat.le_of_ble_eq_true rfl) ⟨Nat.le_of_ble_eq_true rfl, Nat.le_of_ble_eq_true rfl⟩ ⟨by show k + 1 ≤ k + 1; omega, by show n + 6 ≤ n + 6; omega, by show k + 1 ≤ 4; omega, by show n + 6 ≤ 144; omega⟩ dX1_hit_43
  refine jj_callSX (k' := k + 1) (n' := n + 6) C [jI s0] [] [] (m_X1_requireArgument _ _ hQ.2.2 hG) rfl q451 q452 q42 q453 hd_X1_requireArgument rfl (Nat.le_of_ble_eq_true rfl) ⟨Nat.le_of_ble_eq_true rfl, Nat.le_of_ble_eq_true rfl⟩ ⟨by show k + 1 ≤ k + 1; omega, by show n + 6 ≤ n + 6; omega, by show k + 1 ≤ 4; omega, by show n + 6 ≤ 144; omega⟩ dX1_hit_43 rfl ?_
  refine jj_aload_n C 0 rfl dX1_hit_46 rfl ?_
  refine jj_new C jcs_5 q604 q605 q67 (by intro j hj; rcases (show j = 0 ∨ j = 1 ∨ j = 2 ∨ j = 3 by omega) with rfl | rfl | rfl | rfl <;> rfl) (by show k + 1 + 1 ≤ 4; omega) (by show n + 6 + 4 ≤ 144; omega) dX1_hit_47 hF (fun q47 M47 hF => ?_)
  refine jj_dup C dX1_hit_50 rfl ?_
  refine jj_iload_n C 1 rfl dX1_hit_51 rfl ?_
  refine jj_iload_n C 2 rfl dX1_hit_52 rfl ?_
  refine jj_iload_n C 3 rfl dX1_hit_53 rfl ?_
  refine jj_iload C 4 rfl dX1_hit_54 ?_
  obtain ⟨b56, hb56, hF⟩ := pSm_spec hF
  obtain ⟨r56, M56, hG, hF⟩ := pB_spec hF
  refine jj_callIN (k' := k + 1 + 1) (n' := n + 6 + 4) C [jI l1, jI l2, jI l3, jI l4] [jR (some q47), jR l0] hb56 (m_X7_init _ _ hG) q606 q607 q67 q608 rfl hd_X7_init rfl (Nat.le_of_ble_eq_true rfl) ⟨Nat.le_of_ble_eq_true rfl, Nat.le_of_ble_eq_true rfl⟩ ⟨by show k + 1 + 1 + 0 ≤ k + 1 + 1; omega, by show n + 6 + 4 + 0 ≤ n + 6 + 4; omega, by show k + 1 + 1 ≤ 4; omega, by show n + 6 + 4 ≤ 144; omega⟩ dX1_hit_56 ?_
  obtain ⟨b59, fs59, he59, hb59, hF⟩ := pO_spec hF
  rcases pX_spec2 hF with ⟨r59, M59, hG, hF⟩ | ⟨r59, M59, hG, hF⟩
  · cases hF
    exact jj_callVXx (k' := k + 1 + 1 + 2) (n' := n + 6 + 4 + 134) C hQ [jR (some q47)] [] he59 (m_X1_put _ _ hQ.2.2 hG) rfl rfl hb59 rfl q574 q576 qs8 q42 q577 ⟨rfl, hd_X1_put⟩ rfl (Nat.le_of_ble_eq_true rfl) ⟨Nat.le_of_ble_eq_true rfl, Nat.le_of_ble_eq_true rfl⟩ ⟨by show k + 1 + 1 + 2 ≤ k + 1 + 1 + 2; omega, by show n + 6 + 4 + 134 ≤ n + 6 + 4 + 134; omega, by show k + 1 + 1 + 2 ≤ 4; omega, by show n + 6 + 4 + 134 ≤ 144; omega⟩ dX1_hit_59
  refine jj_callVX (k' := k + 1 + 1 + 2) (n' := n + 6 + 4 + 134) C [jR (some q47)] [] [jI r59] he59 (m_X1_put _ _ hQ.2.2 hG) rfl hb59 rfl q574 q576 qs8 q42 q577 ⟨rfl, hd_X1_put⟩ rfl (Nat.le_of_ble_eq_true rfl) ⟨Nat.le_of_ble_eq_true rfl, Nat.le_of_ble_eq_true rfl⟩ ⟨by show k + 1 + 1 + 2 ≤ k + 1 + 1 + 2; omega, by show n + 6 + 4 + 134 ≤ n + 6 + 4 + 134; omega, by show k + 1 + 1 + 2 ≤ 4; omega, by show n + 6 + 4 + 134 ≤ 144; omega⟩ dX1_hit_59 rfl ?_
  exact jj_iretX C hQ dX1_hit_62 hF (by show k + 1 + 1 + 2 ≤ 4; omega) (by show n + 6 + 4 + 134 ≤ 144; omega)
def f_X1_hit_b42 (l0 : Option Nat) (l1 : Int32) (l2 : Int32) (l3 : Int32) (l4 : Int32) (M : jW) : Option ((Int32 ⊕ Nat) × jW) := f_X1_hit_b43 l0 l1 l2 l3 l4 (0 : Int32) M
set_option maxHeartbeats 4000000 in
theorem w_X1_hit_b42 {x : jX} (C : jOk x cX1_hit RX1 rm_X1_hit (some .int)) (hxn : xn x = 5) {v0 : (Int32 ⊕ Nat)} {M0 : jW} (hQ : jEndX x rm_X1_hit (jri v0) M0) {l0 : Option Nat} {l1 : Int32} {l2 : Int32} {l3 : Int32} {l4 : Int32} {M : jW} {k n : Nat} (hk : k + 4 ≤ 4 ∧ n + 144 ≤ 144) (hF : f_X1_hit_b42 l0 l1 l2 l3 l4 M = some (v0, M0)) : jJ x 42 [(0, jR l0), (1, jI l1), (2, jI l2), (3, jI l3), (4, jI l4)] [] M k n := by
  unfold f_X1_hit_b42 at hF
  refine jj_iconst (v := 0) C dX1_hit_42 (by decide) ?_
  refine jj_sub [0, 1, 2, 3, 4] rfl ?_
  exact w_X1_hit_b43 C hxn hQ (by omega) hF
def f_X1_hit (a0 : Option Nat) (a1 : Int32) (a2 : Int32) (a3 : Int32) (a4 : Int32) (M : jW) : Option ((Int32 ⊕ Nat) × jW) := pB (f_X1_isSide a1 M) fun r1 M1 =>
  if r1 = 0 then (f_X1_hit_b42 a0 a1 a2 a3 a4 M1)
  else (pB (f_X1_inRange a2 (0 : Int32) (1000000 : Int32) M1) fun r11 M11 =>
  if r11 = 0 then (f_X1_hit_b42 a0 a1 a2 a3 a4 M11)
  else (pB (f_X1_inRange a3 (0 : Int32) (1000 : Int32) M11) fun r22 M22 =>
  if r22 = 0 then (f_X1_hit_b42 a0 a1 a2 a3 a4 M22)
  else (pB (f_X1_inRange a4 (0 : Int32) (2 : Int32) M22) fun r32 M32 =>
  if r32 = 0 then (f_X1_hit_b42 a0 a1 a2 a3 a4 M32)
  else (f_X1_hit_b43 a0 a1 a2 a3 a4 (1 : Int32) M32))))
set_option maxHeartbeats 4000000 in
theorem m_X1_hit (l : Launch) (g : jG) (hfl : l.stackTraces = false) {a0 : Option Nat} {a1 : Int32} {a2 : Int32} {a3 : Int32} {a4 : Int32} {M M0 : jW} {v0 : (Int32 ⊕ Nat)} (hF : f_X1_hit a0 a1 a2 a3 a4 M = some (v0, M0)) : jMetX l g yX1_hit cX1_hit 5 (some .int) rm_X1_hit [jR a0, jI a1, jI a2, jI a3, jI a4] M (jri v0) M0 := by
  refine jMetX.of (L := [(0, jR a0), (1, jI a1), (2, jI a2), (3, jI a3), (4, jI a4)]) hfl (by decide) rfl (Nat.le_of_ble_eq_true rfl) (fun x C hxn hg hl hQ => ?_)
  subst hg
  unfold f_X1_hit at hF
  refine jj_iload_n C 1 rfl dX1_hit_0 rfl ?_
  obtain ⟨r1, M1, hG, hF⟩ := pB_spec hF
  refine jj_callS (k' := 0) (n' := 0) C [jI a1] [] [jI r1] (m_X1_isSide _ _ hG) q552 q553 q42 q554 hd_X1_isSide rfl (Nat.le_of_ble_eq_true rfl) ⟨Nat.le_of_ble_eq_true rfl, Nat.le_of_ble_eq_true rfl⟩ ⟨by show 0 + 0 ≤ 0; omega, by show 0 + 0 ≤ 0; omega, by show 0 ≤ 4; omega, by show 0 ≤ 144; omega⟩ dX1_hit_1 rfl ?_
  refine jj_if_eq (tgt := 42) C dX1_hit_4 (by decide) hF (fun hF => ?_) (fun hF => ?_)
  · refine jj_sub [0, 1, 2, 3, 4] rfl ?_
    exact w_X1_hit_b42 C hxn hQ (by omega) hF
  · refine jj_iload_n C 2 rfl dX1_hit_7 rfl ?_
    refine jj_iconst (v := 0) C dX1_hit_8 (by decide) ?_
    refine jj_ldc (v := 1000000) C q555 dX1_hit_9 ?_
    obtain ⟨r11, M11, hG, hF⟩ := pB_spec hF
    refine jj_callS (k' := 0) (n' := 0) C [jI a2, jI (0 : Int32), jI (1000000 : Int32)] [] [jI r11] (m_X1_inRange _ _ hG) q425 q426 q42 q427 hd_X1_inRange rfl (Nat.le_of_ble_eq_true rfl) ⟨Nat.le_of_ble_eq_true rfl, Nat.le_of_ble_eq_true rfl⟩ ⟨by show 0 + 0 ≤ 0; omega, by show 0 + 0 ≤ 0; omega, by show 0 ≤ 4; omega, by show 0 ≤ 144; omega⟩ dX1_hit_11 rfl ?_
    refine jj_if_eq (tgt := 42) C dX1_hit_14 (by decide) hF (fun hF => ?_) (fun hF => ?_)
    · refine jj_sub [0, 1, 2, 3, 4] rfl ?_
      exact w_X1_hit_b42 C hxn hQ (by omega) hF
    · refine jj_iload_n C 3 rfl dX1_hit_17 rfl ?_
      refine jj_iconst (v := 0) C dX1_hit_18 (by decide) ?_
      refine jj_sipush (v := 1000) C dX1_hit_19 (by decide) ?_
      obtain ⟨r22, M22, hG, hF⟩ := pB_spec hF
      refine jj_callS (k' := 0) (n' := 0) C [jI a3, jI (0 : Int32), jI (1000 : Int32)] [] [jI r22] (m_X1_inRange _ _ hG) q425 q426 q42 q427 hd_X1_inRange rfl (Nat.le_of_ble_eq_true rfl) ⟨Nat.le_of_ble_eq_true rfl, Nat.le_of_ble_eq_true rfl⟩ ⟨by show 0 + 0 ≤ 0; omega, by show 0 + 0 ≤ 0; omega, by show 0 ≤ 4; omega, by show 0 ≤ 144; omega⟩ dX1_hit_22 rfl ?_
      refine jj_if_eq (tgt := 42) C dX1_hit_25 (by decide) hF (fun hF => ?_) (fun hF => ?_)
      · refine jj_sub [0, 1, 2, 3, 4] rfl ?_
        exact w_X1_hit_b42 C hxn hQ (by omega) hF
      · refine jj_iload C 4 rfl dX1_hit_28 ?_
        refine jj_iconst (v := 0) C dX1_hit_30 (by decide) ?_
        refine jj_iconst (v := 2) C dX1_hit_31 (by decide) ?_
        obtain ⟨r32, M32, hG, hF⟩ := pB_spec hF
        refine jj_callS (k' := 0) (n' := 0) C [jI a4, jI (0 : Int32), jI (2 : Int32)] [] [jI r32] (m_X1_inRange _ _ hG) q425 q426 q42 q427 hd_X1_inRange rfl (Nat.le_of_ble_eq_true rfl) ⟨Nat.le_of_ble_eq_true rfl, Nat.le_of_ble_eq_true rfl⟩ ⟨by show 0 + 0 ≤ 0; omega, by show 0 + 0 ≤ 0; omega, by show 0 ≤ 4; omega, by show 0 ≤ 144; omega⟩ dX1_hit_32 rfl ?_
        refine jj_if_eq (tgt := 42) C dX1_hit_35 (by decide) hF (fun hF => ?_) (fun hF => ?_)
        · refine jj_sub [0, 1, 2, 3, 4] rfl ?_
          exact w_X1_hit_b42 C hxn hQ (by omega) hF
        · refine jj_iconst (v := 1) C dX1_hit_38 (by decide) ?_
          refine jj_goto (tgt := 43) C dX1_hit_39 (by decide) ?_
          refine jj_sub [0, 1, 2, 3, 4] rfl ?_
          exact w_X1_hit_b43 C hxn hQ (by omega) hF
