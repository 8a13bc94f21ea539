/-! Pool, Bout, Phrasehall (printed by gen) -/
set_option maxRecDepth 100000
/-! Phrasehall.seed(I)V -/
def rm_X1_seed : Room := ({ frames := 7, cells := 1, slots := 6, locals := 148 } : Room)
theorem hd_X1_seed : yX1_seed.cls ≠ "java/lang/invoke/MethodHandle" ∧ yX1_seed.cls ≠ "java/lang/invoke/VarHandle" ∧ (parseMethodDescriptor yX1_seed.desc).map (fun d => d.parameters.length) = some 1 := ⟨by decide, by decide, by decide +kernel⟩
def f_X1_seed_b9 (l0 : Option Nat) (l1 : Int32) (s0 : Int32) (M : jW) : Option ((Unit ⊕ Nat) × jW) := pX (f_X1_requireArgument s0 M) fun _ M9 =>
  pP M9 l0 0 6 (jL l1.toInt64) fun M15 =>
  some (.inl (), M15)
set_option maxHeartbeats 4000000 in
theorem w_X1_seed_b9 {x : jX} (C : jOk x cX1_seed RX1 rm_X1_seed none) (hxn : xn x = 2) {v0 : (Unit ⊕ Nat)} {M0 : jW} (hQ : jEndX x rm_X1_seed (jru v0) M0) {l0 : Option Nat} {l1 : Int32} {s0 : Int32} {M : jW} {k n : Nat} (hk : k + 1 ≤ 1 ∧ n + 6 ≤ 6) (hF : f_X1_seed_b9 l0 l1 s0 M = some (v0, M0)) : jJ x 9 [(0, jR l0), (1, jI l1)] [jI s0] M k n := by
  unfold f_X1_seed_b9 at hF
  rcases pX_spec2 hF with ⟨r9, M9, hG, hF⟩ | ⟨r9, M9, hG, hF⟩
  · cases hF
    exact jj_callSXx (k' := k + 1) (n' := n + 6) C hQ [jI s0] [] (m_X1_requireArgument _ _ hQ.2.2 hG) rfl rfl q451 q452 q42 q453 hd_X1_requireArgument rfl (Nat.le_of_ble_eq_true rfl) ⟨Nat.le_of_ble_eq_true rfl, Nat.le_of_ble_eq_true rfl⟩ ⟨by show k + 1 ≤ k + 1; omega, by show n + 6 ≤ n + 6; omega, by show k + 1 ≤ 1; omega, by show n + 6 ≤ 6; omega⟩ dX1_seed_9
  refine jj_callSX (k' := k + 1) (n' := n + 6) C [jI s0] [] [] (m_X1_requireArgument _ _ hQ.2.2 hG) rfl q451 q452 q42 q453 hd_X1_requireArgument rfl (Nat.le_of_ble_eq_true rfl) ⟨Nat.le_of_ble_eq_true rfl, Nat.le_of_ble_eq_true rfl⟩ ⟨by show k + 1 ≤ k + 1; omega, by show n + 6 ≤ n + 6; omega, by show k + 1 ≤ 1; omega, by show n + 6 ≤ 6; omega⟩ dX1_seed_9 rfl ?_
  refine jj_aload_n C 0 rfl dX1_seed_12 rfl ?_
  refine jj_iload_n C 1 rfl dX1_seed_13 rfl ?_
  refine jj_i2l C dX1_seed_14 ?_
  refine jj_pP (f := 6) C jcs_0 (Nat.le_of_ble_eq_true rfl) (jLk.of C q124 rfl) (Or.inl rfl) dX1_seed_15 (jfit_l _) hF (fun M15 hF => ?_)
  exact jj_vretX C hQ dX1_seed_18 hF (by show k + 1 ≤ 1; omega) (by show n + 6 ≤ 6; omega)
def f_X1_seed (a0 : Option Nat) (a1 : Int32) (M : jW) : Option ((Unit ⊕ Nat) × jW) := if a1 < 0 then (f_X1_seed_b9 a0 a1 (0 : Int32) M)
  else (f_X1_seed_b9 a0 a1 (1 : Int32) M)
set_option maxHeartbeats 4000000 in
theorem m_X1_seed (l : Launch) (g : jG) (hfl : l.stackTraces = false) {a0 : Option Nat} {a1 : Int32} {M M0 : jW} {v0 : (Unit ⊕ Nat)} (hF : f_X1_seed a0 a1 M = some (v0, M0)) : jMetX l g yX1_seed cX1_seed 2 none rm_X1_seed [jR a0, jI a1] M (jru v0) M0 := by
  refine jMetX.of (L := [(0, jR a0), (1, jI a1)]) hfl (by decide) rfl (Nat.le_of_ble_eq_true rfl) (fun x C hxn hg hl hQ => ?_)
  subst hg
  unfold f_X1_seed at hF
  refine jj_iload_n C 1 rfl dX1_seed_0 rfl ?_
  refine jj_if_lt (tgt := 8) C dX1_seed_1 (by decide) hF (fun hF => ?_) (fun hF => ?_)
  · refine jj_iconst (v := 0) C dX1_seed_8 (by decide) ?_
    refine jj_sub [0, 1] rfl ?_
    exact w_X1_seed_b9 C hxn hQ (by omega) hF
  · refine jj_iconst (v := 1) C dX1_seed_4 (by decide) ?_
    refine jj_goto (tgt := 9) C dX1_seed_5 (by decide) ?_
    refine jj_sub [0, 1] rfl ?_
    exact w_X1_seed_b9 C hxn hQ (by omega) hF
/-! Phrasehall$Pool.<init>(I)V -/
def rm_X9_init : Room := ({ frames := 2, cells := 14, slots := 77, locals := 84 } : Room)
theorem hd_X9_init : yX9_init.cls ≠ "java/lang/invoke/MethodHandle" ∧ yX9_init.cls ≠ "java/lang/invoke/VarHandle" ∧ (parseMethodDescriptor yX9_init.desc).map (fun d => d.parameters.length) = some 1 := ⟨by decide, by decide, by decide +kernel⟩
def f_X9_init_b20 : Nat → Option Nat → Int32 → jW → Option (Unit × jW)
  | 0, _, _, _ => none
  | q + 1, l0, l2, M => if (12 : Int32) ≤ l2 then (some ((), M))
  else (pR M l0 7 1 fun v27 =>
  pN M 8 [.int 0, .int 0, .int 0, .int 0, .int 0] fun q31 M31 =>
  pSm (some q31) fun b35 => pB (f_X10_init (some b35)  M31) fun _ M35 =>
  pSR M35 v27 5 l2 (some q31) fun M38 =>
  (f_X9_init_b20 q) l0 (l2 + (1 : Int32)) M38)
theorem f_X9_init_b20_s (q : Nat) (l0 : Option Nat) (l2 : Int32) (M : jW) : f_X9_init_b20 (q + 1) l0 l2 M = (if (12 : Int32) ≤ l2 then (some ((), M))
  else (pR M l0 7 1 fun v27 =>
  pN M 8 [.int 0, .int 0, .int 0, .int 0, .int 0] fun q31 M31 =>
  pSm (some q31) fun b35 => pB (f_X10_init (some b35)  M31) fun _ M35 =>
  pSR M35 v27 5 l2 (some q31) fun M38 =>
  (f_X9_init_b20 q) l0 (l2 + (1 : Int32)) M38)) := rfl
set_option maxHeartbeats 4000000 in
theorem w_X9_init_b20 {x : jX} (C : jOk x cX9_init RX9 rm_X9_init none) (hxn : xn x = 3) (hin : (xM x).name = "<init>") {v0 : Unit} {M0 : jW} (hQ : jEnd x rm_X9_init none M0) : ∀ (n20 : Nat) (l0 : Option Nat) (l2 : Int32) (M : jW) (k n : Nat), k + n20 * 1 ≤ 14 ∧ n + n20 * 5 ≤ 77 → f_X9_init_b20 n20 l0 l2 M = some (v0, M0) → jJ x 20 [(0, jR l0), (2, jI l2)] [] M k n := by
  intro n20
  induction n20 with
  | zero =>
    intro l0 l2 M k n hk hF
    cases hF
  | succ n20 hK20 =>
    intro l0 l2 M k n hk hF
    rw [f_X9_init_b20_s] at hF
    refine jj_iload_n C 1 rfl dX9_init_20 rfl ?_
    refine jj_bipush (v := 12) C dX9_init_21 (by decide) ?_
    refine jj_icmp_ge (tgt := 45) C dX9_init_23 (by decide) hF (fun hF => ?_) (fun hF => ?_)
    · exact jj_vret C hQ dX9_init_45 hF (by show k ≤ 14; omega) (by show n ≤ 77; omega)
    · refine jj_aload_n C 0 rfl dX9_init_26 rfl ?_
      refine jj_pR (f := 1) C jcs_7 (Nat.le_of_ble_eq_true rfl) (jLk.of C q802 rfl) dX9_init_27 hF (fun v27 hF => ?_)
      refine jj_iload_n C 1 rfl dX9_init_30 rfl ?_
      refine jj_new C jcs_8 q773 q775 q72 (by intro j hj; rcases (show j = 0 ∨ j = 1 ∨ j = 2 ∨ j = 3 ∨ j = 4 by omega) with rfl | rfl | rfl | rfl | rfl <;> rfl) (by show k + 1 ≤ 14; omega) (by show n + 5 ≤ 77; omega) dX9_init_31 hF (fun q31 M31 hF => ?_)
      refine jj_dup C dX9_init_34 rfl ?_
      obtain ⟨b35, hb35, hF⟩ := pSm_spec hF
      obtain ⟨r35, M35, hG, hF⟩ := pB_spec hF
      refine jj_callIN (k' := k + 1) (n' := n + 5) C [] [jR (some q31), jI l2, jR v27] hb35 (m_X10_init _ _ hG) q776 q777 q72 q778 rfl hd_X10_init rfl (Nat.le_of_ble_eq_true rfl) ⟨Nat.le_of_ble_eq_true rfl, Nat.le_of_ble_eq_true rfl⟩ ⟨by show k + 1 + 0 ≤ k + 1; omega, by show n + 5 + 0 ≤ n + 5; omega, by show k + 1 ≤ 14; omega, by show n + 5 ≤ 77; omega⟩ dX9_init_35 ?_
      refine jj_aast (t := 5) C rfl (by decide) dX9_init_38 hF (fun M38 hF => ?_)
      refine jj_iinc (c := 1) (L' := [(2, jI (l2 + (1 : Int32))), (0, jR l0)]) C 1 rfl (by decide) rfl (by rw [hxn]; decide) dX9_init_39 ?_
      refine jj_goto (tgt := 20) C dX9_init_42 (by decide) ?_
      refine jj_sub [1, 0] rfl ?_
      exact hK20 _ _ _ _ _ (by omega) hF
def f_X9_init (a0 : Option Nat) (a1 : Int32) (M : jW) : Option (Unit × jW) := pSm a0 fun b1 =>
  pNA M 5 12 (12 : Int32) fun q7 M7 =>
  pP M7 a0 7 1 (jR (some q7)) fun M10 =>
  pP M10 a0 7 0 (jI a1) fun M15 =>
  f_X9_init_b20 13 a0 (0 : Int32) M15
set_option maxHeartbeats 4000000 in
theorem m_X9_init (l : Launch) (g : jG) {a0 : Option Nat} {a1 : Int32} {M M0 : jW} {v0 : Unit} (hF : f_X9_init a0 a1 M = some (v0, M0)) : jMet l g yX9_init cX9_init 3 none rm_X9_init [jR a0, jI a1] M none M0 := by
  refine jMet.of (L := [(0, jR a0), (1, jI a1)]) (by decide) rfl (Nat.le_of_ble_eq_true rfl) (fun x C hxn hg hl hQ hin => ?_)
  have hin := hin rfl
  subst hg
  unfold f_X9_init at hF
  refine jj_aload_n C 0 rfl dX9_init_0 rfl ?_
  obtain ⟨b1, hb1, hF⟩ := pSm_spec hF
  refine jj_objInit C ⟨_, hb1⟩ q772 q85 q86 ⟨Nat.le_of_ble_eq_true rfl, Nat.le_of_ble_eq_true rfl⟩ dX9_init_1 ?_
  refine jj_aload_n C 0 rfl dX9_init_4 rfl ?_
  refine jj_bipush (v := 12) C dX9_init_5 (by decide) ?_
  refine jj_anew (t := 5) (nb := 12) C (by decide) rfl q773 C.kk.2.2.1.2.2 (by decide) (by show 0 + 1 ≤ 14; omega) (by show 0 + 12 ≤ 77; omega) dX9_init_7 hF (fun q7 M7 hF => ?_)
  refine jj_pP (f := 1) C jcs_7 (Nat.le_of_ble_eq_true rfl) (jLk.of C q802 rfl) (Or.inr ⟨rfl, hin, rfl⟩) dX9_init_10 (jfit_a _ _) hF (fun M10 hF => ?_)
  refine jj_aload_n C 0 rfl dX9_init_13 rfl ?_
  refine jj_iload_n C 1 rfl dX9_init_14 rfl ?_
  refine jj_pP (f := 0) C jcs_7 (Nat.le_of_ble_eq_true rfl) (jLk.of C q801 rfl) (Or.inr ⟨rfl, hin, rfl⟩) dX9_init_15 (jfit_i _) hF (fun M15 hF => ?_)
  refine jj_iconst (v := 0) C dX9_init_18 (by decide) ?_
  refine jj_istore_n (L' := [(2, jI (0 : Int32)), (0, jR a0), (1, jI a1)]) C rfl (by rw [hxn]; decide) dX9_init_19 rfl ?_
  refine jj_sub [1, 0] rfl ?_
  exact w_X9_init_b20 C hxn hin hQ 13 _ _ _ _ _ (by omega) hF
/-! Phrasehall.pool(I)I -/
def rm_X1_pool : Room := ({ frames := 7, cells := 18, slots := 219, locals := 195 } : Room)
theorem hd_X1_pool : yX1_pool.cls ≠ "java/lang/invoke/MethodHandle" ∧ yX1_pool.cls ≠ "java/lang/invoke/VarHandle" ∧ (parseMethodDescriptor yX1_pool.desc).map (fun d => d.parameters.length) = some 1 := ⟨by decide, by decide, by decide +kernel⟩
def f_X1_pool_b52 (l0 : Option Nat) (l1 : Int32) (s0 : Int32) (M : jW) : Option ((Int32 ⊕ Nat) × jW) := pX (f_X1_requireState s0 M) fun _ M52 =>
  pR M52 l0 0 2 fun v56 =>
  pN M52 7 [.int 0, .null] fun q59 M59 =>
  pSm (some q59) fun b64 => pB (f_X9_init (some b64) l1 M59) fun _ M64 =>
  pO M64 v56 9 fun b67 _ => pB (f_J2_add (some b67) (some q59) M64) fun r67 M67 =>
  pR M67 l0 0 2 fun v72 =>
  pO M67 v72 9 fun b75 _ => pB (f_J2_size (some b75)  M67) fun r75 M75 =>
  some (.inl (r75 - (1 : Int32)), M75)
set_option maxHeartbeats 4000000 in
theorem w_X1_pool_b52 {x : jX} (C : jOk x cX1_pool RX1 rm_X1_pool (some .int)) (hxn : xn x = 2) {v0 : (Int32 ⊕ Nat)} {M0 : jW} (hQ : jEndX x rm_X1_pool (jri v0) M0) {l0 : Option Nat} {l1 : Int32} {s0 : Int32} {M : jW} {k n : Nat} (hk : k + 17 ≤ 18 ∧ n + 213 ≤ 219) (hF : f_X1_pool_b52 l0 l1 s0 M = some (v0, M0)) : jJ x 52 [(0, jR l0), (1, jI l1)] [jI s0] M k n := by
  unfold f_X1_pool_b52 at hF
  rcases pX_spec2 hF with ⟨r52, M52, hG, hF⟩ | ⟨r52, M52, hG, hF⟩
  · cases hF
    exact jj_callSXx (k' := k + 1) (n' := n + 6) C hQ [jI s0] [] (m_X1_requireState _ _ hQ.2.2 hG) rfl rfl q233 q234 q42 q235 hd_X1_requireState rfl (Nat.le_of_ble_eq_true rfl) ⟨Nat.le_of_ble_eq_true rfl, Nat.le_of_ble_eq_true rfl⟩ ⟨by show k + 1 ≤ k + 1; omega, by show n + 6 ≤ n + 6; omega, by show k + 1 ≤ 18; omega, by show n + 6 ≤ 219; omega⟩ dX1_pool_52
  refine jj_callSX (k' := k + 1) (n' := n + 6) C [jI s0] [] [] (m_X1_requireState _ _ hQ.2.2 hG) rfl q233 q234 q42 q235 hd_X1_requireState rfl (Nat.le_of_ble_eq_true rfl) ⟨Nat.le_of_ble_eq_true rfl, Nat.le_of_ble_eq_true rfl⟩ ⟨by show k + 1 ≤ k + 1; omega, by show n + 6 ≤ n + 6; omega, by show k + 1 ≤ 18; omega, by show n + 6 ≤ 219; omega⟩ dX1_pool_52 rfl ?_
  refine jj_aload_n C 0 rfl dX1_pool_55 rfl ?_
  refine jj_pR (f := 2) C jcs_0 (Nat.le_of_ble_eq_true rfl) (jLk.of C q118 rfl) dX1_pool_56 hF (fun v56 hF => ?_)
  refine jj_new C jcs_7 q446 q768 q71 (by intro j hj; rcases (show j = 0 ∨ j = 1 by omega) with rfl | rfl <;> rfl) (by show k + 1 + 1 ≤ 18; omega) (by show n + 6 + 2 ≤ 219; omega) dX1_pool_59 hF (fun q59 M59 hF => ?_)
  refine jj_dup C dX1_pool_62 rfl ?_
  refine jj_iload_n C 1 rfl dX1_pool_63 rfl ?_
  obtain ⟨b64, hb64, hF⟩ := pSm_spec hF
  obtain ⟨r64, M64, hG, hF⟩ := pB_spec hF
  refine jj_callI (k' := k + 1 + 1 + 14) (n' := n + 6 + 2 + 77) C [jI l1] [jR (some q59), jR v56] hb64 (m_X9_init _ _ hG) q769 q770 q71 q771 rfl hd_X9_init rfl (Nat.le_of_ble_eq_true rfl) ⟨Nat.le_of_ble_eq_true rfl, Nat.le_of_ble_eq_true rfl⟩ ⟨by show k + 1 + 1 + 14 ≤ k + 1 + 1 + 14; omega, by show n + 6 + 2 + 77 ≤ n + 6 + 2 + 77; omega, by show k + 1 + 1 + 14 ≤ 18; omega, by show n + 6 + 2 + 77 ≤ 219; omega⟩ dX1_pool_64 ?_
  obtain ⟨b67, fs67, he67, hb67, hF⟩ := pO_spec hF
  obtain ⟨r67, M67, hG, hF⟩ := pB_spec hF
  refine jj_callV (k' := k + 1 + 1 + 14 + 1) (n' := n + 6 + 2 + 77 + 128) C [jR (some q59)] [] [jI r67] he67 (m_J2_add _ _ hG) hb67 rfl q314 q315 q316 q45 q317 ⟨rfl, hd_J2_add⟩ rfl (Nat.le_of_ble_eq_true rfl) ⟨Nat.le_of_ble_eq_true rfl, Nat.le_of_ble_eq_true rfl⟩ ⟨by show k + 1 + 1 + 14 + 1 ≤ k + 1 + 1 + 14 + 1; omega, by show n + 6 + 2 + 77 + 128 ≤ n + 6 + 2 + 77 + 128; omega, by show k + 1 + 1 + 14 + 1 ≤ 18; omega, by show n + 6 + 2 + 77 + 128 ≤ 219; omega⟩ dX1_pool_67 rfl ?_
  refine jj_pop C dX1_pool_70 rfl ?_
  refine jj_aload_n C 0 rfl dX1_pool_71 rfl ?_
  refine jj_pR (f := 2) C jcs_0 (Nat.le_of_ble_eq_true rfl) (jLk.of C q118 rfl) dX1_pool_72 hF (fun v72 hF => ?_)
  obtain ⟨b75, fs75, he75, hb75, hF⟩ := pO_spec hF
  obtain ⟨r75, M75, hG, hF⟩ := pB_spec hF
  refine jj_callV (k' := k + 1 + 1 + 14 + 1) (n' := n + 6 + 2 + 77 + 128) C [] [] [jI r75] he75 (m_J2_size _ _ hG) hb75 rfl q147 q148 q149 q45 q150 ⟨rfl, hd_J2_size⟩ rfl (Nat.le_of_ble_eq_true rfl) ⟨Nat.le_of_ble_eq_true rfl, Nat.le_of_ble_eq_true rfl⟩ ⟨by show k + 1 + 1 + 14 + 1 + 0 ≤ k + 1 + 1 + 14 + 1; omega, by show n + 6 + 2 + 77 + 128 + 0 ≤ n + 6 + 2 + 77 + 128; omega, by show k + 1 + 1 + 14 + 1 ≤ 18; omega, by show n + 6 + 2 + 77 + 128 ≤ 219; omega⟩ dX1_pool_75 rfl ?_
  refine jj_iconst (v := 1) C dX1_pool_78 (by decide) ?_
  refine jj_isub C dX1_pool_79 ?_
  exact jj_iretX C hQ dX1_pool_80 hF (by show k + 1 + 1 + 14 + 1 ≤ 18; omega) (by show n + 6 + 2 + 77 + 128 ≤ 219; omega)
def f_X1_pool_b32 (l0 : Option Nat) (l1 : Int32) (s0 : Int32) (M : jW) : Option ((Int32 ⊕ Nat) × jW) := pX (f_X1_requireArgument s0 M) fun _ M32 =>
  pR M32 l0 0 2 fun v36 =>
  pO M32 v36 9 fun b39 _ => pB (f_J2_size (some b39)  M32) fun r39 M39 =>
  if (6 : Int32) ≤ r39 then (f_X1_pool_b52 l0 l1 (0 : Int32) M39)
  else (f_X1_pool_b52 l0 l1 (1 : Int32) M39)
set_option maxHeartbeats 4000000 in
theorem w_X1_pool_b32 {x : jX} (C : jOk x cX1_pool RX1 rm_X1_pool (some .int)) (hxn : xn x = 2) {v0 : (Int32 ⊕ Nat)} {M0 : jW} (hQ : jEndX x rm_X1_pool (jri v0) M0) {l0 : Option Nat} {l1 : Int32} {s0 : Int32} {M : jW} {k n : Nat} (hk : k + 18 ≤ 18 ∧ n + 219 ≤ 219) (hF : f_X1_pool_b32 l0 l1 s0 M = some (v0, M0)) : jJ x 32 [(0, jR l0), (1, jI l1)] [jI s0] M k n := by
  unfold f_X1_pool_b32 at hF
  rcases pX_spec2 hF with ⟨r32, M32, hG, hF⟩ | ⟨r32, M32, hG, hF⟩
  · cases hF
    exact jj_callSXx (k' := k + 1) (n' := n + 6) C hQ [jI s0] [] (m_X1_requireArgument _ _ hQ.2.2 hG) rfl rfl q451 q452 q42 q453 hd_X1_requireArgument rfl (Nat.le_of_ble_eq_true rfl) ⟨Nat.le_of_ble_eq_true rfl, Nat.le_of_ble_eq_true rfl⟩ ⟨by show k + 1 ≤ k + 1; omega, by show n + 6 ≤ n + 6; omega, by show k + 1 ≤ 18; omega, by show n + 6 ≤ 219; omega⟩ dX1_pool_32
  refine jj_callSX (k' := k + 1) (n' := n + 6) C [jI s0] [] [] (m_X1_requireArgument _ _ hQ.2.2 hG) rfl q451 q452 q42 q453 hd_X1_requireArgument rfl (Nat.le_of_ble_eq_true rfl) ⟨Nat.le_of_ble_eq_true rfl, Nat.le_of_ble_eq_true rfl⟩ ⟨by show k + 1 ≤ k + 1; omega, by show n + 6 ≤ n + 6; omega, by show k + 1 ≤ 18; omega, by show n + 6 ≤ 219; omega⟩ dX1_pool_32 rfl ?_
  refine jj_aload_n C 0 rfl dX1_pool_35 rfl ?_
  refine jj_pR (f := 2) C jcs_0 (Nat.le_of_ble_eq_true rfl) (jLk.of C q118 rfl) dX1_pool_36 hF (fun v36 hF => ?_)
  obtain ⟨b39, fs39, he39, hb39, hF⟩ := pO_spec hF
  obtain ⟨r39, M39, hG, hF⟩ := pB_spec hF
  refine jj_callV (k' := k + 1) (n' := n + 6) C [] [] [jI r39] he39 (m_J2_size _ _ hG) hb39 rfl q147 q148 q149 q45 q150 ⟨rfl, hd_J2_size⟩ rfl (Nat.le_of_ble_eq_true rfl) ⟨Nat.le_of_ble_eq_true rfl, Nat.le_of_ble_eq_true rfl⟩ ⟨by show k + 1 + 0 ≤ k + 1; omega, by show n + 6 + 0 ≤ n + 6; omega, by show k + 1 ≤ 18; omega, by show n + 6 ≤ 219; omega⟩ dX1_pool_39 rfl ?_
  refine jj_bipush (v := 6) C dX1_pool_42 (by decide) ?_
  refine jj_icmp_ge (tgt := 51) C dX1_pool_44 (by decide) hF (fun hF => ?_) (fun hF => ?_)
  · refine jj_iconst (v := 0) C dX1_pool_51 (by decide) ?_
    refine jj_sub [0, 1] rfl ?_
    exact w_X1_pool_b52 C hxn hQ (by omega) hF
  · refine jj_iconst (v := 1) C dX1_pool_47 (by decide) ?_
    refine jj_goto (tgt := 52) C dX1_pool_48 (by decide) ?_
    refine jj_sub [0, 1] rfl ?_
    exact w_X1_pool_b52 C hxn hQ (by omega) hF
def f_X1_pool_b31 (l0 : Option Nat) (l1 : Int32) (M : jW) : Option ((Int32 ⊕ Nat) × jW) := f_X1_pool_b32 l0 l1 (0 : Int32) M
set_option maxHeartbeats 4000000 in
theorem w_X1_pool_b31 {x : jX} (C : jOk x cX1_pool RX1 rm_X1_pool (some .int)) (hxn : xn x = 2) {v0 : (Int32 ⊕ Nat)} {M0 : jW} (hQ : jEndX x rm_X1_pool (jri v0) M0) {l0 : Option Nat} {l1 : Int32} {M : jW} {k n : Nat} (hk : k + 18 ≤ 18 ∧ n + 219 ≤ 219) (hF : f_X1_pool_b31 l0 l1 M = some (v0, M0)) : jJ x 31 [(0, jR l0), (1, jI l1)] [] M k n := by
  unfold f_X1_pool_b31 at hF
  refine jj_iconst (v := 0) C dX1_pool_31 (by decide) ?_
  refine jj_sub [0, 1] rfl ?_
  exact w_X1_pool_b32 C hxn hQ (by omega) hF
def f_X1_pool (a0 : Option Nat) (a1 : Int32) (M : jW) : Option ((Int32 ⊕ Nat) × jW) := pR M a0 0 0 fun v4 =>
  pO M v4 9 fun b7 _ => pB (f_J2_size (some b7)  M) fun r7 M7 =>
  pB (f_X1_inRange a1 (0 : Int32) (((1 : Int32) <<< (r7 &&& 31)) - (1 : Int32)) M7) fun r13 M13 =>
  if r13 = 0 then (f_X1_pool_b31 a0 a1 M13)
  else (pB (f_J18_bitCount a1 M13) fun r20 M20 =>
  if r20 < (2 : Int32) then (f_X1_pool_b31 a0 a1 M20)
  else (f_X1_pool_b32 a0 a1 (1 : Int32) M20))
set_option maxHeartbeats 4000000 in
theorem m_X1_pool (l : Launch) (g : jG) (hfl : l.stackTraces = false) {a0 : Option Nat} {a1 : Int32} {M M0 : jW} {v0 : (Int32 ⊕ Nat)} (hF : f_X1_pool a0 a1 M = some (v0, M0)) : jMetX l g yX1_pool cX1_pool 2 (some .int) rm_X1_pool [jR a0, jI a1] M (jri v0) M0 := by
  refine jMetX.of (L := [(0, jR a0), (1, jI a1)]) hfl (by decide) rfl (Nat.le_of_ble_eq_true rfl) (fun x C hxn hg hl hQ => ?_)
  subst hg
  unfold f_X1_pool at hF
  refine jj_iload_n C 1 rfl dX1_pool_0 rfl ?_
  refine jj_iconst (v := 0) C dX1_pool_1 (by decide) ?_
  refine jj_iconst (v := 1) C dX1_pool_2 (by decide) ?_
  refine jj_aload_n C 0 rfl dX1_pool_3 rfl ?_
  refine jj_pR (f := 0) C jcs_0 (Nat.le_of_ble_eq_true rfl) (jLk.of C q116 rfl) dX1_pool_4 hF (fun v4 hF => ?_)
  obtain ⟨b7, fs7, he7, hb7, hF⟩ := pO_spec hF
  obtain ⟨r7, M7, hG, hF⟩ := pB_spec hF
  refine jj_callV (k' := 0) (n' := 0) C [] [jI (1 : Int32), jI (0 : Int32), jI a1] [jI r7, jI (1 : Int32), jI (0 : Int32), jI a1] he7 (m_J2_size _ _ hG) hb7 rfl q147 q148 q149 q45 q150 ⟨rfl, hd_J2_size⟩ rfl (Nat.le_of_ble_eq_true rfl) ⟨Nat.le_of_ble_eq_true rfl, Nat.le_of_ble_eq_true rfl⟩ ⟨by show 0 + 0 ≤ 0; omega, by show 0 + 0 ≤ 0; omega, by show 0 ≤ 18; omega, by show 0 ≤ 219; omega⟩ dX1_pool_7 rfl ?_
  refine jj_ishl C dX1_pool_10 ?_
  refine jj_iconst (v := 1) C dX1_pool_11 (by decide) ?_
  refine jj_isub C dX1_pool_12 ?_
  obtain ⟨r13, M13, hG, hF⟩ := pB_spec hF
  refine jj_callS (k' := 0) (n' := 0) C [jI a1, jI (0 : Int32), jI (((1 : Int32) <<< (r7 &&& 31)) - (1 : Int32))] [] [jI r13] (m_X1_inRange _ _ hG) q425 q426 q42 q427 hd_X1_inRange rfl (Nat.le_of_ble_eq_true rfl) ⟨Nat.le_of_ble_eq_true rfl, Nat.le_of_ble_eq_true rfl⟩ ⟨by show 0 + 0 ≤ 0; omega, by show 0 + 0 ≤ 0; omega, by show 0 ≤ 18; omega, by show 0 ≤ 219; omega⟩ dX1_pool_13 rfl ?_
  refine jj_if_eq (tgt := 31) C dX1_pool_16 (by decide) hF (fun hF => ?_) (fun hF => ?_)
  · refine jj_sub [0, 1] rfl ?_
    exact w_X1_pool_b31 C hxn hQ (by omega) hF
  · refine jj_iload_n C 1 rfl dX1_pool_19 rfl ?_
    obtain ⟨r20, M20, hG, hF⟩ := pB_spec hF
    refine jj_callS (k' := 0) (n' := 0) C [jI a1] [] [jI r20] (m_J18_bitCount _ _ hG) q762 q763 q70 q764 hd_J18_bitCount rfl (Nat.le_of_ble_eq_true rfl) ⟨Nat.le_of_ble_eq_true rfl, Nat.le_of_ble_eq_true rfl⟩ ⟨by show 0 + 0 ≤ 0; omega, by show 0 + 0 ≤ 0; omega, by show 0 ≤ 18; omega, by show 0 ≤ 219; omega⟩ dX1_pool_20 rfl ?_
    refine jj_iconst (v := 2) C dX1_pool_23 (by decide) ?_
    refine jj_icmp_lt (tgt := 31) C dX1_pool_24 (by decide) hF (fun hF => ?_) (fun hF => ?_)
    · refine jj_sub [0, 1] rfl ?_
      exact w_X1_pool_b31 C hxn hQ (by omega) hF
    · refine jj_iconst (v := 1) C dX1_pool_27 (by decide) ?_
      refine jj_goto (tgt := 32) C dX1_pool_28 (by decide) ?_
      refine jj_sub [0, 1] rfl ?_
      exact w_X1_pool_b32 C hxn hQ (by omega) hF
/-! Phrasehall.poolWith(II)LPhrasehall$Pool; -/
def rm_X1_poolWith : Room := ({ frames := 8, cells := 2, slots := 12, locals := 169 } : Room)
theorem hd_X1_poolWith : yX1_poolWith.cls ≠ "java/lang/invoke/MethodHandle" ∧ yX1_poolWith.cls ≠ "java/lang/invoke/VarHandle" ∧ (parseMethodDescriptor yX1_poolWith.desc).map (fun d => d.parameters.length) = some 2 := ⟨by decide, by decide, by decide +kernel⟩
def f_X1_poolWith_b35 (l3 : Option Nat) (s0 : Int32) (M : jW) : Option ((Option Nat ⊕ Nat) × jW) := pX (f_X1_requireIndex s0 M) fun _ M35 =>
  some (.inl l3, M35)
set_option maxHeartbeats 4000000 in
theorem w_X1_poolWith_b35 {x : jX} (C : jOk x cX1_poolWith RX1 rm_X1_poolWith (some (.object "Phrasehall$Pool"))) (hxn : xn x = 4) {v0 : (Option Nat ⊕ Nat)} {M0 : jW} (hQ : jEndX x rm_X1_poolWith (jrr v0) M0) {l3 : Option Nat} {s0 : Int32} {M : jW} {k n : Nat} (hk : k + 1 ≤ 2 ∧ n + 6 ≤ 12) (hF : f_X1_poolWith_b35 l3 s0 M = some (v0, M0)) : jJ x 35 [(3, jR l3)] [jI s0] M k n := by
  unfold f_X1_poolWith_b35 at hF
  rcases pX_spec2 hF with ⟨r35, M35, hG, hF⟩ | ⟨r35, M35, hG, hF⟩
  · cases hF
    exact jj_callSXx (k' := k + 1) (n' := n + 6) C hQ [jI s0] [] (m_X1_requireIndex _ _ hQ.2.2 hG) rfl rfl q428 q429 q42 q430 hd_X1_requireIndex rfl (Nat.le_of_ble_eq_true rfl) ⟨Nat.le_of_ble_eq_true rfl, Nat.le_of_ble_eq_true rfl⟩ ⟨by show k + 1 ≤ k + 1; omega, by show n + 6 ≤ n + 6; omega, by show k + 1 ≤ 2; omega, by show n + 6 ≤ 12; omega⟩ dX1_poolWith_35
  refine jj_callSX (k' := k + 1) (n' := n + 6) C [jI s0] [] [] (m_X1_requireIndex _ _ hQ.2.2 hG) rfl q428 q429 q42 q430 hd_X1_requireIndex rfl (Nat.le_of_ble_eq_true rfl) ⟨Nat.le_of_ble_eq_true rfl, Nat.le_of_ble_eq_true rfl⟩ ⟨by show k + 1 ≤ k + 1; omega, by show n + 6 ≤ n + 6; omega, by show k + 1 ≤ 2; omega, by show n + 6 ≤ 12; omega⟩ dX1_poolWith_35 rfl ?_
  refine jj_aload_n C 0 rfl dX1_poolWith_38 rfl ?_
  exact jj_aretX C (by first | exact Or.inl ⟨_, rfl⟩ | exact Or.inr ⟨_, rfl⟩) hQ dX1_poolWith_39 hF (by show k + 1 ≤ 2; omega) (by show n + 6 ≤ 12; omega)
def f_X1_poolWith_b34 (l3 : Option Nat) (M : jW) : Option ((Option Nat ⊕ Nat) × jW) := f_X1_poolWith_b35 l3 (0 : Int32) M
set_option maxHeartbeats 4000000 in
theorem w_X1_poolWith_b34 {x : jX} (C : jOk x cX1_poolWith RX1 rm_X1_poolWith (some (.object "Phrasehall$Pool"))) (hxn : xn x = 4) {v0 : (Option Nat ⊕ Nat)} {M0 : jW} (hQ : jEndX x rm_X1_poolWith (jrr v0) M0) {l3 : Option Nat} {M : jW} {k n : Nat} (hk : k + 1 ≤ 2 ∧ n + 6 ≤ 12) (hF : f_X1_poolWith_b34 l3 M = some (v0, M0)) : jJ x 34 [(3, jR l3)] [] M k n := by
  unfold f_X1_poolWith_b34 at hF
  refine jj_iconst (v := 0) C dX1_poolWith_34 (by decide) ?_
  refine jj_sub [0] rfl ?_
  exact w_X1_poolWith_b35 C hxn hQ (by omega) hF
def f_X1_poolWith (a0 : Option Nat) (a1 : Int32) (a2 : Int32) (M : jW) : Option ((Option Nat ⊕ Nat) × jW) := pR M a0 0 2 fun v1 =>
  pX (f_X1_at v1 a1 M) fun r5 M5 =>
  pCC M5 r5 7 fun v8 =>
  pB (f_X1_inRange a2 (0 : Int32) (11 : Int32) M5) fun r16 M16 =>
  if r16 = 0 then (f_X1_poolWith_b34 v8 M16)
  else (pO M16 v8 7 fun b24 _ => pB (f_X9_has (some b24) a2 M16) fun r24 M24 =>
  if r24 = 0 then (f_X1_poolWith_b34 v8 M24)
  else (f_X1_poolWith_b35 v8 (1 : Int32) M24))
set_option maxHeartbeats 4000000 in
theorem m_X1_poolWith (l : Launch) (g : jG) (hfl : l.stackTraces = false) {a0 : Option Nat} {a1 : Int32} {a2 : Int32} {M M0 : jW} {v0 : (Option Nat ⊕ Nat)} (hF : f_X1_poolWith a0 a1 a2 M = some (v0, M0)) : jMetX l g yX1_poolWith cX1_poolWith 4 (some (.object "Phrasehall$Pool")) rm_X1_poolWith [jR a0, jI a1, jI a2] M (jrr v0) M0 := by
  refine jMetX.of (L := [(0, jR a0), (1, jI a1), (2, jI a2)]) hfl (by decide) rfl (Nat.le_of_ble_eq_true rfl) (fun x C hxn hg hl hQ => ?_)
  subst hg
  unfold f_X1_poolWith at hF
  refine jj_aload_n C 0 rfl dX1_poolWith_0 rfl ?_
  refine jj_pR (f := 2) C jcs_0 (Nat.le_of_ble_eq_true rfl) (jLk.of C q118 rfl) dX1_poolWith_1 hF (fun v1 hF => ?_)
  refine jj_iload_n C 1 rfl dX1_poolWith_4 rfl ?_
  rcases pX_spec2 hF with ⟨r5, M5, hG, hF⟩ | ⟨r5, M5, hG, hF⟩
  · cases hF
    exact jj_callSXx (k' := 0 + 1) (n' := 0 + 6) C hQ [jR v1, jI a1] [] (m_X1_at _ _ hQ.2.2 hG) rfl rfl q422 q423 q42 q424 hd_X1_at rfl (Nat.le_of_ble_eq_true rfl) ⟨Nat.le_of_ble_eq_true rfl, Nat.le_of_ble_eq_true rfl⟩ ⟨by show 0 + 1 ≤ 0 + 1; omega, by show 0 + 6 ≤ 0 + 6; omega, by show 0 + 1 ≤ 2; omega, by show 0 + 6 ≤ 12; omega⟩ dX1_poolWith_5
  refine jj_callSX (k' := 0 + 1) (n' := 0 + 6) C [jR v1, jI a1] [] [jR r5] (m_X1_at _ _ hQ.2.2 hG) rfl q422 q423 q42 q424 hd_X1_at rfl (Nat.le_of_ble_eq_true rfl) ⟨Nat.le_of_ble_eq_true rfl, Nat.le_of_ble_eq_true rfl⟩ ⟨by show 0 + 1 ≤ 0 + 1; omega, by show 0 + 6 ≤ 0 + 6; omega, by show 0 + 1 ≤ 2; omega, by show 0 + 6 ≤ 12; omega⟩ dX1_poolWith_5 rfl ?_
  refine jj_castC (ci := 7) C rfl q446 dX1_poolWith_8 hF (fun v8 hF => ?_)
  refine jj_astore_n (L' := [(3, jR v8), (0, jR a0), (1, jI a1), (2, jI a2)]) C rfl (by rw [hxn]; decide) dX1_poolWith_11 rfl ?_
  refine jj_iload_n C 3 rfl dX1_poolWith_12 rfl ?_
  refine jj_iconst (v := 0) C dX1_poolWith_13 (by decide) ?_
  refine jj_bipush (v := 11) C dX1_poolWith_14 (by decide) ?_
  obtain ⟨r16, M16, hG, hF⟩ := pB_spec hF
  refine jj_callS (k' := 0 + 1) (n' := 0 + 6) C [jI a2, jI (0 : Int32), jI (11 : Int32)] [] [jI r16] (m_X1_inRange _ _ hG) q425 q426 q42 q427 hd_X1_inRange rfl (Nat.le_of_ble_eq_true rfl) ⟨Nat.le_of_ble_eq_true rfl, Nat.le_of_ble_eq_true rfl⟩ ⟨by show 0 + 1 + 0 ≤ 0 + 1; omega, by show 0 + 6 + 0 ≤ 0 + 6; omega, by show 0 + 1 ≤ 2; omega, by show 0 + 6 ≤ 12; omega⟩ dX1_poolWith_16 rfl ?_
  refine jj_if_eq (tgt := 34) C dX1_poolWith_19 (by decide) hF (fun hF => ?_) (fun hF => ?_)
  · refine jj_sub [0] rfl ?_
    exact w_X1_poolWith_b34 C hxn hQ (by omega) hF
  · refine jj_aload_n C 0 rfl dX1_poolWith_22 rfl ?_
    refine jj_iload_n C 3 rfl dX1_poolWith_23 rfl ?_
    obtain ⟨b24, fs24, he24, hb24, hF⟩ := pO_spec hF
    obtain ⟨r24, M24, hG, hF⟩ := pB_spec hF
    refine jj_callV (k' := 0 + 1) (n' := 0 + 6) C [jI a2] [] [jI r24] he24 (m_X9_has _ _ hG) hb24 rfl q447 q448 q449 q71 q450 ⟨rfl, hd_X9_has⟩ rfl (Nat.le_of_ble_eq_true rfl) ⟨Nat.le_of_ble_eq_true rfl, Nat.le_of_ble_eq_true rfl⟩ ⟨by show 0 + 1 + 0 ≤ 0 + 1; omega, by show 0 + 6 + 0 ≤ 0 + 6; omega, by show 0 + 1 ≤ 2; omega, by show 0 + 6 ≤ 12; omega⟩ dX1_poolWith_24 rfl ?_
    refine jj_if_eq (tgt := 34) C dX1_poolWith_27 (by decide) hF (fun hF => ?_) (fun hF => ?_)
    · refine jj_sub [0] rfl ?_
      exact w_X1_poolWith_b34 C hxn hQ (by omega) hF
    · refine jj_iconst (v := 1) C dX1_poolWith_30 (by decide) ?_
      refine jj_goto (tgt := 35) C dX1_poolWith_31 (by decide) ?_
      refine jj_sub [0] rfl ?_
      exact w_X1_poolWith_b35 C hxn hQ (by omega) hF
/-! Phrasehall.isOf(LPhrasehall$Bout;I)Z -/
def rm_X1_isOf : Room := ({ frames := 1, cells := 0, slots := 0, locals := 64 } : Room)
theorem hd_X1_isOf : yX1_isOf.cls ≠ "java/lang/invoke/MethodHandle" ∧ yX1_isOf.cls ≠ "java/lang/invoke/VarHandle" ∧ (parseMethodDescriptor yX1_isOf.desc).map (fun d => d.parameters.length) = some 2 := ⟨by decide, by decide, by decide +kernel⟩
def f_X1_isOf_b26 (M : jW) : Option (Int32 × jW) := pRZ (1 : Int32) M
set_option maxHeartbeats 4000000 in
theorem w_X1_isOf_b26 {x : jX} (C : jOk x cX1_isOf RX1 rm_X1_isOf (some .boolean)) (hxn : xn x = 2) {v0 : Int32} {M0 : jW} (hQ : jEnd x rm_X1_isOf (some (jI v0)) M0) {M : jW} (hF : f_X1_isOf_b26  M = some (v0, M0)) : jJ x 26 [] [] M 0 0 := by
  unfold f_X1_isOf_b26 at hF
  refine jj_iconst (v := 1) C dX1_isOf_26 (by decide) ?_
  refine jj_goto (tgt := 31) C dX1_isOf_27 (by decide) ?_
  exact jj_zret C hQ dX1_isOf_31 hF (Nat.zero_le _) (Nat.zero_le _)
def f_X1_isOf (a0 : Option Nat) (a1 : Int32) (M : jW) : Option (Int32 × jW) := pR M a0 3 0 fun v1 =>
  pAR M v1 4 (0 : Int32) fun v5 =>
  pI M v5 2 0 fun v6 =>
  if v6 = a1 then (f_X1_isOf_b26  M)
  else (pR M a0 3 0 fun v14 =>
  pAR M v14 4 (1 : Int32) fun v18 =>
  pI M v18 2 0 fun v19 =>
  if v19 = a1 then (f_X1_isOf_b26  M)
  else (pRZ (0 : Int32) M))
set_option maxHeartbeats 4000000 in
theorem m_X1_isOf (l : Launch) (g : jG) {a0 : Option Nat} {a1 : Int32} {M M0 : jW} {v0 : Int32} (hF : f_X1_isOf a0 a1 M = some (v0, M0)) : jMet l g yX1_isOf cX1_isOf 2 (some .boolean) rm_X1_isOf [jR a0, jI a1] M (some (jI v0)) M0 := by
  refine jMet.of (L := [(0, jR a0), (1, jI a1)]) (by decide) rfl (Nat.le_of_ble_eq_true rfl) (fun x C hxn hg hl hQ hin => ?_)
  subst hg
  unfold f_X1_isOf at hF
  refine jj_aload_n C 0 rfl dX1_isOf_0 rfl ?_
  refine jj_pR (f := 0) C jcs_3 (Nat.le_of_ble_eq_true rfl) (jLk.nest C q493 rfl) dX1_isOf_1 hF (fun v1 hF => ?_)
  refine jj_iconst (v := 0) C dX1_isOf_4 (by decide) ?_
  refine jj_aald (t := 4) C rfl dX1_isOf_5 hF (fun v5 hF => ?_)
  refine jj_pI (f := 0) C jcs_2 (Nat.le_of_ble_eq_true rfl) (jLk.nest C q310 rfl) dX1_isOf_6 hF (fun v6 hF => ?_)
  refine jj_iload_n C 1 rfl dX1_isOf_9 rfl ?_
  refine jj_icmp_eq (tgt := 26) C dX1_isOf_10 (by decide) hF (fun hF => ?_) (fun hF => ?_)
  · refine jj_sub [] rfl ?_
    exact w_X1_isOf_b26 C hxn hQ hF
  · refine jj_aload_n C 0 rfl dX1_isOf_13 rfl ?_
    refine jj_pR (f := 0) C jcs_3 (Nat.le_of_ble_eq_true rfl) (jLk.nest C q493 rfl) dX1_isOf_14 hF (fun v14 hF => ?_)
    refine jj_iconst (v := 1) C dX1_isOf_17 (by decide) ?_
    refine jj_aald (t := 4) C rfl dX1_isOf_18 hF (fun v18 hF => ?_)
    refine jj_pI (f := 0) C jcs_2 (Nat.le_of_ble_eq_true rfl) (jLk.nest C q310 rfl) dX1_isOf_19 hF (fun v19 hF => ?_)
    refine jj_iload_n C 1 rfl dX1_isOf_22 rfl ?_
    refine jj_icmp_ne (tgt := 30) C dX1_isOf_23 (by decide) hF (fun hF => ?_) (fun hF => ?_)
    · refine jj_iconst (v := 0) C dX1_isOf_30 (by decide) ?_
      exact jj_zret C hQ dX1_isOf_31 hF (Nat.zero_le _) (Nat.zero_le _)
    · refine jj_sub [] rfl ?_
      exact w_X1_isOf_b26 C hxn hQ hF
/-! Phrasehall.withdraw(II)I -/
def rm_X1_withdraw : Room := ({ frames := 9, cells := 4, slots := 22, locals := 192 } : Room)
theorem hd_X1_withdraw : yX1_withdraw.cls ≠ "java/lang/invoke/MethodHandle" ∧ yX1_withdraw.cls ≠ "java/lang/invoke/VarHandle" ∧ (parseMethodDescriptor yX1_withdraw.desc).map (fun d => d.parameters.length) = some 2 := ⟨by decide, by decide, by decide +kernel⟩
def f_X1_withdraw_b132 (K64 : Int32 → Option Nat → Int32 → Option Nat → jW → Option ((Int32 ⊕ Nat) × jW)) (l2 : Int32) (l3 : Option Nat) (l4 : Int32) (l5 : Option Nat) (M : jW) : Option ((Int32 ⊕ Nat) × jW) := K64 l2 l3 l4 l5 M
set_option maxHeartbeats 4000000 in
theorem w_X1_withdraw_b132 {x : jX} (C : jOk x cX1_withdraw RX1 rm_X1_withdraw (some .int)) (hxn : xn x = 7) {v0 : (Int32 ⊕ Nat)} {M0 : jW} (hQ : jEndX x rm_X1_withdraw (jri v0) M0) {K64 : Int32 → Option Nat → Int32 → Option Nat → jW → Option ((Int32 ⊕ Nat) × jW)} (hK64 : ∀ (l2 : Int32) (l3 : Option Nat) (l4 : Int32) (l5 : Option Nat) (M : jW) (k n : Nat), k ≤ 4 ∧ n ≤ 22 → K64 l2 l3 l4 l5 M = some (v0, M0) → jJ x 64 [(2, jI l2), (3, jR l3), (4, jI l4), (5, jR l5)] [] M k n) {l2 : Int32} {l3 : Option Nat} {l4 : Int32} {l5 : Option Nat} {M : jW} {k n : Nat} (hk : k ≤ 4 ∧ n ≤ 22) (hF : f_X1_withdraw_b132 K64 l2 l3 l4 l5 M = some (v0, M0)) : jJ x 132 [(2, jI l2), (3, jR l3), (4, jI l4), (5, jR l5)] [] M k n := by
  unfold f_X1_withdraw_b132 at hF
  refine jj_goto (tgt := 64) C dX1_withdraw_132 (by decide) ?_
  refine jj_sub [0, 1, 2, 3] rfl ?_
  exact hK64 _ _ _ _ _ _ _ (by omega) hF
def f_X1_withdraw_b64 : Nat → Int32 → Option Nat → Int32 → Option Nat → jW → Option ((Int32 ⊕ Nat) × jW)
  | 0, _, _, _, _, _ => none
  | q + 1, l2, l3, l4, l5, M => pO M l5 10 fun b66 _ => pB (f_J19_hasNext (some b66) M) fun r66 M66 =>
  if r66 = 0 then (pR M66 l3 7 1 fun v136 =>
  pAR M66 v136 5 l2 fun v140 =>
  pPZ M66 v140 8 4 (1 : Int32) fun M142 =>
  some (.inl l4, M142))
  else (pO M66 l5 10 fun b76 _ => pB (f_J19_next (some b76) M66) fun r76 M76 =>
  pCC M76 r76 3 fun v81 =>
  pR M76 v81 3 3 fun v88 =>
  if v88 = l3 then (pI M76 v81 3 7 fun v97 =>
  if v97 = (-1 : Int32) then (f_X1_withdraw_b132 (f_X1_withdraw_b64 q) l2 l3 l4 l5 M76)
  else (pB (f_X1_isOf v81 l2 M76) fun r107 M107 =>
  if r107 = 0 then (f_X1_withdraw_b132 (f_X1_withdraw_b64 q) l2 l3 l4 l5 M107)
  else (pO M107 l3 7 fun b116 _ => pB (f_X9_counts (some b116) v81 M107) fun r116 M116 =>
  if r116 = 0 then (f_X1_withdraw_b132 (f_X1_withdraw_b64 q) l2 l3 l4 l5 M116)
  else (pO M116 l3 7 fun b126 _ => pB (f_X9_adds (some b126) v81 (-1 : Int32) M116) fun _ M126 =>
  f_X1_withdraw_b132 (f_X1_withdraw_b64 q) l2 l3 (l4 + (1 : Int32)) l5 M126))))
  else (f_X1_withdraw_b132 (f_X1_withdraw_b64 q) l2 l3 l4 l5 M76))
theorem f_X1_withdraw_b64_s (q : Nat) (l2 : Int32) (l3 : Option Nat) (l4 : Int32) (l5 : Option Nat) (M : jW) : f_X1_withdraw_b64 (q + 1) l2 l3 l4 l5 M = (pO M l5 10 fun b66 _ => pB (f_J19_hasNext (some b66) M) fun r66 M66 =>
  if r66 = 0 then (pR M66 l3 7 1 fun v136 =>
  pAR M66 v136 5 l2 fun v140 =>
  pPZ M66 v140 8 4 (1 : Int32) fun M142 =>
  some (.inl l4, M142))
  else (pO M66 l5 10 fun b76 _ => pB (f_J19_next (some b76) M66) fun r76 M76 =>
  pCC M76 r76 3 fun v81 =>
  pR M76 v81 3 3 fun v88 =>
  if v88 = l3 then (pI M76 v81 3 7 fun v97 =>
  if v97 = (-1 : Int32) then (f_X1_withdraw_b132 (f_X1_withdraw_b64 q) l2 l3 l4 l5 M76)
  else (pB (f_X1_isOf v81 l2 M76) fun r107 M107 =>
  if r107 = 0 then (f_X1_withdraw_b132 (f_X1_withdraw_b64 q) l2 l3 l4 l5 M107)
  else (pO M107 l3 7 fun b116 _ => pB (f_X9_counts (some b116) v81 M107) fun r116 M116 =>
  if r116 = 0 then (f_X1_withdraw_b132 (f_X1_withdraw_b64 q) l2 l3 l4 l5 M116)
  else (pO M116 l3 7 fun b126 _ => pB (f_X9_adds (some b126) v81 (-1 : Int32) M116) fun _ M126 =>
  f_X1_withdraw_b132 (f_X1_withdraw_b64 q) l2 l3 (l4 + (1 : Int32)) l5 M126))))
  else (f_X1_withdraw_b132 (f_X1_withdraw_b64 q) l2 l3 l4 l5 M76))) := rfl
set_option maxHeartbeats 4000000 in
theorem w_X1_withdraw_b64 {x : jX} (C : jOk x cX1_withdraw RX1 rm_X1_withdraw (some .int)) (hxn : xn x = 7) {v0 : (Int32 ⊕ Nat)} {M0 : jW} (hQ : jEndX x rm_X1_withdraw (jri v0) M0) : ∀ (n64 : Nat) (l2 : Int32) (l3 : Option Nat) (l4 : Int32) (l5 : Option Nat) (M : jW) (k n : Nat), k ≤ 4 ∧ n ≤ 22 → f_X1_withdraw_b64 n64 l2 l3 l4 l5 M = some (v0, M0) → jJ x 64 [(2, jI l2), (3, jR l3), (4, jI l4), (5, jR l5)] [] M k n := by
  intro n64
  induction n64 with
  | zero =>
    intro l2 l3 l4 l5 M k n hk hF
    cases hF
  | succ n64 hK64 =>
    intro l2 l3 l4 l5 M k n hk hF
    rw [f_X1_withdraw_b64_s] at hF
    refine jj_aload C 3 rfl dX1_withdraw_64 ?_
    obtain ⟨b66, fs66, he66, hb66, hF⟩ := pO_spec hF
    obtain ⟨r66, M66, hG, hF⟩ := pB_spec hF
    refine jj_callF (k' := k) (n' := n) C [] [] [jI r66] he66 (m_J19_hasNext _ _ hG) hb66 rfl C.kk.2.2.2.1.2.2.1 q847 q853 q851 q73 q855 hd_jyHas rfl (Nat.le_of_ble_eq_true rfl) ⟨Nat.le_of_ble_eq_true rfl, Nat.le_of_ble_eq_true rfl⟩ ⟨Nat.le_refl _, Nat.le_refl _, by show k ≤ 4; omega, by show n ≤ 22; omega⟩ dX1_withdraw_66 rfl ?_
    refine jj_if_eq (tgt := 135) C dX1_withdraw_71 (by decide) hF (fun hF => ?_) (fun hF => ?_)
    · refine jj_aload_n C 1 rfl dX1_withdraw_135 rfl ?_
      refine jj_pR (f := 1) C jcs_7 (Nat.le_of_ble_eq_true rfl) (jLk.nest C q803 rfl) dX1_withdraw_136 hF (fun v136 hF => ?_)
      refine jj_iload_n C 0 rfl dX1_withdraw_139 rfl ?_
      refine jj_aald (t := 5) C rfl dX1_withdraw_140 hF (fun v140 hF => ?_)
      refine jj_iconst (v := 1) C dX1_withdraw_141 (by decide) ?_
      refine jj_pPZ (f := 4) C jcs_8 (Nat.le_of_ble_eq_true rfl) (jLk.nest C q789 rfl) (Or.inl rfl) dX1_withdraw_142 rfl hF (fun M142 hF => ?_)
      refine jj_iload C 2 rfl dX1_withdraw_145 ?_
      exact jj_iretX C hQ dX1_withdraw_147 hF (by show k ≤ 4; omega) (by show n ≤ 22; omega)
    · refine jj_aload C 3 rfl dX1_withdraw_74 ?_
      obtain ⟨b76, fs76, he76, hb76, hF⟩ := pO_spec hF
      obtain ⟨r76, M76, hG, hF⟩ := pB_spec hF
      refine jj_callF (k' := k) (n' := n) C [] [] [jR r76] he76 (m_J19_next _ _ hG) hb76 rfl C.kk.2.2.2.1.2.2.2 q857 q862 q860 q73 q864 hd_jyNext rfl (Nat.le_of_ble_eq_true rfl) ⟨Nat.le_of_ble_eq_true rfl, Nat.le_of_ble_eq_true rfl⟩ ⟨Nat.le_refl _, Nat.le_refl _, by show k ≤ 4; omega, by show n ≤ 22; omega⟩ dX1_withdraw_76 rfl ?_
      refine jj_castC (ci := 3) C rfl q474 dX1_withdraw_81 hF (fun v81 hF => ?_)
      refine jj_astore (L' := [(6, jR v81), (2, jI l2), (3, jR l3), (4, jI l4), (5, jR l5)]) C rfl (by rw [hxn]; decide) dX1_withdraw_84 ?_
      refine jj_aload C 0 rfl dX1_withdraw_86 ?_
      refine jj_pR (f := 3) C jcs_3 (Nat.le_of_ble_eq_true rfl) (jLk.nest C q499 rfl) dX1_withdraw_88 hF (fun v88 hF => ?_)
      refine jj_aload_n C 2 rfl dX1_withdraw_91 rfl ?_
      refine jj_acmp_ne (tgt := 132) C dX1_withdraw_92 (by decide) hF (fun hF => ?_) (fun hF => ?_)
      · refine jj_sub [1, 2, 3, 4] rfl ?_
        exact w_X1_withdraw_b132 C hxn hQ hK64 (by omega) hF
      · refine jj_aload C 0 rfl dX1_withdraw_95 ?_
        refine jj_pI (f := 7) C jcs_3 (Nat.le_of_ble_eq_true rfl) (jLk.nest C q507 rfl) dX1_withdraw_97 hF (fun v97 hF => ?_)
        refine jj_iconst (v := -1) C dX1_withdraw_100 (by decide) ?_
        refine jj_icmp_eq (tgt := 132) C dX1_withdraw_101 (by decide) hF (fun hF => ?_) (fun hF => ?_)
        · refine jj_sub [1, 2, 3, 4] rfl ?_
          exact w_X1_withdraw_b132 C hxn hQ hK64 (by omega) hF
        · refine jj_aload C 0 rfl dX1_withdraw_104 ?_
          refine jj_iload_n C 1 rfl dX1_withdraw_106 rfl ?_
          obtain ⟨r107, M107, hG, hF⟩ := pB_spec hF
          refine jj_callS (k' := k) (n' := n) C [jR v81, jI l2] [] [jI r107] (m_X1_isOf _ _ hG) q820 q821 q42 q822 hd_X1_isOf rfl (Nat.le_of_ble_eq_true rfl) ⟨Nat.le_of_ble_eq_true rfl, Nat.le_of_ble_eq_true rfl⟩ ⟨by show k + 0 ≤ k; omega, by show n + 0 ≤ n; omega, by show k ≤ 4; omega, by show n ≤ 22; omega⟩ dX1_withdraw_107 rfl ?_
          refine jj_if_eq (tgt := 132) C dX1_withdraw_110 (by decide) hF (fun hF => ?_) (fun hF => ?_)
          · refine jj_sub [1, 2, 3, 4] rfl ?_
            exact w_X1_withdraw_b132 C hxn hQ hK64 (by omega) hF
          · refine jj_aload_n C 2 rfl dX1_withdraw_113 rfl ?_
            refine jj_aload C 0 rfl dX1_withdraw_114 ?_
            obtain ⟨b116, fs116, he116, hb116, hF⟩ := pO_spec hF
            obtain ⟨r116, M116, hG, hF⟩ := pB_spec hF
            refine jj_callV (k' := k) (n' := n) C [jR v81] [] [jI r116] he116 (m_X9_counts _ _ hG) hb116 rfl q869 q687 q688 q71 q689 ⟨rfl, hd_X9_counts⟩ rfl (Nat.le_of_ble_eq_true rfl) ⟨Nat.le_of_ble_eq_true rfl, Nat.le_of_ble_eq_true rfl⟩ ⟨by show k + 0 ≤ k; omega, by show n + 0 ≤ n; omega, by show k ≤ 4; omega, by show n ≤ 22; omega⟩ dX1_withdraw_116 rfl ?_
            refine jj_if_eq (tgt := 132) C dX1_withdraw_119 (by decide) hF (fun hF => ?_) (fun hF => ?_)
            · refine jj_sub [1, 2, 3, 4] rfl ?_
              exact w_X1_withdraw_b132 C hxn hQ hK64 (by omega) hF
            · refine jj_aload_n C 2 rfl dX1_withdraw_122 rfl ?_
              refine jj_aload C 0 rfl dX1_withdraw_123 ?_
              refine jj_iconst (v := -1) C dX1_withdraw_125 (by decide) ?_
              obtain ⟨b126, fs126, he126, hb126, hF⟩ := pO_spec hF
              obtain ⟨r126, M126, hG, hF⟩ := pB_spec hF
              refine jj_callV (k' := k) (n' := n) C [jR v81, jI (-1 : Int32)] [] [] he126 (m_X9_adds _ _ hG) hb126 rfl q870 q692 q693 q71 q694 ⟨rfl, hd_X9_adds⟩ rfl (Nat.le_of_ble_eq_true rfl) ⟨Nat.le_of_ble_eq_true rfl, Nat.le_of_ble_eq_true rfl⟩ ⟨by show k + 0 ≤ k; omega, by show n + 0 ≤ n; omega, by show k ≤ 4; omega, by show n ≤ 22; omega⟩ dX1_withdraw_126 rfl ?_
              refine jj_iinc (c := 1) (L' := [(4, jI (l4 + (1 : Int32))), (6, jR v81), (2, jI l2), (3, jR l3), (5, jR l5)]) C 3 rfl (by decide) rfl (by rw [hxn]; decide) dX1_withdraw_129 ?_
              refine jj_sub [2, 3, 0, 4] rfl ?_
              exact w_X1_withdraw_b132 C hxn hQ hK64 (by omega) hF
def f_X1_withdraw_b49 (l0 : Option Nat) (l2 : Int32) (l3 : Option Nat) (s0 : Int32) (M : jW) : Option ((Int32 ⊕ Nat) × jW) := pX (f_X1_requireState s0 M) fun _ M49 =>
  pR M49 l0 0 1 fun v56 =>
  pO M49 v56 9 fun b59 _ => pB (f_J2_iterator (some b59)  M49) fun r59 M59 =>
  f_X1_withdraw_b64 1000 l2 l3 (0 : Int32) r59 M59
set_option maxHeartbeats 4000000 in
theorem w_X1_withdraw_b49 {x : jX} (C : jOk x cX1_withdraw RX1 rm_X1_withdraw (some .int)) (hxn : xn x = 7) {v0 : (Int32 ⊕ Nat)} {M0 : jW} (hQ : jEndX x rm_X1_withdraw (jri v0) M0) {l0 : Option Nat} {l2 : Int32} {l3 : Option Nat} {s0 : Int32} {M : jW} {k n : Nat} (hk : k + 2 ≤ 4 ∧ n + 10 ≤ 22) (hF : f_X1_withdraw_b49 l0 l2 l3 s0 M = some (v0, M0)) : jJ x 49 [(0, jR l0), (2, jI l2), (3, jR l3)] [jI s0] M k n := by
  unfold f_X1_withdraw_b49 at hF
  rcases pX_spec2 hF with ⟨r49, M49, hG, hF⟩ | ⟨r49, M49, hG, hF⟩
  · cases hF
    exact jj_callSXx (k' := k + 1) (n' := n + 6) C hQ [jI s0] [] (m_X1_requireState _ _ hQ.2.2 hG) rfl rfl q233 q234 q42 q235 hd_X1_requireState rfl (Nat.le_of_ble_eq_true rfl) ⟨Nat.le_of_ble_eq_true rfl, Nat.le_of_ble_eq_true rfl⟩ ⟨by show k + 1 ≤ k + 1; omega, by show n + 6 ≤ n + 6; omega, by show k + 1 ≤ 4; omega, by show n + 6 ≤ 22; omega⟩ dX1_withdraw_49
  refine jj_callSX (k' := k + 1) (n' := n + 6) C [jI s0] [] [] (m_X1_requireState _ _ hQ.2.2 hG) rfl q233 q234 q42 q235 hd_X1_requireState rfl (Nat.le_of_ble_eq_true rfl) ⟨Nat.le_of_ble_eq_true rfl, Nat.le_of_ble_eq_true rfl⟩ ⟨by show k + 1 ≤ k + 1; omega, by show n + 6 ≤ n + 6; omega, by show k + 1 ≤ 4; omega, by show n + 6 ≤ 22; omega⟩ dX1_withdraw_49 rfl ?_
  refine jj_iconst (v := 0) C dX1_withdraw_52 (by decide) ?_
  refine jj_istore (L' := [(4, jI (0 : Int32)), (0, jR l0), (2, jI l2), (3, jR l3)]) C rfl (by rw [hxn]; decide) dX1_withdraw_53 ?_
  refine jj_aload_n C 1 rfl dX1_withdraw_55 rfl ?_
  refine jj_pR (f := 1) C jcs_0 (Nat.le_of_ble_eq_true rfl) (jLk.of C q117 rfl) dX1_withdraw_56 hF (fun v56 hF => ?_)
  obtain ⟨b59, fs59, he59, hb59, hF⟩ := pO_spec hF
  obtain ⟨r59, M59, hG, hF⟩ := pB_spec hF
  refine jj_callV (k' := k + 1 + 1) (n' := n + 6 + 4) C [] [] [jR r59] he59 (m_J2_iterator _ _ hG) hb59 rfl q823 q824 q825 q45 q826 ⟨rfl, hd_J2_iterator⟩ rfl (Nat.le_of_ble_eq_true rfl) ⟨Nat.le_of_ble_eq_true rfl, Nat.le_of_ble_eq_true rfl⟩ ⟨by show k + 1 + 1 ≤ k + 1 + 1; omega, by show n + 6 + 4 ≤ n + 6 + 4; omega, by show k + 1 + 1 ≤ 4; omega, by show n + 6 + 4 ≤ 22; omega⟩ dX1_withdraw_59 rfl ?_
  refine jj_astore (L' := [(5, jR r59), (4, jI (0 : Int32)), (0, jR l0), (2, jI l2), (3, jR l3)]) C rfl (by rw [hxn]; decide) dX1_withdraw_62 ?_
  refine jj_sub [3, 4, 1, 0] rfl ?_
  exact w_X1_withdraw_b64 C hxn hQ 1000 _ _ _ _ _ _ _ (by omega) hF
def f_X1_withdraw_b48 (l0 : Option Nat) (l2 : Int32) (l3 : Option Nat) (M : jW) : Option ((Int32 ⊕ Nat) × jW) := f_X1_withdraw_b49 l0 l2 l3 (0 : Int32) M
set_option maxHeartbeats 4000000 in
theorem w_X1_withdraw_b48 {x : jX} (C : jOk x cX1_withdraw RX1 rm_X1_withdraw (some .int)) (hxn : xn x = 7) {v0 : (Int32 ⊕ Nat)} {M0 : jW} (hQ : jEndX x rm_X1_withdraw (jri v0) M0) {l0 : Option Nat} {l2 : Int32} {l3 : Option Nat} {M : jW} {k n : Nat} (hk : k + 2 ≤ 4 ∧ n + 10 ≤ 22) (hF : f_X1_withdraw_b48 l0 l2 l3 M = some (v0, M0)) : jJ x 48 [(0, jR l0), (2, jI l2), (3, jR l3)] [] M k n := by
  unfold f_X1_withdraw_b48 at hF
  refine jj_iconst (v := 0) C dX1_withdraw_48 (by decide) ?_
  refine jj_sub [0, 1, 2] rfl ?_
  exact w_X1_withdraw_b49 C hxn hQ (by omega) hF
def f_X1_withdraw_b44 (l0 : Option Nat) (l2 : Int32) (l3 : Option Nat) (M : jW) : Option ((Int32 ⊕ Nat) × jW) := f_X1_withdraw_b49 l0 l2 l3 (1 : Int32) M
set_option maxHeartbeats 4000000 in
theorem w_X1_withdraw_b44 {x : jX} (C : jOk x cX1_withdraw RX1 rm_X1_withdraw (some .int)) (hxn : xn x = 7) {v0 : (Int32 ⊕ Nat)} {M0 : jW} (hQ : jEndX x rm_X1_withdraw (jri v0) M0) {l0 : Option Nat} {l2 : Int32} {l3 : Option Nat} {M : jW} {k n : Nat} (hk : k + 2 ≤ 4 ∧ n + 10 ≤ 22) (hF : f_X1_withdraw_b44 l0 l2 l3 M = some (v0, M0)) : jJ x 44 [(0, jR l0), (2, jI l2), (3, jR l3)] [] M k n := by
  unfold f_X1_withdraw_b44 at hF
  refine jj_iconst (v := 1) C dX1_withdraw_44 (by decide) ?_
  refine jj_goto (tgt := 49) C dX1_withdraw_45 (by decide) ?_
  refine jj_sub [0, 1, 2] rfl ?_
  exact w_X1_withdraw_b49 C hxn hQ (by omega) hF
def f_X1_withdraw (a0 : Option Nat) (a1 : Int32) (a2 : Int32) (M : jW) : Option ((Int32 ⊕ Nat) × jW) := pO M a0 0 fun b3 _ => pX (f_X1_poolWith (some b3) a1 a2 M) fun r3 M3 =>
  pO M3 r3 7 fun b9 _ => pB (f_X9_isIn (some b9) a2 M3) fun r9 M9 =>
  if r9 = 0 then (f_X1_withdraw_b48 a0 a2 r3 M9)
  else (pR M9 a0 0 4 fun v16 =>
  pZ v16 (f_X1_withdraw_b44 a0 a2 r3 M9)
  (pR M9 a0 0 4 fun v23 =>
  pR M9 v23 3 3 fun v26 =>
  if v26 = r3 then (pR M9 a0 0 4 fun v34 =>
  pB (f_X1_isOf v34 a2 M9) fun r38 M38 =>
  if r38 = 0 then (f_X1_withdraw_b44 a0 a2 r3 M38)
  else (f_X1_withdraw_b48 a0 a2 r3 M38))
  else (f_X1_withdraw_b44 a0 a2 r3 M9)))
set_option maxHeartbeats 4000000 in
theorem m_X1_withdraw (l : Launch) (g : jG) (hfl : l.stackTraces = false) {a0 : Option Nat} {a1 : Int32} {a2 : Int32} {M M0 : jW} {v0 : (Int32 ⊕ Nat)} (hF : f_X1_withdraw a0 a1 a2 M = some (v0, M0)) : jMetX l g yX1_withdraw cX1_withdraw 7 (some .int) rm_X1_withdraw [jR a0, jI a1, jI a2] M (jri v0) M0 := by
  refine jMetX.of (L := [(0, jR a0), (1, jI a1), (2, jI a2)]) hfl (by decide) rfl (Nat.le_of_ble_eq_true rfl) (fun x C hxn hg hl hQ => ?_)
  subst hg
  unfold f_X1_withdraw at hF
  refine jj_aload_n C 0 rfl dX1_withdraw_0 rfl ?_
  refine jj_iload_n C 1 rfl dX1_withdraw_1 rfl ?_
  refine jj_iload_n C 2 rfl dX1_withdraw_2 rfl ?_
  obtain ⟨b3, fs3, he3, hb3, hF⟩ := pO_spec hF
  rcases pX_spec2 hF with ⟨r3, M3, hG, hF⟩ | ⟨r3, M3, hG, hF⟩
  · cases hF
    exact jj_callVXx (k' := 0 + 2) (n' := 0 + 12) C hQ [jI a1, jI a2] [] he3 (m_X1_poolWith _ _ hQ.2.2 hG) rfl rfl hb3 rfl q816 q818 qs16 q42 q819 ⟨rfl, hd_X1_poolWith⟩ rfl (Nat.le_of_ble_eq_true rfl) ⟨Nat.le_of_ble_eq_true rfl, Nat.le_of_ble_eq_true rfl⟩ ⟨by show 0 + 2 ≤ 0 + 2; omega, by show 0 + 12 ≤ 0 + 12; omega, by show 0 + 2 ≤ 4; omega, by show 0 + 12 ≤ 22; omega⟩ dX1_withdraw_3
  refine jj_callVX (k' := 0 + 2) (n' := 0 + 12) C [jI a1, jI a2] [] [jR r3] he3 (m_X1_poolWith _ _ hQ.2.2 hG) rfl hb3 rfl q816 q818 qs16 q42 q819 ⟨rfl, hd_X1_poolWith⟩ rfl (Nat.le_of_ble_eq_true rfl) ⟨Nat.le_of_ble_eq_true rfl, Nat.le_of_ble_eq_true rfl⟩ ⟨by show 0 + 2 ≤ 0 + 2; omega, by show 0 + 12 ≤ 0 + 12; omega, by show 0 + 2 ≤ 4; omega, by show 0 + 12 ≤ 22; omega⟩ dX1_withdraw_3 rfl ?_
  refine jj_astore_n (L' := [(3, jR r3), (0, jR a0), (1, jI a1), (2, jI a2)]) C rfl (by rw [hxn]; decide) dX1_withdraw_6 rfl ?_
  refine jj_aload_n C 0 rfl dX1_withdraw_7 rfl ?_
  refine jj_iload_n C 3 rfl dX1_withdraw_8 rfl ?_
  obtain ⟨b9, fs9, he9, hb9, hF⟩ := pO_spec hF
  obtain ⟨r9, M9, hG, hF⟩ := pB_spec hF
  refine jj_callV (k' := 0 + 2) (n' := 0 + 12) C [jI a2] [] [jI r9] he9 (m_X9_isIn _ _ hG) hb9 rfl q469 q470 q471 q71 q472 ⟨rfl, hd_X9_isIn⟩ rfl (Nat.le_of_ble_eq_true rfl) ⟨Nat.le_of_ble_eq_true rfl, Nat.le_of_ble_eq_true rfl⟩ ⟨by show 0 + 2 + 0 ≤ 0 + 2; omega, by show 0 + 12 + 0 ≤ 0 + 12; omega, by show 0 + 2 ≤ 4; omega, by show 0 + 12 ≤ 22; omega⟩ dX1_withdraw_9 rfl ?_
  refine jj_if_eq (tgt := 48) C dX1_withdraw_12 (by decide) hF (fun hF => ?_) (fun hF => ?_)
  · refine jj_sub [1, 3, 0] rfl ?_
    exact w_X1_withdraw_b48 C hxn hQ (by omega) hF
  · refine jj_aload_n C 1 rfl dX1_withdraw_15 rfl ?_
    refine jj_pR (f := 4) C jcs_0 (Nat.le_of_ble_eq_true rfl) (jLk.of C q122 rfl) dX1_withdraw_16 hF (fun v16 hF => ?_)
    refine jj_ifnull (tgt := 44) C dX1_withdraw_19 (by decide) hF (fun hF => ?_) (fun hF => ?_)
    · refine jj_sub [1, 3, 0] rfl ?_
      exact w_X1_withdraw_b44 C hxn hQ (by omega) hF
    · refine jj_aload_n C 1 rfl dX1_withdraw_22 rfl ?_
      refine jj_pR (f := 4) C jcs_0 (Nat.le_of_ble_eq_true rfl) (jLk.of C q122 rfl) dX1_withdraw_23 hF (fun v23 hF => ?_)
      refine jj_pR (f := 3) C jcs_3 (Nat.le_of_ble_eq_true rfl) (jLk.nest C q499 rfl) dX1_withdraw_26 hF (fun v26 hF => ?_)
      refine jj_aload_n C 0 rfl dX1_withdraw_29 rfl ?_
      refine jj_acmp_ne (tgt := 44) C dX1_withdraw_30 (by decide) hF (fun hF => ?_) (fun hF => ?_)
      · refine jj_sub [1, 3, 0] rfl ?_
        exact w_X1_withdraw_b44 C hxn hQ (by omega) hF
      · refine jj_aload_n C 1 rfl dX1_withdraw_33 rfl ?_
        refine jj_pR (f := 4) C jcs_0 (Nat.le_of_ble_eq_true rfl) (jLk.of C q122 rfl) dX1_withdraw_34 hF (fun v34 hF => ?_)
        refine jj_iload_n C 3 rfl dX1_withdraw_37 rfl ?_
        obtain ⟨r38, M38, hG, hF⟩ := pB_spec hF
        refine jj_callS (k' := 0 + 2) (n' := 0 + 12) C [jR v34, jI a2] [] [jI r38] (m_X1_isOf _ _ hG) q820 q821 q42 q822 hd_X1_isOf rfl (Nat.le_of_ble_eq_true rfl) ⟨Nat.le_of_ble_eq_true rfl, Nat.le_of_ble_eq_true rfl⟩ ⟨by show 0 + 2 + 0 ≤ 0 + 2; omega, by show 0 + 12 + 0 ≤ 0 + 12; omega, by show 0 + 2 ≤ 4; omega, by show 0 + 12 ≤ 22; omega⟩ dX1_withdraw_38 rfl ?_
        refine jj_if_ne (tgt := 48) C dX1_withdraw_41 (by decide) hF (fun hF => ?_) (fun hF => ?_)
        · refine jj_sub [1, 3, 0] rfl ?_
          exact w_X1_withdraw_b48 C hxn hQ (by omega) hF
        · refine jj_sub [1, 3, 0] rfl ?_
          exact w_X1_withdraw_b44 C hxn hQ (by omega) hF
/-! Phrasehall$Pool.isAhead(II)Z -/
def rm_X9_isAhead : Room := ({ frames := 1, cells := 0, slots := 0, locals := 64 } : Room)
theorem hd_X9_isAhead : yX9_isAhead.cls ≠ "java/lang/invoke/MethodHandle" ∧ yX9_isAhead.cls ≠ "java/lang/invoke/VarHandle" ∧ (parseMethodDescriptor yX9_isAhead.desc).map (fun d => d.parameters.length) = some 2 := ⟨by decide, by decide, by decide +kernel⟩
def f_X9_isAhead_b99 (l1 : Int32) (l2 : Int32) (s0 : Int32) (M : jW) : Option (Int32 × jW) := if s0 = 0 then (if l2 ≤ l1 then (pRZ (0 : Int32) M)
  else (pRZ (1 : Int32) M))
  else (if s0 ≤ 0 then (pRZ (0 : Int32) M)
  else (pRZ (1 : Int32) M))
set_option maxHeartbeats 4000000 in
theorem w_X9_isAhead_b99 {x : jX} (C : jOk x cX9_isAhead RX9 rm_X9_isAhead (some .boolean)) (hxn : xn x = 6) {v0 : Int32} {M0 : jW} (hQ : jEnd x rm_X9_isAhead (some (jI v0)) M0) {l1 : Int32} {l2 : Int32} {s0 : Int32} {M : jW} (hF : f_X9_isAhead_b99 l1 l2 s0 M = some (v0, M0)) : jJ x 99 [(1, jI l1), (2, jI l2)] [jI s0] M 0 0 := by
  unfold f_X9_isAhead_b99 at hF
  refine jj_istore (L' := [(5, jI s0), (1, jI l1), (2, jI l2)]) C rfl (by rw [hxn]; decide) dX9_isAhead_99 ?_
  refine jj_iload C 0 rfl dX9_isAhead_101 ?_
  refine jj_if_eq (tgt := 119) C dX9_isAhead_103 (by decide) hF (fun hF => ?_) (fun hF => ?_)
  · refine jj_iload_n C 1 rfl dX9_isAhead_119 rfl ?_
    refine jj_iload_n C 2 rfl dX9_isAhead_120 rfl ?_
    refine jj_icmp_ge (tgt := 128) C dX9_isAhead_121 (by decide) hF (fun hF => ?_) (fun hF => ?_)
    · refine jj_iconst (v := 0) C dX9_isAhead_128 (by decide) ?_
      exact jj_zret C hQ dX9_isAhead_129 hF (Nat.zero_le _) (Nat.zero_le _)
    · refine jj_iconst (v := 1) C dX9_isAhead_124 (by decide) ?_
      refine jj_goto (tgt := 129) C dX9_isAhead_125 (by decide) ?_
      exact jj_zret C hQ dX9_isAhead_129 hF (Nat.zero_le _) (Nat.zero_le _)
  · refine jj_iload C 0 rfl dX9_isAhead_106 ?_
    refine jj_if_le (tgt := 115) C dX9_isAhead_108 (by decide) hF (fun hF => ?_) (fun hF => ?_)
    · refine jj_iconst (v := 0) C dX9_isAhead_115 (by decide) ?_
      refine jj_goto (tgt := 129) C dX9_isAhead_116 (by decide) ?_
      exact jj_zret C hQ dX9_isAhead_129 hF (Nat.zero_le _) (Nat.zero_le _)
    · refine jj_iconst (v := 1) C dX9_isAhead_111 (by decide) ?_
      refine jj_goto (tgt := 129) C dX9_isAhead_112 (by decide) ?_
      exact jj_zret C hQ dX9_isAhead_129 hF (Nat.zero_le _) (Nat.zero_le _)
def f_X9_isAhead_b77 (l1 : Int32) (l2 : Int32) (l3 : Option Nat) (l4 : Option Nat) (s0 : Int32) (M : jW) : Option (Int32 × jW) := if s0 = 0 then (pI M l3 8 2 fun v90 =>
  pI M l4 8 2 fun v95 =>
  f_X9_isAhead_b99 l1 l2 (v90 - v95) M)
  else (f_X9_isAhead_b99 l1 l2 s0 M)
set_option maxHeartbeats 4000000 in
theorem w_X9_isAhead_b77 {x : jX} (C : jOk x cX9_isAhead RX9 rm_X9_isAhead (some .boolean)) (hxn : xn x = 6) {v0 : Int32} {M0 : jW} (hQ : jEnd x rm_X9_isAhead (some (jI v0)) M0) {l1 : Int32} {l2 : Int32} {l3 : Option Nat} {l4 : Option Nat} {s0 : Int32} {M : jW} (hF : f_X9_isAhead_b77 l1 l2 l3 l4 s0 M = some (v0, M0)) : jJ x 77 [(1, jI l1), (2, jI l2), (3, jR l3), (4, jR l4)] [jI s0] M 0 0 := by
  unfold f_X9_isAhead_b77 at hF
  refine jj_istore (L' := [(5, jI s0), (1, jI l1), (2, jI l2), (3, jR l3), (4, jR l4)]) C rfl (by rw [hxn]; decide) dX9_isAhead_77 ?_
  refine jj_iload C 0 rfl dX9_isAhead_79 ?_
  refine jj_if_eq (tgt := 89) C dX9_isAhead_81 (by decide) hF (fun hF => ?_) (fun hF => ?_)
  · refine jj_aload_n C 3 rfl dX9_isAhead_89 rfl ?_
    refine jj_pI (f := 2) C jcs_8 (Nat.le_of_ble_eq_true rfl) (jLk.nest C q785 rfl) dX9_isAhead_90 hF (fun v90 hF => ?_)
    refine jj_aload C 4 rfl dX9_isAhead_93 ?_
    refine jj_pI (f := 2) C jcs_8 (Nat.le_of_ble_eq_true rfl) (jLk.nest C q785 rfl) dX9_isAhead_95 hF (fun v95 hF => ?_)
    refine jj_isub C dX9_isAhead_98 ?_
    refine jj_sub [1, 2] rfl ?_
    exact w_X9_isAhead_b99 C hxn hQ hF
  · refine jj_iload C 0 rfl dX9_isAhead_84 ?_
    refine jj_goto (tgt := 99) C dX9_isAhead_86 (by decide) ?_
    refine jj_sub [1, 2] rfl ?_
    exact w_X9_isAhead_b99 C hxn hQ hF
def f_X9_isAhead (a0 : Option Nat) (a1 : Int32) (a2 : Int32) (M : jW) : Option (Int32 × jW) := pR M a0 7 1 fun v1 =>
  pAR M v1 5 a1 fun v5 =>
  pR M a0 7 1 fun v8 =>
  pAR M v8 5 a2 fun v12 =>
  pI M v5 8 1 fun v16 =>
  pI M v12 8 0 fun v22 =>
  pI M v12 8 1 fun v31 =>
  pI M v5 8 0 fun v36 =>
  pLt ((v16 * (if (1 : Int32) < v22 then v22 else (1 : Int32))) - (v31 * (if (1 : Int32) < v36 then v36 else (1 : Int32)))) fun t44 =>
  if t44 = 0 then (pI M v5 8 2 fun v57 =>
  pI M v5 8 3 fun v61 =>
  pI M v12 8 2 fun v67 =>
  pI M v12 8 3 fun v72 =>
  f_X9_isAhead_b77 a1 a2 v5 v12 ((v57 - v61) - (v67 - v72)) M)
  else (f_X9_isAhead_b77 a1 a2 v5 v12 t44 M)
set_option maxHeartbeats 4000000 in
theorem m_X9_isAhead (l : Launch) (g : jG) {a0 : Option Nat} {a1 : Int32} {a2 : Int32} {M M0 : jW} {v0 : Int32} (hF : f_X9_isAhead a0 a1 a2 M = some (v0, M0)) : jMet l g yX9_isAhead cX9_isAhead 6 (some .boolean) rm_X9_isAhead [jR a0, jI a1, jI a2] M (some (jI v0)) M0 := by
  refine jMet.of (L := [(0, jR a0), (1, jI a1), (2, jI a2)]) (by decide) rfl (Nat.le_of_ble_eq_true rfl) (fun x C hxn hg hl hQ hin => ?_)
  subst hg
  unfold f_X9_isAhead at hF
  refine jj_aload_n C 0 rfl dX9_isAhead_0 rfl ?_
  refine jj_pR (f := 1) C jcs_7 (Nat.le_of_ble_eq_true rfl) (jLk.of C q802 rfl) dX9_isAhead_1 hF (fun v1 hF => ?_)
  refine jj_iload_n C 1 rfl dX9_isAhead_4 rfl ?_
  refine jj_aald (t := 5) C rfl dX9_isAhead_5 hF (fun v5 hF => ?_)
  refine jj_astore_n (L' := [(3, jR v5), (0, jR a0), (1, jI a1), (2, jI a2)]) C rfl (by rw [hxn]; decide) dX9_isAhead_6 rfl ?_
  refine jj_aload_n C 1 rfl dX9_isAhead_7 rfl ?_
  refine jj_pR (f := 1) C jcs_7 (Nat.le_of_ble_eq_true rfl) (jLk.of C q802 rfl) dX9_isAhead_8 hF (fun v8 hF => ?_)
  refine jj_iload_n C 3 rfl dX9_isAhead_11 rfl ?_
  refine jj_aald (t := 5) C rfl dX9_isAhead_12 hF (fun v12 hF => ?_)
  refine jj_astore (L' := [(4, jR v12), (3, jR v5), (0, jR a0), (1, jI a1), (2, jI a2)]) C rfl (by rw [hxn]; decide) dX9_isAhead_13 ?_
  refine jj_aload_n C 1 rfl dX9_isAhead_15 rfl ?_
  refine jj_pI (f := 1) C jcs_8 (Nat.le_of_ble_eq_true rfl) (jLk.nest C q783 rfl) dX9_isAhead_16 hF (fun v16 hF => ?_)
  refine jj_iconst (v := 1) C dX9_isAhead_19 (by decide) ?_
  refine jj_aload C 0 rfl dX9_isAhead_20 ?_
  refine jj_pI (f := 0) C jcs_8 (Nat.le_of_ble_eq_true rfl) (jLk.nest C q781 rfl) dX9_isAhead_22 hF (fun v22 hF => ?_)
  refine jj_max C q895 (Nat.zero_le _) (Nat.zero_le _) ⟨Nat.le_of_ble_eq_true rfl, Nat.le_of_ble_eq_true rfl⟩ dX9_isAhead_25 ?_
  refine jj_imul C dX9_isAhead_28 ?_
  refine jj_aload C 0 rfl dX9_isAhead_29 ?_
  refine jj_pI (f := 1) C jcs_8 (Nat.le_of_ble_eq_true rfl) (jLk.nest C q783 rfl) dX9_isAhead_31 hF (fun v31 hF => ?_)
  refine jj_iconst (v := 1) C dX9_isAhead_34 (by decide) ?_
  refine jj_aload_n C 1 rfl dX9_isAhead_35 rfl ?_
  refine jj_pI (f := 0) C jcs_8 (Nat.le_of_ble_eq_true rfl) (jLk.nest C q781 rfl) dX9_isAhead_36 hF (fun v36 hF => ?_)
  refine jj_max C q895 (Nat.zero_le _) (Nat.zero_le _) ⟨Nat.le_of_ble_eq_true rfl, Nat.le_of_ble_eq_true rfl⟩ dX9_isAhead_39 ?_
  refine jj_imul C dX9_isAhead_42 ?_
  refine jj_isub C dX9_isAhead_43 ?_
  refine jj_letI hF (fun t44 hF => ?_)
  refine jj_istore (L' := [(5, jI t44), (4, jR v12), (3, jR v5), (0, jR a0), (1, jI a1), (2, jI a2)]) C rfl (by rw [hxn]; decide) dX9_isAhead_44 ?_
  refine jj_iload C 0 rfl dX9_isAhead_46 ?_
  refine jj_if_eq (tgt := 56) C dX9_isAhead_48 (by decide) hF (fun hF => ?_) (fun hF => ?_)
  · refine jj_aload_n C 2 rfl dX9_isAhead_56 rfl ?_
    refine jj_pI (f := 2) C jcs_8 (Nat.le_of_ble_eq_true rfl) (jLk.nest C q785 rfl) dX9_isAhead_57 hF (fun v57 hF => ?_)
    refine jj_aload_n C 2 rfl dX9_isAhead_60 rfl ?_
    refine jj_pI (f := 3) C jcs_8 (Nat.le_of_ble_eq_true rfl) (jLk.nest C q787 rfl) dX9_isAhead_61 hF (fun v61 hF => ?_)
    refine jj_isub C dX9_isAhead_64 ?_
    refine jj_aload C 1 rfl dX9_isAhead_65 ?_
    refine jj_pI (f := 2) C jcs_8 (Nat.le_of_ble_eq_true rfl) (jLk.nest C q785 rfl) dX9_isAhead_67 hF (fun v67 hF => ?_)
    refine jj_aload C 1 rfl dX9_isAhead_70 ?_
    refine jj_pI (f := 3) C jcs_8 (Nat.le_of_ble_eq_true rfl) (jLk.nest C q787 rfl) dX9_isAhead_72 hF (fun v72 hF => ?_)
    refine jj_isub C dX9_isAhead_75 ?_
    refine jj_isub C dX9_isAhead_76 ?_
    refine jj_sub [4, 5, 2, 1] rfl ?_
    exact w_X9_isAhead_b77 C hxn hQ hF
  · refine jj_iload C 0 rfl dX9_isAhead_51 ?_
    refine jj_goto (tgt := 77) C dX9_isAhead_53 (by decide) ?_
    refine jj_sub [4, 5, 2, 1] rfl ?_
    exact w_X9_isAhead_b77 C hxn hQ hF
/-! Phrasehall$Pool.ranks()Ljava/util/ArrayList; -/
def rm_X9_ranks : Room := ({ frames := 6, cells := 14, slots := 1667, locals := 175 } : Room)
theorem hd_X9_ranks : yX9_ranks.cls ≠ "java/lang/invoke/MethodHandle" ∧ yX9_ranks.cls ≠ "java/lang/invoke/VarHandle" ∧ (parseMethodDescriptor yX9_ranks.desc).map (fun d => d.parameters.length) = some 0 := ⟨by decide, by decide, by decide +kernel⟩
def f_X9_ranks_b68 (K10 : Option Nat → Option Nat → Int32 → jW → Option (Option Nat × jW)) (l0 : Option Nat) (l1 : Option Nat) (l2 : Int32) (M : jW) : Option (Option Nat × jW) := K10 l0 l1 (l2 + (1 : Int32)) M
set_option maxHeartbeats 4000000 in
theorem w_X9_ranks_b68 {x : jX} (C : jOk x cX9_ranks RX9 rm_X9_ranks (some (.object "java/util/ArrayList"))) (hxn : xn x = 4) {v0 : Option Nat} {M0 : jW} (hQ : jEnd x rm_X9_ranks (some (jR v0)) M0) {K10 : Option Nat → Option Nat → Int32 → jW → Option (Option Nat × jW)} {n10 : Nat} (hK10 : ∀ (l0 : Option Nat) (l1 : Option Nat) (l2 : Int32) (M : jW) (k n : Nat), k + n10 * 1 ≤ 14 ∧ n + n10 * 128 ≤ 1667 → K10 l0 l1 l2 M = some (v0, M0) → jJ x 10 [(0, jR l0), (1, jR l1), (2, jI l2)] [] M k n) {l0 : Option Nat} {l1 : Option Nat} {l2 : Int32} {M : jW} {k n : Nat} (hk : k + n10 * 1 ≤ 14 ∧ n + n10 * 128 ≤ 1667) (hF : f_X9_ranks_b68 K10 l0 l1 l2 M = some (v0, M0)) : jJ x 68 [(0, jR l0), (1, jR l1), (2, jI l2)] [] M k n := by
  unfold f_X9_ranks_b68 at hF
  refine jj_iinc (c := 1) (L' := [(2, jI (l2 + (1 : Int32))), (0, jR l0), (1, jR l1)]) C 2 rfl (by decide) rfl (by rw [hxn]; decide) dX9_ranks_68 ?_
  refine jj_goto (tgt := 10) C dX9_ranks_71 (by decide) ?_
  refine jj_sub [1, 2, 0] rfl ?_
  exact hK10 _ _ _ _ _ _ (by omega) hF
def f_X9_ranks_b59 (K10 : Option Nat → Option Nat → Int32 → jW → Option (Option Nat × jW)) (l0 : Option Nat) (l1 : Option Nat) (l2 : Int32) (l3 : Int32) (M : jW) : Option (Option Nat × jW) := pB (f_J18_valueOf l2 M) fun r62 M62 =>
  pO M62 l1 9 fun b65 _ => pB (f_J2_add_3 (some b65) l3 r62 M62) fun _ M65 =>
  f_X9_ranks_b68 K10 l0 l1 l2 M65
set_option maxHeartbeats 4000000 in
theorem w_X9_ranks_b59 {x : jX} (C : jOk x cX9_ranks RX9 rm_X9_ranks (some (.object "java/util/ArrayList"))) (hxn : xn x = 4) {v0 : Option Nat} {M0 : jW} (hQ : jEnd x rm_X9_ranks (some (jR v0)) M0) {K10 : Option Nat → Option Nat → Int32 → jW → Option (Option Nat × jW)} {n10 : Nat} (hK10 : ∀ (l0 : Option Nat) (l1 : Option Nat) (l2 : Int32) (M : jW) (k n : Nat), k + n10 * 1 ≤ 14 ∧ n + n10 * 128 ≤ 1667 → K10 l0 l1 l2 M = some (v0, M0) → jJ x 10 [(0, jR l0), (1, jR l1), (2, jI l2)] [] M k n) {l0 : Option Nat} {l1 : Option Nat} {l2 : Int32} {l3 : Int32} {M : jW} {k n : Nat} (hk : k + 1 + n10 * 1 ≤ 14 ∧ n + 128 + n10 * 128 ≤ 1667) (hF : f_X9_ranks_b59 K10 l0 l1 l2 l3 M = some (v0, M0)) : jJ x 59 [(0, jR l0), (1, jR l1), (2, jI l2), (3, jI l3)] [] M k n := by
  unfold f_X9_ranks_b59 at hF
  refine jj_aload_n C 1 rfl dX9_ranks_59 rfl ?_
  refine jj_iload_n C 3 rfl dX9_ranks_60 rfl ?_
  refine jj_iload_n C 2 rfl dX9_ranks_61 rfl ?_
  obtain ⟨r62, M62, hG, hF⟩ := pB_spec hF
  refine jj_callS (k' := k) (n' := n) C [jI l2] [jI l3, jR l1] [jR r62, jI l3, jR l1] (m_J18_valueOf _ _ hG) q896 q897 q70 q898 hd_J18_valueOf rfl (Nat.le_of_ble_eq_true rfl) ⟨Nat.le_of_ble_eq_true rfl, Nat.le_of_ble_eq_true rfl⟩ ⟨by show k + 0 ≤ k; omega, by show n + 0 ≤ n; omega, by show k ≤ 14; omega, by show n ≤ 1667; omega⟩ dX9_ranks_62 rfl ?_
  obtain ⟨b65, fs65, he65, hb65, hF⟩ := pO_spec hF
  obtain ⟨r65, M65, hG, hF⟩ := pB_spec hF
  refine jj_callV (k' := k + 1) (n' := n + 128) C [jI l3, jR r62] [] [] he65 (m_J2_add_3 _ _ hG) hb65 rfl q916 q917 q918 q45 q919 ⟨rfl, hd_J2_add_3⟩ rfl (Nat.le_of_ble_eq_true rfl) ⟨Nat.le_of_ble_eq_true rfl, Nat.le_of_ble_eq_true rfl⟩ ⟨by show k + 1 ≤ k + 1; omega, by show n + 128 ≤ n + 128; omega, by show k + 1 ≤ 14; omega, by show n + 128 ≤ 1667; omega⟩ dX9_ranks_65 rfl ?_
  refine jj_sub [0, 1, 2] rfl ?_
  exact w_X9_ranks_b68 C hxn hQ hK10 (by omega) hF
def f_X9_ranks_b26 (K10 : Option Nat → Option Nat → Int32 → jW → Option (Option Nat × jW)) : Nat → Option Nat → Option Nat → Int32 → Int32 → jW → Option (Option Nat × jW)
  | 0, _, _, _, _, _ => none
  | q + 1, l0, l1, l2, l3, M => pO M l1 9 fun b28 _ => pB (f_J2_size (some b28)  M) fun r28 M28 =>
  if r28 ≤ l3 then (f_X9_ranks_b59 K10 l0 l1 l2 l3 M28)
  else (pO M28 l1 9 fun b37 _ => pB (f_J2_get (some b37) l3 M28) fun r37 M37 =>
  pCB M37 r37 fun v40 =>
  pBx M37 v40 fun b43 => pB (f_J18_intValue (some b43)  M37) fun r43 M43 =>
  pO M43 l0 7 fun b47 _ => pB (f_X9_isAhead (some b47) r43 l2 M43) fun r47 M47 =>
  if r47 = 0 then (f_X9_ranks_b59 K10 l0 l1 l2 l3 M47)
  else ((f_X9_ranks_b26 K10 q) l0 l1 l2 (l3 + (1 : Int32)) M47))
theorem f_X9_ranks_b26_s (K10 : Option Nat → Option Nat → Int32 → jW → Option (Option Nat × jW)) (q : Nat) (l0 : Option Nat) (l1 : Option Nat) (l2 : Int32) (l3 : Int32) (M : jW) : f_X9_ranks_b26 K10 (q + 1) l0 l1 l2 l3 M = (pO M l1 9 fun b28 _ => pB (f_J2_size (some b28)  M) fun r28 M28 =>
  if r28 ≤ l3 then (f_X9_ranks_b59 K10 l0 l1 l2 l3 M28)
  else (pO M28 l1 9 fun b37 _ => pB (f_J2_get (some b37) l3 M28) fun r37 M37 =>
  pCB M37 r37 fun v40 =>
  pBx M37 v40 fun b43 => pB (f_J18_intValue (some b43)  M37) fun r43 M43 =>
  pO M43 l0 7 fun b47 _ => pB (f_X9_isAhead (some b47) r43 l2 M43) fun r47 M47 =>
  if r47 = 0 then (f_X9_ranks_b59 K10 l0 l1 l2 l3 M47)
  else ((f_X9_ranks_b26 K10 q) l0 l1 l2 (l3 + (1 : Int32)) M47))) := rfl
set_option maxHeartbeats 4000000 in
theorem w_X9_ranks_b26 {x : jX} (C : jOk x cX9_ranks RX9 rm_X9_ranks (some (.object "java/util/ArrayList"))) (hxn : xn x = 4) {v0 : Option Nat} {M0 : jW} (hQ : jEnd x rm_X9_ranks (some (jR v0)) M0) {K10 : Option Nat → Option Nat → Int32 → jW → Option (Option Nat × jW)} {n10 : Nat} (hK10 : ∀ (l0 : Option Nat) (l1 : Option Nat) (l2 : Int32) (M : jW) (k n : Nat), k + n10 * 1 ≤ 14 ∧ n + n10 * 128 ≤ 1667 → K10 l0 l1 l2 M = some (v0, M0) → jJ x 10 [(0, jR l0), (1, jR l1), (2, jI l2)] [] M k n) : ∀ (n26 : Nat) (l0 : Option Nat) (l1 : Option Nat) (l2 : Int32) (l3 : Int32) (M : jW) (k n : Nat), k + n10 * 1 + 1 ≤ 14 ∧ n + n10 * 128 + 128 ≤ 1667 → f_X9_ranks_b26 K10 n26 l0 l1 l2 l3 M = some (v0, M0) → jJ x 26 [(0, jR l0), (1, jR l1), (2, jI l2), (3, jI l3)] [] M k n := by
  intro n26
  induction n26 with
  | zero =>
    intro l0 l1 l2 l3 M k n hk hF
    cases hF
  | succ n26 hK26 =>
    intro l0 l1 l2 l3 M k n hk hF
    rw [f_X9_ranks_b26_s] at hF
    refine jj_iload_n C 3 rfl dX9_ranks_26 rfl ?_
    refine jj_aload_n C 1 rfl dX9_ranks_27 rfl ?_
    obtain ⟨b28, fs28, he28, hb28, hF⟩ := pO_spec hF
    obtain ⟨r28, M28, hG, hF⟩ := pB_spec hF
    refine jj_callV (k' := k) (n' := n) C [] [jI l3] [jI r28, jI l3] he28 (m_J2_size _ _ hG) hb28 rfl q884 q148 q149 q45 q150 ⟨rfl, hd_J2_size⟩ rfl (Nat.le_of_ble_eq_true rfl) ⟨Nat.le_of_ble_eq_true rfl, Nat.le_of_ble_eq_true rfl⟩ ⟨by show k + 0 ≤ k; omega, by show n + 0 ≤ n; omega, by show k ≤ 14; omega, by show n ≤ 1667; omega⟩ dX9_ranks_28 rfl ?_
    refine jj_icmp_ge (tgt := 59) C dX9_ranks_31 (by decide) hF (fun hF => ?_) (fun hF => ?_)
    · refine jj_sub [0, 1, 2, 3] rfl ?_
      exact w_X9_ranks_b59 C hxn hQ hK10 (by omega) hF
    · refine jj_aload_n C 0 rfl dX9_ranks_34 rfl ?_
      refine jj_aload_n C 1 rfl dX9_ranks_35 rfl ?_
      refine jj_iload_n C 3 rfl dX9_ranks_36 rfl ?_
      obtain ⟨b37, fs37, he37, hb37, hF⟩ := pO_spec hF
      obtain ⟨r37, M37, hG, hF⟩ := pB_spec hF
      refine jj_callV (k' := k) (n' := n) C [jI l3] [jR l0] [jR r37, jR l0] he37 (m_J2_get _ _ hG) hb37 rfl q885 q179 q180 q45 q181 ⟨rfl, hd_J2_get⟩ rfl (Nat.le_of_ble_eq_true rfl) ⟨Nat.le_of_ble_eq_true rfl, Nat.le_of_ble_eq_true rfl⟩ ⟨by show k + 0 ≤ k; omega, by show n + 0 ≤ n; omega, by show k ≤ 14; omega, by show n ≤ 1667; omega⟩ dX9_ranks_37 rfl ?_
      refine jj_castB C q886 dX9_ranks_40 hF (fun v40 hF => ?_)
      obtain ⟨b43, he43, hb43, hF⟩ := pBx_spec hF
      obtain ⟨r43, M43, hG, hF⟩ := pB_spec hF
      refine jj_callB (k' := k) (n' := n) C [] [jR l0] [jI r43, jR l0] he43 (m_J18_intValue _ _ hG) hb43 q887 q888 q889 q70 q890 ⟨rfl, hd_J18_intValue⟩ rfl (Nat.le_of_ble_eq_true rfl) ⟨Nat.le_of_ble_eq_true rfl, Nat.le_of_ble_eq_true rfl⟩ ⟨by show k + 0 ≤ k; omega, by show n + 0 ≤ n; omega, by show k ≤ 14; omega, by show n ≤ 1667; omega⟩ dX9_ranks_43 rfl ?_
      refine jj_iload_n C 2 rfl dX9_ranks_46 rfl ?_
      obtain ⟨b47, fs47, he47, hb47, hF⟩ := pO_spec hF
      obtain ⟨r47, M47, hG, hF⟩ := pB_spec hF
      refine jj_callV (k' := k) (n' := n) C [jI r43, jI l2] [] [jI r47] he47 (m_X9_isAhead _ _ hG) hb47 rfl q891 q893 qs17 q71 q894 ⟨rfl, hd_X9_isAhead⟩ rfl (Nat.le_of_ble_eq_true rfl) ⟨Nat.le_of_ble_eq_true rfl, Nat.le_of_ble_eq_true rfl⟩ ⟨by show k + 0 ≤ k; omega, by show n + 0 ≤ n; omega, by show k ≤ 14; omega, by show n ≤ 1667; omega⟩ dX9_ranks_47 rfl ?_
      refine jj_if_eq (tgt := 59) C dX9_ranks_50 (by decide) hF (fun hF => ?_) (fun hF => ?_)
      · refine jj_sub [0, 1, 2, 3] rfl ?_
        exact w_X9_ranks_b59 C hxn hQ hK10 (by omega) hF
      · refine jj_iinc (c := 1) (L' := [(3, jI (l3 + (1 : Int32))), (0, jR l0), (1, jR l1), (2, jI l2)]) C 3 rfl (by decide) rfl (by rw [hxn]; decide) dX9_ranks_53 ?_
        refine jj_goto (tgt := 26) C dX9_ranks_56 (by decide) ?_
        refine jj_sub [1, 2, 3, 0] rfl ?_
        exact hK26 _ _ _ _ _ _ _ (by omega) hF
def f_X9_ranks_b10 : Nat → Option Nat → Option Nat → Int32 → jW → Option (Option Nat × jW)
  | 0, _, _, _, _ => none
  | q + 1, l0, l1, l2, M => if (12 : Int32) ≤ l2 then (some (l1, M))
  else (pO M l0 7 fun b18 _ => pB (f_X9_isIn (some b18) l2 M) fun r18 M18 =>
  if r18 = 0 then (f_X9_ranks_b68 (f_X9_ranks_b10 q) l0 l1 l2 M18)
  else (f_X9_ranks_b26 (f_X9_ranks_b10 q) 1000 l0 l1 l2 (0 : Int32) M18))
theorem f_X9_ranks_b10_s (q : Nat) (l0 : Option Nat) (l1 : Option Nat) (l2 : Int32) (M : jW) : f_X9_ranks_b10 (q + 1) l0 l1 l2 M = (if (12 : Int32) ≤ l2 then (some (l1, M))
  else (pO M l0 7 fun b18 _ => pB (f_X9_isIn (some b18) l2 M) fun r18 M18 =>
  if r18 = 0 then (f_X9_ranks_b68 (f_X9_ranks_b10 q) l0 l1 l2 M18)
  else (f_X9_ranks_b26 (f_X9_ranks_b10 q) 1000 l0 l1 l2 (0 : Int32) M18))) := rfl
set_option maxHeartbeats 4000000 in
theorem w_X9_ranks_b10 {x : jX} (C : jOk x cX9_ranks RX9 rm_X9_ranks (some (.object "java/util/ArrayList"))) (hxn : xn x = 4) {v0 : Option Nat} {M0 : jW} (hQ : jEnd x rm_X9_ranks (some (jR v0)) M0) : ∀ (n10 : Nat) (l0 : Option Nat) (l1 : Option Nat) (l2 : Int32) (M : jW) (k n : Nat), k + n10 * 1 ≤ 14 ∧ n + n10 * 128 ≤ 1667 → f_X9_ranks_b10 n10 l0 l1 l2 M = some (v0, M0) → jJ x 10 [(0, jR l0), (1, jR l1), (2, jI l2)] [] M k n := by
  intro n10
  induction n10 with
  | zero =>
    intro l0 l1 l2 M k n hk hF
    cases hF
  | succ n10 hK10 =>
    intro l0 l1 l2 M k n hk hF
    rw [f_X9_ranks_b10_s] at hF
    refine jj_iload_n C 2 rfl dX9_ranks_10 rfl ?_
    refine jj_bipush (v := 12) C dX9_ranks_11 (by decide) ?_
    refine jj_icmp_ge (tgt := 74) C dX9_ranks_13 (by decide) hF (fun hF => ?_) (fun hF => ?_)
    · refine jj_aload_n C 1 rfl dX9_ranks_74 rfl ?_
      exact jj_aret C (by first | exact Or.inl ⟨_, rfl⟩ | exact Or.inr ⟨_, rfl⟩) hQ dX9_ranks_75 hF (by show k ≤ 14; omega) (by show n ≤ 1667; omega)
    · refine jj_aload_n C 0 rfl dX9_ranks_16 rfl ?_
      refine jj_iload_n C 2 rfl dX9_ranks_17 rfl ?_
      obtain ⟨b18, fs18, he18, hb18, hF⟩ := pO_spec hF
      obtain ⟨r18, M18, hG, hF⟩ := pB_spec hF
      refine jj_callV (k' := k) (n' := n) C [jI l2] [] [jI r18] he18 (m_X9_isIn _ _ hG) hb18 rfl q690 q470 q471 q71 q472 ⟨rfl, hd_X9_isIn⟩ rfl (Nat.le_of_ble_eq_true rfl) ⟨Nat.le_of_ble_eq_true rfl, Nat.le_of_ble_eq_true rfl⟩ ⟨by show k + 0 ≤ k; omega, by show n + 0 ≤ n; omega, by show k ≤ 14; omega, by show n ≤ 1667; omega⟩ dX9_ranks_18 rfl ?_
      refine jj_if_eq (tgt := 68) C dX9_ranks_21 (by decide) hF (fun hF => ?_) (fun hF => ?_)
      · refine jj_sub [0, 1, 2] rfl ?_
        exact w_X9_ranks_b68 C hxn hQ hK10 (by omega) hF
      · refine jj_iconst (v := 0) C dX9_ranks_24 (by decide) ?_
        refine jj_istore_n (L' := [(3, jI (0 : Int32)), (0, jR l0), (1, jR l1), (2, jI l2)]) C rfl (by rw [hxn]; decide) dX9_ranks_25 rfl ?_
        refine jj_sub [1, 2, 3, 0] rfl ?_
        exact w_X9_ranks_b26 C hxn hQ hK10 1000 _ _ _ _ _ _ _ (by omega) hF
def f_X9_ranks (a0 : Option Nat) (M : jW) : Option (Option Nat × jW) := pN M 9 [.int 0, .null, .int 0] fun q0 M0 =>
  pSm (some q0) fun b4 => pB (f_J2_init (some b4)  M0) fun _ M4 =>
  f_X9_ranks_b10 13 a0 (some q0) (0 : Int32) M4
set_option maxHeartbeats 4000000 in
theorem m_X9_ranks (l : Launch) (g : jG) {a0 : Option Nat} {M M0 : jW} {v0 : Option Nat} (hF : f_X9_ranks a0 M = some (v0, M0)) : jMet l g yX9_ranks cX9_ranks 4 (some (.object "java/util/ArrayList")) rm_X9_ranks [jR a0] M (some (jR v0)) M0 := by
  refine jMet.of (L := [(0, jR a0)]) (by decide) rfl (Nat.le_of_ble_eq_true rfl) (fun x C hxn hg hl hQ hin => ?_)
  subst hg
  unfold f_X9_ranks at hF
  refine jj_new C jcs_9 q882 q88 q45 (by intro j hj; rcases (show j = 0 ∨ j = 1 ∨ j = 2 by omega) with rfl | rfl | rfl <;> rfl) (by show 0 + 1 ≤ 14; omega) (by show 0 + 3 ≤ 1667; omega) dX9_ranks_0 hF (fun q0 M0 hF => ?_)
  refine jj_dup C dX9_ranks_3 rfl ?_
  obtain ⟨b4, hb4, hF⟩ := pSm_spec hF
  obtain ⟨r4, M4, hG, hF⟩ := pB_spec hF
  refine jj_callI (k' := 0 + 1) (n' := 0 + 3) C [] [jR (some q0)] hb4 (m_J2_init _ _ hG) q883 q90 q45 q91 rfl hd_J2_init rfl (Nat.le_of_ble_eq_true rfl) ⟨Nat.le_of_ble_eq_true rfl, Nat.le_of_ble_eq_true rfl⟩ ⟨by show 0 + 1 + 0 ≤ 0 + 1; omega, by show 0 + 3 + 0 ≤ 0 + 3; omega, by show 0 + 1 ≤ 14; omega, by show 0 + 3 ≤ 1667; omega⟩ dX9_ranks_4 ?_
  refine jj_astore_n (L' := [(1, jR (some q0)), (0, jR a0)]) C rfl (by rw [hxn]; decide) dX9_ranks_7 rfl ?_
  refine jj_iconst (v := 0) C dX9_ranks_8 (by decide) ?_
  refine jj_istore_n (L' := [(2, jI (0 : Int32)), (1, jR (some q0)), (0, jR a0)]) C rfl (by rw [hxn]; decide) dX9_ranks_9 rfl ?_
  refine jj_sub [2, 1, 0] rfl ?_
  exact w_X9_ranks_b10 C hxn hQ 13 _ _ _ _ _ _ (by omega) hF
/-! Phrasehall.meets(I)V -/
def rm_X1_meets : Room := ({ frames := 4, cells := 0, slots := 0, locals := 128 } : Room)
theorem hd_X1_meets : yX1_meets.cls ≠ "java/lang/invoke/MethodHandle" ∧ yX1_meets.cls ≠ "java/lang/invoke/VarHandle" ∧ (parseMethodDescriptor yX1_meets.desc).map (fun d => d.parameters.length) = some 1 := ⟨by decide, by decide, by decide +kernel⟩
def f_X1_meets_b94 (K29 : Option Nat → Option Nat → Int32 → jW → Option (Unit × jW)) (l2 : Option Nat) (l3 : Option Nat) (l4 : Int32) (s0 : Option Nat) (s1 : Int32) (s2 : Int32) (M : jW) : Option (Unit × jW) := pSI M s0 s1 s2 fun M94 =>
  K29 l2 l3 (l4 + (1 : Int32)) M94
set_option maxHeartbeats 4000000 in
theorem w_X1_meets_b94 {x : jX} (C : jOk x cX1_meets RX1 rm_X1_meets none) (hxn : xn x = 6) {v0 : Unit} {M0 : jW} (hQ : jEnd x rm_X1_meets none M0) {K29 : Option Nat → Option Nat → Int32 → jW → Option (Unit × jW)} (hK29 : ∀ (l2 : Option Nat) (l3 : Option Nat) (l4 : Int32) (M : jW), K29 l2 l3 l4 M = some (v0, M0) → jJ x 29 [(2, jR l2), (3, jR l3), (4, jI l4)] [] M 0 0) {l2 : Option Nat} {l3 : Option Nat} {l4 : Int32} {s0 : Option Nat} {s1 : Int32} {s2 : Int32} {M : jW} (hF : f_X1_meets_b94 K29 l2 l3 l4 s0 s1 s2 M = some (v0, M0)) : jJ x 94 [(2, jR l2), (3, jR l3), (4, jI l4)] [jI s2, jI s1, jR s0] M 0 0 := by
  unfold f_X1_meets_b94 at hF
  refine jj_iast C dX1_meets_94 hF (fun M94 hF => ?_)
  refine jj_iinc (c := 1) (L' := [(4, jI (l4 + (1 : Int32))), (2, jR l2), (3, jR l3)]) C 2 rfl (by decide) rfl (by rw [hxn]; decide) dX1_meets_95 ?_
  refine jj_goto (tgt := 29) C dX1_meets_98 (by decide) ?_
  refine jj_sub [1, 2, 0] rfl ?_
  exact hK29 _ _ _ _ hF
def f_X1_meets_b63 (K29 : Option Nat → Option Nat → Int32 → jW → Option (Unit × jW)) (l2 : Option Nat) (l3 : Option Nat) (l4 : Int32) (s0 : Int32) (M : jW) : Option (Unit × jW) := if s0 = 0 then (f_X1_meets_b94 K29 l2 l3 l4 l3 l4 (-1 : Int32) M)
  else (pAI M l2 0 ((2 : Int32) * l4) fun v78 =>
  pAI M l2 0 (((2 : Int32) * l4) + (1 : Int32)) fun v86 =>
  f_X1_meets_b94 K29 l2 l3 l4 l3 l4 (if v78 < v86 then v86 else v78) M)
set_option maxHeartbeats 4000000 in
theorem w_X1_meets_b63 {x : jX} (C : jOk x cX1_meets RX1 rm_X1_meets none) (hxn : xn x = 6) {v0 : Unit} {M0 : jW} (hQ : jEnd x rm_X1_meets none M0) {K29 : Option Nat → Option Nat → Int32 → jW → Option (Unit × jW)} (hK29 : ∀ (l2 : Option Nat) (l3 : Option Nat) (l4 : Int32) (M : jW), K29 l2 l3 l4 M = some (v0, M0) → jJ x 29 [(2, jR l2), (3, jR l3), (4, jI l4)] [] M 0 0) {l2 : Option Nat} {l3 : Option Nat} {l4 : Int32} {s0 : Int32} {M : jW} (hF : f_X1_meets_b63 K29 l2 l3 l4 s0 M = some (v0, M0)) : jJ x 63 [(2, jR l2), (3, jR l3), (4, jI l4)] [jI s0] M 0 0 := by
  unfold f_X1_meets_b63 at hF
  refine jj_istore (L' := [(5, jI s0), (2, jR l2), (3, jR l3), (4, jI l4)]) C rfl (by rw [hxn]; decide) dX1_meets_63 ?_
  refine jj_aload_n C 2 rfl dX1_meets_65 rfl ?_
  refine jj_iload C 3 rfl dX1_meets_66 ?_
  refine jj_iload C 0 rfl dX1_meets_68 ?_
  refine jj_if_eq (tgt := 93) C dX1_meets_70 (by decide) hF (fun hF => ?_) (fun hF => ?_)
  · refine jj_iconst (v := -1) C dX1_meets_93 (by decide) ?_
    refine jj_sub [1, 2, 3] rfl ?_
    exact w_X1_meets_b94 C hxn hQ hK29 hF
  · refine jj_aload_n C 1 rfl dX1_meets_73 rfl ?_
    refine jj_iconst (v := 2) C dX1_meets_74 (by decide) ?_
    refine jj_iload C 3 rfl dX1_meets_75 ?_
    refine jj_imul C dX1_meets_77 ?_
    refine jj_iald C dX1_meets_78 hF (fun v78 hF => ?_)
    refine jj_aload_n C 1 rfl dX1_meets_79 rfl ?_
    refine jj_iconst (v := 2) C dX1_meets_80 (by decide) ?_
    refine jj_iload C 3 rfl dX1_meets_81 ?_
    refine jj_imul C dX1_meets_83 ?_
    refine jj_iconst (v := 1) C dX1_meets_84 (by decide) ?_
    refine jj_iadd C dX1_meets_85 ?_
    refine jj_iald C dX1_meets_86 hF (fun v86 hF => ?_)
    refine jj_max C q659 (Nat.zero_le _) (Nat.zero_le _) ⟨Nat.le_of_ble_eq_true rfl, Nat.le_of_ble_eq_true rfl⟩ dX1_meets_87 ?_
    refine jj_goto (tgt := 94) C dX1_meets_90 (by decide) ?_
    refine jj_sub [1, 2, 3] rfl ?_
    exact w_X1_meets_b94 C hxn hQ hK29 hF
def f_X1_meets_b58 (K29 : Option Nat → Option Nat → Int32 → jW → Option (Unit × jW)) (l2 : Option Nat) (l3 : Option Nat) (l4 : Int32) (M : jW) : Option (Unit × jW) := f_X1_meets_b63 K29 l2 l3 l4 (1 : Int32) M
set_option maxHeartbeats 4000000 in
theorem w_X1_meets_b58 {x : jX} (C : jOk x cX1_meets RX1 rm_X1_meets none) (hxn : xn x = 6) {v0 : Unit} {M0 : jW} (hQ : jEnd x rm_X1_meets none M0) {K29 : Option Nat → Option Nat → Int32 → jW → Option (Unit × jW)} (hK29 : ∀ (l2 : Option Nat) (l3 : Option Nat) (l4 : Int32) (M : jW), K29 l2 l3 l4 M = some (v0, M0) → jJ x 29 [(2, jR l2), (3, jR l3), (4, jI l4)] [] M 0 0) {l2 : Option Nat} {l3 : Option Nat} {l4 : Int32} {M : jW} (hF : f_X1_meets_b58 K29 l2 l3 l4 M = some (v0, M0)) : jJ x 58 [(2, jR l2), (3, jR l3), (4, jI l4)] [] M 0 0 := by
  unfold f_X1_meets_b58 at hF
  refine jj_iconst (v := 1) C dX1_meets_58 (by decide) ?_
  refine jj_goto (tgt := 63) C dX1_meets_59 (by decide) ?_
  refine jj_sub [0, 1, 2] rfl ?_
  exact w_X1_meets_b63 C hxn hQ hK29 hF
def f_X1_meets_b29 : Nat → Option Nat → Option Nat → Int32 → jW → Option (Unit × jW)
  | 0, _, _, _, _ => none
  | q + 1, l2, l3, l4, M => pLen M l3 fun v32 =>
  if v32 ≤ l4 then (some ((), M))
  else (pAI M l2 0 ((2 : Int32) * l4) fun v41 =>
  if v41 = (-1 : Int32) then (f_X1_meets_b58 (f_X1_meets_b29 q) l2 l3 l4 M)
  else (pAI M l2 0 (((2 : Int32) * l4) + (1 : Int32)) fun v53 =>
  if v53 = (-1 : Int32) then (f_X1_meets_b58 (f_X1_meets_b29 q) l2 l3 l4 M)
  else (f_X1_meets_b63 (f_X1_meets_b29 q) l2 l3 l4 (0 : Int32) M)))
theorem f_X1_meets_b29_s (q : Nat) (l2 : Option Nat) (l3 : Option Nat) (l4 : Int32) (M : jW) : f_X1_meets_b29 (q + 1) l2 l3 l4 M = (pLen M l3 fun v32 =>
  if v32 ≤ l4 then (some ((), M))
  else (pAI M l2 0 ((2 : Int32) * l4) fun v41 =>
  if v41 = (-1 : Int32) then (f_X1_meets_b58 (f_X1_meets_b29 q) l2 l3 l4 M)
  else (pAI M l2 0 (((2 : Int32) * l4) + (1 : Int32)) fun v53 =>
  if v53 = (-1 : Int32) then (f_X1_meets_b58 (f_X1_meets_b29 q) l2 l3 l4 M)
  else (f_X1_meets_b63 (f_X1_meets_b29 q) l2 l3 l4 (0 : Int32) M)))) := rfl
set_option maxHeartbeats 4000000 in
theorem w_X1_meets_b29 {x : jX} (C : jOk x cX1_meets RX1 rm_X1_meets none) (hxn : xn x = 6) {v0 : Unit} {M0 : jW} (hQ : jEnd x rm_X1_meets none M0) : ∀ (n29 : Nat) (l2 : Option Nat) (l3 : Option Nat) (l4 : Int32) (M : jW), f_X1_meets_b29 n29 l2 l3 l4 M = some (v0, M0) → jJ x 29 [(2, jR l2), (3, jR l3), (4, jI l4)] [] M 0 0 := by
  intro n29
  induction n29 with
  | zero =>
    intro l2 l3 l4 M hF
    cases hF
  | succ n29 hK29 =>
    intro l2 l3 l4 M hF
    rw [f_X1_meets_b29_s] at hF
    refine jj_iload C 2 rfl dX1_meets_29 ?_
    refine jj_aload_n C 1 rfl dX1_meets_31 rfl ?_
    refine jj_alen C dX1_meets_32 hF (fun v32 hF => ?_)
    refine jj_icmp_ge (tgt := 101) C dX1_meets_33 (by decide) hF (fun hF => ?_) (fun hF => ?_)
    · exact jj_vret C hQ dX1_meets_101 hF (Nat.zero_le _) (Nat.zero_le _)
    · refine jj_aload_n C 0 rfl dX1_meets_36 rfl ?_
      refine jj_iconst (v := 2) C dX1_meets_37 (by decide) ?_
      refine jj_iload C 2 rfl dX1_meets_38 ?_
      refine jj_imul C dX1_meets_40 ?_
      refine jj_iald C dX1_meets_41 hF (fun v41 hF => ?_)
      refine jj_iconst (v := -1) C dX1_meets_42 (by decide) ?_
      refine jj_icmp_eq (tgt := 58) C dX1_meets_43 (by decide) hF (fun hF => ?_) (fun hF => ?_)
      · refine jj_sub [0, 1, 2] rfl ?_
        exact w_X1_meets_b58 C hxn hQ hK29 hF
      · refine jj_aload_n C 0 rfl dX1_meets_46 rfl ?_
        refine jj_iconst (v := 2) C dX1_meets_47 (by decide) ?_
        refine jj_iload C 2 rfl dX1_meets_48 ?_
        refine jj_imul C dX1_meets_50 ?_
        refine jj_iconst (v := 1) C dX1_meets_51 (by decide) ?_
        refine jj_iadd C dX1_meets_52 ?_
        refine jj_iald C dX1_meets_53 hF (fun v53 hF => ?_)
        refine jj_iconst (v := -1) C dX1_meets_54 (by decide) ?_
        refine jj_icmp_ne (tgt := 62) C dX1_meets_55 (by decide) hF (fun hF => ?_) (fun hF => ?_)
        · refine jj_iconst (v := 0) C dX1_meets_62 (by decide) ?_
          refine jj_sub [0, 1, 2] rfl ?_
          exact w_X1_meets_b63 C hxn hQ hK29 hF
        · refine jj_sub [0, 1, 2] rfl ?_
          exact w_X1_meets_b58 C hxn hQ hK29 hF
def f_X1_meets (a0 : Option Nat) (a1 : Int32) (M : jW) : Option (Unit × jW) := pR M a0 0 7 fun v1 =>
  pO M v1 9 fun b5 _ => pB (f_J2_get (some b5) a1 M) fun r5 M5 =>
  pCA M5 r5 0 fun v8 =>
  pR M5 a0 0 7 fun v13 =>
  pO M5 v13 9 fun b19 _ => pB (f_J2_get (some b19) (a1 + (1 : Int32)) M5) fun r19 M19 =>
  pCA M19 r19 0 fun v22 =>
  f_X1_meets_b29 1000 v8 v22 (0 : Int32) M19
set_option maxHeartbeats 4000000 in
theorem m_X1_meets (l : Launch) (g : jG) {a0 : Option Nat} {a1 : Int32} {M M0 : jW} {v0 : Unit} (hF : f_X1_meets a0 a1 M = some (v0, M0)) : jMet l g yX1_meets cX1_meets 6 none rm_X1_meets [jR a0, jI a1] M none M0 := by
  refine jMet.of (L := [(0, jR a0), (1, jI a1)]) (by decide) rfl (Nat.le_of_ble_eq_true rfl) (fun x C hxn hg hl hQ hin => ?_)
  subst hg
  unfold f_X1_meets at hF
  refine jj_aload_n C 0 rfl dX1_meets_0 rfl ?_
  refine jj_pR (f := 7) C jcs_0 (Nat.le_of_ble_eq_true rfl) (jLk.of C q125 rfl) dX1_meets_1 hF (fun v1 hF => ?_)
  refine jj_iload_n C 1 rfl dX1_meets_4 rfl ?_
  obtain ⟨b5, fs5, he5, hb5, hF⟩ := pO_spec hF
  obtain ⟨r5, M5, hG, hF⟩ := pB_spec hF
  refine jj_callV (k' := 0) (n' := 0) C [jI a1] [] [jR r5] he5 (m_J2_get _ _ hG) hb5 rfl q178 q179 q180 q45 q181 ⟨rfl, hd_J2_get⟩ rfl (Nat.le_of_ble_eq_true rfl) ⟨Nat.le_of_ble_eq_true rfl, Nat.le_of_ble_eq_true rfl⟩ ⟨Nat.le_refl _, Nat.le_refl _, Nat.le_refl _, Nat.le_refl _⟩ dX1_meets_5 rfl ?_
  refine jj_castA0 C q1166 dX1_meets_8 hF (fun v8 hF => ?_)
  refine jj_astore_n (L' := [(2, jR v8), (0, jR a0), (1, jI a1)]) C rfl (by rw [hxn]; decide) dX1_meets_11 rfl ?_
  refine jj_aload_n C 1 rfl dX1_meets_12 rfl ?_
  refine jj_pR (f := 7) C jcs_0 (Nat.le_of_ble_eq_true rfl) (jLk.of C q125 rfl) dX1_meets_13 hF (fun v13 hF => ?_)
  refine jj_iload_n C 2 rfl dX1_meets_16 rfl ?_
  refine jj_iconst (v := 1) C dX1_meets_17 (by decide) ?_
  refine jj_iadd C dX1_meets_18 ?_
  obtain ⟨b19, fs19, he19, hb19, hF⟩ := pO_spec hF
  obtain ⟨r19, M19, hG, hF⟩ := pB_spec hF
  refine jj_callV (k' := 0) (n' := 0) C [jI (a1 + (1 : Int32))] [] [jR r19] he19 (m_J2_get _ _ hG) hb19 rfl q178 q179 q180 q45 q181 ⟨rfl, hd_J2_get⟩ rfl (Nat.le_of_ble_eq_true rfl) ⟨Nat.le_of_ble_eq_true rfl, Nat.le_of_ble_eq_true rfl⟩ ⟨Nat.le_refl _, Nat.le_refl _, Nat.le_refl _, Nat.le_refl _⟩ dX1_meets_19 rfl ?_
  refine jj_castA0 C q1166 dX1_meets_22 hF (fun v22 hF => ?_)
  refine jj_astore_n (L' := [(3, jR v22), (2, jR v8), (0, jR a0), (1, jI a1)]) C rfl (by rw [hxn]; decide) dX1_meets_25 rfl ?_
  refine jj_iconst (v := 0) C dX1_meets_26 (by decide) ?_
  refine jj_istore (L' := [(4, jI (0 : Int32)), (3, jR v22), (2, jR v8), (0, jR a0), (1, jI a1)]) C rfl (by rw [hxn]; decide) dX1_meets_27 ?_
  refine jj_sub [2, 1, 0] rfl ?_
  exact w_X1_meets_b29 C hxn hQ 1000 _ _ _ _ hF
/-! Phrasehall.tableau(I)I -/
def rm_X1_tableau : Room := ({ frames := 8, cells := 36, slots := 2769, locals := 198 } : Room)
theorem hd_X1_tableau : yX1_tableau.cls ≠ "java/lang/invoke/MethodHandle" ∧ yX1_tableau.cls ≠ "java/lang/invoke/VarHandle" ∧ (parseMethodDescriptor yX1_tableau.desc).map (fun d => d.parameters.length) = some 1 := ⟨by decide, by decide, by decide +kernel⟩
def f_X1_tableau_b206 (K191 : Option Nat → Option Nat → Int32 → jW → Option ((Int32 ⊕ Nat) × jW)) : Nat → Option Nat → Option Nat → Int32 → Option Nat → Int32 → jW → Option ((Int32 ⊕ Nat) × jW)
  | 0, _, _, _, _, _, _ => none
  | q + 1, l0, l3, l5, l6, l7, M => if l5 ≤ l7 then (pR M l0 0 7 fun v226 =>
  pO M v226 9 fun b231 _ => pB (f_J2_add (some b231) l6 M) fun r231 M231 =>
  pLt (l5 / (2 : Int32)) fun t239 =>
  K191 l0 l3 t239 M231)
  else (pSI M l6 l7 (-1 : Int32) fun M218 =>
  (f_X1_tableau_b206 K191 q) l0 l3 l5 l6 (l7 + (1 : Int32)) M218)
theorem f_X1_tableau_b206_s (K191 : Option Nat → Option Nat → Int32 → jW → Option ((Int32 ⊕ Nat) × jW)) (q : Nat) (l0 : Option Nat) (l3 : Option Nat) (l5 : Int32) (l6 : Option Nat) (l7 : Int32) (M : jW) : f_X1_tableau_b206 K191 (q + 1) l0 l3 l5 l6 l7 M = (if l5 ≤ l7 then (pR M l0 0 7 fun v226 =>
  pO M v226 9 fun b231 _ => pB (f_J2_add (some b231) l6 M) fun r231 M231 =>
  pLt (l5 / (2 : Int32)) fun t239 =>
  K191 l0 l3 t239 M231)
  else (pSI M l6 l7 (-1 : Int32) fun M218 =>
  (f_X1_tableau_b206 K191 q) l0 l3 l5 l6 (l7 + (1 : Int32)) M218)) := rfl
set_option maxHeartbeats 4000000 in
theorem w_X1_tableau_b206 {x : jX} (C : jOk x cX1_tableau RX1 rm_X1_tableau (some .int)) (hxn : xn x = 8) {v0 : (Int32 ⊕ Nat)} {M0 : jW} (hQ : jEndX x rm_X1_tableau (jri v0) M0) {K191 : Option Nat → Option Nat → Int32 → jW → Option ((Int32 ⊕ Nat) × jW)} {n191 : Nat} (hK191 : ∀ (l0 : Option Nat) (l3 : Option Nat) (l5 : Int32) (M : jW) (k n : Nat), k + n191 * 2 ≤ 36 ∧ n + n191 * 144 ≤ 2769 → K191 l0 l3 l5 M = some (v0, M0) → jJ x 191 [(0, jR l0), (3, jR l3), (5, jI l5)] [] M k n) : ∀ (n206 : Nat) (l0 : Option Nat) (l3 : Option Nat) (l5 : Int32) (l6 : Option Nat) (l7 : Int32) (M : jW) (k n : Nat), k + n191 * 2 + 1 ≤ 36 ∧ n + n191 * 144 + 128 ≤ 2769 → f_X1_tableau_b206 K191 n206 l0 l3 l5 l6 l7 M = some (v0, M0) → jJ x 206 [(0, jR l0), (3, jR l3), (5, jI l5), (6, jR l6), (7, jI l7)] [] M k n := by
  intro n206
  induction n206 with
  | zero =>
    intro l0 l3 l5 l6 l7 M k n hk hF
    cases hF
  | succ n206 hK206 =>
    intro l0 l3 l5 l6 l7 M k n hk hF
    rw [f_X1_tableau_b206_s] at hF
    refine jj_iload C 4 rfl dX1_tableau_206 ?_
    refine jj_iload C 2 rfl dX1_tableau_208 ?_
    refine jj_icmp_ge (tgt := 225) C dX1_tableau_210 (by decide) hF (fun hF => ?_) (fun hF => ?_)
    · refine jj_aload_n C 0 rfl dX1_tableau_225 rfl ?_
      refine jj_pR (f := 7) C jcs_0 (Nat.le_of_ble_eq_true rfl) (jLk.of C q125 rfl) dX1_tableau_226 hF (fun v226 hF => ?_)
      refine jj_aload C 3 rfl dX1_tableau_229 ?_
      obtain ⟨b231, fs231, he231, hb231, hF⟩ := pO_spec hF
      obtain ⟨r231, M231, hG, hF⟩ := pB_spec hF
      refine jj_callV (k' := k + 1) (n' := n + 128) C [jR l6] [] [jI r231] he231 (m_J2_add _ _ hG) hb231 rfl q314 q315 q316 q45 q317 ⟨rfl, hd_J2_add⟩ rfl (Nat.le_of_ble_eq_true rfl) ⟨Nat.le_of_ble_eq_true rfl, Nat.le_of_ble_eq_true rfl⟩ ⟨by show k + 1 ≤ k + 1; omega, by show n + 128 ≤ n + 128; omega, by show k + 1 ≤ 36; omega, by show n + 128 ≤ 2769; omega⟩ dX1_tableau_231 rfl ?_
      refine jj_pop C dX1_tableau_234 rfl ?_
      refine jj_iload C 2 rfl dX1_tableau_235 ?_
      refine jj_iconst (v := 2) C dX1_tableau_237 (by decide) ?_
      refine jj_idivL C dX1_tableau_238 (by decide) ?_
      refine jj_letI hF (fun t239 hF => ?_)
      refine jj_istore (L' := [(5, jI t239), (0, jR l0), (3, jR l3), (6, jR l6), (7, jI l7)]) C rfl (by rw [hxn]; decide) dX1_tableau_239 ?_
      refine jj_goto (tgt := 191) C dX1_tableau_241 (by decide) ?_
      refine jj_sub [1, 2, 0] rfl ?_
      exact hK191 _ _ _ _ _ _ (by omega) hF
    · refine jj_aload C 3 rfl dX1_tableau_213 ?_
      refine jj_iload C 4 rfl dX1_tableau_215 ?_
      refine jj_iconst (v := -1) C dX1_tableau_217 (by decide) ?_
      refine jj_iast C dX1_tableau_218 hF (fun M218 hF => ?_)
      refine jj_iinc (c := 1) (L' := [(7, jI (l7 + (1 : Int32))), (0, jR l0), (3, jR l3), (5, jI l5), (6, jR l6)]) C 4 rfl (by decide) rfl (by rw [hxn]; decide) dX1_tableau_219 ?_
      refine jj_goto (tgt := 206) C dX1_tableau_222 (by decide) ?_
      refine jj_sub [1, 2, 3, 4, 0] rfl ?_
      exact hK206 _ _ _ _ _ _ _ _ (by omega) hF
def f_X1_tableau_b191 : Nat → Option Nat → Option Nat → Int32 → jW → Option ((Int32 ⊕ Nat) × jW)
  | 0, _, _, _, _ => none
  | q + 1, l0, l3, l5, M => if l5 < (1 : Int32) then (pO M l0 0 fun b246 _ => pB (f_X1_meets (some b246) (0 : Int32) M) fun _ M246 =>
  pLen M246 l3 fun v250 =>
  some (.inl v250, M246))
  else (pNA M 0 16 l5 fun q199 M199 =>
  f_X1_tableau_b206 (f_X1_tableau_b191 q) 1000 l0 l3 l5 (some q199) (0 : Int32) M199)
theorem f_X1_tableau_b191_s (q : Nat) (l0 : Option Nat) (l3 : Option Nat) (l5 : Int32) (M : jW) : f_X1_tableau_b191 (q + 1) l0 l3 l5 M = (if l5 < (1 : Int32) then (pO M l0 0 fun b246 _ => pB (f_X1_meets (some b246) (0 : Int32) M) fun _ M246 =>
  pLen M246 l3 fun v250 =>
  some (.inl v250, M246))
  else (pNA M 0 16 l5 fun q199 M199 =>
  f_X1_tableau_b206 (f_X1_tableau_b191 q) 1000 l0 l3 l5 (some q199) (0 : Int32) M199)) := rfl
set_option maxHeartbeats 4000000 in
theorem w_X1_tableau_b191 {x : jX} (C : jOk x cX1_tableau RX1 rm_X1_tableau (some .int)) (hxn : xn x = 8) {v0 : (Int32 ⊕ Nat)} {M0 : jW} (hQ : jEndX x rm_X1_tableau (jri v0) M0) : ∀ (n191 : Nat) (l0 : Option Nat) (l3 : Option Nat) (l5 : Int32) (M : jW) (k n : Nat), k + n191 * 2 ≤ 36 ∧ n + n191 * 144 ≤ 2769 → f_X1_tableau_b191 n191 l0 l3 l5 M = some (v0, M0) → jJ x 191 [(0, jR l0), (3, jR l3), (5, jI l5)] [] M k n := by
  intro n191
  induction n191 with
  | zero =>
    intro l0 l3 l5 M k n hk hF
    cases hF
  | succ n191 hK191 =>
    intro l0 l3 l5 M k n hk hF
    rw [f_X1_tableau_b191_s] at hF
    refine jj_iload C 2 rfl dX1_tableau_191 ?_
    refine jj_iconst (v := 1) C dX1_tableau_193 (by decide) ?_
    refine jj_icmp_lt (tgt := 244) C dX1_tableau_194 (by decide) hF (fun hF => ?_) (fun hF => ?_)
    · refine jj_aload_n C 0 rfl dX1_tableau_244 rfl ?_
      refine jj_iconst (v := 0) C dX1_tableau_245 (by decide) ?_
      obtain ⟨b246, fs246, he246, hb246, hF⟩ := pO_spec hF
      obtain ⟨r246, M246, hG, hF⟩ := pB_spec hF
      refine jj_callV (k' := k) (n' := n) C [jI (0 : Int32)] [] [] he246 (m_X1_meets _ _ hG) hb246 rfl q1162 q1164 qs20 q42 q1165 ⟨rfl, hd_X1_meets⟩ rfl (Nat.le_of_ble_eq_true rfl) ⟨Nat.le_of_ble_eq_true rfl, Nat.le_of_ble_eq_true rfl⟩ ⟨by show k + 0 ≤ k; omega, by show n + 0 ≤ n; omega, by show k ≤ 36; omega, by show n ≤ 2769; omega⟩ dX1_tableau_246 rfl ?_
      refine jj_aload_n C 1 rfl dX1_tableau_249 rfl ?_
      refine jj_alen C dX1_tableau_250 hF (fun v250 hF => ?_)
      exact jj_iretX C hQ dX1_tableau_251 hF (by show k ≤ 36; omega) (by show n ≤ 2769; omega)
    · refine jj_iload C 2 rfl dX1_tableau_197 ?_
      refine jj_newarr (t := 0) (nb := 16) (ty := .int) C rfl (by decide) q543 (by decide) (by show k + 1 ≤ 36; omega) (by show n + 16 ≤ 2769; omega) dX1_tableau_199 hF (fun q199 M199 hF => ?_)
      refine jj_astore (L' := [(6, jR (some q199)), (0, jR l0), (3, jR l3), (5, jI l5)]) C rfl (by rw [hxn]; decide) dX1_tableau_201 ?_
      refine jj_iconst (v := 0) C dX1_tableau_203 (by decide) ?_
      refine jj_istore (L' := [(7, jI (0 : Int32)), (6, jR (some q199)), (0, jR l0), (3, jR l3), (5, jI l5)]) C rfl (by rw [hxn]; decide) dX1_tableau_204 ?_
      refine jj_sub [2, 3, 4, 1, 0] rfl ?_
      exact w_X1_tableau_b206 C hxn hQ hK191 1000 _ _ _ _ _ _ _ _ (by omega) hF
def f_X1_tableau_b168 (K128 : Option Nat → Option Nat → Option Nat → Option Nat → Int32 → jW → Option ((Int32 ⊕ Nat) × jW)) (l0 : Option Nat) (l2 : Option Nat) (l3 : Option Nat) (l4 : Option Nat) (l5 : Int32) (s0 : Option Nat) (s1 : Int32) (s2 : Int32) (M : jW) : Option ((Int32 ⊕ Nat) × jW) := pSI M s0 s1 s2 fun M168 =>
  K128 l0 l2 l3 l4 (l5 + (1 : Int32)) M168
set_option maxHeartbeats 4000000 in
theorem w_X1_tableau_b168 {x : jX} (C : jOk x cX1_tableau RX1 rm_X1_tableau (some .int)) (hxn : xn x = 8) {v0 : (Int32 ⊕ Nat)} {M0 : jW} (hQ : jEndX x rm_X1_tableau (jri v0) M0) {K128 : Option Nat → Option Nat → Option Nat → Option Nat → Int32 → jW → Option ((Int32 ⊕ Nat) × jW)} (hK128 : ∀ (l0 : Option Nat) (l2 : Option Nat) (l3 : Option Nat) (l4 : Option Nat) (l5 : Int32) (M : jW) (k n : Nat), k + 13 ≤ 36 ∧ n + 992 ≤ 2769 → K128 l0 l2 l3 l4 l5 M = some (v0, M0) → jJ x 128 [(0, jR l0), (2, jR l2), (3, jR l3), (4, jR l4), (5, jI l5)] [] M k n) {l0 : Option Nat} {l2 : Option Nat} {l3 : Option Nat} {l4 : Option Nat} {l5 : Int32} {s0 : Option Nat} {s1 : Int32} {s2 : Int32} {M : jW} {k n : Nat} (hk : k + 13 ≤ 36 ∧ n + 992 ≤ 2769) (hF : f_X1_tableau_b168 K128 l0 l2 l3 l4 l5 s0 s1 s2 M = some (v0, M0)) : jJ x 168 [(0, jR l0), (2, jR l2), (3, jR l3), (4, jR l4), (5, jI l5)] [jI s2, jI s1, jR s0] M k n := by
  unfold f_X1_tableau_b168 at hF
  refine jj_iast C dX1_tableau_168 hF (fun M168 hF => ?_)
  refine jj_iinc (c := 1) (L' := [(5, jI (l5 + (1 : Int32))), (0, jR l0), (2, jR l2), (3, jR l3), (4, jR l4)]) C 4 rfl (by decide) rfl (by rw [hxn]; decide) dX1_tableau_169 ?_
  refine jj_goto (tgt := 128) C dX1_tableau_172 (by decide) ?_
  refine jj_sub [1, 2, 3, 4, 0] rfl ?_
  exact hK128 _ _ _ _ _ _ _ _ (by omega) hF
def f_X1_tableau_b128 : Nat → Option Nat → Option Nat → Option Nat → Option Nat → Int32 → jW → Option ((Int32 ⊕ Nat) × jW)
  | 0, _, _, _, _, _, _ => none
  | q + 1, l0, l2, l3, l4, l5, M => pLen M l3 fun v131 =>
  if v131 ≤ l5 then (pR M l0 0 7 fun v176 =>
  pO M v176 9 fun b181 _ => pB (f_J2_add (some b181) l4 M) fun r181 M181 =>
  pLen M181 l3 fun v186 =>
  pLt (v186 / (2 : Int32)) fun t189 =>
  f_X1_tableau_b191 6 l0 l3 t189 M181)
  else (pAI M l3 0 l5 fun v142 =>
  pO M l2 9 fun b144 _ => pB (f_J2_size (some b144)  M) fun r144 M144 =>
  if r144 ≤ v142 then (f_X1_tableau_b168 (f_X1_tableau_b128 q) l0 l2 l3 l4 l5 l4 l5 (-1 : Int32) M144)
  else (pAI M144 l3 0 l5 fun v154 =>
  pO M144 l2 9 fun b155 _ => pB (f_J2_get (some b155) v154 M144) fun r155 M155 =>
  pCB M155 r155 fun v158 =>
  pBx M155 v158 fun b161 => pB (f_J18_intValue (some b161)  M155) fun r161 M161 =>
  f_X1_tableau_b168 (f_X1_tableau_b128 q) l0 l2 l3 l4 l5 l4 l5 r161 M161))
theorem f_X1_tableau_b128_s (q : Nat) (l0 : Option Nat) (l2 : Option Nat) (l3 : Option Nat) (l4 : Option Nat) (l5 : Int32) (M : jW) : f_X1_tableau_b128 (q + 1) l0 l2 l3 l4 l5 M = (pLen M l3 fun v131 =>
  if v131 ≤ l5 then (pR M l0 0 7 fun v176 =>
  pO M v176 9 fun b181 _ => pB (f_J2_add (some b181) l4 M) fun r181 M181 =>
  pLen M181 l3 fun v186 =>
  pLt (v186 / (2 : Int32)) fun t189 =>
  f_X1_tableau_b191 6 l0 l3 t189 M181)
  else (pAI M l3 0 l5 fun v142 =>
  pO M l2 9 fun b144 _ => pB (f_J2_size (some b144)  M) fun r144 M144 =>
  if r144 ≤ v142 then (f_X1_tableau_b168 (f_X1_tableau_b128 q) l0 l2 l3 l4 l5 l4 l5 (-1 : Int32) M144)
  else (pAI M144 l3 0 l5 fun v154 =>
  pO M144 l2 9 fun b155 _ => pB (f_J2_get (some b155) v154 M144) fun r155 M155 =>
  pCB M155 r155 fun v158 =>
  pBx M155 v158 fun b161 => pB (f_J18_intValue (some b161)  M155) fun r161 M161 =>
  f_X1_tableau_b168 (f_X1_tableau_b128 q) l0 l2 l3 l4 l5 l4 l5 r161 M161))) := rfl
set_option maxHeartbeats 4000000 in
theorem w_X1_tableau_b128 {x : jX} (C : jOk x cX1_tableau RX1 rm_X1_tableau (some .int)) (hxn : xn x = 8) {v0 : (Int32 ⊕ Nat)} {M0 : jW} (hQ : jEndX x rm_X1_tableau (jri v0) M0) : ∀ (n128 : Nat) (l0 : Option Nat) (l2 : Option Nat) (l3 : Option Nat) (l4 : Option Nat) (l5 : Int32) (M : jW) (k n : Nat), k + 13 ≤ 36 ∧ n + 992 ≤ 2769 → f_X1_tableau_b128 n128 l0 l2 l3 l4 l5 M = some (v0, M0) → jJ x 128 [(0, jR l0), (2, jR l2), (3, jR l3), (4, jR l4), (5, jI l5)] [] M k n := by
  intro n128
  induction n128 with
  | zero =>
    intro l0 l2 l3 l4 l5 M k n hk hF
    cases hF
  | succ n128 hK128 =>
    intro l0 l2 l3 l4 l5 M k n hk hF
    rw [f_X1_tableau_b128_s] at hF
    refine jj_iload C 4 rfl dX1_tableau_128 ?_
    refine jj_aload_n C 2 rfl dX1_tableau_130 rfl ?_
    refine jj_alen C dX1_tableau_131 hF (fun v131 hF => ?_)
    refine jj_icmp_ge (tgt := 175) C dX1_tableau_132 (by decide) hF (fun hF => ?_) (fun hF => ?_)
    · refine jj_aload_n C 0 rfl dX1_tableau_175 rfl ?_
      refine jj_pR (f := 7) C jcs_0 (Nat.le_of_ble_eq_true rfl) (jLk.of C q125 rfl) dX1_tableau_176 hF (fun v176 hF => ?_)
      refine jj_aload C 3 rfl dX1_tableau_179 ?_
      obtain ⟨b181, fs181, he181, hb181, hF⟩ := pO_spec hF
      obtain ⟨r181, M181, hG, hF⟩ := pB_spec hF
      refine jj_callV (k' := k + 1) (n' := n + 128) C [jR l4] [] [jI r181] he181 (m_J2_add _ _ hG) hb181 rfl q314 q315 q316 q45 q317 ⟨rfl, hd_J2_add⟩ rfl (Nat.le_of_ble_eq_true rfl) ⟨Nat.le_of_ble_eq_true rfl, Nat.le_of_ble_eq_true rfl⟩ ⟨by show k + 1 ≤ k + 1; omega, by show n + 128 ≤ n + 128; omega, by show k + 1 ≤ 36; omega, by show n + 128 ≤ 2769; omega⟩ dX1_tableau_181 rfl ?_
      refine jj_pop C dX1_tableau_184 rfl ?_
      refine jj_aload_n C 2 rfl dX1_tableau_185 rfl ?_
      refine jj_alen C dX1_tableau_186 hF (fun v186 hF => ?_)
      refine jj_iconst (v := 2) C dX1_tableau_187 (by decide) ?_
      refine jj_idivL C dX1_tableau_188 (by decide) ?_
      refine jj_letI hF (fun t189 hF => ?_)
      refine jj_istore (L' := [(5, jI t189), (0, jR l0), (2, jR l2), (3, jR l3), (4, jR l4)]) C rfl (by rw [hxn]; decide) dX1_tableau_189 ?_
      refine jj_sub [1, 3, 0] rfl ?_
      exact w_X1_tableau_b191 C hxn hQ 6 _ _ _ _ _ _ (by omega) hF
    · refine jj_aload C 3 rfl dX1_tableau_135 ?_
      refine jj_iload C 4 rfl dX1_tableau_137 ?_
      refine jj_aload_n C 2 rfl dX1_tableau_139 rfl ?_
      refine jj_iload C 4 rfl dX1_tableau_140 ?_
      refine jj_iald C dX1_tableau_142 hF (fun v142 hF => ?_)
      refine jj_aload_n C 1 rfl dX1_tableau_143 rfl ?_
      obtain ⟨b144, fs144, he144, hb144, hF⟩ := pO_spec hF
      obtain ⟨r144, M144, hG, hF⟩ := pB_spec hF
      refine jj_callV (k' := k) (n' := n) C [] [jI v142, jI l5, jR l4] [jI r144, jI v142, jI l5, jR l4] he144 (m_J2_size _ _ hG) hb144 rfl q147 q148 q149 q45 q150 ⟨rfl, hd_J2_size⟩ rfl (Nat.le_of_ble_eq_true rfl) ⟨Nat.le_of_ble_eq_true rfl, Nat.le_of_ble_eq_true rfl⟩ ⟨by show k + 0 ≤ k; omega, by show n + 0 ≤ n; omega, by show k ≤ 36; omega, by show n ≤ 2769; omega⟩ dX1_tableau_144 rfl ?_
      refine jj_icmp_ge (tgt := 167) C dX1_tableau_147 (by decide) hF (fun hF => ?_) (fun hF => ?_)
      · refine jj_iconst (v := -1) C dX1_tableau_167 (by decide) ?_
        refine jj_sub [0, 1, 2, 3, 4] rfl ?_
        exact w_X1_tableau_b168 C hxn hQ hK128 (by omega) hF
      · refine jj_aload_n C 1 rfl dX1_tableau_150 rfl ?_
        refine jj_aload_n C 2 rfl dX1_tableau_151 rfl ?_
        refine jj_iload C 4 rfl dX1_tableau_152 ?_
        refine jj_iald C dX1_tableau_154 hF (fun v154 hF => ?_)
        obtain ⟨b155, fs155, he155, hb155, hF⟩ := pO_spec hF
        obtain ⟨r155, M155, hG, hF⟩ := pB_spec hF
        refine jj_callV (k' := k) (n' := n) C [jI v154] [jI l5, jR l4] [jR r155, jI l5, jR l4] he155 (m_J2_get _ _ hG) hb155 rfl q178 q179 q180 q45 q181 ⟨rfl, hd_J2_get⟩ rfl (Nat.le_of_ble_eq_true rfl) ⟨Nat.le_of_ble_eq_true rfl, Nat.le_of_ble_eq_true rfl⟩ ⟨by show k + 0 ≤ k; omega, by show n + 0 ≤ n; omega, by show k ≤ 36; omega, by show n ≤ 2769; omega⟩ dX1_tableau_155 rfl ?_
        refine jj_castB C q1160 dX1_tableau_158 hF (fun v158 hF => ?_)
        obtain ⟨b161, he161, hb161, hF⟩ := pBx_spec hF
        obtain ⟨r161, M161, hG, hF⟩ := pB_spec hF
        refine jj_callB (k' := k) (n' := n) C [] [jI l5, jR l4] [jI r161, jI l5, jR l4] he161 (m_J18_intValue _ _ hG) hb161 q1161 q888 q889 q70 q890 ⟨rfl, hd_J18_intValue⟩ rfl (Nat.le_of_ble_eq_true rfl) ⟨Nat.le_of_ble_eq_true rfl, Nat.le_of_ble_eq_true rfl⟩ ⟨by show k + 0 ≤ k; omega, by show n + 0 ≤ n; omega, by show k ≤ 36; omega, by show n ≤ 2769; omega⟩ dX1_tableau_161 rfl ?_
        refine jj_goto (tgt := 168) C dX1_tableau_164 (by decide) ?_
        refine jj_sub [0, 1, 2, 3, 4] rfl ?_
        exact w_X1_tableau_b168 C hxn hQ hK128 (by omega) hF
def f_X1_tableau_b63 (K43 : Option Nat → Option Nat → Option Nat → jW → Option ((Int32 ⊕ Nat) × jW)) : Nat → Option Nat → Option Nat → Option Nat → Option Nat → Int32 → jW → Option ((Int32 ⊕ Nat) × jW)
  | 0, _, _, _, _, _, _ => none
  | q + 1, l0, l2, l3, l4, l5, M => pLen M l3 fun v66 =>
  if v66 ≤ l5 then (K43 l0 l2 l4 M)
  else (pAI M l3 0 l5 fun v79 =>
  pSI M l4 ((2 : Int32) * l5) v79 fun M80 =>
  pLen M80 l4 fun v91 =>
  pAI M80 l3 0 l5 fun v97 =>
  pSI M80 l4 (((2 : Int32) * l5) + (1 : Int32)) ((v91 - (1 : Int32)) - v97) fun M99 =>
  (f_X1_tableau_b63 K43 q) l0 l2 l3 l4 (l5 + (1 : Int32)) M99)
theorem f_X1_tableau_b63_s (K43 : Option Nat → Option Nat → Option Nat → jW → Option ((Int32 ⊕ Nat) × jW)) (q : Nat) (l0 : Option Nat) (l2 : Option Nat) (l3 : Option Nat) (l4 : Option Nat) (l5 : Int32) (M : jW) : f_X1_tableau_b63 K43 (q + 1) l0 l2 l3 l4 l5 M = (pLen M l3 fun v66 =>
  if v66 ≤ l5 then (K43 l0 l2 l4 M)
  else (pAI M l3 0 l5 fun v79 =>
  pSI M l4 ((2 : Int32) * l5) v79 fun M80 =>
  pLen M80 l4 fun v91 =>
  pAI M80 l3 0 l5 fun v97 =>
  pSI M80 l4 (((2 : Int32) * l5) + (1 : Int32)) ((v91 - (1 : Int32)) - v97) fun M99 =>
  (f_X1_tableau_b63 K43 q) l0 l2 l3 l4 (l5 + (1 : Int32)) M99)) := rfl
set_option maxHeartbeats 4000000 in
theorem w_X1_tableau_b63 {x : jX} (C : jOk x cX1_tableau RX1 rm_X1_tableau (some .int)) (hxn : xn x = 8) {v0 : (Int32 ⊕ Nat)} {M0 : jW} (hQ : jEndX x rm_X1_tableau (jri v0) M0) {K43 : Option Nat → Option Nat → Option Nat → jW → Option ((Int32 ⊕ Nat) × jW)} {n43 : Nat} (hK43 : ∀ (l0 : Option Nat) (l2 : Option Nat) (l3 : Option Nat) (M : jW) (k n : Nat), k + n43 * 1 + 14 ≤ 36 ∧ n + n43 * 16 + 1008 ≤ 2769 → K43 l0 l2 l3 M = some (v0, M0) → jJ x 43 [(0, jR l0), (2, jR l2), (3, jR l3)] [] M k n) : ∀ (n63 : Nat) (l0 : Option Nat) (l2 : Option Nat) (l3 : Option Nat) (l4 : Option Nat) (l5 : Int32) (M : jW) (k n : Nat), k + n43 * 1 + 14 ≤ 36 ∧ n + n43 * 16 + 1008 ≤ 2769 → f_X1_tableau_b63 K43 n63 l0 l2 l3 l4 l5 M = some (v0, M0) → jJ x 63 [(0, jR l0), (2, jR l2), (3, jR l3), (4, jR l4), (5, jI l5)] [] M k n := by
  intro n63
  induction n63 with
  | zero =>
    intro l0 l2 l3 l4 l5 M k n hk hF
    cases hF
  | succ n63 hK63 =>
    intro l0 l2 l3 l4 l5 M k n hk hF
    rw [f_X1_tableau_b63_s] at hF
    refine jj_iload C 4 rfl dX1_tableau_63 ?_
    refine jj_aload_n C 2 rfl dX1_tableau_65 rfl ?_
    refine jj_alen C dX1_tableau_66 hF (fun v66 hF => ?_)
    refine jj_icmp_ge (tgt := 106) C dX1_tableau_67 (by decide) hF (fun hF => ?_) (fun hF => ?_)
    · refine jj_aload C 3 rfl dX1_tableau_106 ?_
      refine jj_astore_n (L' := [(3, jR l4), (0, jR l0), (2, jR l2), (4, jR l4), (5, jI l5)]) C rfl (by rw [hxn]; decide) dX1_tableau_108 rfl ?_
      refine jj_goto (tgt := 43) C dX1_tableau_109 (by decide) ?_
      refine jj_sub [1, 2, 0] rfl ?_
      exact hK43 _ _ _ _ _ _ (by omega) hF
    · refine jj_aload C 3 rfl dX1_tableau_70 ?_
      refine jj_iconst (v := 2) C dX1_tableau_72 (by decide) ?_
      refine jj_iload C 4 rfl dX1_tableau_73 ?_
      refine jj_imul C dX1_tableau_75 ?_
      refine jj_aload_n C 2 rfl dX1_tableau_76 rfl ?_
      refine jj_iload C 4 rfl dX1_tableau_77 ?_
      refine jj_iald C dX1_tableau_79 hF (fun v79 hF => ?_)
      refine jj_iast C dX1_tableau_80 hF (fun M80 hF => ?_)
      refine jj_aload C 3 rfl dX1_tableau_81 ?_
      refine jj_iconst (v := 2) C dX1_tableau_83 (by decide) ?_
      refine jj_iload C 4 rfl dX1_tableau_84 ?_
      refine jj_imul C dX1_tableau_86 ?_
      refine jj_iconst (v := 1) C dX1_tableau_87 (by decide) ?_
      refine jj_iadd C dX1_tableau_88 ?_
      refine jj_aload C 3 rfl dX1_tableau_89 ?_
      refine jj_alen C dX1_tableau_91 hF (fun v91 hF => ?_)
      refine jj_iconst (v := 1) C dX1_tableau_92 (by decide) ?_
      refine jj_isub C dX1_tableau_93 ?_
      refine jj_aload_n C 2 rfl dX1_tableau_94 rfl ?_
      refine jj_iload C 4 rfl dX1_tableau_95 ?_
      refine jj_iald C dX1_tableau_97 hF (fun v97 hF => ?_)
      refine jj_isub C dX1_tableau_98 ?_
      refine jj_iast C dX1_tableau_99 hF (fun M99 hF => ?_)
      refine jj_iinc (c := 1) (L' := [(5, jI (l5 + (1 : Int32))), (0, jR l0), (2, jR l2), (3, jR l3), (4, jR l4)]) C 4 rfl (by decide) rfl (by rw [hxn]; decide) dX1_tableau_100 ?_
      refine jj_goto (tgt := 63) C dX1_tableau_103 (by decide) ?_
      refine jj_sub [1, 2, 3, 4, 0] rfl ?_
      exact hK63 _ _ _ _ _ _ _ _ (by omega) hF
def f_X1_tableau_b43 : Nat → Option Nat → Option Nat → Option Nat → jW → Option ((Int32 ⊕ Nat) × jW)
  | 0, _, _, _, _ => none
  | q + 1, l0, l2, l3, M => pLen M l3 fun v44 =>
  pO M l2 9 fun b46 _ => pB (f_J2_size (some b46)  M) fun r46 M46 =>
  if r46 ≤ v44 then (pR M46 l0 0 7 fun v113 =>
  pO M46 v113 9 fun b116 _ => pB (f_J2_clear (some b116)  M46) fun _ M116 =>
  pLen M116 l3 fun v120 =>
  pNA M116 0 16 v120 fun q121 M121 =>
  f_X1_tableau_b128 1000 l0 l2 l3 (some q121) (0 : Int32) M121)
  else (pLen M46 l3 fun v54 =>
  pNA M46 0 16 ((2 : Int32) * v54) fun q56 M56 =>
  f_X1_tableau_b63 (f_X1_tableau_b43 q) 1000 l0 l2 l3 (some q56) (0 : Int32) M56)
theorem f_X1_tableau_b43_s (q : Nat) (l0 : Option Nat) (l2 : Option Nat) (l3 : Option Nat) (M : jW) : f_X1_tableau_b43 (q + 1) l0 l2 l3 M = (pLen M l3 fun v44 =>
  pO M l2 9 fun b46 _ => pB (f_J2_size (some b46)  M) fun r46 M46 =>
  if r46 ≤ v44 then (pR M46 l0 0 7 fun v113 =>
  pO M46 v113 9 fun b116 _ => pB (f_J2_clear (some b116)  M46) fun _ M116 =>
  pLen M116 l3 fun v120 =>
  pNA M116 0 16 v120 fun q121 M121 =>
  f_X1_tableau_b128 1000 l0 l2 l3 (some q121) (0 : Int32) M121)
  else (pLen M46 l3 fun v54 =>
  pNA M46 0 16 ((2 : Int32) * v54) fun q56 M56 =>
  f_X1_tableau_b63 (f_X1_tableau_b43 q) 1000 l0 l2 l3 (some q56) (0 : Int32) M56)) := rfl
set_option maxHeartbeats 4000000 in
theorem w_X1_tableau_b43 {x : jX} (C : jOk x cX1_tableau RX1 rm_X1_tableau (some .int)) (hxn : xn x = 8) {v0 : (Int32 ⊕ Nat)} {M0 : jW} (hQ : jEndX x rm_X1_tableau (jri v0) M0) : ∀ (n43 : Nat) (l0 : Option Nat) (l2 : Option Nat) (l3 : Option Nat) (M : jW) (k n : Nat), k + n43 * 1 + 14 ≤ 36 ∧ n + n43 * 16 + 1008 ≤ 2769 → f_X1_tableau_b43 n43 l0 l2 l3 M = some (v0, M0) → jJ x 43 [(0, jR l0), (2, jR l2), (3, jR l3)] [] M k n := by
  intro n43
  induction n43 with
  | zero =>
    intro l0 l2 l3 M k n hk hF
    cases hF
  | succ n43 hK43 =>
    intro l0 l2 l3 M k n hk hF
    rw [f_X1_tableau_b43_s] at hF
    refine jj_aload_n C 2 rfl dX1_tableau_43 rfl ?_
    refine jj_alen C dX1_tableau_44 hF (fun v44 hF => ?_)
    refine jj_aload_n C 1 rfl dX1_tableau_45 rfl ?_
    obtain ⟨b46, fs46, he46, hb46, hF⟩ := pO_spec hF
    obtain ⟨r46, M46, hG, hF⟩ := pB_spec hF
    refine jj_callV (k' := k) (n' := n) C [] [jI v44] [jI r46, jI v44] he46 (m_J2_size _ _ hG) hb46 rfl q147 q148 q149 q45 q150 ⟨rfl, hd_J2_size⟩ rfl (Nat.le_of_ble_eq_true rfl) ⟨Nat.le_of_ble_eq_true rfl, Nat.le_of_ble_eq_true rfl⟩ ⟨by show k + 0 ≤ k; omega, by show n + 0 ≤ n; omega, by show k ≤ 36; omega, by show n ≤ 2769; omega⟩ dX1_tableau_46 rfl ?_
    refine jj_icmp_ge (tgt := 112) C dX1_tableau_49 (by decide) hF (fun hF => ?_) (fun hF => ?_)
    · refine jj_aload_n C 0 rfl dX1_tableau_112 rfl ?_
      refine jj_pR (f := 7) C jcs_0 (Nat.le_of_ble_eq_true rfl) (jLk.of C q125 rfl) dX1_tableau_113 hF (fun v113 hF => ?_)
      obtain ⟨b116, fs116, he116, hb116, hF⟩ := pO_spec hF
      obtain ⟨r116, M116, hG, hF⟩ := pB_spec hF
      refine jj_callV (k' := k) (n' := n) C [] [] [] he116 (m_J2_clear _ _ hG) hb116 rfl q669 q670 q671 q45 q672 ⟨rfl, hd_J2_clear⟩ rfl (Nat.le_of_ble_eq_true rfl) ⟨Nat.le_of_ble_eq_true rfl, Nat.le_of_ble_eq_true rfl⟩ ⟨by show k + 0 ≤ k; omega, by show n + 0 ≤ n; omega, by show k ≤ 36; omega, by show n ≤ 2769; omega⟩ dX1_tableau_116 rfl ?_
      refine jj_aload_n C 2 rfl dX1_tableau_119 rfl ?_
      refine jj_alen C dX1_tableau_120 hF (fun v120 hF => ?_)
      refine jj_newarr (t := 0) (nb := 16) (ty := .int) C rfl (by decide) q543 (by decide) (by show k + 1 ≤ 36; omega) (by show n + 16 ≤ 2769; omega) dX1_tableau_121 hF (fun q121 M121 hF => ?_)
      refine jj_astore (L' := [(4, jR (some q121)), (0, jR l0), (2, jR l2), (3, jR l3)]) C rfl (by rw [hxn]; decide) dX1_tableau_123 ?_
      refine jj_iconst (v := 0) C dX1_tableau_125 (by decide) ?_
      refine jj_istore (L' := [(5, jI (0 : Int32)), (4, jR (some q121)), (0, jR l0), (2, jR l2), (3, jR l3)]) C rfl (by rw [hxn]; decide) dX1_tableau_126 ?_
      refine jj_sub [2, 3, 4, 1, 0] rfl ?_
      exact w_X1_tableau_b128 C hxn hQ 1000 _ _ _ _ _ _ _ _ (by omega) hF
    · refine jj_iconst (v := 2) C dX1_tableau_52 (by decide) ?_
      refine jj_aload_n C 2 rfl dX1_tableau_53 rfl ?_
      refine jj_alen C dX1_tableau_54 hF (fun v54 hF => ?_)
      refine jj_imul C dX1_tableau_55 ?_
      refine jj_newarr (t := 0) (nb := 16) (ty := .int) C rfl (by decide) q543 (by decide) (by show k + 1 ≤ 36; omega) (by show n + 16 ≤ 2769; omega) dX1_tableau_56 hF (fun q56 M56 hF => ?_)
      refine jj_astore (L' := [(4, jR (some q56)), (0, jR l0), (2, jR l2), (3, jR l3)]) C rfl (by rw [hxn]; decide) dX1_tableau_58 ?_
      refine jj_iconst (v := 0) C dX1_tableau_60 (by decide) ?_
      refine jj_istore (L' := [(5, jI (0 : Int32)), (4, jR (some q56)), (0, jR l0), (2, jR l2), (3, jR l3)]) C rfl (by rw [hxn]; decide) dX1_tableau_61 ?_
      refine jj_sub [2, 3, 4, 1, 0] rfl ?_
      exact w_X1_tableau_b63 C hxn hQ hK43 1000 _ _ _ _ _ _ _ _ (by omega) hF
def f_X1_tableau_b28 (l0 : Option Nat) (l2 : Option Nat) (s0 : Int32) (M : jW) : Option ((Int32 ⊕ Nat) × jW) := pX (f_X1_requireState s0 M) fun _ M28 =>
  pNA M28 0 2 (2 : Int32) fun q32 M32 =>
  pSI M32 (some q32) (0 : Int32) (0 : Int32) fun M37 =>
  pSI M37 (some q32) (1 : Int32) (1 : Int32) fun M41 =>
  f_X1_tableau_b43 5 l0 l2 (some q32) M41
set_option maxHeartbeats 4000000 in
theorem w_X1_tableau_b28 {x : jX} (C : jOk x cX1_tableau RX1 rm_X1_tableau (some .int)) (hxn : xn x = 8) {v0 : (Int32 ⊕ Nat)} {M0 : jW} (hQ : jEndX x rm_X1_tableau (jri v0) M0) {l0 : Option Nat} {l2 : Option Nat} {s0 : Int32} {M : jW} {k n : Nat} (hk : k + 21 ≤ 36 ∧ n + 1096 ≤ 2769) (hF : f_X1_tableau_b28 l0 l2 s0 M = some (v0, M0)) : jJ x 28 [(0, jR l0), (2, jR l2)] [jI s0] M k n := by
  unfold f_X1_tableau_b28 at hF
  rcases pX_spec2 hF with ⟨r28, M28, hG, hF⟩ | ⟨r28, M28, hG, hF⟩
  · cases hF
    exact jj_callSXx (k' := k + 1) (n' := n + 6) C hQ [jI s0] [] (m_X1_requireState _ _ hQ.2.2 hG) rfl rfl q233 q234 q42 q235 hd_X1_requireState rfl (Nat.le_of_ble_eq_true rfl) ⟨Nat.le_of_ble_eq_true rfl, Nat.le_of_ble_eq_true rfl⟩ ⟨by show k + 1 ≤ k + 1; omega, by show n + 6 ≤ n + 6; omega, by show k + 1 ≤ 36; omega, by show n + 6 ≤ 2769; omega⟩ dX1_tableau_28
  refine jj_callSX (k' := k + 1) (n' := n + 6) C [jI s0] [] [] (m_X1_requireState _ _ hQ.2.2 hG) rfl q233 q234 q42 q235 hd_X1_requireState rfl (Nat.le_of_ble_eq_true rfl) ⟨Nat.le_of_ble_eq_true rfl, Nat.le_of_ble_eq_true rfl⟩ ⟨by show k + 1 ≤ k + 1; omega, by show n + 6 ≤ n + 6; omega, by show k + 1 ≤ 36; omega, by show n + 6 ≤ 2769; omega⟩ dX1_tableau_28 rfl ?_
  refine jj_iconst (v := 2) C dX1_tableau_31 (by decide) ?_
  refine jj_newarr (t := 0) (nb := 2) (ty := .int) C rfl (by decide) q543 (by decide) (by show k + 1 + 1 ≤ 36; omega) (by show n + 6 + 2 ≤ 2769; omega) dX1_tableau_32 hF (fun q32 M32 hF => ?_)
  refine jj_dup C dX1_tableau_34 rfl ?_
  refine jj_iconst (v := 0) C dX1_tableau_35 (by decide) ?_
  refine jj_iconst (v := 0) C dX1_tableau_36 (by decide) ?_
  refine jj_iast C dX1_tableau_37 hF (fun M37 hF => ?_)
  refine jj_dup C dX1_tableau_38 rfl ?_
  refine jj_iconst (v := 1) C dX1_tableau_39 (by decide) ?_
  refine jj_iconst (v := 1) C dX1_tableau_40 (by decide) ?_
  refine jj_iast C dX1_tableau_41 hF (fun M41 hF => ?_)
  refine jj_astore_n (L' := [(3, jR (some q32)), (0, jR l0), (2, jR l2)]) C rfl (by rw [hxn]; decide) dX1_tableau_42 rfl ?_
  refine jj_sub [1, 2, 0] rfl ?_
  exact w_X1_tableau_b43 C hxn hQ 5 _ _ _ _ _ _ (by omega) hF
def f_X1_tableau (a0 : Option Nat) (a1 : Int32) (M : jW) : Option ((Int32 ⊕ Nat) × jW) := pR M a0 0 2 fun v1 =>
  pX (f_X1_at v1 a1 M) fun r5 M5 =>
  pCC M5 r5 7 fun v8 =>
  pO M5 v8 7 fun b11 _ => pB (f_X9_ranks (some b11)  M5) fun r11 M11 =>
  pO M11 r11 9 fun b16 _ => pB (f_J2_size (some b16)  M11) fun r16 M16 =>
  if r16 ≤ (1 : Int32) then (f_X1_tableau_b28 a0 r11 (0 : Int32) M16)
  else (f_X1_tableau_b28 a0 r11 (1 : Int32) M16)
set_option maxHeartbeats 4000000 in
theorem m_X1_tableau (l : Launch) (g : jG) (hfl : l.stackTraces = false) {a0 : Option Nat} {a1 : Int32} {M M0 : jW} {v0 : (Int32 ⊕ Nat)} (hF : f_X1_tableau a0 a1 M = some (v0, M0)) : jMetX l g yX1_tableau cX1_tableau 8 (some .int) rm_X1_tableau [jR a0, jI a1] M (jri v0) M0 := by
  refine jMetX.of (L := [(0, jR a0), (1, jI a1)]) hfl (by decide) rfl (Nat.le_of_ble_eq_true rfl) (fun x C hxn hg hl hQ => ?_)
  subst hg
  unfold f_X1_tableau at hF
  refine jj_aload_n C 0 rfl dX1_tableau_0 rfl ?_
  refine jj_pR (f := 2) C jcs_0 (Nat.le_of_ble_eq_true rfl) (jLk.of C q118 rfl) dX1_tableau_1 hF (fun v1 hF => ?_)
  refine jj_iload_n C 1 rfl dX1_tableau_4 rfl ?_
  rcases pX_spec2 hF with ⟨r5, M5, hG, hF⟩ | ⟨r5, M5, hG, hF⟩
  · cases hF
    exact jj_callSXx (k' := 0 + 1) (n' := 0 + 6) C hQ [jR v1, jI a1] [] (m_X1_at _ _ hQ.2.2 hG) rfl rfl q422 q423 q42 q424 hd_X1_at rfl (Nat.le_of_ble_eq_true rfl) ⟨Nat.le_of_ble_eq_true rfl, Nat.le_of_ble_eq_true rfl⟩ ⟨by show 0 + 1 ≤ 0 + 1; omega, by show 0 + 6 ≤ 0 + 6; omega, by show 0 + 1 ≤ 36; omega, by show 0 + 6 ≤ 2769; omega⟩ dX1_tableau_5
  refine jj_callSX (k' := 0 + 1) (n' := 0 + 6) C [jR v1, jI a1] [] [jR r5] (m_X1_at _ _ hQ.2.2 hG) rfl q422 q423 q42 q424 hd_X1_at rfl (Nat.le_of_ble_eq_true rfl) ⟨Nat.le_of_ble_eq_true rfl, Nat.le_of_ble_eq_true rfl⟩ ⟨by show 0 + 1 ≤ 0 + 1; omega, by show 0 + 6 ≤ 0 + 6; omega, by show 0 + 1 ≤ 36; omega, by show 0 + 6 ≤ 2769; omega⟩ dX1_tableau_5 rfl ?_
  refine jj_castC (ci := 7) C rfl q446 dX1_tableau_8 hF (fun v8 hF => ?_)
  obtain ⟨b11, fs11, he11, hb11, hF⟩ := pO_spec hF
  obtain ⟨r11, M11, hG, hF⟩ := pB_spec hF
  refine jj_callV (k' := 0 + 1 + 14) (n' := 0 + 6 + 1667) C [] [] [jR r11] he11 (m_X9_ranks _ _ hG) hb11 rfl q878 q879 q880 q71 q881 ⟨rfl, hd_X9_ranks⟩ rfl (Nat.le_of_ble_eq_true rfl) ⟨Nat.le_of_ble_eq_true rfl, Nat.le_of_ble_eq_true rfl⟩ ⟨by show 0 + 1 + 14 ≤ 0 + 1 + 14; omega, by show 0 + 6 + 1667 ≤ 0 + 6 + 1667; omega, by show 0 + 1 + 14 ≤ 36; omega, by show 0 + 6 + 1667 ≤ 2769; omega⟩ dX1_tableau_11 rfl ?_
  refine jj_astore_n (L' := [(2, jR r11), (0, jR a0), (1, jI a1)]) C rfl (by rw [hxn]; decide) dX1_tableau_14 rfl ?_
  refine jj_aload_n C 0 rfl dX1_tableau_15 rfl ?_
  obtain ⟨b16, fs16, he16, hb16, hF⟩ := pO_spec hF
  obtain ⟨r16, M16, hG, hF⟩ := pB_spec hF
  refine jj_callV (k' := 0 + 1 + 14) (n' := 0 + 6 + 1667) C [] [] [jI r16] he16 (m_J2_size _ _ hG) hb16 rfl q147 q148 q149 q45 q150 ⟨rfl, hd_J2_size⟩ rfl (Nat.le_of_ble_eq_true rfl) ⟨Nat.le_of_ble_eq_true rfl, Nat.le_of_ble_eq_true rfl⟩ ⟨by show 0 + 1 + 14 + 0 ≤ 0 + 1 + 14; omega, by show 0 + 6 + 1667 + 0 ≤ 0 + 6 + 1667; omega, by show 0 + 1 + 14 ≤ 36; omega, by show 0 + 6 + 1667 ≤ 2769; omega⟩ dX1_tableau_16 rfl ?_
  refine jj_iconst (v := 1) C dX1_tableau_19 (by decide) ?_
  refine jj_icmp_le (tgt := 27) C dX1_tableau_20 (by decide) hF (fun hF => ?_) (fun hF => ?_)
  · refine jj_iconst (v := 0) C dX1_tableau_27 (by decide) ?_
    refine jj_sub [1, 0] rfl ?_
    exact w_X1_tableau_b28 C hxn hQ (by omega) hF
  · refine jj_iconst (v := 1) C dX1_tableau_23 (by decide) ?_
    refine jj_goto (tgt := 28) C dX1_tableau_24 (by decide) ?_
    refine jj_sub [1, 0] rfl ?_
    exact w_X1_tableau_b28 C hxn hQ (by omega) hF
/-! Phrasehall.requireMatch(II)V -/
def rm_X1_requireMatch : Room := ({ frames := 7, cells := 1, slots := 6, locals := 148 } : Room)
theorem hd_X1_requireMatch : yX1_requireMatch.cls ≠ "java/lang/invoke/MethodHandle" ∧ yX1_requireMatch.cls ≠ "java/lang/invoke/VarHandle" ∧ (parseMethodDescriptor yX1_requireMatch.desc).map (fun d => d.parameters.length) = some 2 := ⟨by decide, by decide, by decide +kernel⟩
def f_X1_requireMatch_b46 (s0 : Int32) (M : jW) : Option ((Unit ⊕ Nat) × jW) := pX (f_X1_requireIndex s0 M) fun _ M46 =>
  some (.inl (), M46)
set_option maxHeartbeats 4000000 in
theorem w_X1_requireMatch_b46 {x : jX} (C : jOk x cX1_requireMatch RX1 rm_X1_requireMatch none) (hxn : xn x = 3) {v0 : (Unit ⊕ Nat)} {M0 : jW} (hQ : jEndX x rm_X1_requireMatch (jru v0) M0) {s0 : Int32} {M : jW} {k n : Nat} (hk : k + 1 ≤ 1 ∧ n + 6 ≤ 6) (hF : f_X1_requireMatch_b46 s0 M = some (v0, M0)) : jJ x 46 [] [jI s0] M k n := by
  unfold f_X1_requireMatch_b46 at hF
  rcases pX_spec2 hF with ⟨r46, M46, hG, hF⟩ | ⟨r46, M46, hG, hF⟩
  · cases hF
    exact jj_callSXx (k' := k + 1) (n' := n + 6) C hQ [jI s0] [] (m_X1_requireIndex _ _ hQ.2.2 hG) rfl rfl q428 q429 q42 q430 hd_X1_requireIndex rfl (Nat.le_of_ble_eq_true rfl) ⟨Nat.le_of_ble_eq_true rfl, Nat.le_of_ble_eq_true rfl⟩ ⟨by show k + 1 ≤ k + 1; omega, by show n + 6 ≤ n + 6; omega, by show k + 1 ≤ 1; omega, by show n + 6 ≤ 6; omega⟩ dX1_requireMatch_46
  refine jj_callSX (k' := k + 1) (n' := n + 6) C [jI s0] [] [] (m_X1_requireIndex _ _ hQ.2.2 hG) rfl q428 q429 q42 q430 hd_X1_requireIndex rfl (Nat.le_of_ble_eq_true rfl) ⟨Nat.le_of_ble_eq_true rfl, Nat.le_of_ble_eq_true rfl⟩ ⟨by show k + 1 ≤ k + 1; omega, by show n + 6 ≤ n + 6; omega, by show k + 1 ≤ 1; omega, by show n + 6 ≤ 6; omega⟩ dX1_requireMatch_46 rfl ?_
  exact jj_vretX C hQ dX1_requireMatch_49 hF (by show k + 1 ≤ 1; omega) (by show n + 6 ≤ 6; omega)
def f_X1_requireMatch_b45 (M : jW) : Option ((Unit ⊕ Nat) × jW) := f_X1_requireMatch_b46 (0 : Int32) M
set_option maxHeartbeats 4000000 in
theorem w_X1_requireMatch_b45 {x : jX} (C : jOk x cX1_requireMatch RX1 rm_X1_requireMatch none) (hxn : xn x = 3) {v0 : (Unit ⊕ Nat)} {M0 : jW} (hQ : jEndX x rm_X1_requireMatch (jru v0) M0) {M : jW} {k n : Nat} (hk : k + 1 ≤ 1 ∧ n + 6 ≤ 6) (hF : f_X1_requireMatch_b45  M = some (v0, M0)) : jJ x 45 [] [] M k n := by
  unfold f_X1_requireMatch_b45 at hF
  refine jj_iconst (v := 0) C dX1_requireMatch_45 (by decide) ?_
  refine jj_sub [] rfl ?_
  exact w_X1_requireMatch_b46 C hxn hQ (by omega) hF
def f_X1_requireMatch (a0 : Option Nat) (a1 : Int32) (a2 : Int32) (M : jW) : Option ((Unit ⊕ Nat) × jW) := pR M a0 0 7 fun v3 =>
  pO M v3 9 fun b6 _ => pB (f_J2_size (some b6)  M) fun r6 M6 =>
  pB (f_X1_inRange a1 (0 : Int32) (r6 - (2 : Int32)) M6) fun r11 M11 =>
  if r11 = 0 then (f_X1_requireMatch_b45  M11)
  else (pR M11 a0 0 7 fun v20 =>
  pO M11 v20 9 fun b26 _ => pB (f_J2_get (some b26) (a1 + (1 : Int32)) M11) fun r26 M26 =>
  pCA M26 r26 0 fun v29 =>
  pLen M26 v29 fun v32 =>
  pB (f_X1_inRange a2 (0 : Int32) (v32 - (1 : Int32)) M26) fun r35 M35 =>
  if r35 = 0 then (f_X1_requireMatch_b45  M35)
  else (f_X1_requireMatch_b46 (1 : Int32) M35))
set_option maxHeartbeats 4000000 in
theorem m_X1_requireMatch (l : Launch) (g : jG) (hfl : l.stackTraces = false) {a0 : Option Nat} {a1 : Int32} {a2 : Int32} {M M0 : jW} {v0 : (Unit ⊕ Nat)} (hF : f_X1_requireMatch a0 a1 a2 M = some (v0, M0)) : jMetX l g yX1_requireMatch cX1_requireMatch 3 none rm_X1_requireMatch [jR a0, jI a1, jI a2] M (jru v0) M0 := by
  refine jMetX.of (L := [(0, jR a0), (1, jI a1), (2, jI a2)]) hfl (by decide) rfl (Nat.le_of_ble_eq_true rfl) (fun x C hxn hg hl hQ => ?_)
  subst hg
  unfold f_X1_requireMatch at hF
  refine jj_iload_n C 1 rfl dX1_requireMatch_0 rfl ?_
  refine jj_iconst (v := 0) C dX1_requireMatch_1 (by decide) ?_
  refine jj_aload_n C 0 rfl dX1_requireMatch_2 rfl ?_
  refine jj_pR (f := 7) C jcs_0 (Nat.le_of_ble_eq_true rfl) (jLk.of C q125 rfl) dX1_requireMatch_3 hF (fun v3 hF => ?_)
  obtain ⟨b6, fs6, he6, hb6, hF⟩ := pO_spec hF
  obtain ⟨r6, M6, hG, hF⟩ := pB_spec hF
  refine jj_callV (k' := 0) (n' := 0) C [] [jI (0 : Int32), jI a1] [jI r6, jI (0 : Int32), jI a1] he6 (m_J2_size _ _ hG) hb6 rfl q147 q148 q149 q45 q150 ⟨rfl, hd_J2_size⟩ rfl (Nat.le_of_ble_eq_true rfl) ⟨Nat.le_of_ble_eq_true rfl, Nat.le_of_ble_eq_true rfl⟩ ⟨by show 0 + 0 ≤ 0; omega, by show 0 + 0 ≤ 0; omega, by show 0 ≤ 1; omega, by show 0 ≤ 6; omega⟩ dX1_requireMatch_6 rfl ?_
  refine jj_iconst (v := 2) C dX1_requireMatch_9 (by decide) ?_
  refine jj_isub C dX1_requireMatch_10 ?_
  obtain ⟨r11, M11, hG, hF⟩ := pB_spec hF
  refine jj_callS (k' := 0) (n' := 0) C [jI a1, jI (0 : Int32), jI (r6 - (2 : Int32))] [] [jI r11] (m_X1_inRange _ _ hG) q425 q426 q42 q427 hd_X1_inRange rfl (Nat.le_of_ble_eq_true rfl) ⟨Nat.le_of_ble_eq_true rfl, Nat.le_of_ble_eq_true rfl⟩ ⟨by show 0 + 0 ≤ 0; omega, by show 0 + 0 ≤ 0; omega, by show 0 ≤ 1; omega, by show 0 ≤ 6; omega⟩ dX1_requireMatch_11 rfl ?_
  refine jj_if_eq (tgt := 45) C dX1_requireMatch_14 (by decide) hF (fun hF => ?_) (fun hF => ?_)
  · refine jj_sub [] rfl ?_
    exact w_X1_requireMatch_b45 C hxn hQ (by omega) hF
  · refine jj_iload_n C 2 rfl dX1_requireMatch_17 rfl ?_
    refine jj_iconst (v := 0) C dX1_requireMatch_18 (by decide) ?_
    refine jj_aload_n C 0 rfl dX1_requireMatch_19 rfl ?_
    refine jj_pR (f := 7) C jcs_0 (Nat.le_of_ble_eq_true rfl) (jLk.of C q125 rfl) dX1_requireMatch_20 hF (fun v20 hF => ?_)
    refine jj_iload_n C 1 rfl dX1_requireMatch_23 rfl ?_
    refine jj_iconst (v := 1) C dX1_requireMatch_24 (by decide) ?_
    refine jj_iadd C dX1_requireMatch_25 ?_
    obtain ⟨b26, fs26, he26, hb26, hF⟩ := pO_spec hF
    obtain ⟨r26, M26, hG, hF⟩ := pB_spec hF
    refine jj_callV (k' := 0) (n' := 0) C [jI (a1 + (1 : Int32))] [jI (0 : Int32), jI a2] [jR r26, jI (0 : Int32), jI a2] he26 (m_J2_get _ _ hG) hb26 rfl q178 q179 q180 q45 q181 ⟨rfl, hd_J2_get⟩ rfl (Nat.le_of_ble_eq_true rfl) ⟨Nat.le_of_ble_eq_true rfl, Nat.le_of_ble_eq_true rfl⟩ ⟨by show 0 + 0 ≤ 0; omega, by show 0 + 0 ≤ 0; omega, by show 0 ≤ 1; omega, by show 0 ≤ 6; omega⟩ dX1_requireMatch_26 rfl ?_
    refine jj_castA0 C q1166 dX1_requireMatch_29 hF (fun v29 hF => ?_)
    refine jj_alen C dX1_requireMatch_32 hF (fun v32 hF => ?_)
    refine jj_iconst (v := 1) C dX1_requireMatch_33 (by decide) ?_
    refine jj_isub C dX1_requireMatch_34 ?_
    obtain ⟨r35, M35, hG, hF⟩ := pB_spec hF
    refine jj_callS (k' := 0) (n' := 0) C [jI a2, jI (0 : Int32), jI (v32 - (1 : Int32))] [] [jI r35] (m_X1_inRange _ _ hG) q425 q426 q42 q427 hd_X1_inRange rfl (Nat.le_of_ble_eq_true rfl) ⟨Nat.le_of_ble_eq_true rfl, Nat.le_of_ble_eq_true rfl⟩ ⟨by show 0 + 0 ≤ 0; omega, by show 0 + 0 ≤ 0; omega, by show 0 ≤ 1; omega, by show 0 ≤ 6; omega⟩ dX1_requireMatch_35 rfl ?_
    refine jj_if_eq (tgt := 45) C dX1_requireMatch_38 (by decide) hF (fun hF => ?_) (fun hF => ?_)
    · refine jj_sub [] rfl ?_
      exact w_X1_requireMatch_b45 C hxn hQ (by omega) hF
    · refine jj_iconst (v := 1) C dX1_requireMatch_41 (by decide) ?_
      refine jj_goto (tgt := 46) C dX1_requireMatch_42 (by decide) ?_
      refine jj_sub [] rfl ?_
      exact w_X1_requireMatch_b46 C hxn hQ (by omega) hF
/-! Phrasehall.wins(III)I -/
def rm_X1_wins : Room := ({ frames := 8, cells := 3, slots := 18, locals := 170 } : Room)
theorem hd_X1_wins : yX1_wins.cls ≠ "java/lang/invoke/MethodHandle" ∧ yX1_wins.cls ≠ "java/lang/invoke/VarHandle" ∧ (parseMethodDescriptor yX1_wins.desc).map (fun d => d.parameters.length) = some 3 := ⟨by decide, by decide, by decide +kernel⟩
def f_X1_wins_b72 (l0 : Option Nat) (l1 : Int32) (l2 : Int32) (l3 : Int32) (l4 : Option Nat) (s0 : Int32) (M : jW) : Option ((Int32 ⊕ Nat) × jW) := pX (f_X1_requireState s0 M) fun _ M72 =>
  pR M72 l0 0 7 fun v76 =>
  pO M72 v76 9 fun b82 _ => pB (f_J2_get (some b82) (l1 + (1 : Int32)) M72) fun r82 M82 =>
  pCA M82 r82 0 fun v85 =>
  pAI M82 l4 0 (((2 : Int32) * l2) + l3) fun v96 =>
  pSI M82 v85 l2 v96 fun M97 =>
  pAI M97 l4 0 (((2 : Int32) * l2) + l3) fun v105 =>
  some (.inl v105, M97)
set_option maxHeartbeats 4000000 in
theorem w_X1_wins_b72 {x : jX} (C : jOk x cX1_wins RX1 rm_X1_wins (some .int)) (hxn : xn x = 5) {v0 : (Int32 ⊕ Nat)} {M0 : jW} (hQ : jEndX x rm_X1_wins (jri v0) M0) {l0 : Option Nat} {l1 : Int32} {l2 : Int32} {l3 : Int32} {l4 : Option Nat} {s0 : Int32} {M : jW} {k n : Nat} (hk : k + 1 ≤ 3 ∧ n + 6 ≤ 18) (hF : f_X1_wins_b72 l0 l1 l2 l3 l4 s0 M = some (v0, M0)) : jJ x 72 [(0, jR l0), (1, jI l1), (2, jI l2), (3, jI l3), (4, jR l4)] [jI s0] M k n := by
  unfold f_X1_wins_b72 at hF
  rcases pX_spec2 hF with ⟨r72, M72, hG, hF⟩ | ⟨r72, M72, hG, hF⟩
  · cases hF
    exact jj_callSXx (k' := k + 1) (n' := n + 6) C hQ [jI s0] [] (m_X1_requireState _ _ hQ.2.2 hG) rfl rfl q233 q234 q42 q235 hd_X1_requireState rfl (Nat.le_of_ble_eq_true rfl) ⟨Nat.le_of_ble_eq_true rfl, Nat.le_of_ble_eq_true rfl⟩ ⟨by show k + 1 ≤ k + 1; omega, by show n + 6 ≤ n + 6; omega, by show k + 1 ≤ 3; omega, by show n + 6 ≤ 18; omega⟩ dX1_wins_72
  refine jj_callSX (k' := k + 1) (n' := n + 6) C [jI s0] [] [] (m_X1_requireState _ _ hQ.2.2 hG) rfl q233 q234 q42 q235 hd_X1_requireState rfl (Nat.le_of_ble_eq_true rfl) ⟨Nat.le_of_ble_eq_true rfl, Nat.le_of_ble_eq_true rfl⟩ ⟨by show k + 1 ≤ k + 1; omega, by show n + 6 ≤ n + 6; omega, by show k + 1 ≤ 3; omega, by show n + 6 ≤ 18; omega⟩ dX1_wins_72 rfl ?_
  refine jj_aload_n C 0 rfl dX1_wins_75 rfl ?_
  refine jj_pR (f := 7) C jcs_0 (Nat.le_of_ble_eq_true rfl) (jLk.of C q125 rfl) dX1_wins_76 hF (fun v76 hF => ?_)
  refine jj_iload_n C 1 rfl dX1_wins_79 rfl ?_
  refine jj_iconst (v := 1) C dX1_wins_80 (by decide) ?_
  refine jj_iadd C dX1_wins_81 ?_
  obtain ⟨b82, fs82, he82, hb82, hF⟩ := pO_spec hF
  obtain ⟨r82, M82, hG, hF⟩ := pB_spec hF
  refine jj_callV (k' := k + 1) (n' := n + 6) C [jI (l1 + (1 : Int32))] [] [jR r82] he82 (m_J2_get _ _ hG) hb82 rfl q178 q179 q180 q45 q181 ⟨rfl, hd_J2_get⟩ rfl (Nat.le_of_ble_eq_true rfl) ⟨Nat.le_of_ble_eq_true rfl, Nat.le_of_ble_eq_true rfl⟩ ⟨by show k + 1 + 0 ≤ k + 1; omega, by show n + 6 + 0 ≤ n + 6; omega, by show k + 1 ≤ 3; omega, by show n + 6 ≤ 18; omega⟩ dX1_wins_82 rfl ?_
  refine jj_castA0 C q1166 dX1_wins_85 hF (fun v85 hF => ?_)
  refine jj_iload_n C 2 rfl dX1_wins_88 rfl ?_
  refine jj_aload C 4 rfl dX1_wins_89 ?_
  refine jj_iconst (v := 2) C dX1_wins_91 (by decide) ?_
  refine jj_iload_n C 2 rfl dX1_wins_92 rfl ?_
  refine jj_imul C dX1_wins_93 ?_
  refine jj_iload_n C 3 rfl dX1_wins_94 rfl ?_
  refine jj_iadd C dX1_wins_95 ?_
  refine jj_iald C dX1_wins_96 hF (fun v96 hF => ?_)
  refine jj_iast C dX1_wins_97 hF (fun M97 hF => ?_)
  refine jj_aload C 4 rfl dX1_wins_98 ?_
  refine jj_iconst (v := 2) C dX1_wins_100 (by decide) ?_
  refine jj_iload_n C 2 rfl dX1_wins_101 rfl ?_
  refine jj_imul C dX1_wins_102 ?_
  refine jj_iload_n C 3 rfl dX1_wins_103 rfl ?_
  refine jj_iadd C dX1_wins_104 ?_
  refine jj_iald C dX1_wins_105 hF (fun v105 hF => ?_)
  exact jj_iretX C hQ dX1_wins_106 hF (by show k + 1 ≤ 3; omega) (by show n + 6 ≤ 18; omega)
def f_X1_wins_b71 (l0 : Option Nat) (l1 : Int32) (l2 : Int32) (l3 : Int32) (l4 : Option Nat) (M : jW) : Option ((Int32 ⊕ Nat) × jW) := f_X1_wins_b72 l0 l1 l2 l3 l4 (0 : Int32) M
set_option maxHeartbeats 4000000 in
theorem w_X1_wins_b71 {x : jX} (C : jOk x cX1_wins RX1 rm_X1_wins (some .int)) (hxn : xn x = 5) {v0 : (Int32 ⊕ Nat)} {M0 : jW} (hQ : jEndX x rm_X1_wins (jri v0) M0) {l0 : Option Nat} {l1 : Int32} {l2 : Int32} {l3 : Int32} {l4 : Option Nat} {M : jW} {k n : Nat} (hk : k + 1 ≤ 3 ∧ n + 6 ≤ 18) (hF : f_X1_wins_b71 l0 l1 l2 l3 l4 M = some (v0, M0)) : jJ x 71 [(0, jR l0), (1, jI l1), (2, jI l2), (3, jI l3), (4, jR l4)] [] M k n := by
  unfold f_X1_wins_b71 at hF
  refine jj_iconst (v := 0) C dX1_wins_71 (by decide) ?_
  refine jj_sub [0, 1, 2, 3, 4] rfl ?_
  exact w_X1_wins_b72 C hxn hQ (by omega) hF
def f_X1_wins (a0 : Option Nat) (a1 : Int32) (a2 : Int32) (a3 : Int32) (M : jW) : Option ((Int32 ⊕ Nat) × jW) := pO M a0 0 fun b3 _ => pX (f_X1_requireMatch (some b3) a1 a2 M) fun _ M3 =>
  pB (f_X1_isSide a3 M3) fun r7 M7 =>
  pX (f_X1_requireArgument r7 M7) fun _ M10 =>
  pR M10 a0 0 7 fun v14 =>
  pO M10 v14 9 fun b18 _ => pB (f_J2_get (some b18) a1 M10) fun r18 M18 =>
  pCA M18 r18 0 fun v21 =>
  pAI M18 v21 0 ((2 : Int32) * a2) fun v31 =>
  if v31 = (-1 : Int32) then (f_X1_wins_b71 a0 a1 a2 a3 v21 M18)
  else (pAI M18 v21 0 (((2 : Int32) * a2) + (1 : Int32)) fun v43 =>
  if v43 = (-1 : Int32) then (f_X1_wins_b71 a0 a1 a2 a3 v21 M18)
  else (pR M18 a0 0 7 fun v49 =>
  pO M18 v49 9 fun b55 _ => pB (f_J2_get (some b55) (a1 + (1 : Int32)) M18) fun r55 M55 =>
  pCA M55 r55 0 fun v58 =>
  pAI M55 v58 0 a2 fun v62 =>
  if v62 = (-1 : Int32) then (f_X1_wins_b72 a0 a1 a2 a3 v21 (1 : Int32) M55)
  else (f_X1_wins_b71 a0 a1 a2 a3 v21 M55)))
set_option maxHeartbeats 4000000 in
theorem m_X1_wins (l : Launch) (g : jG) (hfl : l.stackTraces = false) {a0 : Option Nat} {a1 : Int32} {a2 : Int32} {a3 : Int32} {M M0 : jW} {v0 : (Int32 ⊕ Nat)} (hF : f_X1_wins a0 a1 a2 a3 M = some (v0, M0)) : jMetX l g yX1_wins cX1_wins 5 (some .int) rm_X1_wins [jR a0, jI a1, jI a2, jI a3] M (jri v0) M0 := by
  refine jMetX.of (L := [(0, jR a0), (1, jI a1), (2, jI a2), (3, jI a3)]) hfl (by decide) rfl (Nat.le_of_ble_eq_true rfl) (fun x C hxn hg hl hQ => ?_)
  subst hg
  unfold f_X1_wins at hF
  refine jj_aload_n C 0 rfl dX1_wins_0 rfl ?_
  refine jj_iload_n C 1 rfl dX1_wins_1 rfl ?_
  refine jj_iload_n C 2 rfl dX1_wins_2 rfl ?_
  obtain ⟨b3, fs3, he3, hb3, hF⟩ := pO_spec hF
  rcases pX_spec2 hF with ⟨r3, M3, hG, hF⟩ | ⟨r3, M3, hG, hF⟩
  · cases hF
    exact jj_callVXx (k' := 0 + 1) (n' := 0 + 6) C hQ [jI a1, jI a2] [] he3 (m_X1_requireMatch _ _ hQ.2.2 hG) rfl rfl hb3 rfl q1174 q1176 qs21 q42 q1177 ⟨rfl, hd_X1_requireMatch⟩ rfl (Nat.le_of_ble_eq_true rfl) ⟨Nat.le_of_ble_eq_true rfl, Nat.le_of_ble_eq_true rfl⟩ ⟨by show 0 + 1 ≤ 0 + 1; omega, by show 0 + 6 ≤ 0 + 6; omega, by show 0 + 1 ≤ 3; omega, by show 0 + 6 ≤ 18; omega⟩ dX1_wins_3
  refine jj_callVX (k' := 0 + 1) (n' := 0 + 6) C [jI a1, jI a2] [] [] he3 (m_X1_requireMatch _ _ hQ.2.2 hG) rfl hb3 rfl q1174 q1176 qs21 q42 q1177 ⟨rfl, hd_X1_requireMatch⟩ rfl (Nat.le_of_ble_eq_true rfl) ⟨Nat.le_of_ble_eq_true rfl, Nat.le_of_ble_eq_true rfl⟩ ⟨by show 0 + 1 ≤ 0 + 1; omega, by show 0 + 6 ≤ 0 + 6; omega, by show 0 + 1 ≤ 3; omega, by show 0 + 6 ≤ 18; omega⟩ dX1_wins_3 rfl ?_
  refine jj_iload_n C 3 rfl dX1_wins_6 rfl ?_
  obtain ⟨r7, M7, hG, hF⟩ := pB_spec hF
  refine jj_callS (k' := 0 + 1) (n' := 0 + 6) C [jI a3] [] [jI r7] (m_X1_isSide _ _ hG) q552 q553 q42 q554 hd_X1_isSide rfl (Nat.le_of_ble_eq_true rfl) ⟨Nat.le_of_ble_eq_true rfl, Nat.le_of_ble_eq_true rfl⟩ ⟨by show 0 + 1 + 0 ≤ 0 + 1; omega, by show 0 + 6 + 0 ≤ 0 + 6; omega, by show 0 + 1 ≤ 3; omega, by show 0 + 6 ≤ 18; omega⟩ dX1_wins_7 rfl ?_
  rcases pX_spec2 hF with ⟨r10, M10, hG, hF⟩ | ⟨r10, M10, hG, hF⟩
  · cases hF
    exact jj_callSXx (k' := 0 + 1 + 1) (n' := 0 + 6 + 6) C hQ [jI r7] [] (m_X1_requireArgument _ _ hQ.2.2 hG) rfl rfl q451 q452 q42 q453 hd_X1_requireArgument rfl (Nat.le_of_ble_eq_true rfl) ⟨Nat.le_of_ble_eq_true rfl, Nat.le_of_ble_eq_true rfl⟩ ⟨by show 0 + 1 + 1 ≤ 0 + 1 + 1; omega, by show 0 + 6 + 6 ≤ 0 + 6 + 6; omega, by show 0 + 1 + 1 ≤ 3; omega, by show 0 + 6 + 6 ≤ 18; omega⟩ dX1_wins_10
  refine jj_callSX (k' := 0 + 1 + 1) (n' := 0 + 6 + 6) C [jI r7] [] [] (m_X1_requireArgument _ _ hQ.2.2 hG) rfl q451 q452 q42 q453 hd_X1_requireArgument rfl (Nat.le_of_ble_eq_true rfl) ⟨Nat.le_of_ble_eq_true rfl, Nat.le_of_ble_eq_true rfl⟩ ⟨by show 0 + 1 + 1 ≤ 0 + 1 + 1; omega, by show 0 + 6 + 6 ≤ 0 + 6 + 6; omega, by show 0 + 1 + 1 ≤ 3; omega, by show 0 + 6 + 6 ≤ 18; omega⟩ dX1_wins_10 rfl ?_
  refine jj_aload_n C 0 rfl dX1_wins_13 rfl ?_
  refine jj_pR (f := 7) C jcs_0 (Nat.le_of_ble_eq_true rfl) (jLk.of C q125 rfl) dX1_wins_14 hF (fun v14 hF => ?_)
  refine jj_iload_n C 1 rfl dX1_wins_17 rfl ?_
  obtain ⟨b18, fs18, he18, hb18, hF⟩ := pO_spec hF
  obtain ⟨r18, M18, hG, hF⟩ := pB_spec hF
  refine jj_callV (k' := 0 + 1 + 1) (n' := 0 + 6 + 6) C [jI a1] [] [jR r18] he18 (m_J2_get _ _ hG) hb18 rfl q178 q179 q180 q45 q181 ⟨rfl, hd_J2_get⟩ rfl (Nat.le_of_ble_eq_true rfl) ⟨Nat.le_of_ble_eq_true rfl, Nat.le_of_ble_eq_true rfl⟩ ⟨by show 0 + 1 + 1 + 0 ≤ 0 + 1 + 1; omega, by show 0 + 6 + 6 + 0 ≤ 0 + 6 + 6; omega, by show 0 + 1 + 1 ≤ 3; omega, by show 0 + 6 + 6 ≤ 18; omega⟩ dX1_wins_18 rfl ?_
  refine jj_castA0 C q1166 dX1_wins_21 hF (fun v21 hF => ?_)
  refine jj_astore (L' := [(4, jR v21), (0, jR a0), (1, jI a1), (2, jI a2), (3, jI a3)]) C rfl (by rw [hxn]; decide) dX1_wins_24 ?_
  refine jj_aload C 0 rfl dX1_wins_26 ?_
  refine jj_iconst (v := 2) C dX1_wins_28 (by decide) ?_
  refine jj_iload_n C 3 rfl dX1_wins_29 rfl ?_
  refine jj_imul C dX1_wins_30 ?_
  refine jj_iald C dX1_wins_31 hF (fun v31 hF => ?_)
  refine jj_iconst (v := -1) C dX1_wins_32 (by decide) ?_
  refine jj_icmp_eq (tgt := 71) C dX1_wins_33 (by decide) hF (fun hF => ?_) (fun hF => ?_)
  · refine jj_sub [1, 2, 3, 4, 0] rfl ?_
    exact w_X1_wins_b71 C hxn hQ (by omega) hF
  · refine jj_aload C 0 rfl dX1_wins_36 ?_
    refine jj_iconst (v := 2) C dX1_wins_38 (by decide) ?_
    refine jj_iload_n C 3 rfl dX1_wins_39 rfl ?_
    refine jj_imul C dX1_wins_40 ?_
    refine jj_iconst (v := 1) C dX1_wins_41 (by decide) ?_
    refine jj_iadd C dX1_wins_42 ?_
    refine jj_iald C dX1_wins_43 hF (fun v43 hF => ?_)
    refine jj_iconst (v := -1) C dX1_wins_44 (by decide) ?_
    refine jj_icmp_eq (tgt := 71) C dX1_wins_45 (by decide) hF (fun hF => ?_) (fun hF => ?_)
    · refine jj_sub [1, 2, 3, 4, 0] rfl ?_
      exact w_X1_wins_b71 C hxn hQ (by omega) hF
    · refine jj_aload_n C 1 rfl dX1_wins_48 rfl ?_
      refine jj_pR (f := 7) C jcs_0 (Nat.le_of_ble_eq_true rfl) (jLk.of C q125 rfl) dX1_wins_49 hF (fun v49 hF => ?_)
      refine jj_iload_n C 2 rfl dX1_wins_52 rfl ?_
      refine jj_iconst (v := 1) C dX1_wins_53 (by decide) ?_
      refine jj_iadd C dX1_wins_54 ?_
      obtain ⟨b55, fs55, he55, hb55, hF⟩ := pO_spec hF
      obtain ⟨r55, M55, hG, hF⟩ := pB_spec hF
      refine jj_callV (k' := 0 + 1 + 1) (n' := 0 + 6 + 6) C [jI (a1 + (1 : Int32))] [] [jR r55] he55 (m_J2_get _ _ hG) hb55 rfl q178 q179 q180 q45 q181 ⟨rfl, hd_J2_get⟩ rfl (Nat.le_of_ble_eq_true rfl) ⟨Nat.le_of_ble_eq_true rfl, Nat.le_of_ble_eq_true rfl⟩ ⟨by show 0 + 1 + 1 + 0 ≤ 0 + 1 + 1; omega, by show 0 + 6 + 6 + 0 ≤ 0 + 6 + 6; omega, by show 0 + 1 + 1 ≤ 3; omega, by show 0 + 6 + 6 ≤ 18; omega⟩ dX1_wins_55 rfl ?_
      refine jj_castA0 C q1166 dX1_wins_58 hF (fun v58 hF => ?_)
      refine jj_iload_n C 3 rfl dX1_wins_61 rfl ?_
      refine jj_iald C dX1_wins_62 hF (fun v62 hF => ?_)
      refine jj_iconst (v := -1) C dX1_wins_63 (by decide) ?_
      refine jj_icmp_ne (tgt := 71) C dX1_wins_64 (by decide) hF (fun hF => ?_) (fun hF => ?_)
      · refine jj_sub [1, 2, 3, 4, 0] rfl ?_
        exact w_X1_wins_b71 C hxn hQ (by omega) hF
      · refine jj_iconst (v := 1) C dX1_wins_67 (by decide) ?_
        refine jj_goto (tgt := 72) C dX1_wins_68 (by decide) ?_
        refine jj_sub [1, 2, 3, 4, 0] rfl ?_
        exact w_X1_wins_b72 C hxn hQ (by omega) hF
/-! Phrasehall.lamp(I)I -/
def rm_X1_lamp : Room := ({ frames := 7, cells := 1, slots := 6, locals := 153 } : Room)
theorem hd_X1_lamp : yX1_lamp.cls ≠ "java/lang/invoke/MethodHandle" ∧ yX1_lamp.cls ≠ "java/lang/invoke/VarHandle" ∧ (parseMethodDescriptor yX1_lamp.desc).map (fun d => d.parameters.length) = some 1 := ⟨by decide, by decide, by decide +kernel⟩
def f_X1_lamp (a0 : Option Nat) (a1 : Int32) (M : jW) : Option ((Int32 ⊕ Nat) × jW) := pB (f_X1_isSide a1 M) fun r1 M1 =>
  pX (f_X1_requireArgument r1 M1) fun _ M4 =>
  pO M4 a0 0 fun b10 _ => pB (f_X1_registered (some b10) a1 M4) fun r10 M10 =>
  pO M10 a0 0 fun b13 _ => pB (f_X1_lampOf (some b13) r10 M10) fun r13 M13 =>
  some (.inl r13, M13)
set_option maxHeartbeats 4000000 in
theorem m_X1_lamp (l : Launch) (g : jG) (hfl : l.stackTraces = false) {a0 : Option Nat} {a1 : Int32} {M M0 : jW} {v0 : (Int32 ⊕ Nat)} (hF : f_X1_lamp a0 a1 M = some (v0, M0)) : jMetX l g yX1_lamp cX1_lamp 2 (some .int) rm_X1_lamp [jR a0, jI a1] M (jri v0) M0 := by
  refine jMetX.of (L := [(0, jR a0), (1, jI a1)]) hfl (by decide) rfl (Nat.le_of_ble_eq_true rfl) (fun x C hxn hg hl hQ => ?_)
  subst hg
  unfold f_X1_lamp at hF
  refine jj_iload_n C 1 rfl dX1_lamp_0 rfl ?_
  obtain ⟨r1, M1, hG, hF⟩ := pB_spec hF
  refine jj_callS (k' := 0) (n' := 0) C [jI a1] [] [jI r1] (m_X1_isSide _ _ hG) q552 q553 q42 q554 hd_X1_isSide rfl (Nat.le_of_ble_eq_true rfl) ⟨Nat.le_of_ble_eq_true rfl, Nat.le_of_ble_eq_true rfl⟩ ⟨by show 0 + 0 ≤ 0; omega, by show 0 + 0 ≤ 0; omega, by show 0 ≤ 1; omega, by show 0 ≤ 6; omega⟩ dX1_lamp_1 rfl ?_
  rcases pX_spec2 hF with ⟨r4, M4, hG, hF⟩ | ⟨r4, M4, hG, hF⟩
  · cases hF
    exact jj_callSXx (k' := 0 + 1) (n' := 0 + 6) C hQ [jI r1] [] (m_X1_requireArgument _ _ hQ.2.2 hG) rfl rfl q451 q452 q42 q453 hd_X1_requireArgument rfl (Nat.le_of_ble_eq_true rfl) ⟨Nat.le_of_ble_eq_true rfl, Nat.le_of_ble_eq_true rfl⟩ ⟨by show 0 + 1 ≤ 0 + 1; omega, by show 0 + 6 ≤ 0 + 6; omega, by show 0 + 1 ≤ 1; omega, by show 0 + 6 ≤ 6; omega⟩ dX1_lamp_4
  refine jj_callSX (k' := 0 + 1) (n' := 0 + 6) C [jI r1] [] [] (m_X1_requireArgument _ _ hQ.2.2 hG) rfl q451 q452 q42 q453 hd_X1_requireArgument rfl (Nat.le_of_ble_eq_true rfl) ⟨Nat.le_of_ble_eq_true rfl, Nat.le_of_ble_eq_true rfl⟩ ⟨by show 0 + 1 ≤ 0 + 1; omega, by show 0 + 6 ≤ 0 + 6; omega, by show 0 + 1 ≤ 1; omega, by show 0 + 6 ≤ 6; omega⟩ dX1_lamp_4 rfl ?_
  refine jj_aload_n C 0 rfl dX1_lamp_7 rfl ?_
  refine jj_aload_n C 0 rfl dX1_lamp_8 rfl ?_
  refine jj_iload_n C 1 rfl dX1_lamp_9 rfl ?_
  obtain ⟨b10, fs10, he10, hb10, hF⟩ := pO_spec hF
  obtain ⟨r10, M10, hG, hF⟩ := pB_spec hF
  refine jj_callV (k' := 0 + 1) (n' := 0 + 6) C [jI a1] [jR a0] [jI r10, jR a0] he10 (m_X1_registered _ _ hG) hb10 rfl q630 q632 qs9 q42 q633 ⟨rfl, hd_X1_registered⟩ rfl (Nat.le_of_ble_eq_true rfl) ⟨Nat.le_of_ble_eq_true rfl, Nat.le_of_ble_eq_true rfl⟩ ⟨by show 0 + 1 + 0 ≤ 0 + 1; omega, by show 0 + 6 + 0 ≤ 0 + 6; omega, by show 0 + 1 ≤ 1; omega, by show 0 + 6 ≤ 6; omega⟩ dX1_lamp_10 rfl ?_
  obtain ⟨b13, fs13, he13, hb13, hF⟩ := pO_spec hF
  obtain ⟨r13, M13, hG, hF⟩ := pB_spec hF
  refine jj_callV (k' := 0 + 1) (n' := 0 + 6) C [jI r10] [] [jI r13] he13 (m_X1_lampOf _ _ hG) hb13 rfl q660 q662 qs11 q42 q663 ⟨rfl, hd_X1_lampOf⟩ rfl (Nat.le_of_ble_eq_true rfl) ⟨Nat.le_of_ble_eq_true rfl, Nat.le_of_ble_eq_true rfl⟩ ⟨by show 0 + 1 + 0 ≤ 0 + 1; omega, by show 0 + 6 + 0 ≤ 0 + 6; omega, by show 0 + 1 ≤ 1; omega, by show 0 + 6 ≤ 6; omega⟩ dX1_lamp_13 rfl ?_
  exact jj_iretX C hQ dX1_lamp_16 hF (by show 0 + 1 ≤ 1; omega) (by show 0 + 6 ≤ 6; omega)
/-! Phrasehall.ofBout(II)I -/
def rm_X1_ofBout : Room := ({ frames := 8, cells := 2, slots := 12, locals := 169 } : Room)
theorem hd_X1_ofBout : yX1_ofBout.cls ≠ "java/lang/invoke/MethodHandle" ∧ yX1_ofBout.cls ≠ "java/lang/invoke/VarHandle" ∧ (parseMethodDescriptor yX1_ofBout.desc).map (fun d => d.parameters.length) = some 2 := ⟨by decide, by decide, by decide +kernel⟩
def f_X1_ofBout_b56 (l2 : Int32) (l3 : Option Nat) (M : jW) : Option ((Int32 ⊕ Nat) × jW) := pR M l3 3 4 fun v57 =>
  pAI M v57 0 l2 fun v61 =>
  some (.inl v61, M)
set_option maxHeartbeats 4000000 in
theorem w_X1_ofBout_b56 {x : jX} (C : jOk x cX1_ofBout RX1 rm_X1_ofBout (some .int)) (hxn : xn x = 4) {v0 : (Int32 ⊕ Nat)} {M0 : jW} (hQ : jEndX x rm_X1_ofBout (jri v0) M0) {l2 : Int32} {l3 : Option Nat} {M : jW} {k n : Nat} (hk : k ≤ 2 ∧ n ≤ 12) (hF : f_X1_ofBout_b56 l2 l3 M = some (v0, M0)) : jJ x 56 [(2, jI l2), (3, jR l3)] [] M k n := by
  unfold f_X1_ofBout_b56 at hF
  refine jj_aload_n C 1 rfl dX1_ofBout_56 rfl ?_
  refine jj_pR (f := 4) C jcs_3 (Nat.le_of_ble_eq_true rfl) (jLk.nest C q502 rfl) dX1_ofBout_57 hF (fun v57 hF => ?_)
  refine jj_iload_n C 0 rfl dX1_ofBout_60 rfl ?_
  refine jj_iald C dX1_ofBout_61 hF (fun v61 hF => ?_)
  refine jj_goto (tgt := 90) C dX1_ofBout_62 (by decide) ?_
  exact jj_iretX C hQ dX1_ofBout_90 hF (by show k ≤ 2; omega) (by show n ≤ 12; omega)
def f_X1_ofBout (a0 : Option Nat) (a1 : Int32) (a2 : Int32) (M : jW) : Option ((Int32 ⊕ Nat) × jW) := pR M a0 0 1 fun v1 =>
  pX (f_X1_at v1 a1 M) fun r5 M5 =>
  pCC M5 r5 3 fun v8 =>
  pB (f_X1_inRange a2 (0 : Int32) (5 : Int32) M5) fun r15 M15 =>
  pX (f_X1_requireArgument r15 M15) fun _ M18 =>
  if a2 = 0 then (f_X1_ofBout_b56 a2 v8 M18)
  else (if a2 = 1 then (f_X1_ofBout_b56 a2 v8 M18)
  else (if a2 = 2 then (pI M18 v8 3 7 fun v66 =>
  some (.inl v66, M18))
  else (if a2 = 3 then (pI M18 v8 3 8 fun v73 =>
  some (.inl v73, M18))
  else (if a2 = 4 then (pI M18 v8 3 10 fun v80 =>
  some (.inl v80, M18))
  else (pI M18 v8 3 11 fun v87 =>
  some (.inl v87, M18))))))
set_option maxHeartbeats 4000000 in
theorem m_X1_ofBout (l : Launch) (g : jG) (hfl : l.stackTraces = false) {a0 : Option Nat} {a1 : Int32} {a2 : Int32} {M M0 : jW} {v0 : (Int32 ⊕ Nat)} (hF : f_X1_ofBout a0 a1 a2 M = some (v0, M0)) : jMetX l g yX1_ofBout cX1_ofBout 4 (some .int) rm_X1_ofBout [jR a0, jI a1, jI a2] M (jri v0) M0 := by
  refine jMetX.of (L := [(0, jR a0), (1, jI a1), (2, jI a2)]) hfl (by decide) rfl (Nat.le_of_ble_eq_true rfl) (fun x C hxn hg hl hQ => ?_)
  subst hg
  unfold f_X1_ofBout at hF
  refine jj_aload_n C 0 rfl dX1_ofBout_0 rfl ?_
  refine jj_pR (f := 1) C jcs_0 (Nat.le_of_ble_eq_true rfl) (jLk.of C q117 rfl) dX1_ofBout_1 hF (fun v1 hF => ?_)
  refine jj_iload_n C 1 rfl dX1_ofBout_4 rfl ?_
  rcases pX_spec2 hF with ⟨r5, M5, hG, hF⟩ | ⟨r5, M5, hG, hF⟩
  · cases hF
    exact jj_callSXx (k' := 0 + 1) (n' := 0 + 6) C hQ [jR v1, jI a1] [] (m_X1_at _ _ hQ.2.2 hG) rfl rfl q422 q423 q42 q424 hd_X1_at rfl (Nat.le_of_ble_eq_true rfl) ⟨Nat.le_of_ble_eq_true rfl, Nat.le_of_ble_eq_true rfl⟩ ⟨by show 0 + 1 ≤ 0 + 1; omega, by show 0 + 6 ≤ 0 + 6; omega, by show 0 + 1 ≤ 2; omega, by show 0 + 6 ≤ 12; omega⟩ dX1_ofBout_5
  refine jj_callSX (k' := 0 + 1) (n' := 0 + 6) C [jR v1, jI a1] [] [jR r5] (m_X1_at _ _ hQ.2.2 hG) rfl q422 q423 q42 q424 hd_X1_at rfl (Nat.le_of_ble_eq_true rfl) ⟨Nat.le_of_ble_eq_true rfl, Nat.le_of_ble_eq_true rfl⟩ ⟨by show 0 + 1 ≤ 0 + 1; omega, by show 0 + 6 ≤ 0 + 6; omega, by show 0 + 1 ≤ 2; omega, by show 0 + 6 ≤ 12; omega⟩ dX1_ofBout_5 rfl ?_
  refine jj_castC (ci := 3) C rfl q474 dX1_ofBout_8 hF (fun v8 hF => ?_)
  refine jj_astore_n (L' := [(3, jR v8), (0, jR a0), (1, jI a1), (2, jI a2)]) C rfl (by rw [hxn]; decide) dX1_ofBout_11 rfl ?_
  refine jj_iload_n C 3 rfl dX1_ofBout_12 rfl ?_
  refine jj_iconst (v := 0) C dX1_ofBout_13 (by decide) ?_
  refine jj_iconst (v := 5) C dX1_ofBout_14 (by decide) ?_
  obtain ⟨r15, M15, hG, hF⟩ := pB_spec hF
  refine jj_callS (k' := 0 + 1) (n' := 0 + 6) C [jI a2, jI (0 : Int32), jI (5 : Int32)] [] [jI r15] (m_X1_inRange _ _ hG) q425 q426 q42 q427 hd_X1_inRange rfl (Nat.le_of_ble_eq_true rfl) ⟨Nat.le_of_ble_eq_true rfl, Nat.le_of_ble_eq_true rfl⟩ ⟨by show 0 + 1 + 0 ≤ 0 + 1; omega, by show 0 + 6 + 0 ≤ 0 + 6; omega, by show 0 + 1 ≤ 2; omega, by show 0 + 6 ≤ 12; omega⟩ dX1_ofBout_15 rfl ?_
  rcases pX_spec2 hF with ⟨r18, M18, hG, hF⟩ | ⟨r18, M18, hG, hF⟩
  · cases hF
    exact jj_callSXx (k' := 0 + 1 + 1) (n' := 0 + 6 + 6) C hQ [jI r15] [] (m_X1_requireArgument _ _ hQ.2.2 hG) rfl rfl q451 q452 q42 q453 hd_X1_requireArgument rfl (Nat.le_of_ble_eq_true rfl) ⟨Nat.le_of_ble_eq_true rfl, Nat.le_of_ble_eq_true rfl⟩ ⟨by show 0 + 1 + 1 ≤ 0 + 1 + 1; omega, by show 0 + 6 + 6 ≤ 0 + 6 + 6; omega, by show 0 + 1 + 1 ≤ 2; omega, by show 0 + 6 + 6 ≤ 12; omega⟩ dX1_ofBout_18
  refine jj_callSX (k' := 0 + 1 + 1) (n' := 0 + 6 + 6) C [jI r15] [] [] (m_X1_requireArgument _ _ hQ.2.2 hG) rfl q451 q452 q42 q453 hd_X1_requireArgument rfl (Nat.le_of_ble_eq_true rfl) ⟨Nat.le_of_ble_eq_true rfl, Nat.le_of_ble_eq_true rfl⟩ ⟨by show 0 + 1 + 1 ≤ 0 + 1 + 1; omega, by show 0 + 6 + 6 ≤ 0 + 6 + 6; omega, by show 0 + 1 + 1 ≤ 2; omega, by show 0 + 6 + 6 ≤ 12; omega⟩ dX1_ofBout_18 rfl ?_
  refine jj_iload_n C 3 rfl dX1_ofBout_21 rfl ?_
  by_cases hc22_0 : a2 = 0
  · rw [if_pos hc22_0] at hF
    refine jj_tabIn (c := 0) (tgt := 56) C hc22_0 dX1_ofBout_22 (by decide) (by decide) rfl (by decide) ?_
    refine jj_sub [3, 0] rfl ?_
    exact w_X1_ofBout_b56 C hxn hQ (by omega) hF
  rw [if_neg hc22_0] at hF
  by_cases hc22_1 : a2 = 1
  · rw [if_pos hc22_1] at hF
    refine jj_tabIn (c := 1) (tgt := 56) C hc22_1 dX1_ofBout_22 (by decide) (by decide) rfl (by decide) ?_
    refine jj_sub [3, 0] rfl ?_
    exact w_X1_ofBout_b56 C hxn hQ (by omega) hF
  rw [if_neg hc22_1] at hF
  by_cases hc22_2 : a2 = 2
  · rw [if_pos hc22_2] at hF
    refine jj_tabIn (c := 2) (tgt := 65) C hc22_2 dX1_ofBout_22 (by decide) (by decide) rfl (by decide) ?_
    refine jj_aload_n C 0 rfl dX1_ofBout_65 rfl ?_
    refine jj_pI (f := 7) C jcs_3 (Nat.le_of_ble_eq_true rfl) (jLk.nest C q507 rfl) dX1_ofBout_66 hF (fun v66 hF => ?_)
    refine jj_goto (tgt := 90) C dX1_ofBout_69 (by decide) ?_
    exact jj_iretX C hQ dX1_ofBout_90 hF (by show 0 + 1 + 1 ≤ 2; omega) (by show 0 + 6 + 6 ≤ 12; omega)
  rw [if_neg hc22_2] at hF
  by_cases hc22_3 : a2 = 3
  · rw [if_pos hc22_3] at hF
    refine jj_tabIn (c := 3) (tgt := 72) C hc22_3 dX1_ofBout_22 (by decide) (by decide) rfl (by decide) ?_
    refine jj_aload_n C 0 rfl dX1_ofBout_72 rfl ?_
    refine jj_pI (f := 8) C jcs_3 (Nat.le_of_ble_eq_true rfl) (jLk.nest C q509 rfl) dX1_ofBout_73 hF (fun v73 hF => ?_)
    refine jj_goto (tgt := 90) C dX1_ofBout_76 (by decide) ?_
    exact jj_iretX C hQ dX1_ofBout_90 hF (by show 0 + 1 + 1 ≤ 2; omega) (by show 0 + 6 + 6 ≤ 12; omega)
  rw [if_neg hc22_3] at hF
  by_cases hc22_4 : a2 = 4
  · rw [if_pos hc22_4] at hF
    refine jj_tabIn (c := 4) (tgt := 79) C hc22_4 dX1_ofBout_22 (by decide) (by decide) rfl (by decide) ?_
    refine jj_aload_n C 0 rfl dX1_ofBout_79 rfl ?_
    refine jj_pI (f := 10) C jcs_3 (Nat.le_of_ble_eq_true rfl) (jLk.nest C q512 rfl) dX1_ofBout_80 hF (fun v80 hF => ?_)
    refine jj_goto (tgt := 90) C dX1_ofBout_83 (by decide) ?_
    exact jj_iretX C hQ dX1_ofBout_90 hF (by show 0 + 1 + 1 ≤ 2; omega) (by show 0 + 6 + 6 ≤ 12; omega)
  rw [if_neg hc22_4] at hF
  have hd22_0 : ¬ Int32.toInt a2 = 0 := jne hc22_0
  have hd22_1 : ¬ Int32.toInt a2 = 1 := jne hc22_1
  have hd22_2 : ¬ Int32.toInt a2 = 2 := jne hc22_2
  have hd22_3 : ¬ Int32.toInt a2 = 3 := jne hc22_3
  have hd22_4 : ¬ Int32.toInt a2 = 4 := jne hc22_4
  refine jj_tabOut (tgt := 86) C dX1_ofBout_22 (by omega) (by decide) ?_
  refine jj_aload_n C 0 rfl dX1_ofBout_86 rfl ?_
  refine jj_pI (f := 11) C jcs_3 (Nat.le_of_ble_eq_true rfl) (jLk.nest C q514 rfl) dX1_ofBout_87 hF (fun v87 hF => ?_)
  exact jj_iretX C hQ dX1_ofBout_90 hF (by show 0 + 1 + 1 ≤ 2; omega) (by show 0 + 6 + 6 ≤ 12; omega)
/-! Phrasehall.ofPool(III)I -/
def rm_X1_ofPool : Room := ({ frames := 9, cells := 3, slots := 18, locals := 192 } : Room)
theorem hd_X1_ofPool : yX1_ofPool.cls ≠ "java/lang/invoke/MethodHandle" ∧ yX1_ofPool.cls ≠ "java/lang/invoke/VarHandle" ∧ (parseMethodDescriptor yX1_ofPool.desc).map (fun d => d.parameters.length) = some 3 := ⟨by decide, by decide, by decide +kernel⟩
def f_X1_ofPool (a0 : Option Nat) (a1 : Int32) (a2 : Int32) (a3 : Int32) (M : jW) : Option ((Int32 ⊕ Nat) × jW) := pO M a0 0 fun b3 _ => pX (f_X1_poolWith (some b3) a1 a2 M) fun r3 M3 =>
  pB (f_X1_inRange a3 (0 : Int32) (3 : Int32) M3) fun r11 M11 =>
  pX (f_X1_requireArgument r11 M11) fun _ M14 =>
  pR M14 r3 7 1 fun v19 =>
  pAR M14 v19 5 a2 fun v23 =>
  pO M14 v23 8 fun b25 _ => pB (f_X10_told (some b25) a3 M14) fun r25 M25 =>
  some (.inl r25, M25)
set_option maxHeartbeats 4000000 in
theorem m_X1_ofPool (l : Launch) (g : jG) (hfl : l.stackTraces = false) {a0 : Option Nat} {a1 : Int32} {a2 : Int32} {a3 : Int32} {M M0 : jW} {v0 : (Int32 ⊕ Nat)} (hF : f_X1_ofPool a0 a1 a2 a3 M = some (v0, M0)) : jMetX l g yX1_ofPool cX1_ofPool 5 (some .int) rm_X1_ofPool [jR a0, jI a1, jI a2, jI a3] M (jri v0) M0 := by
  refine jMetX.of (L := [(0, jR a0), (1, jI a1), (2, jI a2), (3, jI a3)]) hfl (by decide) rfl (Nat.le_of_ble_eq_true rfl) (fun x C hxn hg hl hQ => ?_)
  subst hg
  unfold f_X1_ofPool at hF
  refine jj_aload_n C 0 rfl dX1_ofPool_0 rfl ?_
  refine jj_iload_n C 1 rfl dX1_ofPool_1 rfl ?_
  refine jj_iload_n C 2 rfl dX1_ofPool_2 rfl ?_
  obtain ⟨b3, fs3, he3, hb3, hF⟩ := pO_spec hF
  rcases pX_spec2 hF with ⟨r3, M3, hG, hF⟩ | ⟨r3, M3, hG, hF⟩
  · cases hF
    exact jj_callVXx (k' := 0 + 2) (n' := 0 + 12) C hQ [jI a1, jI a2] [] he3 (m_X1_poolWith _ _ hQ.2.2 hG) rfl rfl hb3 rfl q816 q818 qs16 q42 q819 ⟨rfl, hd_X1_poolWith⟩ rfl (Nat.le_of_ble_eq_true rfl) ⟨Nat.le_of_ble_eq_true rfl, Nat.le_of_ble_eq_true rfl⟩ ⟨by show 0 + 2 ≤ 0 + 2; omega, by show 0 + 12 ≤ 0 + 12; omega, by show 0 + 2 ≤ 3; omega, by show 0 + 12 ≤ 18; omega⟩ dX1_ofPool_3
  refine jj_callVX (k' := 0 + 2) (n' := 0 + 12) C [jI a1, jI a2] [] [jR r3] he3 (m_X1_poolWith _ _ hQ.2.2 hG) rfl hb3 rfl q816 q818 qs16 q42 q819 ⟨rfl, hd_X1_poolWith⟩ rfl (Nat.le_of_ble_eq_true rfl) ⟨Nat.le_of_ble_eq_true rfl, Nat.le_of_ble_eq_true rfl⟩ ⟨by show 0 + 2 ≤ 0 + 2; omega, by show 0 + 12 ≤ 0 + 12; omega, by show 0 + 2 ≤ 3; omega, by show 0 + 12 ≤ 18; omega⟩ dX1_ofPool_3 rfl ?_
  refine jj_astore (L' := [(4, jR r3), (0, jR a0), (1, jI a1), (2, jI a2), (3, jI a3)]) C rfl (by rw [hxn]; decide) dX1_ofPool_6 ?_
  refine jj_iload_n C 4 rfl dX1_ofPool_8 rfl ?_
  refine jj_iconst (v := 0) C dX1_ofPool_9 (by decide) ?_
  refine jj_iconst (v := 3) C dX1_ofPool_10 (by decide) ?_
  obtain ⟨r11, M11, hG, hF⟩ := pB_spec hF
  refine jj_callS (k' := 0 + 2) (n' := 0 + 12) C [jI a3, jI (0 : Int32), jI (3 : Int32)] [] [jI r11] (m_X1_inRange _ _ hG) q425 q426 q42 q427 hd_X1_inRange rfl (Nat.le_of_ble_eq_true rfl) ⟨Nat.le_of_ble_eq_true rfl, Nat.le_of_ble_eq_true rfl⟩ ⟨by show 0 + 2 + 0 ≤ 0 + 2; omega, by show 0 + 12 + 0 ≤ 0 + 12; omega, by show 0 + 2 ≤ 3; omega, by show 0 + 12 ≤ 18; omega⟩ dX1_ofPool_11 rfl ?_
  rcases pX_spec2 hF with ⟨r14, M14, hG, hF⟩ | ⟨r14, M14, hG, hF⟩
  · cases hF
    exact jj_callSXx (k' := 0 + 2 + 1) (n' := 0 + 12 + 6) C hQ [jI r11] [] (m_X1_requireArgument _ _ hQ.2.2 hG) rfl rfl q451 q452 q42 q453 hd_X1_requireArgument rfl (Nat.le_of_ble_eq_true rfl) ⟨Nat.le_of_ble_eq_true rfl, Nat.le_of_ble_eq_true rfl⟩ ⟨by show 0 + 2 + 1 ≤ 0 + 2 + 1; omega, by show 0 + 12 + 6 ≤ 0 + 12 + 6; omega, by show 0 + 2 + 1 ≤ 3; omega, by show 0 + 12 + 6 ≤ 18; omega⟩ dX1_ofPool_14
  refine jj_callSX (k' := 0 + 2 + 1) (n' := 0 + 12 + 6) C [jI r11] [] [] (m_X1_requireArgument _ _ hQ.2.2 hG) rfl q451 q452 q42 q453 hd_X1_requireArgument rfl (Nat.le_of_ble_eq_true rfl) ⟨Nat.le_of_ble_eq_true rfl, Nat.le_of_ble_eq_true rfl⟩ ⟨by show 0 + 2 + 1 ≤ 0 + 2 + 1; omega, by show 0 + 12 + 6 ≤ 0 + 12 + 6; omega, by show 0 + 2 + 1 ≤ 3; omega, by show 0 + 12 + 6 ≤ 18; omega⟩ dX1_ofPool_14 rfl ?_
  refine jj_aload C 0 rfl dX1_ofPool_17 ?_
  refine jj_pR (f := 1) C jcs_7 (Nat.le_of_ble_eq_true rfl) (jLk.nest C q803 rfl) dX1_ofPool_19 hF (fun v19 hF => ?_)
  refine jj_iload_n C 3 rfl dX1_ofPool_22 rfl ?_
  refine jj_aald (t := 5) C rfl dX1_ofPool_23 hF (fun v23 hF => ?_)
  refine jj_iload_n C 4 rfl dX1_ofPool_24 rfl ?_
  obtain ⟨b25, fs25, he25, hb25, hF⟩ := pO_spec hF
  obtain ⟨r25, M25, hG, hF⟩ := pB_spec hF
  refine jj_callV (k' := 0 + 2 + 1) (n' := 0 + 12 + 6) C [jI a3] [] [jI r25] he25 (m_X10_told _ _ hG) hb25 rfl q1199 q1200 q1201 q72 q1202 ⟨rfl, hd_X10_told⟩ rfl (Nat.le_of_ble_eq_true rfl) ⟨Nat.le_of_ble_eq_true rfl, Nat.le_of_ble_eq_true rfl⟩ ⟨by show 0 + 2 + 1 + 0 ≤ 0 + 2 + 1; omega, by show 0 + 12 + 6 + 0 ≤ 0 + 12 + 6; omega, by show 0 + 2 + 1 ≤ 3; omega, by show 0 + 12 + 6 ≤ 18; omega⟩ dX1_ofPool_25 rfl ?_
  exact jj_iretX C hQ dX1_ofPool_28 hF (by show 0 + 2 + 1 ≤ 3; omega) (by show 0 + 12 + 6 ≤ 18; omega)
/-! Phrasehall.ofPoolAnew(III)I -/
def rm_X1_ofPoolAnew : Room := ({ frames := 9, cells := 5, slots := 27, locals := 192 } : Room)
theorem hd_X1_ofPoolAnew : yX1_ofPoolAnew.cls ≠ "java/lang/invoke/MethodHandle" ∧ yX1_ofPoolAnew.cls ≠ "java/lang/invoke/VarHandle" ∧ (parseMethodDescriptor yX1_ofPoolAnew.desc).map (fun d => d.parameters.length) = some 3 := ⟨by decide, by decide, by decide +kernel⟩
def f_X1_ofPoolAnew_b122 (K35 : Int32 → Int32 → Option Nat → Option Nat → Option Nat → jW → Option ((Int32 ⊕ Nat) × jW)) (l2 : Int32) (l3 : Int32) (l4 : Option Nat) (l5 : Option Nat) (l6 : Option Nat) (M : jW) : Option ((Int32 ⊕ Nat) × jW) := K35 l2 l3 l4 l5 l6 M
set_option maxHeartbeats 4000000 in
theorem w_X1_ofPoolAnew_b122 {x : jX} (C : jOk x cX1_ofPoolAnew RX1 rm_X1_ofPoolAnew (some .int)) (hxn : xn x = 8) {v0 : (Int32 ⊕ Nat)} {M0 : jW} (hQ : jEndX x rm_X1_ofPoolAnew (jri v0) M0) {K35 : Int32 → Int32 → Option Nat → Option Nat → Option Nat → jW → Option ((Int32 ⊕ Nat) × jW)} (hK35 : ∀ (l2 : Int32) (l3 : Int32) (l4 : Option Nat) (l5 : Option Nat) (l6 : Option Nat) (M : jW) (k n : Nat), k ≤ 5 ∧ n ≤ 27 → K35 l2 l3 l4 l5 l6 M = some (v0, M0) → jJ x 35 [(2, jI l2), (3, jI l3), (4, jR l4), (5, jR l5), (6, jR l6)] [] M k n) {l2 : Int32} {l3 : Int32} {l4 : Option Nat} {l5 : Option Nat} {l6 : Option Nat} {M : jW} {k n : Nat} (hk : k ≤ 5 ∧ n ≤ 27) (hF : f_X1_ofPoolAnew_b122 K35 l2 l3 l4 l5 l6 M = some (v0, M0)) : jJ x 122 [(2, jI l2), (3, jI l3), (4, jR l4), (5, jR l5), (6, jR l6)] [] M k n := by
  unfold f_X1_ofPoolAnew_b122 at hF
  refine jj_goto (tgt := 35) C dX1_ofPoolAnew_122 (by decide) ?_
  refine jj_sub [0, 1, 2, 3, 4] rfl ?_
  exact hK35 _ _ _ _ _ _ _ _ (by omega) hF
def f_X1_ofPoolAnew_b118 (K35 : Int32 → Int32 → Option Nat → Option Nat → Option Nat → jW → Option ((Int32 ⊕ Nat) × jW)) (l2 : Int32) (l3 : Int32) (l4 : Option Nat) (l5 : Option Nat) (l6 : Option Nat) (s0 : Option Nat) (s1 : Option Nat) (s2 : Int32) (M : jW) : Option ((Int32 ⊕ Nat) × jW) := pO M s0 8 fun b119 _ => pB (f_X10_adds (some b119) s1 s2 (1 : Int32) M) fun _ M119 =>
  f_X1_ofPoolAnew_b122 K35 l2 l3 l4 l5 l6 M119
set_option maxHeartbeats 4000000 in
theorem w_X1_ofPoolAnew_b118 {x : jX} (C : jOk x cX1_ofPoolAnew RX1 rm_X1_ofPoolAnew (some .int)) (hxn : xn x = 8) {v0 : (Int32 ⊕ Nat)} {M0 : jW} (hQ : jEndX x rm_X1_ofPoolAnew (jri v0) M0) {K35 : Int32 → Int32 → Option Nat → Option Nat → Option Nat → jW → Option ((Int32 ⊕ Nat) × jW)} (hK35 : ∀ (l2 : Int32) (l3 : Int32) (l4 : Option Nat) (l5 : Option Nat) (l6 : Option Nat) (M : jW) (k n : Nat), k ≤ 5 ∧ n ≤ 27 → K35 l2 l3 l4 l5 l6 M = some (v0, M0) → jJ x 35 [(2, jI l2), (3, jI l3), (4, jR l4), (5, jR l5), (6, jR l6)] [] M k n) {l2 : Int32} {l3 : Int32} {l4 : Option Nat} {l5 : Option Nat} {l6 : Option Nat} {s0 : Option Nat} {s1 : Option Nat} {s2 : Int32} {M : jW} {k n : Nat} (hk : k ≤ 5 ∧ n ≤ 27) (hF : f_X1_ofPoolAnew_b118 K35 l2 l3 l4 l5 l6 s0 s1 s2 M = some (v0, M0)) : jJ x 118 [(2, jI l2), (3, jI l3), (4, jR l4), (5, jR l5), (6, jR l6)] [jI s2, jR s1, jR s0] M k n := by
  unfold f_X1_ofPoolAnew_b118 at hF
  refine jj_iconst (v := 1) C dX1_ofPoolAnew_118 (by decide) ?_
  obtain ⟨b119, fs119, he119, hb119, hF⟩ := pO_spec hF
  obtain ⟨r119, M119, hG, hF⟩ := pB_spec hF
  refine jj_callV (k' := k) (n' := n) C [jR s1, jI s2, jI (1 : Int32)] [] [] he119 (m_X10_adds _ _ hG) hb119 rfl q1212 q696 q697 q72 q698 ⟨rfl, hd_X10_adds⟩ rfl (Nat.le_of_ble_eq_true rfl) ⟨Nat.le_of_ble_eq_true rfl, Nat.le_of_ble_eq_true rfl⟩ ⟨by show k + 0 ≤ k; omega, by show n + 0 ≤ n; omega, by show k ≤ 5; omega, by show n ≤ 27; omega⟩ dX1_ofPoolAnew_119 rfl ?_
  refine jj_sub [0, 1, 2, 3, 4] rfl ?_
  exact w_X1_ofPoolAnew_b122 C hxn hQ hK35 (by omega) hF
def f_X1_ofPoolAnew_b35 : Nat → Int32 → Int32 → Option Nat → Option Nat → Option Nat → jW → Option ((Int32 ⊕ Nat) × jW)
  | 0, _, _, _, _, _, _ => none
  | q + 1, l2, l3, l4, l5, l6, M => pO M l6 10 fun b37 _ => pB (f_J19_hasNext (some b37) M) fun r37 M37 =>
  if r37 = 0 then (pO M37 l5 8 fun b128 _ => pB (f_X10_told (some b128) l3 M37) fun r128 M128 =>
  some (.inl r128, M128))
  else (pO M37 l6 10 fun b47 _ => pB (f_J19_next (some b47) M37) fun r47 M47 =>
  pCC M47 r47 3 fun v52 =>
  pR M47 v52 3 3 fun v59 =>
  if v59 = l4 then (pI M47 v52 3 7 fun v69 =>
  if v69 = (-1 : Int32) then (f_X1_ofPoolAnew_b122 (f_X1_ofPoolAnew_b35 q) l2 l3 l4 l5 l6 M47)
  else (pB (f_X1_isOf v52 l2 M47) fun r79 M79 =>
  if r79 = 0 then (f_X1_ofPoolAnew_b122 (f_X1_ofPoolAnew_b35 q) l2 l3 l4 l5 l6 M79)
  else (pO M79 l4 7 fun b89 _ => pB (f_X9_counts (some b89) v52 M79) fun r89 M89 =>
  if r89 = 0 then (f_X1_ofPoolAnew_b122 (f_X1_ofPoolAnew_b35 q) l2 l3 l4 l5 l6 M89)
  else (pR M89 v52 3 0 fun v101 =>
  pAR M89 v101 4 (0 : Int32) fun v105 =>
  pI M89 v105 2 0 fun v106 =>
  if v106 = l2 then (f_X1_ofPoolAnew_b118 (f_X1_ofPoolAnew_b35 q) l2 l3 l4 l5 l6 l5 v52 (0 : Int32) M89)
  else (f_X1_ofPoolAnew_b118 (f_X1_ofPoolAnew_b35 q) l2 l3 l4 l5 l6 l5 v52 (1 : Int32) M89)))))
  else (f_X1_ofPoolAnew_b122 (f_X1_ofPoolAnew_b35 q) l2 l3 l4 l5 l6 M47))
theorem f_X1_ofPoolAnew_b35_s (q : Nat) (l2 : Int32) (l3 : Int32) (l4 : Option Nat) (l5 : Option Nat) (l6 : Option Nat) (M : jW) : f_X1_ofPoolAnew_b35 (q + 1) l2 l3 l4 l5 l6 M = (pO M l6 10 fun b37 _ => pB (f_J19_hasNext (some b37) M) fun r37 M37 =>
  if r37 = 0 then (pO M37 l5 8 fun b128 _ => pB (f_X10_told (some b128) l3 M37) fun r128 M128 =>
  some (.inl r128, M128))
  else (pO M37 l6 10 fun b47 _ => pB (f_J19_next (some b47) M37) fun r47 M47 =>
  pCC M47 r47 3 fun v52 =>
  pR M47 v52 3 3 fun v59 =>
  if v59 = l4 then (pI M47 v52 3 7 fun v69 =>
  if v69 = (-1 : Int32) then (f_X1_ofPoolAnew_b122 (f_X1_ofPoolAnew_b35 q) l2 l3 l4 l5 l6 M47)
  else (pB (f_X1_isOf v52 l2 M47) fun r79 M79 =>
  if r79 = 0 then (f_X1_ofPoolAnew_b122 (f_X1_ofPoolAnew_b35 q) l2 l3 l4 l5 l6 M79)
  else (pO M79 l4 7 fun b89 _ => pB (f_X9_counts (some b89) v52 M79) fun r89 M89 =>
  if r89 = 0 then (f_X1_ofPoolAnew_b122 (f_X1_ofPoolAnew_b35 q) l2 l3 l4 l5 l6 M89)
  else (pR M89 v52 3 0 fun v101 =>
  pAR M89 v101 4 (0 : Int32) fun v105 =>
  pI M89 v105 2 0 fun v106 =>
  if v106 = l2 then (f_X1_ofPoolAnew_b118 (f_X1_ofPoolAnew_b35 q) l2 l3 l4 l5 l6 l5 v52 (0 : Int32) M89)
  else (f_X1_ofPoolAnew_b118 (f_X1_ofPoolAnew_b35 q) l2 l3 l4 l5 l6 l5 v52 (1 : Int32) M89)))))
  else (f_X1_ofPoolAnew_b122 (f_X1_ofPoolAnew_b35 q) l2 l3 l4 l5 l6 M47))) := rfl
set_option maxHeartbeats 4000000 in
theorem w_X1_ofPoolAnew_b35 {x : jX} (C : jOk x cX1_ofPoolAnew RX1 rm_X1_ofPoolAnew (some .int)) (hxn : xn x = 8) {v0 : (Int32 ⊕ Nat)} {M0 : jW} (hQ : jEndX x rm_X1_ofPoolAnew (jri v0) M0) : ∀ (n35 : Nat) (l2 : Int32) (l3 : Int32) (l4 : Option Nat) (l5 : Option Nat) (l6 : Option Nat) (M : jW) (k n : Nat), k ≤ 5 ∧ n ≤ 27 → f_X1_ofPoolAnew_b35 n35 l2 l3 l4 l5 l6 M = some (v0, M0) → jJ x 35 [(2, jI l2), (3, jI l3), (4, jR l4), (5, jR l5), (6, jR l6)] [] M k n := by
  intro n35
  induction n35 with
  | zero =>
    intro l2 l3 l4 l5 l6 M k n hk hF
    cases hF
  | succ n35 hK35 =>
    intro l2 l3 l4 l5 l6 M k n hk hF
    rw [f_X1_ofPoolAnew_b35_s] at hF
    refine jj_aload C 4 rfl dX1_ofPoolAnew_35 ?_
    obtain ⟨b37, fs37, he37, hb37, hF⟩ := pO_spec hF
    obtain ⟨r37, M37, hG, hF⟩ := pB_spec hF
    refine jj_callF (k' := k) (n' := n) C [] [] [jI r37] he37 (m_J19_hasNext _ _ hG) hb37 rfl C.kk.2.2.2.1.2.2.1 q847 q853 q851 q73 q855 hd_jyHas rfl (Nat.le_of_ble_eq_true rfl) ⟨Nat.le_of_ble_eq_true rfl, Nat.le_of_ble_eq_true rfl⟩ ⟨Nat.le_refl _, Nat.le_refl _, by show k ≤ 5; omega, by show n ≤ 27; omega⟩ dX1_ofPoolAnew_37 rfl ?_
    refine jj_if_eq (tgt := 125) C dX1_ofPoolAnew_42 (by decide) hF (fun hF => ?_) (fun hF => ?_)
    · refine jj_aload C 3 rfl dX1_ofPoolAnew_125 ?_
      refine jj_iload_n C 1 rfl dX1_ofPoolAnew_127 rfl ?_
      obtain ⟨b128, fs128, he128, hb128, hF⟩ := pO_spec hF
      obtain ⟨r128, M128, hG, hF⟩ := pB_spec hF
      refine jj_callV (k' := k) (n' := n) C [jI l3] [] [jI r128] he128 (m_X10_told _ _ hG) hb128 rfl q1199 q1200 q1201 q72 q1202 ⟨rfl, hd_X10_told⟩ rfl (Nat.le_of_ble_eq_true rfl) ⟨Nat.le_of_ble_eq_true rfl, Nat.le_of_ble_eq_true rfl⟩ ⟨by show k + 0 ≤ k; omega, by show n + 0 ≤ n; omega, by show k ≤ 5; omega, by show n ≤ 27; omega⟩ dX1_ofPoolAnew_128 rfl ?_
      exact jj_iretX C hQ dX1_ofPoolAnew_131 hF (by show k ≤ 5; omega) (by show n ≤ 27; omega)
    · refine jj_aload C 4 rfl dX1_ofPoolAnew_45 ?_
      obtain ⟨b47, fs47, he47, hb47, hF⟩ := pO_spec hF
      obtain ⟨r47, M47, hG, hF⟩ := pB_spec hF
      refine jj_callF (k' := k) (n' := n) C [] [] [jR r47] he47 (m_J19_next _ _ hG) hb47 rfl C.kk.2.2.2.1.2.2.2 q857 q862 q860 q73 q864 hd_jyNext rfl (Nat.le_of_ble_eq_true rfl) ⟨Nat.le_of_ble_eq_true rfl, Nat.le_of_ble_eq_true rfl⟩ ⟨Nat.le_refl _, Nat.le_refl _, by show k ≤ 5; omega, by show n ≤ 27; omega⟩ dX1_ofPoolAnew_47 rfl ?_
      refine jj_castC (ci := 3) C rfl q474 dX1_ofPoolAnew_52 hF (fun v52 hF => ?_)
      refine jj_astore (L' := [(7, jR v52), (2, jI l2), (3, jI l3), (4, jR l4), (5, jR l5), (6, jR l6)]) C rfl (by rw [hxn]; decide) dX1_ofPoolAnew_55 ?_
      refine jj_aload C 0 rfl dX1_ofPoolAnew_57 ?_
      refine jj_pR (f := 3) C jcs_3 (Nat.le_of_ble_eq_true rfl) (jLk.nest C q499 rfl) dX1_ofPoolAnew_59 hF (fun v59 hF => ?_)
      refine jj_aload C 3 rfl dX1_ofPoolAnew_62 ?_
      refine jj_acmp_ne (tgt := 122) C dX1_ofPoolAnew_64 (by decide) hF (fun hF => ?_) (fun hF => ?_)
      · refine jj_sub [1, 2, 3, 4, 5] rfl ?_
        exact w_X1_ofPoolAnew_b122 C hxn hQ hK35 (by omega) hF
      · refine jj_aload C 0 rfl dX1_ofPoolAnew_67 ?_
        refine jj_pI (f := 7) C jcs_3 (Nat.le_of_ble_eq_true rfl) (jLk.nest C q507 rfl) dX1_ofPoolAnew_69 hF (fun v69 hF => ?_)
        refine jj_iconst (v := -1) C dX1_ofPoolAnew_72 (by decide) ?_
        refine jj_icmp_eq (tgt := 122) C dX1_ofPoolAnew_73 (by decide) hF (fun hF => ?_) (fun hF => ?_)
        · refine jj_sub [1, 2, 3, 4, 5] rfl ?_
          exact w_X1_ofPoolAnew_b122 C hxn hQ hK35 (by omega) hF
        · refine jj_aload C 0 rfl dX1_ofPoolAnew_76 ?_
          refine jj_iload_n C 1 rfl dX1_ofPoolAnew_78 rfl ?_
          obtain ⟨r79, M79, hG, hF⟩ := pB_spec hF
          refine jj_callS (k' := k) (n' := n) C [jR v52, jI l2] [] [jI r79] (m_X1_isOf _ _ hG) q820 q821 q42 q822 hd_X1_isOf rfl (Nat.le_of_ble_eq_true rfl) ⟨Nat.le_of_ble_eq_true rfl, Nat.le_of_ble_eq_true rfl⟩ ⟨by show k + 0 ≤ k; omega, by show n + 0 ≤ n; omega, by show k ≤ 5; omega, by show n ≤ 27; omega⟩ dX1_ofPoolAnew_79 rfl ?_
          refine jj_if_eq (tgt := 122) C dX1_ofPoolAnew_82 (by decide) hF (fun hF => ?_) (fun hF => ?_)
          · refine jj_sub [1, 2, 3, 4, 5] rfl ?_
            exact w_X1_ofPoolAnew_b122 C hxn hQ hK35 (by omega) hF
          · refine jj_aload C 3 rfl dX1_ofPoolAnew_85 ?_
            refine jj_aload C 0 rfl dX1_ofPoolAnew_87 ?_
            obtain ⟨b89, fs89, he89, hb89, hF⟩ := pO_spec hF
            obtain ⟨r89, M89, hG, hF⟩ := pB_spec hF
            refine jj_callV (k' := k) (n' := n) C [jR v52] [] [jI r89] he89 (m_X9_counts _ _ hG) hb89 rfl q869 q687 q688 q71 q689 ⟨rfl, hd_X9_counts⟩ rfl (Nat.le_of_ble_eq_true rfl) ⟨Nat.le_of_ble_eq_true rfl, Nat.le_of_ble_eq_true rfl⟩ ⟨by show k + 0 ≤ k; omega, by show n + 0 ≤ n; omega, by show k ≤ 5; omega, by show n ≤ 27; omega⟩ dX1_ofPoolAnew_89 rfl ?_
            refine jj_if_eq (tgt := 122) C dX1_ofPoolAnew_92 (by decide) hF (fun hF => ?_) (fun hF => ?_)
            · refine jj_sub [1, 2, 3, 4, 5] rfl ?_
              exact w_X1_ofPoolAnew_b122 C hxn hQ hK35 (by omega) hF
            · refine jj_aload C 4 rfl dX1_ofPoolAnew_95 ?_
              refine jj_aload C 0 rfl dX1_ofPoolAnew_97 ?_
              refine jj_aload C 0 rfl dX1_ofPoolAnew_99 ?_
              refine jj_pR (f := 0) C jcs_3 (Nat.le_of_ble_eq_true rfl) (jLk.nest C q493 rfl) dX1_ofPoolAnew_101 hF (fun v101 hF => ?_)
              refine jj_iconst (v := 0) C dX1_ofPoolAnew_104 (by decide) ?_
              refine jj_aald (t := 4) C rfl dX1_ofPoolAnew_105 hF (fun v105 hF => ?_)
              refine jj_pI (f := 0) C jcs_2 (Nat.le_of_ble_eq_true rfl) (jLk.nest C q310 rfl) dX1_ofPoolAnew_106 hF (fun v106 hF => ?_)
              refine jj_iload_n C 1 rfl dX1_ofPoolAnew_109 rfl ?_
              refine jj_icmp_ne (tgt := 117) C dX1_ofPoolAnew_110 (by decide) hF (fun hF => ?_) (fun hF => ?_)
              · refine jj_iconst (v := 1) C dX1_ofPoolAnew_117 (by decide) ?_
                refine jj_sub [1, 2, 3, 4, 5] rfl ?_
                exact w_X1_ofPoolAnew_b118 C hxn hQ hK35 (by omega) hF
              · refine jj_iconst (v := 0) C dX1_ofPoolAnew_113 (by decide) ?_
                refine jj_goto (tgt := 118) C dX1_ofPoolAnew_114 (by decide) ?_
                refine jj_sub [1, 2, 3, 4, 5] rfl ?_
                exact w_X1_ofPoolAnew_b118 C hxn hQ hK35 (by omega) hF
def f_X1_ofPoolAnew (a0 : Option Nat) (a1 : Int32) (a2 : Int32) (a3 : Int32) (M : jW) : Option ((Int32 ⊕ Nat) × jW) := pO M a0 0 fun b3 _ => pX (f_X1_poolWith (some b3) a1 a2 M) fun r3 M3 =>
  pB (f_X1_inRange a3 (0 : Int32) (3 : Int32) M3) fun r11 M11 =>
  pX (f_X1_requireArgument r11 M11) fun _ M14 =>
  pN M14 8 [.int 0, .int 0, .int 0, .int 0, .int 0] fun q17 M17 =>
  pSm (some q17) fun b21 => pB (f_X10_init (some b21)  M17) fun _ M21 =>
  pR M21 a0 0 1 fun v27 =>
  pO M21 v27 9 fun b30 _ => pB (f_J2_iterator (some b30)  M21) fun r30 M30 =>
  f_X1_ofPoolAnew_b35 1000 a2 a3 r3 (some q17) r30 M30
set_option maxHeartbeats 4000000 in
theorem m_X1_ofPoolAnew (l : Launch) (g : jG) (hfl : l.stackTraces = false) {a0 : Option Nat} {a1 : Int32} {a2 : Int32} {a3 : Int32} {M M0 : jW} {v0 : (Int32 ⊕ Nat)} (hF : f_X1_ofPoolAnew a0 a1 a2 a3 M = some (v0, M0)) : jMetX l g yX1_ofPoolAnew cX1_ofPoolAnew 8 (some .int) rm_X1_ofPoolAnew [jR a0, jI a1, jI a2, jI a3] M (jri v0) M0 := by
  refine jMetX.of (L := [(0, jR a0), (1, jI a1), (2, jI a2), (3, jI a3)]) hfl (by decide) rfl (Nat.le_of_ble_eq_true rfl) (fun x C hxn hg hl hQ => ?_)
  subst hg
  unfold f_X1_ofPoolAnew at hF
  refine jj_aload_n C 0 rfl dX1_ofPoolAnew_0 rfl ?_
  refine jj_iload_n C 1 rfl dX1_ofPoolAnew_1 rfl ?_
  refine jj_iload_n C 2 rfl dX1_ofPoolAnew_2 rfl ?_
  obtain ⟨b3, fs3, he3, hb3, hF⟩ := pO_spec hF
  rcases pX_spec2 hF with ⟨r3, M3, hG, hF⟩ | ⟨r3, M3, hG, hF⟩
  · cases hF
    exact jj_callVXx (k' := 0 + 2) (n' := 0 + 12) C hQ [jI a1, jI a2] [] he3 (m_X1_poolWith _ _ hQ.2.2 hG) rfl rfl hb3 rfl q816 q818 qs16 q42 q819 ⟨rfl, hd_X1_poolWith⟩ rfl (Nat.le_of_ble_eq_true rfl) ⟨Nat.le_of_ble_eq_true rfl, Nat.le_of_ble_eq_true rfl⟩ ⟨by show 0 + 2 ≤ 0 + 2; omega, by show 0 + 12 ≤ 0 + 12; omega, by show 0 + 2 ≤ 5; omega, by show 0 + 12 ≤ 27; omega⟩ dX1_ofPoolAnew_3
  refine jj_callVX (k' := 0 + 2) (n' := 0 + 12) C [jI a1, jI a2] [] [jR r3] he3 (m_X1_poolWith _ _ hQ.2.2 hG) rfl hb3 rfl q816 q818 qs16 q42 q819 ⟨rfl, hd_X1_poolWith⟩ rfl (Nat.le_of_ble_eq_true rfl) ⟨Nat.le_of_ble_eq_true rfl, Nat.le_of_ble_eq_true rfl⟩ ⟨by show 0 + 2 ≤ 0 + 2; omega, by show 0 + 12 ≤ 0 + 12; omega, by show 0 + 2 ≤ 5; omega, by show 0 + 12 ≤ 27; omega⟩ dX1_ofPoolAnew_3 rfl ?_
  refine jj_astore (L' := [(4, jR r3), (0, jR a0), (1, jI a1), (2, jI a2), (3, jI a3)]) C rfl (by rw [hxn]; decide) dX1_ofPoolAnew_6 ?_
  refine jj_iload_n C 4 rfl dX1_ofPoolAnew_8 rfl ?_
  refine jj_iconst (v := 0) C dX1_ofPoolAnew_9 (by decide) ?_
  refine jj_iconst (v := 3) C dX1_ofPoolAnew_10 (by decide) ?_
  obtain ⟨r11, M11, hG, hF⟩ := pB_spec hF
  refine jj_callS (k' := 0 + 2) (n' := 0 + 12) C [jI a3, jI (0 : Int32), jI (3 : Int32)] [] [jI r11] (m_X1_inRange _ _ hG) q425 q426 q42 q427 hd_X1_inRange rfl (Nat.le_of_ble_eq_true rfl) ⟨Nat.le_of_ble_eq_true rfl, Nat.le_of_ble_eq_true rfl⟩ ⟨by show 0 + 2 + 0 ≤ 0 + 2; omega, by show 0 + 12 + 0 ≤ 0 + 12; omega, by show 0 + 2 ≤ 5; omega, by show 0 + 12 ≤ 27; omega⟩ dX1_ofPoolAnew_11 rfl ?_
  rcases pX_spec2 hF with ⟨r14, M14, hG, hF⟩ | ⟨r14, M14, hG, hF⟩
  · cases hF
    exact jj_callSXx (k' := 0 + 2 + 1) (n' := 0 + 12 + 6) C hQ [jI r11] [] (m_X1_requireArgument _ _ hQ.2.2 hG) rfl rfl q451 q452 q42 q453 hd_X1_requireArgument rfl (Nat.le_of_ble_eq_true rfl) ⟨Nat.le_of_ble_eq_true rfl, Nat.le_of_ble_eq_true rfl⟩ ⟨by show 0 + 2 + 1 ≤ 0 + 2 + 1; omega, by show 0 + 12 + 6 ≤ 0 + 12 + 6; omega, by show 0 + 2 + 1 ≤ 5; omega, by show 0 + 12 + 6 ≤ 27; omega⟩ dX1_ofPoolAnew_14
  refine jj_callSX (k' := 0 + 2 + 1) (n' := 0 + 12 + 6) C [jI r11] [] [] (m_X1_requireArgument _ _ hQ.2.2 hG) rfl q451 q452 q42 q453 hd_X1_requireArgument rfl (Nat.le_of_ble_eq_true rfl) ⟨Nat.le_of_ble_eq_true rfl, Nat.le_of_ble_eq_true rfl⟩ ⟨by show 0 + 2 + 1 ≤ 0 + 2 + 1; omega, by show 0 + 12 + 6 ≤ 0 + 12 + 6; omega, by show 0 + 2 + 1 ≤ 5; omega, by show 0 + 12 + 6 ≤ 27; omega⟩ dX1_ofPoolAnew_14 rfl ?_
  refine jj_new C jcs_8 q1210 q775 q72 (by intro j hj; rcases (show j = 0 ∨ j = 1 ∨ j = 2 ∨ j = 3 ∨ j = 4 by omega) with rfl | rfl | rfl | rfl | rfl <;> rfl) (by show 0 + 2 + 1 + 1 ≤ 5; omega) (by show 0 + 12 + 6 + 5 ≤ 27; omega) dX1_ofPoolAnew_17 hF (fun q17 M17 hF => ?_)
  refine jj_dup C dX1_ofPoolAnew_20 rfl ?_
  obtain ⟨b21, hb21, hF⟩ := pSm_spec hF
  obtain ⟨r21, M21, hG, hF⟩ := pB_spec hF
  refine jj_callIN (k' := 0 + 2 + 1 + 1) (n' := 0 + 12 + 6 + 5) C [] [jR (some q17)] hb21 (m_X10_init _ _ hG) q1211 q777 q72 q778 rfl hd_X10_init rfl (Nat.le_of_ble_eq_true rfl) ⟨Nat.le_of_ble_eq_true rfl, Nat.le_of_ble_eq_true rfl⟩ ⟨by show 0 + 2 + 1 + 1 + 0 ≤ 0 + 2 + 1 + 1; omega, by show 0 + 12 + 6 + 5 + 0 ≤ 0 + 12 + 6 + 5; omega, by show 0 + 2 + 1 + 1 ≤ 5; omega, by show 0 + 12 + 6 + 5 ≤ 27; omega⟩ dX1_ofPoolAnew_21 ?_
  refine jj_astore (L' := [(5, jR (some q17)), (4, jR r3), (0, jR a0), (1, jI a1), (2, jI a2), (3, jI a3)]) C rfl (by rw [hxn]; decide) dX1_ofPoolAnew_24 ?_
  refine jj_aload_n C 2 rfl dX1_ofPoolAnew_26 rfl ?_
  refine jj_pR (f := 1) C jcs_0 (Nat.le_of_ble_eq_true rfl) (jLk.of C q117 rfl) dX1_ofPoolAnew_27 hF (fun v27 hF => ?_)
  obtain ⟨b30, fs30, he30, hb30, hF⟩ := pO_spec hF
  obtain ⟨r30, M30, hG, hF⟩ := pB_spec hF
  refine jj_callV (k' := 0 + 2 + 1 + 1 + 1) (n' := 0 + 12 + 6 + 5 + 4) C [] [] [jR r30] he30 (m_J2_iterator _ _ hG) hb30 rfl q823 q824 q825 q45 q826 ⟨rfl, hd_J2_iterator⟩ rfl (Nat.le_of_ble_eq_true rfl) ⟨Nat.le_of_ble_eq_true rfl, Nat.le_of_ble_eq_true rfl⟩ ⟨by show 0 + 2 + 1 + 1 + 1 ≤ 0 + 2 + 1 + 1 + 1; omega, by show 0 + 12 + 6 + 5 + 4 ≤ 0 + 12 + 6 + 5 + 4; omega, by show 0 + 2 + 1 + 1 + 1 ≤ 5; omega, by show 0 + 12 + 6 + 5 + 4 ≤ 27; omega⟩ dX1_ofPoolAnew_30 rfl ?_
  refine jj_astore (L' := [(6, jR r30), (5, jR (some q17)), (4, jR r3), (0, jR a0), (1, jI a1), (2, jI a2), (3, jI a3)]) C rfl (by rw [hxn]; decide) dX1_ofPoolAnew_33 ?_
  refine jj_sub [5, 6, 2, 1, 0] rfl ?_
  exact w_X1_ofPoolAnew_b35 C hxn hQ 1000 _ _ _ _ _ _ _ _ (by omega) hF
/-! Phrasehall.rank(II)I -/
def rm_X1_rank : Room := ({ frames := 8, cells := 16, slots := 1679, locals := 198 } : Room)
theorem hd_X1_rank : yX1_rank.cls ≠ "java/lang/invoke/MethodHandle" ∧ yX1_rank.cls ≠ "java/lang/invoke/VarHandle" ∧ (parseMethodDescriptor yX1_rank.desc).map (fun d => d.parameters.length) = some 2 := ⟨by decide, by decide, by decide +kernel⟩
def f_X1_rank_b21 (l2 : Int32) (l3 : Option Nat) (s0 : Int32) (M : jW) : Option ((Int32 ⊕ Nat) × jW) := pX (f_X1_requireIndex s0 M) fun _ M21 =>
  pO M21 l3 7 fun b25 _ => pB (f_X9_ranks (some b25)  M21) fun r25 M25 =>
  pO M25 r25 9 fun b33 _ => pB (f_J2_size (some b33)  M25) fun r33 M33 =>
  if r33 ≤ l2 then (some (.inl (-1 : Int32), M33))
  else (pO M33 r25 9 fun b42 _ => pB (f_J2_get (some b42) l2 M33) fun r42 M42 =>
  pCB M42 r42 fun v45 =>
  pBx M42 v45 fun b48 => pB (f_J18_intValue (some b48)  M42) fun r48 M48 =>
  some (.inl r48, M48))
set_option maxHeartbeats 4000000 in
theorem w_X1_rank_b21 {x : jX} (C : jOk x cX1_rank RX1 rm_X1_rank (some .int)) (hxn : xn x = 5) {v0 : (Int32 ⊕ Nat)} {M0 : jW} (hQ : jEndX x rm_X1_rank (jri v0) M0) {l2 : Int32} {l3 : Option Nat} {s0 : Int32} {M : jW} {k n : Nat} (hk : k + 15 ≤ 16 ∧ n + 1673 ≤ 1679) (hF : f_X1_rank_b21 l2 l3 s0 M = some (v0, M0)) : jJ x 21 [(2, jI l2), (3, jR l3)] [jI s0] M k n := by
  unfold f_X1_rank_b21 at hF
  rcases pX_spec2 hF with ⟨r21, M21, hG, hF⟩ | ⟨r21, M21, hG, hF⟩
  · cases hF
    exact jj_callSXx (k' := k + 1) (n' := n + 6) C hQ [jI s0] [] (m_X1_requireIndex _ _ hQ.2.2 hG) rfl rfl q428 q429 q42 q430 hd_X1_requireIndex rfl (Nat.le_of_ble_eq_true rfl) ⟨Nat.le_of_ble_eq_true rfl, Nat.le_of_ble_eq_true rfl⟩ ⟨by show k + 1 ≤ k + 1; omega, by show n + 6 ≤ n + 6; omega, by show k + 1 ≤ 16; omega, by show n + 6 ≤ 1679; omega⟩ dX1_rank_21
  refine jj_callSX (k' := k + 1) (n' := n + 6) C [jI s0] [] [] (m_X1_requireIndex _ _ hQ.2.2 hG) rfl q428 q429 q42 q430 hd_X1_requireIndex rfl (Nat.le_of_ble_eq_true rfl) ⟨Nat.le_of_ble_eq_true rfl, Nat.le_of_ble_eq_true rfl⟩ ⟨by show k + 1 ≤ k + 1; omega, by show n + 6 ≤ n + 6; omega, by show k + 1 ≤ 16; omega, by show n + 6 ≤ 1679; omega⟩ dX1_rank_21 rfl ?_
  refine jj_aload_n C 1 rfl dX1_rank_24 rfl ?_
  obtain ⟨b25, fs25, he25, hb25, hF⟩ := pO_spec hF
  obtain ⟨r25, M25, hG, hF⟩ := pB_spec hF
  refine jj_callV (k' := k + 1 + 14) (n' := n + 6 + 1667) C [] [] [jR r25] he25 (m_X9_ranks _ _ hG) hb25 rfl q878 q879 q880 q71 q881 ⟨rfl, hd_X9_ranks⟩ rfl (Nat.le_of_ble_eq_true rfl) ⟨Nat.le_of_ble_eq_true rfl, Nat.le_of_ble_eq_true rfl⟩ ⟨by show k + 1 + 14 ≤ k + 1 + 14; omega, by show n + 6 + 1667 ≤ n + 6 + 1667; omega, by show k + 1 + 14 ≤ 16; omega, by show n + 6 + 1667 ≤ 1679; omega⟩ dX1_rank_25 rfl ?_
  refine jj_astore (L' := [(4, jR r25), (2, jI l2), (3, jR l3)]) C rfl (by rw [hxn]; decide) dX1_rank_28 ?_
  refine jj_iload_n C 1 rfl dX1_rank_30 rfl ?_
  refine jj_aload C 0 rfl dX1_rank_31 ?_
  obtain ⟨b33, fs33, he33, hb33, hF⟩ := pO_spec hF
  obtain ⟨r33, M33, hG, hF⟩ := pB_spec hF
  refine jj_callV (k' := k + 1 + 14) (n' := n + 6 + 1667) C [] [jI l2] [jI r33, jI l2] he33 (m_J2_size _ _ hG) hb33 rfl q147 q148 q149 q45 q150 ⟨rfl, hd_J2_size⟩ rfl (Nat.le_of_ble_eq_true rfl) ⟨Nat.le_of_ble_eq_true rfl, Nat.le_of_ble_eq_true rfl⟩ ⟨by show k + 1 + 14 + 0 ≤ k + 1 + 14; omega, by show n + 6 + 1667 + 0 ≤ n + 6 + 1667; omega, by show k + 1 + 14 ≤ 16; omega, by show n + 6 + 1667 ≤ 1679; omega⟩ dX1_rank_33 rfl ?_
  refine jj_icmp_ge (tgt := 54) C dX1_rank_36 (by decide) hF (fun hF => ?_) (fun hF => ?_)
  · refine jj_iconst (v := -1) C dX1_rank_54 (by decide) ?_
    exact jj_iretX C hQ dX1_rank_55 hF (by show k + 1 + 14 ≤ 16; omega) (by show n + 6 + 1667 ≤ 1679; omega)
  · refine jj_aload C 0 rfl dX1_rank_39 ?_
    refine jj_iload_n C 1 rfl dX1_rank_41 rfl ?_
    obtain ⟨b42, fs42, he42, hb42, hF⟩ := pO_spec hF
    obtain ⟨r42, M42, hG, hF⟩ := pB_spec hF
    refine jj_callV (k' := k + 1 + 14) (n' := n + 6 + 1667) C [jI l2] [] [jR r42] he42 (m_J2_get _ _ hG) hb42 rfl q178 q179 q180 q45 q181 ⟨rfl, hd_J2_get⟩ rfl (Nat.le_of_ble_eq_true rfl) ⟨Nat.le_of_ble_eq_true rfl, Nat.le_of_ble_eq_true rfl⟩ ⟨by show k + 1 + 14 + 0 ≤ k + 1 + 14; omega, by show n + 6 + 1667 + 0 ≤ n + 6 + 1667; omega, by show k + 1 + 14 ≤ 16; omega, by show n + 6 + 1667 ≤ 1679; omega⟩ dX1_rank_42 rfl ?_
    refine jj_castB C q1160 dX1_rank_45 hF (fun v45 hF => ?_)
    obtain ⟨b48, he48, hb48, hF⟩ := pBx_spec hF
    obtain ⟨r48, M48, hG, hF⟩ := pB_spec hF
    refine jj_callB (k' := k + 1 + 14) (n' := n + 6 + 1667) C [] [] [jI r48] he48 (m_J18_intValue _ _ hG) hb48 q1161 q888 q889 q70 q890 ⟨rfl, hd_J18_intValue⟩ rfl (Nat.le_of_ble_eq_true rfl) ⟨Nat.le_of_ble_eq_true rfl, Nat.le_of_ble_eq_true rfl⟩ ⟨by show k + 1 + 14 + 0 ≤ k + 1 + 14; omega, by show n + 6 + 1667 + 0 ≤ n + 6 + 1667; omega, by show k + 1 + 14 ≤ 16; omega, by show n + 6 + 1667 ≤ 1679; omega⟩ dX1_rank_48 rfl ?_
    refine jj_goto (tgt := 55) C dX1_rank_51 (by decide) ?_
    exact jj_iretX C hQ dX1_rank_55 hF (by show k + 1 + 14 ≤ 16; omega) (by show n + 6 + 1667 ≤ 1679; omega)
def f_X1_rank (a0 : Option Nat) (a1 : Int32) (a2 : Int32) (M : jW) : Option ((Int32 ⊕ Nat) × jW) := pR M a0 0 2 fun v1 =>
  pX (f_X1_at v1 a1 M) fun r5 M5 =>
  pCC M5 r5 7 fun v8 =>
  if a2 < 0 then (f_X1_rank_b21 a2 v8 (0 : Int32) M5)
  else (f_X1_rank_b21 a2 v8 (1 : Int32) M5)
set_option maxHeartbeats 4000000 in
theorem m_X1_rank (l : Launch) (g : jG) (hfl : l.stackTraces = false) {a0 : Option Nat} {a1 : Int32} {a2 : Int32} {M M0 : jW} {v0 : (Int32 ⊕ Nat)} (hF : f_X1_rank a0 a1 a2 M = some (v0, M0)) : jMetX l g yX1_rank cX1_rank 5 (some .int) rm_X1_rank [jR a0, jI a1, jI a2] M (jri v0) M0 := by
  refine jMetX.of (L := [(0, jR a0), (1, jI a1), (2, jI a2)]) hfl (by decide) rfl (Nat.le_of_ble_eq_true rfl) (fun x C hxn hg hl hQ => ?_)
  subst hg
  unfold f_X1_rank at hF
  refine jj_aload_n C 0 rfl dX1_rank_0 rfl ?_
  refine jj_pR (f := 2) C jcs_0 (Nat.le_of_ble_eq_true rfl) (jLk.of C q118 rfl) dX1_rank_1 hF (fun v1 hF => ?_)
  refine jj_iload_n C 1 rfl dX1_rank_4 rfl ?_
  rcases pX_spec2 hF with ⟨r5, M5, hG, hF⟩ | ⟨r5, M5, hG, hF⟩
  · cases hF
    exact jj_callSXx (k' := 0 + 1) (n' := 0 + 6) C hQ [jR v1, jI a1] [] (m_X1_at _ _ hQ.2.2 hG) rfl rfl q422 q423 q42 q424 hd_X1_at rfl (Nat.le_of_ble_eq_true rfl) ⟨Nat.le_of_ble_eq_true rfl, Nat.le_of_ble_eq_true rfl⟩ ⟨by show 0 + 1 ≤ 0 + 1; omega, by show 0 + 6 ≤ 0 + 6; omega, by show 0 + 1 ≤ 16; omega, by show 0 + 6 ≤ 1679; omega⟩ dX1_rank_5
  refine jj_callSX (k' := 0 + 1) (n' := 0 + 6) C [jR v1, jI a1] [] [jR r5] (m_X1_at _ _ hQ.2.2 hG) rfl q422 q423 q42 q424 hd_X1_at rfl (Nat.le_of_ble_eq_true rfl) ⟨Nat.le_of_ble_eq_true rfl, Nat.le_of_ble_eq_true rfl⟩ ⟨by show 0 + 1 ≤ 0 + 1; omega, by show 0 + 6 ≤ 0 + 6; omega, by show 0 + 1 ≤ 16; omega, by show 0 + 6 ≤ 1679; omega⟩ dX1_rank_5 rfl ?_
  refine jj_castC (ci := 7) C rfl q446 dX1_rank_8 hF (fun v8 hF => ?_)
  refine jj_astore_n (L' := [(3, jR v8), (0, jR a0), (1, jI a1), (2, jI a2)]) C rfl (by rw [hxn]; decide) dX1_rank_11 rfl ?_
  refine jj_iload_n C 3 rfl dX1_rank_12 rfl ?_
  refine jj_if_lt (tgt := 20) C dX1_rank_13 (by decide) hF (fun hF => ?_) (fun hF => ?_)
  · refine jj_iconst (v := 0) C dX1_rank_20 (by decide) ?_
    refine jj_sub [3, 0] rfl ?_
    exact w_X1_rank_b21 C hxn hQ (by omega) hF
  · refine jj_iconst (v := 1) C dX1_rank_16 (by decide) ?_
    refine jj_goto (tgt := 21) C dX1_rank_17 (by decide) ?_
    refine jj_sub [3, 0] rfl ?_
    exact w_X1_rank_b21 C hxn hQ (by omega) hF
/-! Phrasehall.meets(III)I -/
def rm_X1_meets_2 : Room := ({ frames := 8, cells := 2, slots := 12, locals := 170 } : Room)
theorem hd_X1_meets_2 : yX1_meets_2.cls ≠ "java/lang/invoke/MethodHandle" ∧ yX1_meets_2.cls ≠ "java/lang/invoke/VarHandle" ∧ (parseMethodDescriptor yX1_meets_2.desc).map (fun d => d.parameters.length) = some 3 := ⟨by decide, by decide, by decide +kernel⟩
def f_X1_meets_2 (a0 : Option Nat) (a1 : Int32) (a2 : Int32) (a3 : Int32) (M : jW) : Option ((Int32 ⊕ Nat) × jW) := pO M a0 0 fun b3 _ => pX (f_X1_requireMatch (some b3) a1 a2 M) fun _ M3 =>
  pB (f_X1_inRange a3 (0 : Int32) (2 : Int32) M3) fun r9 M9 =>
  pX (f_X1_requireArgument r9 M9) fun _ M12 =>
  if a3 = (2 : Int32) then (pR M12 a0 0 7 fun v21 =>
  pO M12 v21 9 fun b27 _ => pB (f_J2_get (some b27) (a1 + (1 : Int32)) M12) fun r27 M27 =>
  pCA M27 r27 0 fun v30 =>
  pAI M27 v30 0 a2 fun v34 =>
  some (.inl v34, M27))
  else (pR M12 a0 0 7 fun v39 =>
  pO M12 v39 9 fun b43 _ => pB (f_J2_get (some b43) a1 M12) fun r43 M43 =>
  pCA M43 r43 0 fun v46 =>
  pAI M43 v46 0 (((2 : Int32) * a2) + a3) fun v54 =>
  some (.inl v54, M43))
set_option maxHeartbeats 4000000 in
theorem m_X1_meets_2 (l : Launch) (g : jG) (hfl : l.stackTraces = false) {a0 : Option Nat} {a1 : Int32} {a2 : Int32} {a3 : Int32} {M M0 : jW} {v0 : (Int32 ⊕ Nat)} (hF : f_X1_meets_2 a0 a1 a2 a3 M = some (v0, M0)) : jMetX l g yX1_meets_2 cX1_meets_2 4 (some .int) rm_X1_meets_2 [jR a0, jI a1, jI a2, jI a3] M (jri v0) M0 := by
  refine jMetX.of (L := [(0, jR a0), (1, jI a1), (2, jI a2), (3, jI a3)]) hfl (by decide) rfl (Nat.le_of_ble_eq_true rfl) (fun x C hxn hg hl hQ => ?_)
  subst hg
  unfold f_X1_meets_2 at hF
  refine jj_aload_n C 0 rfl dX1_meets_2_0 rfl ?_
  refine jj_iload_n C 1 rfl dX1_meets_2_1 rfl ?_
  refine jj_iload_n C 2 rfl dX1_meets_2_2 rfl ?_
  obtain ⟨b3, fs3, he3, hb3, hF⟩ := pO_spec hF
  rcases pX_spec2 hF with ⟨r3, M3, hG, hF⟩ | ⟨r3, M3, hG, hF⟩
  · cases hF
    exact jj_callVXx (k' := 0 + 1) (n' := 0 + 6) C hQ [jI a1, jI a2] [] he3 (m_X1_requireMatch _ _ hQ.2.2 hG) rfl rfl hb3 rfl q1174 q1176 qs21 q42 q1177 ⟨rfl, hd_X1_requireMatch⟩ rfl (Nat.le_of_ble_eq_true rfl) ⟨Nat.le_of_ble_eq_true rfl, Nat.le_of_ble_eq_true rfl⟩ ⟨by show 0 + 1 ≤ 0 + 1; omega, by show 0 + 6 ≤ 0 + 6; omega, by show 0 + 1 ≤ 2; omega, by show 0 + 6 ≤ 12; omega⟩ dX1_meets_2_3
  refine jj_callVX (k' := 0 + 1) (n' := 0 + 6) C [jI a1, jI a2] [] [] he3 (m_X1_requireMatch _ _ hQ.2.2 hG) rfl hb3 rfl q1174 q1176 qs21 q42 q1177 ⟨rfl, hd_X1_requireMatch⟩ rfl (Nat.le_of_ble_eq_true rfl) ⟨Nat.le_of_ble_eq_true rfl, Nat.le_of_ble_eq_true rfl⟩ ⟨by show 0 + 1 ≤ 0 + 1; omega, by show 0 + 6 ≤ 0 + 6; omega, by show 0 + 1 ≤ 2; omega, by show 0 + 6 ≤ 12; omega⟩ dX1_meets_2_3 rfl ?_
  refine jj_iload_n C 3 rfl dX1_meets_2_6 rfl ?_
  refine jj_iconst (v := 0) C dX1_meets_2_7 (by decide) ?_
  refine jj_iconst (v := 2) C dX1_meets_2_8 (by decide) ?_
  obtain ⟨r9, M9, hG, hF⟩ := pB_spec hF
  refine jj_callS (k' := 0 + 1) (n' := 0 + 6) C [jI a3, jI (0 : Int32), jI (2 : Int32)] [] [jI r9] (m_X1_inRange _ _ hG) q425 q426 q42 q427 hd_X1_inRange rfl (Nat.le_of_ble_eq_true rfl) ⟨Nat.le_of_ble_eq_true rfl, Nat.le_of_ble_eq_true rfl⟩ ⟨by show 0 + 1 + 0 ≤ 0 + 1; omega, by show 0 + 6 + 0 ≤ 0 + 6; omega, by show 0 + 1 ≤ 2; omega, by show 0 + 6 ≤ 12; omega⟩ dX1_meets_2_9 rfl ?_
  rcases pX_spec2 hF with ⟨r12, M12, hG, hF⟩ | ⟨r12, M12, hG, hF⟩
  · cases hF
    exact jj_callSXx (k' := 0 + 1 + 1) (n' := 0 + 6 + 6) C hQ [jI r9] [] (m_X1_requireArgument _ _ hQ.2.2 hG) rfl rfl q451 q452 q42 q453 hd_X1_requireArgument rfl (Nat.le_of_ble_eq_true rfl) ⟨Nat.le_of_ble_eq_true rfl, Nat.le_of_ble_eq_true rfl⟩ ⟨by show 0 + 1 + 1 ≤ 0 + 1 + 1; omega, by show 0 + 6 + 6 ≤ 0 + 6 + 6; omega, by show 0 + 1 + 1 ≤ 2; omega, by show 0 + 6 + 6 ≤ 12; omega⟩ dX1_meets_2_12
  refine jj_callSX (k' := 0 + 1 + 1) (n' := 0 + 6 + 6) C [jI r9] [] [] (m_X1_requireArgument _ _ hQ.2.2 hG) rfl q451 q452 q42 q453 hd_X1_requireArgument rfl (Nat.le_of_ble_eq_true rfl) ⟨Nat.le_of_ble_eq_true rfl, Nat.le_of_ble_eq_true rfl⟩ ⟨by show 0 + 1 + 1 ≤ 0 + 1 + 1; omega, by show 0 + 6 + 6 ≤ 0 + 6 + 6; omega, by show 0 + 1 + 1 ≤ 2; omega, by show 0 + 6 + 6 ≤ 12; omega⟩ dX1_meets_2_12 rfl ?_
  refine jj_iload_n C 3 rfl dX1_meets_2_15 rfl ?_
  refine jj_iconst (v := 2) C dX1_meets_2_16 (by decide) ?_
  refine jj_icmp_ne (tgt := 38) C dX1_meets_2_17 (by decide) hF (fun hF => ?_) (fun hF => ?_)
  · refine jj_aload_n C 0 rfl dX1_meets_2_38 rfl ?_
    refine jj_pR (f := 7) C jcs_0 (Nat.le_of_ble_eq_true rfl) (jLk.of C q125 rfl) dX1_meets_2_39 hF (fun v39 hF => ?_)
    refine jj_iload_n C 1 rfl dX1_meets_2_42 rfl ?_
    obtain ⟨b43, fs43, he43, hb43, hF⟩ := pO_spec hF
    obtain ⟨r43, M43, hG, hF⟩ := pB_spec hF
    refine jj_callV (k' := 0 + 1 + 1) (n' := 0 + 6 + 6) C [jI a1] [] [jR r43] he43 (m_J2_get _ _ hG) hb43 rfl q178 q179 q180 q45 q181 ⟨rfl, hd_J2_get⟩ rfl (Nat.le_of_ble_eq_true rfl) ⟨Nat.le_of_ble_eq_true rfl, Nat.le_of_ble_eq_true rfl⟩ ⟨by show 0 + 1 + 1 + 0 ≤ 0 + 1 + 1; omega, by show 0 + 6 + 6 + 0 ≤ 0 + 6 + 6; omega, by show 0 + 1 + 1 ≤ 2; omega, by show 0 + 6 + 6 ≤ 12; omega⟩ dX1_meets_2_43 rfl ?_
    refine jj_castA0 C q1166 dX1_meets_2_46 hF (fun v46 hF => ?_)
    refine jj_iconst (v := 2) C dX1_meets_2_49 (by decide) ?_
    refine jj_iload_n C 2 rfl dX1_meets_2_50 rfl ?_
    refine jj_imul C dX1_meets_2_51 ?_
    refine jj_iload_n C 3 rfl dX1_meets_2_52 rfl ?_
    refine jj_iadd C dX1_meets_2_53 ?_
    refine jj_iald C dX1_meets_2_54 hF (fun v54 hF => ?_)
    exact jj_iretX C hQ dX1_meets_2_55 hF (by show 0 + 1 + 1 ≤ 2; omega) (by show 0 + 6 + 6 ≤ 12; omega)
  · refine jj_aload_n C 0 rfl dX1_meets_2_20 rfl ?_
    refine jj_pR (f := 7) C jcs_0 (Nat.le_of_ble_eq_true rfl) (jLk.of C q125 rfl) dX1_meets_2_21 hF (fun v21 hF => ?_)
    refine jj_iload_n C 1 rfl dX1_meets_2_24 rfl ?_
    refine jj_iconst (v := 1) C dX1_meets_2_25 (by decide) ?_
    refine jj_iadd C dX1_meets_2_26 ?_
    obtain ⟨b27, fs27, he27, hb27, hF⟩ := pO_spec hF
    obtain ⟨r27, M27, hG, hF⟩ := pB_spec hF
    refine jj_callV (k' := 0 + 1 + 1) (n' := 0 + 6 + 6) C [jI (a1 + (1 : Int32))] [] [jR r27] he27 (m_J2_get _ _ hG) hb27 rfl q178 q179 q180 q45 q181 ⟨rfl, hd_J2_get⟩ rfl (Nat.le_of_ble_eq_true rfl) ⟨Nat.le_of_ble_eq_true rfl, Nat.le_of_ble_eq_true rfl⟩ ⟨by show 0 + 1 + 1 + 0 ≤ 0 + 1 + 1; omega, by show 0 + 6 + 6 + 0 ≤ 0 + 6 + 6; omega, by show 0 + 1 + 1 ≤ 2; omega, by show 0 + 6 + 6 ≤ 12; omega⟩ dX1_meets_2_27 rfl ?_
    refine jj_castA0 C q1166 dX1_meets_2_30 hF (fun v30 hF => ?_)
    refine jj_iload_n C 2 rfl dX1_meets_2_33 rfl ?_
    refine jj_iald C dX1_meets_2_34 hF (fun v34 hF => ?_)
    refine jj_goto (tgt := 55) C dX1_meets_2_35 (by decide) ?_
    exact jj_iretX C hQ dX1_meets_2_55 hF (by show 0 + 1 + 1 ≤ 2; omega) (by show 0 + 6 + 6 ≤ 12; omega)
