/-! Action, Contact, Way, Fencer, Table, Weapon (printed by gen) -/
set_option maxRecDepth 100000
/-! Phrasehall$Table.adds(LPhrasehall$Bout;II)V -/
def rm_X10_adds : Room := ({ frames := 1, cells := 0, slots := 0, locals := 64 } : Room)
theorem hd_X10_adds : yX10_adds.cls ≠ "java/lang/invoke/MethodHandle" ∧ yX10_adds.cls ≠ "java/lang/invoke/VarHandle" ∧ (parseMethodDescriptor yX10_adds.desc).map (fun d => d.parameters.length) = some 3 := ⟨by decide, by decide, by decide +kernel⟩
def f_X10_adds_b28 (l0 : Option Nat) (l1 : Option Nat) (l2 : Int32) (l3 : Int32) (s0 : Option Nat) (s1 : Int32) (s2 : Int32) (M : jW) : Option (Unit × jW) := pP M s0 8 1 (jI (s1 + s2)) fun M29 =>
  pI M29 l0 8 2 fun v34 =>
  pR M29 l1 3 4 fun v39 =>
  pAI M29 v39 0 l2 fun v43 =>
  pP M29 l0 8 2 (jI (v34 + (l3 * v43))) fun M46 =>
  pI M46 l0 8 3 fun v51 =>
  pR M46 l1 3 4 fun v56 =>
  pAI M46 v56 0 ((1 : Int32) - l2) fun v62 =>
  pP M46 l0 8 3 (jI (v51 + (l3 * v62))) fun M65 =>
  some ((), M65)
set_option maxHeartbeats 4000000 in
theorem w_X10_adds_b28 {x : jX} (C : jOk x cX10_adds RX10 rm_X10_adds none) (hxn : xn x = 4) {v0 : Unit} {M0 : jW} (hQ : jEnd x rm_X10_adds none M0) {l0 : Option Nat} {l1 : Option Nat} {l2 : Int32} {l3 : Int32} {s0 : Option Nat} {s1 : Int32} {s2 : Int32} {M : jW} (hF : f_X10_adds_b28 l0 l1 l2 l3 s0 s1 s2 M = some (v0, M0)) : jJ x 28 [(0, jR l0), (1, jR l1), (2, jI l2), (3, jI l3)] [jI s2, jI s1, jR s0] M 0 0 := by
  unfold f_X10_adds_b28 at hF
  refine jj_iadd C dX10_adds_28 ?_
  refine jj_pP (f := 1) C jcs_8 (Nat.le_of_ble_eq_true rfl) (jLk.of C q782 rfl) (Or.inl rfl) dX10_adds_29 (jfit_i _) hF (fun M29 hF => ?_)
  refine jj_aload_n C 0 rfl dX10_adds_32 rfl ?_
  refine jj_dup C dX10_adds_33 rfl ?_
  refine jj_pI (f := 2) C jcs_8 (Nat.le_of_ble_eq_true rfl) (jLk.of C q784 rfl) dX10_adds_34 hF (fun v34 hF => ?_)
  refine jj_iload_n C 3 rfl dX10_adds_37 rfl ?_
  refine jj_aload_n C 1 rfl dX10_adds_38 rfl ?_
  refine jj_pR (f := 4) C jcs_3 (Nat.le_of_ble_eq_true rfl) (jLk.nest C q501 rfl) dX10_adds_39 hF (fun v39 hF => ?_)
  refine jj_iload_n C 2 rfl dX10_adds_42 rfl ?_
  refine jj_iald C dX10_adds_43 hF (fun v43 hF => ?_)
  refine jj_imul C dX10_adds_44 ?_
  refine jj_iadd C dX10_adds_45 ?_
  refine jj_pP (f := 2) C jcs_8 (Nat.le_of_ble_eq_true rfl) (jLk.of C q784 rfl) (Or.inl rfl) dX10_adds_46 (jfit_i _) hF (fun M46 hF => ?_)
  refine jj_aload_n C 0 rfl dX10_adds_49 rfl ?_
  refine jj_dup C dX10_adds_50 rfl ?_
  refine jj_pI (f := 3) C jcs_8 (Nat.le_of_ble_eq_true rfl) (jLk.of C q786 rfl) dX10_adds_51 hF (fun v51 hF => ?_)
  refine jj_iload_n C 3 rfl dX10_adds_54 rfl ?_
  refine jj_aload_n C 1 rfl dX10_adds_55 rfl ?_
  refine jj_pR (f := 4) C jcs_3 (Nat.le_of_ble_eq_true rfl) (jLk.nest C q501 rfl) dX10_adds_56 hF (fun v56 hF => ?_)
  refine jj_iconst (v := 1) C dX10_adds_59 (by decide) ?_
  refine jj_iload_n C 2 rfl dX10_adds_60 rfl ?_
  refine jj_isub C dX10_adds_61 ?_
  refine jj_iald C dX10_adds_62 hF (fun v62 hF => ?_)
  refine jj_imul C dX10_adds_63 ?_
  refine jj_iadd C dX10_adds_64 ?_
  refine jj_pP (f := 3) C jcs_8 (Nat.le_of_ble_eq_true rfl) (jLk.of C q786 rfl) (Or.inl rfl) dX10_adds_65 (jfit_i _) hF (fun M65 hF => ?_)
  exact jj_vret C hQ dX10_adds_68 hF (Nat.zero_le _) (Nat.zero_le _)
def f_X10_adds (a0 : Option Nat) (a1 : Option Nat) (a2 : Int32) (a3 : Int32) (M : jW) : Option (Unit × jW) := pI M a0 8 0 fun v2 =>
  pP M a0 8 0 (jI (v2 + a3)) fun M7 =>
  pI M7 a0 8 1 fun v12 =>
  pI M7 a1 3 7 fun v16 =>
  if v16 = a2 then (f_X10_adds_b28 a0 a1 a2 a3 a0 v12 a3 M7)
  else (f_X10_adds_b28 a0 a1 a2 a3 a0 v12 (0 : Int32) M7)
set_option maxHeartbeats 4000000 in
theorem m_X10_adds (l : Launch) (g : jG) {a0 : Option Nat} {a1 : Option Nat} {a2 : Int32} {a3 : Int32} {M M0 : jW} {v0 : Unit} (hF : f_X10_adds a0 a1 a2 a3 M = some (v0, M0)) : jMet l g yX10_adds cX10_adds 4 none rm_X10_adds [jR a0, jR a1, jI a2, jI a3] M none M0 := by
  refine jMet.of (L := [(0, jR a0), (1, jR a1), (2, jI a2), (3, jI a3)]) (by decide) rfl (Nat.le_of_ble_eq_true rfl) (fun x C hxn hg hl hQ hin => ?_)
  subst hg
  unfold f_X10_adds at hF
  refine jj_aload_n C 0 rfl dX10_adds_0 rfl ?_
  refine jj_dup C dX10_adds_1 rfl ?_
  refine jj_pI (f := 0) C jcs_8 (Nat.le_of_ble_eq_true rfl) (jLk.of C q780 rfl) dX10_adds_2 hF (fun v2 hF => ?_)
  refine jj_iload_n C 3 rfl dX10_adds_5 rfl ?_
  refine jj_iadd C dX10_adds_6 ?_
  refine jj_pP (f := 0) C jcs_8 (Nat.le_of_ble_eq_true rfl) (jLk.of C q780 rfl) (Or.inl rfl) dX10_adds_7 (jfit_i _) hF (fun M7 hF => ?_)
  refine jj_aload_n C 0 rfl dX10_adds_10 rfl ?_
  refine jj_dup C dX10_adds_11 rfl ?_
  refine jj_pI (f := 1) C jcs_8 (Nat.le_of_ble_eq_true rfl) (jLk.of C q782 rfl) dX10_adds_12 hF (fun v12 hF => ?_)
  refine jj_aload_n C 1 rfl dX10_adds_15 rfl ?_
  refine jj_pI (f := 7) C jcs_3 (Nat.le_of_ble_eq_true rfl) (jLk.nest C q506 rfl) dX10_adds_16 hF (fun v16 hF => ?_)
  refine jj_iload_n C 2 rfl dX10_adds_19 rfl ?_
  refine jj_icmp_ne (tgt := 27) C dX10_adds_20 (by decide) hF (fun hF => ?_) (fun hF => ?_)
  · refine jj_iconst (v := 0) C dX10_adds_27 (by decide) ?_
    refine jj_sub [0, 1, 2, 3] rfl ?_
    exact w_X10_adds_b28 C hxn hQ hF
  · refine jj_iload_n C 3 rfl dX10_adds_23 rfl ?_
    refine jj_goto (tgt := 28) C dX10_adds_24 (by decide) ?_
    refine jj_sub [0, 1, 2, 3] rfl ?_
    exact w_X10_adds_b28 C hxn hQ hF
/-! Phrasehall$Table.<init>()V -/
def rm_X10_init : Room := ({ frames := 1, cells := 0, slots := 0, locals := 64 } : Room)
theorem hd_X10_init : yX10_init.cls ≠ "java/lang/invoke/MethodHandle" ∧ yX10_init.cls ≠ "java/lang/invoke/VarHandle" ∧ (parseMethodDescriptor yX10_init.desc).map (fun d => d.parameters.length) = some 0 := ⟨by decide, by decide, by decide +kernel⟩
def f_X10_init (a0 : Option Nat) (M : jW) : Option (Unit × jW) := pSm a0 fun b1 =>
  some ((), M)
set_option maxHeartbeats 4000000 in
theorem m_X10_init (l : Launch) (g : jG) {a0 : Option Nat} {M M0 : jW} {v0 : Unit} (hF : f_X10_init a0 M = some (v0, M0)) : jMet l g yX10_init cX10_init 1 none rm_X10_init [jR a0] M none M0 := by
  refine jMet.of (L := [(0, jR a0)]) (by decide) rfl (Nat.le_of_ble_eq_true rfl) (fun x C hxn hg hl hQ hin => ?_)
  have hin := hin rfl
  subst hg
  unfold f_X10_init at hF
  refine jj_aload_n C 0 rfl dX10_init_0 rfl ?_
  obtain ⟨b1, hb1, hF⟩ := pSm_spec hF
  refine jj_objInit C ⟨_, hb1⟩ q779 q85 q86 ⟨Nat.le_of_ble_eq_true rfl, Nat.le_of_ble_eq_true rfl⟩ dX10_init_1 ?_
  exact jj_vret C hQ dX10_init_4 hF (Nat.zero_le _) (Nat.zero_le _)
/-! Phrasehall$Table.told(I)I -/
def rm_X10_told : Room := ({ frames := 1, cells := 0, slots := 0, locals := 64 } : Room)
theorem hd_X10_told : yX10_told.cls ≠ "java/lang/invoke/MethodHandle" ∧ yX10_told.cls ≠ "java/lang/invoke/VarHandle" ∧ (parseMethodDescriptor yX10_told.desc).map (fun d => d.parameters.length) = some 1 := ⟨by decide, by decide, by decide +kernel⟩
def f_X10_told (a0 : Option Nat) (a1 : Int32) (M : jW) : Option (Int32 × jW) := if a1 = 0 then (pI M a0 8 0 fun v5 =>
  some (v5, M))
  else (if a1 = (1 : Int32) then (pI M a0 8 1 fun v17 =>
  some (v17, M))
  else (if a1 = (2 : Int32) then (pI M a0 8 2 fun v29 =>
  some (v29, M))
  else (pI M a0 8 3 fun v36 =>
  some (v36, M))))
set_option maxHeartbeats 4000000 in
theorem m_X10_told (l : Launch) (g : jG) {a0 : Option Nat} {a1 : Int32} {M M0 : jW} {v0 : Int32} (hF : f_X10_told a0 a1 M = some (v0, M0)) : jMet l g yX10_told cX10_told 2 (some .int) rm_X10_told [jR a0, jI a1] M (some (jI v0)) M0 := by
  refine jMet.of (L := [(0, jR a0), (1, jI a1)]) (by decide) rfl (Nat.le_of_ble_eq_true rfl) (fun x C hxn hg hl hQ hin => ?_)
  subst hg
  unfold f_X10_told at hF
  refine jj_iload_n C 1 rfl dX10_told_0 rfl ?_
  refine jj_if_ne (tgt := 11) C dX10_told_1 (by decide) hF (fun hF => ?_) (fun hF => ?_)
  · refine jj_iload_n C 1 rfl dX10_told_11 rfl ?_
    refine jj_iconst (v := 1) C dX10_told_12 (by decide) ?_
    refine jj_icmp_ne (tgt := 23) C dX10_told_13 (by decide) hF (fun hF => ?_) (fun hF => ?_)
    · refine jj_iload_n C 1 rfl dX10_told_23 rfl ?_
      refine jj_iconst (v := 2) C dX10_told_24 (by decide) ?_
      refine jj_icmp_ne (tgt := 35) C dX10_told_25 (by decide) hF (fun hF => ?_) (fun hF => ?_)
      · refine jj_aload_n C 0 rfl dX10_told_35 rfl ?_
        refine jj_pI (f := 3) C jcs_8 (Nat.le_of_ble_eq_true rfl) (jLk.of C q786 rfl) dX10_told_36 hF (fun v36 hF => ?_)
        exact jj_iret C hQ dX10_told_39 hF (Nat.zero_le _) (Nat.zero_le _)
      · refine jj_aload_n C 0 rfl dX10_told_28 rfl ?_
        refine jj_pI (f := 2) C jcs_8 (Nat.le_of_ble_eq_true rfl) (jLk.of C q784 rfl) dX10_told_29 hF (fun v29 hF => ?_)
        refine jj_goto (tgt := 39) C dX10_told_32 (by decide) ?_
        exact jj_iret C hQ dX10_told_39 hF (Nat.zero_le _) (Nat.zero_le _)
    · refine jj_aload_n C 0 rfl dX10_told_16 rfl ?_
      refine jj_pI (f := 1) C jcs_8 (Nat.le_of_ble_eq_true rfl) (jLk.of C q782 rfl) dX10_told_17 hF (fun v17 hF => ?_)
      refine jj_goto (tgt := 39) C dX10_told_20 (by decide) ?_
      exact jj_iret C hQ dX10_told_39 hF (Nat.zero_le _) (Nat.zero_le _)
  · refine jj_aload_n C 0 rfl dX10_told_4 rfl ?_
    refine jj_pI (f := 0) C jcs_8 (Nat.le_of_ble_eq_true rfl) (jLk.of C q780 rfl) dX10_told_5 hF (fun v5 hF => ?_)
    refine jj_goto (tgt := 39) C dX10_told_8 (by decide) ?_
    exact jj_iret C hQ dX10_told_39 hF (Nat.zero_le _) (Nat.zero_le _)
/-! Phrasehall$Weapon$1.counts(I)Z -/
def rm_X11_counts : Room := ({ frames := 1, cells := 0, slots := 0, locals := 64 } : Room)
theorem hd_X11_counts : yX11_counts.cls ≠ "java/lang/invoke/MethodHandle" ∧ yX11_counts.cls ≠ "java/lang/invoke/VarHandle" ∧ (parseMethodDescriptor yX11_counts.desc).map (fun d => d.parameters.length) = some 1 := ⟨by decide, by decide, by decide +kernel⟩
def f_X11_counts (a0 : Option Nat) (a1 : Int32) (M : jW) : Option (Int32 × jW) := if a1 = (2 : Int32) then (pRZ (0 : Int32) M)
  else (pRZ (1 : Int32) M)
set_option maxHeartbeats 4000000 in
theorem m_X11_counts (l : Launch) (g : jG) {a0 : Option Nat} {a1 : Int32} {M M0 : jW} {v0 : Int32} (hF : f_X11_counts a0 a1 M = some (v0, M0)) : jMet l g yX11_counts cX11_counts 2 (some .boolean) rm_X11_counts [jR a0, jI a1] M (some (jI v0)) M0 := by
  refine jMet.of (L := [(0, jR a0), (1, jI a1)]) (by decide) rfl (Nat.le_of_ble_eq_true rfl) (fun x C hxn hg hl hQ hin => ?_)
  subst hg
  unfold f_X11_counts at hF
  refine jj_iload_n C 1 rfl dX11_counts_0 rfl ?_
  refine jj_iconst (v := 2) C dX11_counts_1 (by decide) ?_
  refine jj_icmp_eq (tgt := 9) C dX11_counts_2 (by decide) hF (fun hF => ?_) (fun hF => ?_)
  · refine jj_iconst (v := 0) C dX11_counts_9 (by decide) ?_
    exact jj_zret C hQ dX11_counts_10 hF (Nat.zero_le _) (Nat.zero_le _)
  · refine jj_iconst (v := 1) C dX11_counts_5 (by decide) ?_
    refine jj_goto (tgt := 10) C dX11_counts_6 (by decide) ?_
    exact jj_zret C hQ dX11_counts_10 hF (Nat.zero_le _) (Nat.zero_le _)
/-! Phrasehall$Fencer.<init>(I)V -/
def rm_X3_init : Room := ({ frames := 1, cells := 0, slots := 0, locals := 64 } : Room)
theorem hd_X3_init : yX3_init.cls ≠ "java/lang/invoke/MethodHandle" ∧ yX3_init.cls ≠ "java/lang/invoke/VarHandle" ∧ (parseMethodDescriptor yX3_init.desc).map (fun d => d.parameters.length) = some 1 := ⟨by decide, by decide, by decide +kernel⟩
def f_X3_init (a0 : Option Nat) (a1 : Int32) (M : jW) : Option (Unit × jW) := pSm a0 fun b1 =>
  pP M a0 2 0 (jI a1) fun M6 =>
  some ((), M6)
set_option maxHeartbeats 4000000 in
theorem m_X3_init (l : Launch) (g : jG) {a0 : Option Nat} {a1 : Int32} {M M0 : jW} {v0 : Unit} (hF : f_X3_init a0 a1 M = some (v0, M0)) : jMet l g yX3_init cX3_init 2 none rm_X3_init [jR a0, jI a1] M none M0 := by
  refine jMet.of (L := [(0, jR a0), (1, jI a1)]) (by decide) rfl (Nat.le_of_ble_eq_true rfl) (fun x C hxn hg hl hQ hin => ?_)
  have hin := hin rfl
  subst hg
  unfold f_X3_init at hF
  refine jj_aload_n C 0 rfl dX3_init_0 rfl ?_
  obtain ⟨b1, hb1, hF⟩ := pSm_spec hF
  refine jj_objInit C ⟨_, hb1⟩ q306 q85 q86 ⟨Nat.le_of_ble_eq_true rfl, Nat.le_of_ble_eq_true rfl⟩ dX3_init_1 ?_
  refine jj_aload_n C 0 rfl dX3_init_4 rfl ?_
  refine jj_iload_n C 1 rfl dX3_init_5 rfl ?_
  refine jj_pP (f := 0) C jcs_2 (Nat.le_of_ble_eq_true rfl) (jLk.of C q307 rfl) (Or.inr ⟨rfl, hin, rfl⟩) dX3_init_6 (jfit_i _) hF (fun M6 hF => ?_)
  exact jj_vret C hQ dX3_init_9 hF (Nat.zero_le _) (Nat.zero_le _)
/-! Phrasehall$Weapon.of(I)LPhrasehall$Weapon; -/
def rm_X5_of : Room := ({ frames := 1, cells := 0, slots := 0, locals := 64 } : Room)
theorem hd_X5_of : yX5_of.cls ≠ "java/lang/invoke/MethodHandle" ∧ yX5_of.cls ≠ "java/lang/invoke/VarHandle" ∧ (parseMethodDescriptor yX5_of.desc).map (fun d => d.parameters.length) = some 1 := ⟨by decide, by decide, by decide +kernel⟩
def f_X5_of (a0 : Int32) (M : jW) : Option (Option Nat × jW) := if a0 = 0 then (some ((some (M.2.2 0)), M))
  else (if a0 = (1 : Int32) then (some ((some (M.2.2 1)), M))
  else (some ((some (M.2.2 2)), M)))
set_option maxHeartbeats 4000000 in
theorem m_X5_of (l : Launch) (g : jG) {a0 : Int32} {M M0 : jW} {v0 : Option Nat} (hF : f_X5_of a0 M = some (v0, M0)) : jMet l g yX5_of cX5_of 1 (some (.object "Phrasehall$Weapon")) rm_X5_of [jI a0] M (some (jR v0)) M0 := by
  refine jMet.of (L := [(0, jI a0)]) (by decide) rfl (Nat.le_of_ble_eq_true rfl) (fun x C hxn hg hl hQ hin => ?_)
  subst hg
  unfold f_X5_of at hF
  refine jj_iload_n C 0 rfl dX5_of_0 rfl ?_
  refine jj_if_ne (tgt := 10) C dX5_of_1 (by decide) hF (fun hF => ?_) (fun hF => ?_)
  · refine jj_iload_n C 0 rfl dX5_of_10 rfl ?_
    refine jj_iconst (v := 1) C dX5_of_11 (by decide) ?_
    refine jj_icmp_ne (tgt := 21) C dX5_of_12 (by decide) hF (fun hF => ?_) (fun hF => ?_)
    · refine jj_gets2 C q483 dX5_of_21 ?_
      exact jj_aret C (by first | exact Or.inl ⟨_, rfl⟩ | exact Or.inr ⟨_, rfl⟩) hQ dX5_of_24 hF (Nat.zero_le _) (Nat.zero_le _)
    · refine jj_gets1 C q481 dX5_of_15 ?_
      refine jj_goto (tgt := 24) C dX5_of_18 (by decide) ?_
      exact jj_aret C (by first | exact Or.inl ⟨_, rfl⟩ | exact Or.inr ⟨_, rfl⟩) hQ dX5_of_24 hF (Nat.zero_le _) (Nat.zero_le _)
  · refine jj_gets0 C q479 dX5_of_4 ?_
    refine jj_goto (tgt := 24) C dX5_of_7 (by decide) ?_
    exact jj_aret C (by first | exact Or.inl ⟨_, rfl⟩ | exact Or.inr ⟨_, rfl⟩) hQ dX5_of_24 hF (Nat.zero_le _) (Nat.zero_le _)
/-! Phrasehall$Weapon.counts(I)Z -/
def rm_X5_counts : Room := ({ frames := 1, cells := 0, slots := 0, locals := 64 } : Room)
theorem hd_X5_counts : yX5_counts.cls ≠ "java/lang/invoke/MethodHandle" ∧ yX5_counts.cls ≠ "java/lang/invoke/VarHandle" ∧ (parseMethodDescriptor yX5_counts.desc).map (fun d => d.parameters.length) = some 1 := ⟨by decide, by decide, by decide +kernel⟩
def f_X5_counts (a0 : Option Nat) (a1 : Int32) (M : jW) : Option (Int32 × jW) := if a1 = 0 then (pRZ (1 : Int32) M)
  else (pRZ (0 : Int32) M)
set_option maxHeartbeats 4000000 in
theorem m_X5_counts (l : Launch) (g : jG) {a0 : Option Nat} {a1 : Int32} {M M0 : jW} {v0 : Int32} (hF : f_X5_counts a0 a1 M = some (v0, M0)) : jMet l g yX5_counts cX5_counts 2 (some .boolean) rm_X5_counts [jR a0, jI a1] M (some (jI v0)) M0 := by
  refine jMet.of (L := [(0, jR a0), (1, jI a1)]) (by decide) rfl (Nat.le_of_ble_eq_true rfl) (fun x C hxn hg hl hQ hin => ?_)
  subst hg
  unfold f_X5_counts at hF
  refine jj_iload_n C 1 rfl dX5_counts_0 rfl ?_
  refine jj_if_ne (tgt := 8) C dX5_counts_1 (by decide) hF (fun hF => ?_) (fun hF => ?_)
  · refine jj_iconst (v := 0) C dX5_counts_8 (by decide) ?_
    exact jj_zret C hQ dX5_counts_9 hF (Nat.zero_le _) (Nat.zero_le _)
  · refine jj_iconst (v := 1) C dX5_counts_4 (by decide) ?_
    refine jj_goto (tgt := 9) C dX5_counts_5 (by decide) ?_
    exact jj_zret C hQ dX5_counts_9 hF (Nat.zero_le _) (Nat.zero_le _)
/-! Phrasehall$Action.side()I -/
def rm_X6_side : Room := ({ frames := 1, cells := 0, slots := 0, locals := 64 } : Room)
theorem hd_X6_side : yX6_side.cls ≠ "java/lang/invoke/MethodHandle" ∧ yX6_side.cls ≠ "java/lang/invoke/VarHandle" ∧ (parseMethodDescriptor yX6_side.desc).map (fun d => d.parameters.length) = some 0 := ⟨by decide, by decide, by decide +kernel⟩
def f_X6_side (a0 : Option Nat) (M : jW) : Option (Int32 × jW) := pI M a0 4 0 fun v1 =>
  some (v1, M)
set_option maxHeartbeats 4000000 in
theorem m_X6_side (l : Launch) (g : jG) {a0 : Option Nat} {M M0 : jW} {v0 : Int32} (hF : f_X6_side a0 M = some (v0, M0)) : jMet l g yX6_side cX6_side 1 (some .int) rm_X6_side [jR a0] M (some (jI v0)) M0 := by
  refine jMet.of (L := [(0, jR a0)]) (by decide) rfl (Nat.le_of_ble_eq_true rfl) (fun x C hxn hg hl hQ hin => ?_)
  subst hg
  unfold f_X6_side at hF
  refine jj_aload_n C 0 rfl dX6_side_0 rfl ?_
  refine jj_pI (f := 0) C jcs_4 (Nat.le_of_ble_eq_true rfl) (jLk.of C q564 rfl) dX6_side_1 hF (fun v1 hF => ?_)
  exact jj_iret C hQ dX6_side_4 hF (Nat.zero_le _) (Nat.zero_le _)
/-! Phrasehall$Action.time()I -/
def rm_X6_time : Room := ({ frames := 1, cells := 0, slots := 0, locals := 64 } : Room)
theorem hd_X6_time : yX6_time.cls ≠ "java/lang/invoke/MethodHandle" ∧ yX6_time.cls ≠ "java/lang/invoke/VarHandle" ∧ (parseMethodDescriptor yX6_time.desc).map (fun d => d.parameters.length) = some 0 := ⟨by decide, by decide, by decide +kernel⟩
def f_X6_time (a0 : Option Nat) (M : jW) : Option (Int32 × jW) := pI M a0 4 2 fun v1 =>
  some (v1, M)
set_option maxHeartbeats 4000000 in
theorem m_X6_time (l : Launch) (g : jG) {a0 : Option Nat} {M M0 : jW} {v0 : Int32} (hF : f_X6_time a0 M = some (v0, M0)) : jMet l g yX6_time cX6_time 1 (some .int) rm_X6_time [jR a0] M (some (jI v0)) M0 := by
  refine jMet.of (L := [(0, jR a0)]) (by decide) rfl (Nat.le_of_ble_eq_true rfl) (fun x C hxn hg hl hQ hin => ?_)
  subst hg
  unfold f_X6_time at hF
  refine jj_aload_n C 0 rfl dX6_time_0 rfl ?_
  refine jj_pI (f := 2) C jcs_4 (Nat.le_of_ble_eq_true rfl) (jLk.of C q566 rfl) dX6_time_1 hF (fun v1 hF => ?_)
  exact jj_iret C hQ dX6_time_4 hF (Nat.zero_le _) (Nat.zero_le _)
/-! Phrasehall$Action.kind()I -/
def rm_X6_kind : Room := ({ frames := 1, cells := 0, slots := 0, locals := 64 } : Room)
theorem hd_X6_kind : yX6_kind.cls ≠ "java/lang/invoke/MethodHandle" ∧ yX6_kind.cls ≠ "java/lang/invoke/VarHandle" ∧ (parseMethodDescriptor yX6_kind.desc).map (fun d => d.parameters.length) = some 0 := ⟨by decide, by decide, by decide +kernel⟩
def f_X6_kind (a0 : Option Nat) (M : jW) : Option (Int32 × jW) := pI M a0 4 1 fun v1 =>
  some (v1, M)
set_option maxHeartbeats 4000000 in
theorem m_X6_kind (l : Launch) (g : jG) {a0 : Option Nat} {M M0 : jW} {v0 : Int32} (hF : f_X6_kind a0 M = some (v0, M0)) : jMet l g yX6_kind cX6_kind 1 (some .int) rm_X6_kind [jR a0] M (some (jI v0)) M0 := by
  refine jMet.of (L := [(0, jR a0)]) (by decide) rfl (Nat.le_of_ble_eq_true rfl) (fun x C hxn hg hl hQ hin => ?_)
  subst hg
  unfold f_X6_kind at hF
  refine jj_aload_n C 0 rfl dX6_kind_0 rfl ?_
  refine jj_pI (f := 1) C jcs_4 (Nat.le_of_ble_eq_true rfl) (jLk.of C q565 rfl) dX6_kind_1 hF (fun v1 hF => ?_)
  exact jj_iret C hQ dX6_kind_4 hF (Nat.zero_le _) (Nat.zero_le _)
/-! Phrasehall$Action.<init>(III)V -/
def rm_X6_init : Room := ({ frames := 2, cells := 0, slots := 0, locals := 84 } : Room)
theorem hd_X6_init : yX6_init.cls ≠ "java/lang/invoke/MethodHandle" ∧ yX6_init.cls ≠ "java/lang/invoke/VarHandle" ∧ (parseMethodDescriptor yX6_init.desc).map (fun d => d.parameters.length) = some 3 := ⟨by decide, by decide, by decide +kernel⟩
def f_X6_init (a0 : Option Nat) (a1 : Int32) (a2 : Int32) (a3 : Int32) (M : jW) : Option (Unit × jW) := pSm a0 fun b1 => pB (f_J16_init (some b1)  M) fun _ M1 =>
  pP M1 a0 4 0 (jI a1) fun M6 =>
  pP M6 a0 4 1 (jI a2) fun M11 =>
  pP M11 a0 4 2 (jI a3) fun M16 =>
  some ((), M16)
set_option maxHeartbeats 4000000 in
theorem m_X6_init (l : Launch) (g : jG) {a0 : Option Nat} {a1 : Int32} {a2 : Int32} {a3 : Int32} {M M0 : jW} {v0 : Unit} (hF : f_X6_init a0 a1 a2 a3 M = some (v0, M0)) : jMet l g yX6_init cX6_init 4 none rm_X6_init [jR a0, jI a1, jI a2, jI a3] M none M0 := by
  refine jMet.of (L := [(0, jR a0), (1, jI a1), (2, jI a2), (3, jI a3)]) (by decide) rfl (Nat.le_of_ble_eq_true rfl) (fun x C hxn hg hl hQ hin => ?_)
  have hin := hin rfl
  subst hg
  unfold f_X6_init at hF
  refine jj_aload_n C 0 rfl dX6_init_0 rfl ?_
  obtain ⟨b1, hb1, hF⟩ := pSm_spec hF
  obtain ⟨r1, M1, hG, hF⟩ := pB_spec hF
  refine jj_callI (k' := 0) (n' := 0) C [] [] hb1 (m_J16_init _ _ hG) q560 q561 q65 q562 rfl hd_J16_init rfl (Nat.le_of_ble_eq_true rfl) ⟨Nat.le_of_ble_eq_true rfl, Nat.le_of_ble_eq_true rfl⟩ ⟨Nat.le_refl _, Nat.le_refl _, Nat.le_refl _, Nat.le_refl _⟩ dX6_init_1 ?_
  refine jj_aload_n C 0 rfl dX6_init_4 rfl ?_
  refine jj_iload_n C 1 rfl dX6_init_5 rfl ?_
  refine jj_pP (f := 0) C jcs_4 (Nat.le_of_ble_eq_true rfl) (jLk.of C q564 rfl) (Or.inr ⟨rfl, hin, rfl⟩) dX6_init_6 (jfit_i _) hF (fun M6 hF => ?_)
  refine jj_aload_n C 0 rfl dX6_init_9 rfl ?_
  refine jj_iload_n C 2 rfl dX6_init_10 rfl ?_
  refine jj_pP (f := 1) C jcs_4 (Nat.le_of_ble_eq_true rfl) (jLk.of C q565 rfl) (Or.inr ⟨rfl, hin, rfl⟩) dX6_init_11 (jfit_i _) hF (fun M11 hF => ?_)
  refine jj_aload_n C 0 rfl dX6_init_14 rfl ?_
  refine jj_iload_n C 3 rfl dX6_init_15 rfl ?_
  refine jj_pP (f := 2) C jcs_4 (Nat.le_of_ble_eq_true rfl) (jLk.of C q566 rfl) (Or.inr ⟨rfl, hin, rfl⟩) dX6_init_16 (jfit_i _) hF (fun M16 hF => ?_)
  exact jj_vret C hQ dX6_init_19 hF (Nat.zero_le _) (Nat.zero_le _)
/-! Phrasehall$Contact.time()I -/
def rm_X7_time : Room := ({ frames := 1, cells := 0, slots := 0, locals := 64 } : Room)
theorem hd_X7_time : yX7_time.cls ≠ "java/lang/invoke/MethodHandle" ∧ yX7_time.cls ≠ "java/lang/invoke/VarHandle" ∧ (parseMethodDescriptor yX7_time.desc).map (fun d => d.parameters.length) = some 0 := ⟨by decide, by decide, by decide +kernel⟩
def f_X7_time (a0 : Option Nat) (M : jW) : Option (Int32 × jW) := pI M a0 5 1 fun v1 =>
  some (v1, M)
set_option maxHeartbeats 4000000 in
theorem m_X7_time (l : Launch) (g : jG) {a0 : Option Nat} {M M0 : jW} {v0 : Int32} (hF : f_X7_time a0 M = some (v0, M0)) : jMet l g yX7_time cX7_time 1 (some .int) rm_X7_time [jR a0] M (some (jI v0)) M0 := by
  refine jMet.of (L := [(0, jR a0)]) (by decide) rfl (Nat.le_of_ble_eq_true rfl) (fun x C hxn hg hl hQ hin => ?_)
  subst hg
  unfold f_X7_time at hF
  refine jj_aload_n C 0 rfl dX7_time_0 rfl ?_
  refine jj_pI (f := 1) C jcs_5 (Nat.le_of_ble_eq_true rfl) (jLk.of C q611 rfl) dX7_time_1 hF (fun v1 hF => ?_)
  exact jj_iret C hQ dX7_time_4 hF (Nat.zero_le _) (Nat.zero_le _)
/-! Phrasehall$Contact.<init>(IIII)V -/
def rm_X7_init : Room := ({ frames := 2, cells := 0, slots := 0, locals := 84 } : Room)
theorem hd_X7_init : yX7_init.cls ≠ "java/lang/invoke/MethodHandle" ∧ yX7_init.cls ≠ "java/lang/invoke/VarHandle" ∧ (parseMethodDescriptor yX7_init.desc).map (fun d => d.parameters.length) = some 4 := ⟨by decide, by decide, by decide +kernel⟩
def f_X7_init (a0 : Option Nat) (a1 : Int32) (a2 : Int32) (a3 : Int32) (a4 : Int32) (M : jW) : Option (Unit × jW) := pSm a0 fun b1 => pB (f_J16_init (some b1)  M) fun _ M1 =>
  pP M1 a0 5 0 (jI a1) fun M6 =>
  pP M6 a0 5 1 (jI a2) fun M11 =>
  pP M11 a0 5 2 (jI a3) fun M16 =>
  pP M16 a0 5 3 (jI a4) fun M22 =>
  some ((), M22)
set_option maxHeartbeats 4000000 in
theorem m_X7_init (l : Launch) (g : jG) {a0 : Option Nat} {a1 : Int32} {a2 : Int32} {a3 : Int32} {a4 : Int32} {M M0 : jW} {v0 : Unit} (hF : f_X7_init a0 a1 a2 a3 a4 M = some (v0, M0)) : jMet l g yX7_init cX7_init 5 none rm_X7_init [jR a0, jI a1, jI a2, jI a3, jI a4] M none M0 := by
  refine jMet.of (L := [(0, jR a0), (1, jI a1), (2, jI a2), (3, jI a3), (4, jI a4)]) (by decide) rfl (Nat.le_of_ble_eq_true rfl) (fun x C hxn hg hl hQ hin => ?_)
  have hin := hin rfl
  subst hg
  unfold f_X7_init at hF
  refine jj_aload_n C 0 rfl dX7_init_0 rfl ?_
  obtain ⟨b1, hb1, hF⟩ := pSm_spec hF
  obtain ⟨r1, M1, hG, hF⟩ := pB_spec hF
  refine jj_callI (k' := 0) (n' := 0) C [] [] hb1 (m_J16_init _ _ hG) q609 q561 q65 q562 rfl hd_J16_init rfl (Nat.le_of_ble_eq_true rfl) ⟨Nat.le_of_ble_eq_true rfl, Nat.le_of_ble_eq_true rfl⟩ ⟨Nat.le_refl _, Nat.le_refl _, Nat.le_refl _, Nat.le_refl _⟩ dX7_init_1 ?_
  refine jj_aload_n C 0 rfl dX7_init_4 rfl ?_
  refine jj_iload_n C 1 rfl dX7_init_5 rfl ?_
  refine jj_pP (f := 0) C jcs_5 (Nat.le_of_ble_eq_true rfl) (jLk.of C q610 rfl) (Or.inr ⟨rfl, hin, rfl⟩) dX7_init_6 (jfit_i _) hF (fun M6 hF => ?_)
  refine jj_aload_n C 0 rfl dX7_init_9 rfl ?_
  refine jj_iload_n C 2 rfl dX7_init_10 rfl ?_
  refine jj_pP (f := 1) C jcs_5 (Nat.le_of_ble_eq_true rfl) (jLk.of C q611 rfl) (Or.inr ⟨rfl, hin, rfl⟩) dX7_init_11 (jfit_i _) hF (fun M11 hF => ?_)
  refine jj_aload_n C 0 rfl dX7_init_14 rfl ?_
  refine jj_iload_n C 3 rfl dX7_init_15 rfl ?_
  refine jj_pP (f := 2) C jcs_5 (Nat.le_of_ble_eq_true rfl) (jLk.of C q612 rfl) (Or.inr ⟨rfl, hin, rfl⟩) dX7_init_16 (jfit_i _) hF (fun M16 hF => ?_)
  refine jj_aload_n C 0 rfl dX7_init_19 rfl ?_
  refine jj_iload C 4 rfl dX7_init_20 ?_
  refine jj_pP (f := 3) C jcs_5 (Nat.le_of_ble_eq_true rfl) (jLk.of C q613 rfl) (Or.inr ⟨rfl, hin, rfl⟩) dX7_init_22 (jfit_i _) hF (fun M22 hF => ?_)
  exact jj_vret C hQ dX7_init_25 hF (Nat.zero_le _) (Nat.zero_le _)
/-! Phrasehall$Contact.span()I -/
def rm_X7_span : Room := ({ frames := 1, cells := 0, slots := 0, locals := 64 } : Room)
theorem hd_X7_span : yX7_span.cls ≠ "java/lang/invoke/MethodHandle" ∧ yX7_span.cls ≠ "java/lang/invoke/VarHandle" ∧ (parseMethodDescriptor yX7_span.desc).map (fun d => d.parameters.length) = some 0 := ⟨by decide, by decide, by decide +kernel⟩
def f_X7_span (a0 : Option Nat) (M : jW) : Option (Int32 × jW) := pI M a0 5 2 fun v1 =>
  some (v1, M)
set_option maxHeartbeats 4000000 in
theorem m_X7_span (l : Launch) (g : jG) {a0 : Option Nat} {M M0 : jW} {v0 : Int32} (hF : f_X7_span a0 M = some (v0, M0)) : jMet l g yX7_span cX7_span 1 (some .int) rm_X7_span [jR a0] M (some (jI v0)) M0 := by
  refine jMet.of (L := [(0, jR a0)]) (by decide) rfl (Nat.le_of_ble_eq_true rfl) (fun x C hxn hg hl hQ hin => ?_)
  subst hg
  unfold f_X7_span at hF
  refine jj_aload_n C 0 rfl dX7_span_0 rfl ?_
  refine jj_pI (f := 2) C jcs_5 (Nat.le_of_ble_eq_true rfl) (jLk.of C q612 rfl) dX7_span_1 hF (fun v1 hF => ?_)
  exact jj_iret C hQ dX7_span_4 hF (Nat.zero_le _) (Nat.zero_le _)
/-! Phrasehall$Contact.target()I -/
def rm_X7_target : Room := ({ frames := 1, cells := 0, slots := 0, locals := 64 } : Room)
theorem hd_X7_target : yX7_target.cls ≠ "java/lang/invoke/MethodHandle" ∧ yX7_target.cls ≠ "java/lang/invoke/VarHandle" ∧ (parseMethodDescriptor yX7_target.desc).map (fun d => d.parameters.length) = some 0 := ⟨by decide, by decide, by decide +kernel⟩
def f_X7_target (a0 : Option Nat) (M : jW) : Option (Int32 × jW) := pI M a0 5 3 fun v1 =>
  some (v1, M)
set_option maxHeartbeats 4000000 in
theorem m_X7_target (l : Launch) (g : jG) {a0 : Option Nat} {M M0 : jW} {v0 : Int32} (hF : f_X7_target a0 M = some (v0, M0)) : jMet l g yX7_target cX7_target 1 (some .int) rm_X7_target [jR a0] M (some (jI v0)) M0 := by
  refine jMet.of (L := [(0, jR a0)]) (by decide) rfl (Nat.le_of_ble_eq_true rfl) (fun x C hxn hg hl hQ hin => ?_)
  subst hg
  unfold f_X7_target at hF
  refine jj_aload_n C 0 rfl dX7_target_0 rfl ?_
  refine jj_pI (f := 3) C jcs_5 (Nat.le_of_ble_eq_true rfl) (jLk.of C q613 rfl) dX7_target_1 hF (fun v1 hF => ?_)
  exact jj_iret C hQ dX7_target_4 hF (Nat.zero_le _) (Nat.zero_le _)
/-! Phrasehall$Contact.side()I -/
def rm_X7_side : Room := ({ frames := 1, cells := 0, slots := 0, locals := 64 } : Room)
theorem hd_X7_side : yX7_side.cls ≠ "java/lang/invoke/MethodHandle" ∧ yX7_side.cls ≠ "java/lang/invoke/VarHandle" ∧ (parseMethodDescriptor yX7_side.desc).map (fun d => d.parameters.length) = some 0 := ⟨by decide, by decide, by decide +kernel⟩
def f_X7_side (a0 : Option Nat) (M : jW) : Option (Int32 × jW) := pI M a0 5 0 fun v1 =>
  some (v1, M)
set_option maxHeartbeats 4000000 in
theorem m_X7_side (l : Launch) (g : jG) {a0 : Option Nat} {M M0 : jW} {v0 : Int32} (hF : f_X7_side a0 M = some (v0, M0)) : jMet l g yX7_side cX7_side 1 (some .int) rm_X7_side [jR a0] M (some (jI v0)) M0 := by
  refine jMet.of (L := [(0, jR a0)]) (by decide) rfl (Nat.le_of_ble_eq_true rfl) (fun x C hxn hg hl hQ hin => ?_)
  subst hg
  unfold f_X7_side at hF
  refine jj_aload_n C 0 rfl dX7_side_0 rfl ?_
  refine jj_pI (f := 0) C jcs_5 (Nat.le_of_ble_eq_true rfl) (jLk.of C q610 rfl) dX7_side_1 hF (fun v1 hF => ?_)
  exact jj_iret C hQ dX7_side_4 hF (Nat.zero_le _) (Nat.zero_le _)
/-! Phrasehall$Way.<init>()V -/
def rm_X8_init : Room := ({ frames := 1, cells := 0, slots := 0, locals := 64 } : Room)
theorem hd_X8_init : yX8_init.cls ≠ "java/lang/invoke/MethodHandle" ∧ yX8_init.cls ≠ "java/lang/invoke/VarHandle" ∧ (parseMethodDescriptor yX8_init.desc).map (fun d => d.parameters.length) = some 0 := ⟨by decide, by decide, by decide +kernel⟩
def f_X8_init (a0 : Option Nat) (M : jW) : Option (Unit × jW) := pSm a0 fun b1 =>
  pP M a0 6 0 (jI (-1 : Int32)) fun M6 =>
  pP M6 a0 6 3 (jI (-1 : Int32)) fun M11 =>
  some ((), M11)
set_option maxHeartbeats 4000000 in
theorem m_X8_init (l : Launch) (g : jG) {a0 : Option Nat} {M M0 : jW} {v0 : Unit} (hF : f_X8_init a0 M = some (v0, M0)) : jMet l g yX8_init cX8_init 1 none rm_X8_init [jR a0] M none M0 := by
  refine jMet.of (L := [(0, jR a0)]) (by decide) rfl (Nat.le_of_ble_eq_true rfl) (fun x C hxn hg hl hQ hin => ?_)
  have hin := hin rfl
  subst hg
  unfold f_X8_init at hF
  refine jj_aload_n C 0 rfl dX8_init_0 rfl ?_
  obtain ⟨b1, hb1, hF⟩ := pSm_spec hF
  refine jj_objInit C ⟨_, hb1⟩ q160 q85 q86 ⟨Nat.le_of_ble_eq_true rfl, Nat.le_of_ble_eq_true rfl⟩ dX8_init_1 ?_
  refine jj_aload_n C 0 rfl dX8_init_4 rfl ?_
  refine jj_iconst (v := -1) C dX8_init_5 (by decide) ?_
  refine jj_pP (f := 0) C jcs_6 (Nat.le_of_ble_eq_true rfl) (jLk.of C q161 rfl) (Or.inl rfl) dX8_init_6 (jfit_i _) hF (fun M6 hF => ?_)
  refine jj_aload_n C 0 rfl dX8_init_9 rfl ?_
  refine jj_iconst (v := -1) C dX8_init_10 (by decide) ?_
  refine jj_pP (f := 3) C jcs_6 (Nat.le_of_ble_eq_true rfl) (jLk.of C q165 rfl) (Or.inl rfl) dX8_init_11 (jfit_i _) hF (fun M11 hF => ?_)
  exact jj_vret C hQ dX8_init_14 hF (Nat.zero_le _) (Nat.zero_le _)
/-! Phrasehall$Way.gives(III)V -/
def rm_X8_gives : Room := ({ frames := 1, cells := 0, slots := 0, locals := 64 } : Room)
theorem hd_X8_gives : yX8_gives.cls ≠ "java/lang/invoke/MethodHandle" ∧ yX8_gives.cls ≠ "java/lang/invoke/VarHandle" ∧ (parseMethodDescriptor yX8_gives.desc).map (fun d => d.parameters.length) = some 3 := ⟨by decide, by decide, by decide +kernel⟩
def f_X8_gives (a0 : Option Nat) (a1 : Int32) (a2 : Int32) (a3 : Int32) (M : jW) : Option (Unit × jW) := pP M a0 6 0 (jI a1) fun M2 =>
  pP M2 a0 6 1 (jI a2) fun M7 =>
  pP M7 a0 6 2 (jI a3) fun M12 =>
  some ((), M12)
set_option maxHeartbeats 4000000 in
theorem m_X8_gives (l : Launch) (g : jG) {a0 : Option Nat} {a1 : Int32} {a2 : Int32} {a3 : Int32} {M M0 : jW} {v0 : Unit} (hF : f_X8_gives a0 a1 a2 a3 M = some (v0, M0)) : jMet l g yX8_gives cX8_gives 4 none rm_X8_gives [jR a0, jI a1, jI a2, jI a3] M none M0 := by
  refine jMet.of (L := [(0, jR a0), (1, jI a1), (2, jI a2), (3, jI a3)]) (by decide) rfl (Nat.le_of_ble_eq_true rfl) (fun x C hxn hg hl hQ hin => ?_)
  subst hg
  unfold f_X8_gives at hF
  refine jj_aload_n C 0 rfl dX8_gives_0 rfl ?_
  refine jj_iload_n C 1 rfl dX8_gives_1 rfl ?_
  refine jj_pP (f := 0) C jcs_6 (Nat.le_of_ble_eq_true rfl) (jLk.of C q161 rfl) (Or.inl rfl) dX8_gives_2 (jfit_i _) hF (fun M2 hF => ?_)
  refine jj_aload_n C 0 rfl dX8_gives_5 rfl ?_
  refine jj_iload_n C 2 rfl dX8_gives_6 rfl ?_
  refine jj_pP (f := 1) C jcs_6 (Nat.le_of_ble_eq_true rfl) (jLk.of C q163 rfl) (Or.inl rfl) dX8_gives_7 (jfit_i _) hF (fun M7 hF => ?_)
  refine jj_aload_n C 0 rfl dX8_gives_10 rfl ?_
  refine jj_iload_n C 3 rfl dX8_gives_11 rfl ?_
  refine jj_pP (f := 2) C jcs_6 (Nat.le_of_ble_eq_true rfl) (jLk.of C q164 rfl) (Or.inl rfl) dX8_gives_12 (jfit_i _) hF (fun M12 hF => ?_)
  exact jj_vret C hQ dX8_gives_15 hF (Nat.zero_le _) (Nat.zero_le _)
/-! Phrasehall$Way.attacks(IIZ)V -/
def rm_X8_attacks : Room := ({ frames := 2, cells := 0, slots := 0, locals := 87 } : Room)
theorem hd_X8_attacks : yX8_attacks.cls ≠ "java/lang/invoke/MethodHandle" ∧ yX8_attacks.cls ≠ "java/lang/invoke/VarHandle" ∧ (parseMethodDescriptor yX8_attacks.desc).map (fun d => d.parameters.length) = some 3 := ⟨by decide, by decide, by decide +kernel⟩
def f_X8_attacks (a0 : Option Nat) (a1 : Int32) (a2 : Int32) (a3 : Int32) (M : jW) : Option (Unit × jW) := if a3 = 0 then (pO M a0 6 fun b8 _ => pB (f_X8_gives (some b8) a1 (0 : Int32) a2 M) fun _ M8 =>
  some ((), M8))
  else (pI M a0 6 1 fun v15 =>
  if v15 = 0 then (pI M a0 6 2 fun v23 =>
  if (40 : Int32) < (a2 - v23) then (some ((), M))
  else (pP M a0 6 0 (jI (-1 : Int32)) fun M34 =>
  some ((), M34)))
  else (some ((), M)))
set_option maxHeartbeats 4000000 in
theorem m_X8_attacks (l : Launch) (g : jG) {a0 : Option Nat} {a1 : Int32} {a2 : Int32} {a3 : Int32} {M M0 : jW} {v0 : Unit} (hF : f_X8_attacks a0 a1 a2 a3 M = some (v0, M0)) : jMet l g yX8_attacks cX8_attacks 4 none rm_X8_attacks [jR a0, jI a1, jI a2, jI a3] M none M0 := by
  refine jMet.of (L := [(0, jR a0), (1, jI a1), (2, jI a2), (3, jI a3)]) (by decide) rfl (Nat.le_of_ble_eq_true rfl) (fun x C hxn hg hl hQ hin => ?_)
  subst hg
  unfold f_X8_attacks at hF
  refine jj_iload_n C 3 rfl dX8_attacks_0 rfl ?_
  refine jj_if_ne (tgt := 14) C dX8_attacks_1 (by decide) hF (fun hF => ?_) (fun hF => ?_)
  · refine jj_aload_n C 0 rfl dX8_attacks_14 rfl ?_
    refine jj_pI (f := 1) C jcs_6 (Nat.le_of_ble_eq_true rfl) (jLk.of C q163 rfl) dX8_attacks_15 hF (fun v15 hF => ?_)
    refine jj_if_ne (tgt := 37) C dX8_attacks_18 (by decide) hF (fun hF => ?_) (fun hF => ?_)
    · exact jj_vret C hQ dX8_attacks_37 hF (Nat.zero_le _) (Nat.zero_le _)
    · refine jj_iload_n C 2 rfl dX8_attacks_21 rfl ?_
      refine jj_aload_n C 0 rfl dX8_attacks_22 rfl ?_
      refine jj_pI (f := 2) C jcs_6 (Nat.le_of_ble_eq_true rfl) (jLk.of C q164 rfl) dX8_attacks_23 hF (fun v23 hF => ?_)
      refine jj_isub C dX8_attacks_26 ?_
      refine jj_bipush (v := 40) C dX8_attacks_27 (by decide) ?_
      refine jj_icmp_gt (tgt := 37) C dX8_attacks_29 (by decide) hF (fun hF => ?_) (fun hF => ?_)
      · exact jj_vret C hQ dX8_attacks_37 hF (Nat.zero_le _) (Nat.zero_le _)
      · refine jj_aload_n C 0 rfl dX8_attacks_32 rfl ?_
        refine jj_iconst (v := -1) C dX8_attacks_33 (by decide) ?_
        refine jj_pP (f := 0) C jcs_6 (Nat.le_of_ble_eq_true rfl) (jLk.of C q161 rfl) (Or.inl rfl) dX8_attacks_34 (jfit_i _) hF (fun M34 hF => ?_)
        exact jj_vret C hQ dX8_attacks_37 hF (Nat.zero_le _) (Nat.zero_le _)
  · refine jj_aload_n C 0 rfl dX8_attacks_4 rfl ?_
    refine jj_iload_n C 1 rfl dX8_attacks_5 rfl ?_
    refine jj_iconst (v := 0) C dX8_attacks_6 (by decide) ?_
    refine jj_iload_n C 2 rfl dX8_attacks_7 rfl ?_
    obtain ⟨b8, fs8, he8, hb8, hF⟩ := pO_spec hF
    obtain ⟨r8, M8, hG, hF⟩ := pB_spec hF
    refine jj_callV (k' := 0) (n' := 0) C [jI a1, jI (0 : Int32), jI a2] [] [] he8 (m_X8_gives _ _ hG) hb8 rfl q213 q215 qs2 q68 q216 ⟨rfl, hd_X8_gives⟩ rfl (Nat.le_of_ble_eq_true rfl) ⟨Nat.le_of_ble_eq_true rfl, Nat.le_of_ble_eq_true rfl⟩ ⟨Nat.le_refl _, Nat.le_refl _, Nat.le_refl _, Nat.le_refl _⟩ dX8_attacks_8 rfl ?_
    refine jj_goto (tgt := 37) C dX8_attacks_11 (by decide) ?_
    exact jj_vret C hQ dX8_attacks_37 hF (Nat.zero_le _) (Nat.zero_le _)
/-! Phrasehall$Way.isSoon(I)Z -/
def rm_X8_isSoon : Room := ({ frames := 1, cells := 0, slots := 0, locals := 64 } : Room)
theorem hd_X8_isSoon : yX8_isSoon.cls ≠ "java/lang/invoke/MethodHandle" ∧ yX8_isSoon.cls ≠ "java/lang/invoke/VarHandle" ∧ (parseMethodDescriptor yX8_isSoon.desc).map (fun d => d.parameters.length) = some 1 := ⟨by decide, by decide, by decide +kernel⟩
def f_X8_isSoon (a0 : Option Nat) (a1 : Int32) (M : jW) : Option (Int32 × jW) := pI M a0 6 4 fun v2 =>
  if (300 : Int32) < (a1 - v2) then (pRZ (0 : Int32) M)
  else (pRZ (1 : Int32) M)
set_option maxHeartbeats 4000000 in
theorem m_X8_isSoon (l : Launch) (g : jG) {a0 : Option Nat} {a1 : Int32} {M M0 : jW} {v0 : Int32} (hF : f_X8_isSoon a0 a1 M = some (v0, M0)) : jMet l g yX8_isSoon cX8_isSoon 2 (some .boolean) rm_X8_isSoon [jR a0, jI a1] M (some (jI v0)) M0 := by
  refine jMet.of (L := [(0, jR a0), (1, jI a1)]) (by decide) rfl (Nat.le_of_ble_eq_true rfl) (fun x C hxn hg hl hQ hin => ?_)
  subst hg
  unfold f_X8_isSoon at hF
  refine jj_iload_n C 1 rfl dX8_isSoon_0 rfl ?_
  refine jj_aload_n C 0 rfl dX8_isSoon_1 rfl ?_
  refine jj_pI (f := 4) C jcs_6 (Nat.le_of_ble_eq_true rfl) (jLk.of C q166 rfl) dX8_isSoon_2 hF (fun v2 hF => ?_)
  refine jj_isub C dX8_isSoon_5 ?_
  refine jj_sipush (v := 300) C dX8_isSoon_6 (by decide) ?_
  refine jj_icmp_gt (tgt := 16) C dX8_isSoon_9 (by decide) hF (fun hF => ?_) (fun hF => ?_)
  · refine jj_iconst (v := 0) C dX8_isSoon_16 (by decide) ?_
    exact jj_zret C hQ dX8_isSoon_17 hF (Nat.zero_le _) (Nat.zero_le _)
  · refine jj_iconst (v := 1) C dX8_isSoon_12 (by decide) ?_
    refine jj_goto (tgt := 17) C dX8_isSoon_13 (by decide) ?_
    exact jj_zret C hQ dX8_isSoon_17 hF (Nat.zero_le _) (Nat.zero_le _)
/-! Phrasehall$Way.takes(LPhrasehall$Action;)V -/
def rm_X8_takes : Room := ({ frames := 3, cells := 0, slots := 0, locals := 110 } : Room)
theorem hd_X8_takes : yX8_takes.cls ≠ "java/lang/invoke/MethodHandle" ∧ yX8_takes.cls ≠ "java/lang/invoke/VarHandle" ∧ (parseMethodDescriptor yX8_takes.desc).map (fun d => d.parameters.length) = some 1 := ⟨by decide, by decide, by decide +kernel⟩
def f_X8_takes_b238 (s0 : Option Nat) (s1 : Int32) (M : jW) : Option (Unit × jW) := pP M s0 6 0 (jI s1) fun M238 =>
  some ((), M238)
set_option maxHeartbeats 4000000 in
theorem w_X8_takes_b238 {x : jX} (C : jOk x cX8_takes RX8 rm_X8_takes none) (hxn : xn x = 5) {v0 : Unit} {M0 : jW} (hQ : jEnd x rm_X8_takes none M0) {s0 : Option Nat} {s1 : Int32} {M : jW} (hF : f_X8_takes_b238 s0 s1 M = some (v0, M0)) : jJ x 238 [] [jI s1, jR s0] M 0 0 := by
  unfold f_X8_takes_b238 at hF
  refine jj_pP (f := 0) C jcs_6 (Nat.le_of_ble_eq_true rfl) (jLk.of C q161 rfl) (Or.inl rfl) dX8_takes_238 (jfit_i _) hF (fun M238 hF => ?_)
  exact jj_vret C hQ dX8_takes_241 hF (Nat.zero_le _) (Nat.zero_le _)
def f_X8_takes_b25 (l0 : Option Nat) (l1 : Option Nat) (l2 : Int32) (l3 : Int32) (s0 : Int32) (M : jW) : Option (Unit × jW) := pO M l1 4 fun b28 _ => pB (f_X6_kind (some b28)  M) fun r28 M28 =>
  if r28 = 0 then (pO M28 l0 6 fun b73 _ => pB (f_X8_attacks (some b73) l2 l3 s0 M28) fun _ M73 =>
  some ((), M73))
  else (if r28 = 1 then (pI M28 l0 6 0 fun v80 =>
  if v80 = (-1 : Int32) then (pO M28 l0 6 fun b91 _ => pB (f_X8_gives (some b91) l2 (1 : Int32) l3 M28) fun _ M91 =>
  some ((), M91))
  else (some ((), M28)))
  else (if r28 = 2 then (if s0 = 0 then (some ((), M28))
  else (pI M28 l0 6 1 fun v103 =>
  if v103 = (1 : Int32) then (pO M28 l0 6 fun b114 _ => pB (f_X8_gives (some b114) l2 (0 : Int32) l3 M28) fun _ M114 =>
  some ((), M114))
  else (some ((), M28))))
  else (if r28 = 3 then (if s0 = 0 then (some ((), M28))
  else (pI M28 l0 6 1 fun v126 =>
  if v126 = (1 : Int32) then (some ((), M28))
  else (pP M28 l0 6 0 (jI (-1 : Int32)) fun M135 =>
  pP M135 l0 6 3 (jI l2) fun M140 =>
  pP M140 l0 6 4 (jI l3) fun M145 =>
  some ((), M145))))
  else (if r28 = 4 then (pI M28 l0 6 0 fun v152 =>
  if v152 = (-1 : Int32) then (pI M28 l0 6 3 fun v160 =>
  if v160 = l2 then (pO M28 l0 6 fun b169 _ => pB (f_X8_isSoon (some b169) l3 M28) fun r169 M169 =>
  if r169 = 0 then (some ((), M169))
  else (pO M169 l0 6 fun b179 _ => pB (f_X8_gives (some b179) l2 (4 : Int32) l3 M169) fun _ M179 =>
  some ((), M179)))
  else (some ((), M28)))
  else (some ((), M28)))
  else (if r28 = 5 then (pI M28 l0 6 0 fun v186 =>
  if v186 = (-1 : Int32) then (pI M28 l0 6 3 fun v194 =>
  if v194 = ((1 : Int32) - l2) then (pO M28 l0 6 fun b205 _ => pB (f_X8_isSoon (some b205) l3 M28) fun r205 M205 =>
  if r205 = 0 then (pO M205 l0 6 fun b215 _ => pB (f_X8_gives (some b215) l2 (5 : Int32) l3 M205) fun _ M215 =>
  some ((), M215))
  else (some ((), M205)))
  else (some ((), M28)))
  else (some ((), M28)))
  else (pI M28 l0 6 0 fun v223 =>
  if v223 = l2 then (f_X8_takes_b238 l0 (-1 : Int32) M28)
  else (pI M28 l0 6 0 fun v235 =>
  f_X8_takes_b238 l0 v235 M28)))))))
set_option maxHeartbeats 4000000 in
theorem w_X8_takes_b25 {x : jX} (C : jOk x cX8_takes RX8 rm_X8_takes none) (hxn : xn x = 5) {v0 : Unit} {M0 : jW} (hQ : jEnd x rm_X8_takes none M0) {l0 : Option Nat} {l1 : Option Nat} {l2 : Int32} {l3 : Int32} {s0 : Int32} {M : jW} (hF : f_X8_takes_b25 l0 l1 l2 l3 s0 M = some (v0, M0)) : jJ x 25 [(0, jR l0), (1, jR l1), (2, jI l2), (3, jI l3)] [jI s0] M 0 0 := by
  unfold f_X8_takes_b25 at hF
  refine jj_istore (L' := [(4, jI s0), (0, jR l0), (1, jR l1), (2, jI l2), (3, jI l3)]) C rfl (by rw [hxn]; decide) dX8_takes_25 ?_
  refine jj_aload_n C 2 rfl dX8_takes_27 rfl ?_
  obtain ⟨b28, fs28, he28, hb28, hF⟩ := pO_spec hF
  obtain ⟨r28, M28, hG, hF⟩ := pB_spec hF
  refine jj_callV (k' := 0) (n' := 0) C [] [] [jI r28] he28 (m_X6_kind _ _ hG) hb28 rfl q205 q206 q207 q66 q208 ⟨rfl, hd_X6_kind⟩ rfl (Nat.le_of_ble_eq_true rfl) ⟨Nat.le_of_ble_eq_true rfl, Nat.le_of_ble_eq_true rfl⟩ ⟨Nat.le_refl _, Nat.le_refl _, Nat.le_refl _, Nat.le_refl _⟩ dX8_takes_28 rfl ?_
  by_cases hc31_0 : r28 = 0
  · rw [if_pos hc31_0] at hF
    refine jj_tabIn (c := 0) (tgt := 68) C hc31_0 dX8_takes_31 (by decide) (by decide) rfl (by decide) ?_
    refine jj_aload_n C 1 rfl dX8_takes_68 rfl ?_
    refine jj_iload_n C 3 rfl dX8_takes_69 rfl ?_
    refine jj_iload_n C 4 rfl dX8_takes_70 rfl ?_
    refine jj_iload C 0 rfl dX8_takes_71 ?_
    obtain ⟨b73, fs73, he73, hb73, hF⟩ := pO_spec hF
    obtain ⟨r73, M73, hG, hF⟩ := pB_spec hF
    refine jj_callV (k' := 0) (n' := 0) C [jI l2, jI l3, jI s0] [] [] he73 (m_X8_attacks _ _ hG) hb73 rfl q209 q211 qs1 q68 q212 ⟨rfl, hd_X8_attacks⟩ rfl (Nat.le_of_ble_eq_true rfl) ⟨Nat.le_of_ble_eq_true rfl, Nat.le_of_ble_eq_true rfl⟩ ⟨Nat.le_refl _, Nat.le_refl _, Nat.le_refl _, Nat.le_refl _⟩ dX8_takes_73 rfl ?_
    refine jj_goto (tgt := 241) C dX8_takes_76 (by decide) ?_
    exact jj_vret C hQ dX8_takes_241 hF (Nat.zero_le _) (Nat.zero_le _)
  rw [if_neg hc31_0] at hF
  by_cases hc31_1 : r28 = 1
  · rw [if_pos hc31_1] at hF
    refine jj_tabIn (c := 1) (tgt := 79) C hc31_1 dX8_takes_31 (by decide) (by decide) rfl (by decide) ?_
    refine jj_aload_n C 1 rfl dX8_takes_79 rfl ?_
    refine jj_pI (f := 0) C jcs_6 (Nat.le_of_ble_eq_true rfl) (jLk.of C q161 rfl) dX8_takes_80 hF (fun v80 hF => ?_)
    refine jj_iconst (v := -1) C dX8_takes_83 (by decide) ?_
    refine jj_icmp_ne (tgt := 241) C dX8_takes_84 (by decide) hF (fun hF => ?_) (fun hF => ?_)
    · exact jj_vret C hQ dX8_takes_241 hF (Nat.zero_le _) (Nat.zero_le _)
    · refine jj_aload_n C 1 rfl dX8_takes_87 rfl ?_
      refine jj_iload_n C 3 rfl dX8_takes_88 rfl ?_
      refine jj_iconst (v := 1) C dX8_takes_89 (by decide) ?_
      refine jj_iload_n C 4 rfl dX8_takes_90 rfl ?_
      obtain ⟨b91, fs91, he91, hb91, hF⟩ := pO_spec hF
      obtain ⟨r91, M91, hG, hF⟩ := pB_spec hF
      refine jj_callV (k' := 0) (n' := 0) C [jI l2, jI (1 : Int32), jI l3] [] [] he91 (m_X8_gives _ _ hG) hb91 rfl q213 q215 qs2 q68 q216 ⟨rfl, hd_X8_gives⟩ rfl (Nat.le_of_ble_eq_true rfl) ⟨Nat.le_of_ble_eq_true rfl, Nat.le_of_ble_eq_true rfl⟩ ⟨Nat.le_refl _, Nat.le_refl _, Nat.le_refl _, Nat.le_refl _⟩ dX8_takes_91 rfl ?_
      refine jj_goto (tgt := 241) C dX8_takes_94 (by decide) ?_
      exact jj_vret C hQ dX8_takes_241 hF (Nat.zero_le _) (Nat.zero_le _)
  rw [if_neg hc31_1] at hF
  by_cases hc31_2 : r28 = 2
  · rw [if_pos hc31_2] at hF
    refine jj_tabIn (c := 2) (tgt := 97) C hc31_2 dX8_takes_31 (by decide) (by decide) rfl (by decide) ?_
    refine jj_iload C 0 rfl dX8_takes_97 ?_
    refine jj_if_eq (tgt := 241) C dX8_takes_99 (by decide) hF (fun hF => ?_) (fun hF => ?_)
    · exact jj_vret C hQ dX8_takes_241 hF (Nat.zero_le _) (Nat.zero_le _)
    · refine jj_aload_n C 1 rfl dX8_takes_102 rfl ?_
      refine jj_pI (f := 1) C jcs_6 (Nat.le_of_ble_eq_true rfl) (jLk.of C q163 rfl) dX8_takes_103 hF (fun v103 hF => ?_)
      refine jj_iconst (v := 1) C dX8_takes_106 (by decide) ?_
      refine jj_icmp_ne (tgt := 241) C dX8_takes_107 (by decide) hF (fun hF => ?_) (fun hF => ?_)
      · exact jj_vret C hQ dX8_takes_241 hF (Nat.zero_le _) (Nat.zero_le _)
      · refine jj_aload_n C 1 rfl dX8_takes_110 rfl ?_
        refine jj_iload_n C 3 rfl dX8_takes_111 rfl ?_
        refine jj_iconst (v := 0) C dX8_takes_112 (by decide) ?_
        refine jj_iload_n C 4 rfl dX8_takes_113 rfl ?_
        obtain ⟨b114, fs114, he114, hb114, hF⟩ := pO_spec hF
        obtain ⟨r114, M114, hG, hF⟩ := pB_spec hF
        refine jj_callV (k' := 0) (n' := 0) C [jI l2, jI (0 : Int32), jI l3] [] [] he114 (m_X8_gives _ _ hG) hb114 rfl q213 q215 qs2 q68 q216 ⟨rfl, hd_X8_gives⟩ rfl (Nat.le_of_ble_eq_true rfl) ⟨Nat.le_of_ble_eq_true rfl, Nat.le_of_ble_eq_true rfl⟩ ⟨Nat.le_refl _, Nat.le_refl _, Nat.le_refl _, Nat.le_refl _⟩ dX8_takes_114 rfl ?_
        refine jj_goto (tgt := 241) C dX8_takes_117 (by decide) ?_
        exact jj_vret C hQ dX8_takes_241 hF (Nat.zero_le _) (Nat.zero_le _)
  rw [if_neg hc31_2] at hF
  by_cases hc31_3 : r28 = 3
  · rw [if_pos hc31_3] at hF
    refine jj_tabIn (c := 3) (tgt := 120) C hc31_3 dX8_takes_31 (by decide) (by decide) rfl (by decide) ?_
    refine jj_iload C 0 rfl dX8_takes_120 ?_
    refine jj_if_eq (tgt := 241) C dX8_takes_122 (by decide) hF (fun hF => ?_) (fun hF => ?_)
    · exact jj_vret C hQ dX8_takes_241 hF (Nat.zero_le _) (Nat.zero_le _)
    · refine jj_aload_n C 1 rfl dX8_takes_125 rfl ?_
      refine jj_pI (f := 1) C jcs_6 (Nat.le_of_ble_eq_true rfl) (jLk.of C q163 rfl) dX8_takes_126 hF (fun v126 hF => ?_)
      refine jj_iconst (v := 1) C dX8_takes_129 (by decide) ?_
      refine jj_icmp_eq (tgt := 241) C dX8_takes_130 (by decide) hF (fun hF => ?_) (fun hF => ?_)
      · exact jj_vret C hQ dX8_takes_241 hF (Nat.zero_le _) (Nat.zero_le _)
      · refine jj_aload_n C 1 rfl dX8_takes_133 rfl ?_
        refine jj_iconst (v := -1) C dX8_takes_134 (by decide) ?_
        refine jj_pP (f := 0) C jcs_6 (Nat.le_of_ble_eq_true rfl) (jLk.of C q161 rfl) (Or.inl rfl) dX8_takes_135 (jfit_i _) hF (fun M135 hF => ?_)
        refine jj_aload_n C 1 rfl dX8_takes_138 rfl ?_
        refine jj_iload_n C 3 rfl dX8_takes_139 rfl ?_
        refine jj_pP (f := 3) C jcs_6 (Nat.le_of_ble_eq_true rfl) (jLk.of C q165 rfl) (Or.inl rfl) dX8_takes_140 (jfit_i _) hF (fun M140 hF => ?_)
        refine jj_aload_n C 1 rfl dX8_takes_143 rfl ?_
        refine jj_iload_n C 4 rfl dX8_takes_144 rfl ?_
        refine jj_pP (f := 4) C jcs_6 (Nat.le_of_ble_eq_true rfl) (jLk.of C q166 rfl) (Or.inl rfl) dX8_takes_145 (jfit_i _) hF (fun M145 hF => ?_)
        refine jj_goto (tgt := 241) C dX8_takes_148 (by decide) ?_
        exact jj_vret C hQ dX8_takes_241 hF (Nat.zero_le _) (Nat.zero_le _)
  rw [if_neg hc31_3] at hF
  by_cases hc31_4 : r28 = 4
  · rw [if_pos hc31_4] at hF
    refine jj_tabIn (c := 4) (tgt := 151) C hc31_4 dX8_takes_31 (by decide) (by decide) rfl (by decide) ?_
    refine jj_aload_n C 1 rfl dX8_takes_151 rfl ?_
    refine jj_pI (f := 0) C jcs_6 (Nat.le_of_ble_eq_true rfl) (jLk.of C q161 rfl) dX8_takes_152 hF (fun v152 hF => ?_)
    refine jj_iconst (v := -1) C dX8_takes_155 (by decide) ?_
    refine jj_icmp_ne (tgt := 241) C dX8_takes_156 (by decide) hF (fun hF => ?_) (fun hF => ?_)
    · exact jj_vret C hQ dX8_takes_241 hF (Nat.zero_le _) (Nat.zero_le _)
    · refine jj_aload_n C 1 rfl dX8_takes_159 rfl ?_
      refine jj_pI (f := 3) C jcs_6 (Nat.le_of_ble_eq_true rfl) (jLk.of C q165 rfl) dX8_takes_160 hF (fun v160 hF => ?_)
      refine jj_iload_n C 3 rfl dX8_takes_163 rfl ?_
      refine jj_icmp_ne (tgt := 241) C dX8_takes_164 (by decide) hF (fun hF => ?_) (fun hF => ?_)
      · exact jj_vret C hQ dX8_takes_241 hF (Nat.zero_le _) (Nat.zero_le _)
      · refine jj_aload_n C 1 rfl dX8_takes_167 rfl ?_
        refine jj_iload_n C 4 rfl dX8_takes_168 rfl ?_
        obtain ⟨b169, fs169, he169, hb169, hF⟩ := pO_spec hF
        obtain ⟨r169, M169, hG, hF⟩ := pB_spec hF
        refine jj_callV (k' := 0) (n' := 0) C [jI l3] [] [jI r169] he169 (m_X8_isSoon _ _ hG) hb169 rfl q217 q219 qs3 q68 q220 ⟨rfl, hd_X8_isSoon⟩ rfl (Nat.le_of_ble_eq_true rfl) ⟨Nat.le_of_ble_eq_true rfl, Nat.le_of_ble_eq_true rfl⟩ ⟨Nat.le_refl _, Nat.le_refl _, Nat.le_refl _, Nat.le_refl _⟩ dX8_takes_169 rfl ?_
        refine jj_if_eq (tgt := 241) C dX8_takes_172 (by decide) hF (fun hF => ?_) (fun hF => ?_)
        · exact jj_vret C hQ dX8_takes_241 hF (Nat.zero_le _) (Nat.zero_le _)
        · refine jj_aload_n C 1 rfl dX8_takes_175 rfl ?_
          refine jj_iload_n C 3 rfl dX8_takes_176 rfl ?_
          refine jj_iconst (v := 4) C dX8_takes_177 (by decide) ?_
          refine jj_iload_n C 4 rfl dX8_takes_178 rfl ?_
          obtain ⟨b179, fs179, he179, hb179, hF⟩ := pO_spec hF
          obtain ⟨r179, M179, hG, hF⟩ := pB_spec hF
          refine jj_callV (k' := 0) (n' := 0) C [jI l2, jI (4 : Int32), jI l3] [] [] he179 (m_X8_gives _ _ hG) hb179 rfl q213 q215 qs2 q68 q216 ⟨rfl, hd_X8_gives⟩ rfl (Nat.le_of_ble_eq_true rfl) ⟨Nat.le_of_ble_eq_true rfl, Nat.le_of_ble_eq_true rfl⟩ ⟨Nat.le_refl _, Nat.le_refl _, Nat.le_refl _, Nat.le_refl _⟩ dX8_takes_179 rfl ?_
          refine jj_goto (tgt := 241) C dX8_takes_182 (by decide) ?_
          exact jj_vret C hQ dX8_takes_241 hF (Nat.zero_le _) (Nat.zero_le _)
  rw [if_neg hc31_4] at hF
  by_cases hc31_5 : r28 = 5
  · rw [if_pos hc31_5] at hF
    refine jj_tabIn (c := 5) (tgt := 185) C hc31_5 dX8_takes_31 (by decide) (by decide) rfl (by decide) ?_
    refine jj_aload_n C 1 rfl dX8_takes_185 rfl ?_
    refine jj_pI (f := 0) C jcs_6 (Nat.le_of_ble_eq_true rfl) (jLk.of C q161 rfl) dX8_takes_186 hF (fun v186 hF => ?_)
    refine jj_iconst (v := -1) C dX8_takes_189 (by decide) ?_
    refine jj_icmp_ne (tgt := 241) C dX8_takes_190 (by decide) hF (fun hF => ?_) (fun hF => ?_)
    · exact jj_vret C hQ dX8_takes_241 hF (Nat.zero_le _) (Nat.zero_le _)
    · refine jj_aload_n C 1 rfl dX8_takes_193 rfl ?_
      refine jj_pI (f := 3) C jcs_6 (Nat.le_of_ble_eq_true rfl) (jLk.of C q165 rfl) dX8_takes_194 hF (fun v194 hF => ?_)
      refine jj_iconst (v := 1) C dX8_takes_197 (by decide) ?_
      refine jj_iload_n C 3 rfl dX8_takes_198 rfl ?_
      refine jj_isub C dX8_takes_199 ?_
      refine jj_icmp_ne (tgt := 241) C dX8_takes_200 (by decide) hF (fun hF => ?_) (fun hF => ?_)
      · exact jj_vret C hQ dX8_takes_241 hF (Nat.zero_le _) (Nat.zero_le _)
      · refine jj_aload_n C 1 rfl dX8_takes_203 rfl ?_
        refine jj_iload_n C 4 rfl dX8_takes_204 rfl ?_
        obtain ⟨b205, fs205, he205, hb205, hF⟩ := pO_spec hF
        obtain ⟨r205, M205, hG, hF⟩ := pB_spec hF
        refine jj_callV (k' := 0) (n' := 0) C [jI l3] [] [jI r205] he205 (m_X8_isSoon _ _ hG) hb205 rfl q217 q219 qs3 q68 q220 ⟨rfl, hd_X8_isSoon⟩ rfl (Nat.le_of_ble_eq_true rfl) ⟨Nat.le_of_ble_eq_true rfl, Nat.le_of_ble_eq_true rfl⟩ ⟨Nat.le_refl _, Nat.le_refl _, Nat.le_refl _, Nat.le_refl _⟩ dX8_takes_205 rfl ?_
        refine jj_if_ne (tgt := 241) C dX8_takes_208 (by decide) hF (fun hF => ?_) (fun hF => ?_)
        · exact jj_vret C hQ dX8_takes_241 hF (Nat.zero_le _) (Nat.zero_le _)
        · refine jj_aload_n C 1 rfl dX8_takes_211 rfl ?_
          refine jj_iload_n C 3 rfl dX8_takes_212 rfl ?_
          refine jj_iconst (v := 5) C dX8_takes_213 (by decide) ?_
          refine jj_iload_n C 4 rfl dX8_takes_214 rfl ?_
          obtain ⟨b215, fs215, he215, hb215, hF⟩ := pO_spec hF
          obtain ⟨r215, M215, hG, hF⟩ := pB_spec hF
          refine jj_callV (k' := 0) (n' := 0) C [jI l2, jI (5 : Int32), jI l3] [] [] he215 (m_X8_gives _ _ hG) hb215 rfl q213 q215 qs2 q68 q216 ⟨rfl, hd_X8_gives⟩ rfl (Nat.le_of_ble_eq_true rfl) ⟨Nat.le_of_ble_eq_true rfl, Nat.le_of_ble_eq_true rfl⟩ ⟨Nat.le_refl _, Nat.le_refl _, Nat.le_refl _, Nat.le_refl _⟩ dX8_takes_215 rfl ?_
          refine jj_goto (tgt := 241) C dX8_takes_218 (by decide) ?_
          exact jj_vret C hQ dX8_takes_241 hF (Nat.zero_le _) (Nat.zero_le _)
  rw [if_neg hc31_5] at hF
  have hd31_0 : ¬ Int32.toInt r28 = 0 := jne hc31_0
  have hd31_1 : ¬ Int32.toInt r28 = 1 := jne hc31_1
  have hd31_2 : ¬ Int32.toInt r28 = 2 := jne hc31_2
  have hd31_3 : ¬ Int32.toInt r28 = 3 := jne hc31_3
  have hd31_4 : ¬ Int32.toInt r28 = 4 := jne hc31_4
  have hd31_5 : ¬ Int32.toInt r28 = 5 := jne hc31_5
  refine jj_tabOut (tgt := 221) C dX8_takes_31 (by omega) (by decide) ?_
  refine jj_aload_n C 1 rfl dX8_takes_221 rfl ?_
  refine jj_aload_n C 1 rfl dX8_takes_222 rfl ?_
  refine jj_pI (f := 0) C jcs_6 (Nat.le_of_ble_eq_true rfl) (jLk.of C q161 rfl) dX8_takes_223 hF (fun v223 hF => ?_)
  refine jj_iload_n C 3 rfl dX8_takes_226 rfl ?_
  refine jj_icmp_ne (tgt := 234) C dX8_takes_227 (by decide) hF (fun hF => ?_) (fun hF => ?_)
  · refine jj_aload_n C 1 rfl dX8_takes_234 rfl ?_
    refine jj_pI (f := 0) C jcs_6 (Nat.le_of_ble_eq_true rfl) (jLk.of C q161 rfl) dX8_takes_235 hF (fun v235 hF => ?_)
    refine jj_sub [] rfl ?_
    exact w_X8_takes_b238 C hxn hQ hF
  · refine jj_iconst (v := -1) C dX8_takes_230 (by decide) ?_
    refine jj_goto (tgt := 238) C dX8_takes_231 (by decide) ?_
    refine jj_sub [] rfl ?_
    exact w_X8_takes_b238 C hxn hQ hF
def f_X8_takes (a0 : Option Nat) (a1 : Option Nat) (M : jW) : Option (Unit × jW) := pO M a1 4 fun b1 _ => pB (f_X6_side (some b1)  M) fun r1 M1 =>
  pO M1 a1 4 fun b6 _ => pB (f_X6_time (some b6)  M1) fun r6 M6 =>
  pI M6 a0 6 0 fun v11 =>
  if v11 = ((1 : Int32) - r1) then (f_X8_takes_b25 a0 a1 r1 r6 (1 : Int32) M6)
  else (f_X8_takes_b25 a0 a1 r1 r6 (0 : Int32) M6)
set_option maxHeartbeats 4000000 in
theorem m_X8_takes (l : Launch) (g : jG) {a0 : Option Nat} {a1 : Option Nat} {M M0 : jW} {v0 : Unit} (hF : f_X8_takes a0 a1 M = some (v0, M0)) : jMet l g yX8_takes cX8_takes 5 none rm_X8_takes [jR a0, jR a1] M none M0 := by
  refine jMet.of (L := [(0, jR a0), (1, jR a1)]) (by decide) rfl (Nat.le_of_ble_eq_true rfl) (fun x C hxn hg hl hQ hin => ?_)
  subst hg
  unfold f_X8_takes at hF
  refine jj_aload_n C 1 rfl dX8_takes_0 rfl ?_
  obtain ⟨b1, fs1, he1, hb1, hF⟩ := pO_spec hF
  obtain ⟨r1, M1, hG, hF⟩ := pB_spec hF
  refine jj_callV (k' := 0) (n' := 0) C [] [] [jI r1] he1 (m_X6_side _ _ hG) hb1 rfl q197 q198 q199 q66 q200 ⟨rfl, hd_X6_side⟩ rfl (Nat.le_of_ble_eq_true rfl) ⟨Nat.le_of_ble_eq_true rfl, Nat.le_of_ble_eq_true rfl⟩ ⟨Nat.le_refl _, Nat.le_refl _, Nat.le_refl _, Nat.le_refl _⟩ dX8_takes_1 rfl ?_
  refine jj_istore_n (L' := [(2, jI r1), (0, jR a0), (1, jR a1)]) C rfl (by rw [hxn]; decide) dX8_takes_4 rfl ?_
  refine jj_aload_n C 2 rfl dX8_takes_5 rfl ?_
  obtain ⟨b6, fs6, he6, hb6, hF⟩ := pO_spec hF
  obtain ⟨r6, M6, hG, hF⟩ := pB_spec hF
  refine jj_callV (k' := 0) (n' := 0) C [] [] [jI r6] he6 (m_X6_time _ _ hG) hb6 rfl q201 q202 q203 q66 q204 ⟨rfl, hd_X6_time⟩ rfl (Nat.le_of_ble_eq_true rfl) ⟨Nat.le_of_ble_eq_true rfl, Nat.le_of_ble_eq_true rfl⟩ ⟨Nat.le_refl _, Nat.le_refl _, Nat.le_refl _, Nat.le_refl _⟩ dX8_takes_6 rfl ?_
  refine jj_istore_n (L' := [(3, jI r6), (2, jI r1), (0, jR a0), (1, jR a1)]) C rfl (by rw [hxn]; decide) dX8_takes_9 rfl ?_
  refine jj_aload_n C 2 rfl dX8_takes_10 rfl ?_
  refine jj_pI (f := 0) C jcs_6 (Nat.le_of_ble_eq_true rfl) (jLk.of C q161 rfl) dX8_takes_11 hF (fun v11 hF => ?_)
  refine jj_iconst (v := 1) C dX8_takes_14 (by decide) ?_
  refine jj_iload_n C 1 rfl dX8_takes_15 rfl ?_
  refine jj_isub C dX8_takes_16 ?_
  refine jj_icmp_ne (tgt := 24) C dX8_takes_17 (by decide) hF (fun hF => ?_) (fun hF => ?_)
  · refine jj_iconst (v := 0) C dX8_takes_24 (by decide) ?_
    refine jj_sub [2, 3, 1, 0] rfl ?_
    exact w_X8_takes_b25 C hxn hQ hF
  · refine jj_iconst (v := 1) C dX8_takes_20 (by decide) ?_
    refine jj_goto (tgt := 25) C dX8_takes_21 (by decide) ?_
    refine jj_sub [2, 3, 1, 0] rfl ?_
    exact w_X8_takes_b25 C hxn hQ hF
