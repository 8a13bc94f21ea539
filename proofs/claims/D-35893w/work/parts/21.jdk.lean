/-! JDK: ArrayList and what it stands on (printed by gen) -/
set_option maxRecDepth 100000
/-! java/util/AbstractCollection.<init>()V -/
def rm_J0_init : Room := ({ frames := 1, cells := 0, slots := 0, locals := 64 } : Room)
theorem hd_J0_init : yJ0_init.cls ≠ "java/lang/invoke/MethodHandle" ∧ yJ0_init.cls ≠ "java/lang/invoke/VarHandle" ∧ (parseMethodDescriptor yJ0_init.desc).map (fun d => d.parameters.length) = some 0 := ⟨by decide, by decide, by decide +kernel⟩
def f_J0_init (a0 : Option Nat) (M : jW) : Option (Unit × jW) := pSm a0 fun b1 =>
  some ((), M)
set_option maxHeartbeats 4000000 in
theorem m_J0_init (l : Launch) (g : jG) {a0 : Option Nat} {M M0 : jW} {v0 : Unit} (hF : f_J0_init a0 M = some (v0, M0)) : jMet l g yJ0_init cJ0_init 1 none rm_J0_init [jR a0] M none M0 := by
  refine jMet.of (L := [(0, jR a0)]) (by decide) rfl (Nat.le_of_ble_eq_true rfl) (fun x C hxn hg hl hQ hin => ?_)
  have hin := hin rfl
  subst hg
  unfold f_J0_init at hF
  refine jj_aload_n C 0 rfl dJ0_init_0 rfl ?_
  obtain ⟨b1, hb1, hF⟩ := pSm_spec hF
  refine jj_objInit C ⟨_, hb1⟩ q98 q85 q86 ⟨Nat.le_of_ble_eq_true rfl, Nat.le_of_ble_eq_true rfl⟩ dJ0_init_1 ?_
  exact jj_vret C hQ dJ0_init_4 hF (Nat.zero_le _) (Nat.zero_le _)
/-! java/util/AbstractList.<init>()V -/
def rm_J1_init : Room := ({ frames := 2, cells := 0, slots := 0, locals := 84 } : Room)
theorem hd_J1_init : yJ1_init.cls ≠ "java/lang/invoke/MethodHandle" ∧ yJ1_init.cls ≠ "java/lang/invoke/VarHandle" ∧ (parseMethodDescriptor yJ1_init.desc).map (fun d => d.parameters.length) = some 0 := ⟨by decide, by decide, by decide +kernel⟩
def f_J1_init (a0 : Option Nat) (M : jW) : Option (Unit × jW) := pSm a0 fun b1 => pB (f_J0_init (some b1)  M) fun _ M1 =>
  pP M1 a0 9 0 (jI (0 : Int32)) fun M6 =>
  some ((), M6)
set_option maxHeartbeats 4000000 in
theorem m_J1_init (l : Launch) (g : jG) {a0 : Option Nat} {M M0 : jW} {v0 : Unit} (hF : f_J1_init a0 M = some (v0, M0)) : jMet l g yJ1_init cJ1_init 1 none rm_J1_init [jR a0] M none M0 := by
  refine jMet.of (L := [(0, jR a0)]) (by decide) rfl (Nat.le_of_ble_eq_true rfl) (fun x C hxn hg hl hQ hin => ?_)
  have hin := hin rfl
  subst hg
  unfold f_J1_init at hF
  refine jj_aload_n C 0 rfl dJ1_init_0 rfl ?_
  obtain ⟨b1, hb1, hF⟩ := pSm_spec hF
  obtain ⟨r1, M1, hG, hF⟩ := pB_spec hF
  refine jj_callI (k' := 0) (n' := 0) C [] [] hb1 (m_J0_init _ _ hG) q95 q96 q43 q97 rfl hd_J0_init rfl (Nat.le_of_ble_eq_true rfl) ⟨Nat.le_of_ble_eq_true rfl, Nat.le_of_ble_eq_true rfl⟩ ⟨Nat.le_refl _, Nat.le_refl _, Nat.le_refl _, Nat.le_refl _⟩ dJ1_init_1 ?_
  refine jj_aload_n C 0 rfl dJ1_init_4 rfl ?_
  refine jj_iconst (v := 0) C dJ1_init_5 (by decide) ?_
  refine jj_pP (f := 0) C jcs_9 (Nat.le_of_ble_eq_true rfl) (jLk.of C q105 rfl) (Or.inl rfl) dJ1_init_6 (jfit_i _) hF (fun M6 hF => ?_)
  exact jj_vret C hQ dJ1_init_9 hF (Nat.zero_le _) (Nat.zero_le _)
/-! java/util/ArrayList.<init>()V -/
def rm_J2_init : Room := ({ frames := 3, cells := 0, slots := 0, locals := 104 } : Room)
theorem hd_J2_init : yJ2_init.cls ≠ "java/lang/invoke/MethodHandle" ∧ yJ2_init.cls ≠ "java/lang/invoke/VarHandle" ∧ (parseMethodDescriptor yJ2_init.desc).map (fun d => d.parameters.length) = some 0 := ⟨by decide, by decide, by decide +kernel⟩
def f_J2_init (a0 : Option Nat) (M : jW) : Option (Unit × jW) := pSm a0 fun b1 => pB (f_J1_init (some b1)  M) fun _ M1 =>
  pP M1 a0 9 1 (jR (some (M1.2.2 3))) fun M8 =>
  some ((), M8)
set_option maxHeartbeats 4000000 in
theorem m_J2_init (l : Launch) (g : jG) {a0 : Option Nat} {M M0 : jW} {v0 : Unit} (hF : f_J2_init a0 M = some (v0, M0)) : jMet l g yJ2_init cJ2_init 1 none rm_J2_init [jR a0] M none M0 := by
  refine jMet.of (L := [(0, jR a0)]) (by decide) rfl (Nat.le_of_ble_eq_true rfl) (fun x C hxn hg hl hQ hin => ?_)
  have hin := hin rfl
  subst hg
  unfold f_J2_init at hF
  refine jj_aload_n C 0 rfl dJ2_init_0 rfl ?_
  obtain ⟨b1, hb1, hF⟩ := pSm_spec hF
  obtain ⟨r1, M1, hG, hF⟩ := pB_spec hF
  refine jj_callI (k' := 0) (n' := 0) C [] [] hb1 (m_J1_init _ _ hG) q92 q93 q44 q94 rfl hd_J1_init rfl (Nat.le_of_ble_eq_true rfl) ⟨Nat.le_of_ble_eq_true rfl, Nat.le_of_ble_eq_true rfl⟩ ⟨Nat.le_refl _, Nat.le_refl _, Nat.le_refl _, Nat.le_refl _⟩ dJ2_init_1 ?_
  refine jj_aload_n C 0 rfl dJ2_init_4 rfl ?_
  refine jj_gets3 C q99 dJ2_init_5 ?_
  refine jj_pP (f := 1) C jcs_9 (Nat.le_of_ble_eq_true rfl) (jLk.of C q101 rfl) (Or.inl rfl) dJ2_init_8 (jfit_a _ _) hF (fun M8 hF => ?_)
  exact jj_vret C hQ dJ2_init_11 hF (Nat.zero_le _) (Nat.zero_le _)
/-! java/util/ArrayList.size()I -/
def rm_J2_size : Room := ({ frames := 1, cells := 0, slots := 0, locals := 64 } : Room)
theorem hd_J2_size : yJ2_size.cls ≠ "java/lang/invoke/MethodHandle" ∧ yJ2_size.cls ≠ "java/lang/invoke/VarHandle" ∧ (parseMethodDescriptor yJ2_size.desc).map (fun d => d.parameters.length) = some 0 := ⟨by decide, by decide, by decide +kernel⟩
def f_J2_size (a0 : Option Nat) (M : jW) : Option (Int32 × jW) := pI M a0 9 2 fun v1 =>
  some (v1, M)
set_option maxHeartbeats 4000000 in
theorem m_J2_size (l : Launch) (g : jG) {a0 : Option Nat} {M M0 : jW} {v0 : Int32} (hF : f_J2_size a0 M = some (v0, M0)) : jMet l g yJ2_size cJ2_size 1 (some .int) rm_J2_size [jR a0] M (some (jI v0)) M0 := by
  refine jMet.of (L := [(0, jR a0)]) (by decide) rfl (Nat.le_of_ble_eq_true rfl) (fun x C hxn hg hl hQ hin => ?_)
  subst hg
  unfold f_J2_size at hF
  refine jj_aload_n C 0 rfl dJ2_size_0 rfl ?_
  refine jj_pI (f := 2) C jcs_9 (Nat.le_of_ble_eq_true rfl) (jLk.of C q104 rfl) dJ2_size_1 hF (fun v1 hF => ?_)
  exact jj_iret C hQ dJ2_size_4 hF (Nat.zero_le _) (Nat.zero_le _)
/-! jdk/internal/util/Preconditions.checkIndex(IILjava/util/function/BiFunction;)I -/
def rm_J14_checkIndex : Room := ({ frames := 1, cells := 0, slots := 0, locals := 64 } : Room)
theorem hd_J14_checkIndex : yJ14_checkIndex.cls ≠ "java/lang/invoke/MethodHandle" ∧ yJ14_checkIndex.cls ≠ "java/lang/invoke/VarHandle" ∧ (parseMethodDescriptor yJ14_checkIndex.desc).map (fun d => d.parameters.length) = some 3 := ⟨by decide, by decide, by decide +kernel⟩
def f_J14_checkIndex (a0 : Int32) (a1 : Int32) (a2 : Option Nat) (M : jW) : Option (Int32 × jW) := if a0 < 0 then (none)
  else (if a0 < a1 then (some (a0, M))
  else (none))
set_option maxHeartbeats 4000000 in
theorem m_J14_checkIndex (l : Launch) (g : jG) {a0 : Int32} {a1 : Int32} {a2 : Option Nat} {M M0 : jW} {v0 : Int32} (hF : f_J14_checkIndex a0 a1 a2 M = some (v0, M0)) : jMet l g yJ14_checkIndex cJ14_checkIndex 3 (some .int) rm_J14_checkIndex [jI a0, jI a1, jR a2] M (some (jI v0)) M0 := by
  refine jMet.of (L := [(0, jI a0), (1, jI a1), (2, jR a2)]) (by decide) rfl (Nat.le_of_ble_eq_true rfl) (fun x C hxn hg hl hQ hin => ?_)
  subst hg
  unfold f_J14_checkIndex at hF
  refine jj_iload_n C 0 rfl dJ14_checkIndex_0 rfl ?_
  refine jj_if_lt (tgt := 9) C dJ14_checkIndex_1 (by decide) hF (fun hF => ?_) (fun hF => ?_)
  · cases hF
  · refine jj_iload_n C 0 rfl dJ14_checkIndex_4 rfl ?_
    refine jj_iload_n C 1 rfl dJ14_checkIndex_5 rfl ?_
    refine jj_icmp_lt (tgt := 16) C dJ14_checkIndex_6 (by decide) hF (fun hF => ?_) (fun hF => ?_)
    · refine jj_iload_n C 0 rfl dJ14_checkIndex_16 rfl ?_
      exact jj_iret C hQ dJ14_checkIndex_17 hF (Nat.zero_le _) (Nat.zero_le _)
    · cases hF
/-! java/util/Objects.checkIndex(II)I -/
def rm_J13_checkIndex : Room := ({ frames := 2, cells := 0, slots := 0, locals := 86 } : Room)
theorem hd_J13_checkIndex : yJ13_checkIndex.cls ≠ "java/lang/invoke/MethodHandle" ∧ yJ13_checkIndex.cls ≠ "java/lang/invoke/VarHandle" ∧ (parseMethodDescriptor yJ13_checkIndex.desc).map (fun d => d.parameters.length) = some 2 := ⟨by decide, by decide, by decide +kernel⟩
def f_J13_checkIndex (a0 : Int32) (a1 : Int32) (M : jW) : Option (Int32 × jW) := pB (f_J14_checkIndex a0 a1 none M) fun r3 M3 =>
  some (r3, M3)
set_option maxHeartbeats 4000000 in
theorem m_J13_checkIndex (l : Launch) (g : jG) {a0 : Int32} {a1 : Int32} {M M0 : jW} {v0 : Int32} (hF : f_J13_checkIndex a0 a1 M = some (v0, M0)) : jMet l g yJ13_checkIndex cJ13_checkIndex 2 (some .int) rm_J13_checkIndex [jI a0, jI a1] M (some (jI v0)) M0 := by
  refine jMet.of (L := [(0, jI a0), (1, jI a1)]) (by decide) rfl (Nat.le_of_ble_eq_true rfl) (fun x C hxn hg hl hQ hin => ?_)
  subst hg
  unfold f_J13_checkIndex at hF
  refine jj_iload_n C 0 rfl dJ13_checkIndex_0 rfl ?_
  refine jj_iload_n C 1 rfl dJ13_checkIndex_1 rfl ?_
  refine jj_null C dJ13_checkIndex_2 ?_
  obtain ⟨r3, M3, hG, hF⟩ := pB_spec hF
  refine jj_callS (k' := 0) (n' := 0) C [jI a0, jI a1, jR none] [] [jI r3] (m_J14_checkIndex _ _ hG) q185 q186 q60 q187 hd_J14_checkIndex rfl (Nat.le_of_ble_eq_true rfl) ⟨Nat.le_of_ble_eq_true rfl, Nat.le_of_ble_eq_true rfl⟩ ⟨Nat.le_refl _, Nat.le_refl _, Nat.le_refl _, Nat.le_refl _⟩ dJ13_checkIndex_3 rfl ?_
  exact jj_iret C hQ dJ13_checkIndex_6 hF (Nat.zero_le _) (Nat.zero_le _)
/-! java/util/ArrayList.elementData(I)Ljava/lang/Object; -/
def rm_J2_elementData : Room := ({ frames := 1, cells := 0, slots := 0, locals := 64 } : Room)
theorem hd_J2_elementData : yJ2_elementData.cls ≠ "java/lang/invoke/MethodHandle" ∧ yJ2_elementData.cls ≠ "java/lang/invoke/VarHandle" ∧ (parseMethodDescriptor yJ2_elementData.desc).map (fun d => d.parameters.length) = some 1 := ⟨by decide, by decide, by decide +kernel⟩
def f_J2_elementData (a0 : Option Nat) (a1 : Int32) (M : jW) : Option (Option Nat × jW) := pR M a0 9 1 fun v1 =>
  pAR M v1 3 a1 fun v5 =>
  some (v5, M)
set_option maxHeartbeats 4000000 in
theorem m_J2_elementData (l : Launch) (g : jG) {a0 : Option Nat} {a1 : Int32} {M M0 : jW} {v0 : Option Nat} (hF : f_J2_elementData a0 a1 M = some (v0, M0)) : jMet l g yJ2_elementData cJ2_elementData 2 (some (.object "java/lang/Object")) rm_J2_elementData [jR a0, jI a1] M (some (jR v0)) M0 := by
  refine jMet.of (L := [(0, jR a0), (1, jI a1)]) (by decide) rfl (Nat.le_of_ble_eq_true rfl) (fun x C hxn hg hl hQ hin => ?_)
  subst hg
  unfold f_J2_elementData at hF
  refine jj_aload_n C 0 rfl dJ2_elementData_0 rfl ?_
  refine jj_pR (f := 1) C jcs_9 (Nat.le_of_ble_eq_true rfl) (jLk.of C q101 rfl) dJ2_elementData_1 hF (fun v1 hF => ?_)
  refine jj_iload_n C 1 rfl dJ2_elementData_4 rfl ?_
  refine jj_aald (t := 3) C rfl dJ2_elementData_5 hF (fun v5 hF => ?_)
  exact jj_aret C (by first | exact Or.inl ⟨_, rfl⟩ | exact Or.inr ⟨_, rfl⟩) hQ dJ2_elementData_6 hF (Nat.zero_le _) (Nat.zero_le _)
/-! java/util/ArrayList.get(I)Ljava/lang/Object; -/
def rm_J2_get : Room := ({ frames := 3, cells := 0, slots := 0, locals := 107 } : Room)
theorem hd_J2_get : yJ2_get.cls ≠ "java/lang/invoke/MethodHandle" ∧ yJ2_get.cls ≠ "java/lang/invoke/VarHandle" ∧ (parseMethodDescriptor yJ2_get.desc).map (fun d => d.parameters.length) = some 1 := ⟨by decide, by decide, by decide +kernel⟩
def f_J2_get (a0 : Option Nat) (a1 : Int32) (M : jW) : Option (Option Nat × jW) := pI M a0 9 2 fun v2 =>
  pB (f_J13_checkIndex a1 v2 M) fun r5 M5 =>
  pO M5 a0 9 fun b11 _ => pB (f_J2_elementData (some b11) a1 M5) fun r11 M11 =>
  some (r11, M11)
set_option maxHeartbeats 4000000 in
theorem m_J2_get (l : Launch) (g : jG) {a0 : Option Nat} {a1 : Int32} {M M0 : jW} {v0 : Option Nat} (hF : f_J2_get a0 a1 M = some (v0, M0)) : jMet l g yJ2_get cJ2_get 2 (some (.object "java/lang/Object")) rm_J2_get [jR a0, jI a1] M (some (jR v0)) M0 := by
  refine jMet.of (L := [(0, jR a0), (1, jI a1)]) (by decide) rfl (Nat.le_of_ble_eq_true rfl) (fun x C hxn hg hl hQ hin => ?_)
  subst hg
  unfold f_J2_get at hF
  refine jj_iload_n C 1 rfl dJ2_get_0 rfl ?_
  refine jj_aload_n C 0 rfl dJ2_get_1 rfl ?_
  refine jj_pI (f := 2) C jcs_9 (Nat.le_of_ble_eq_true rfl) (jLk.of C q104 rfl) dJ2_get_2 hF (fun v2 hF => ?_)
  obtain ⟨r5, M5, hG, hF⟩ := pB_spec hF
  refine jj_callS (k' := 0) (n' := 0) C [jI a1, jI v2] [] [jI r5] (m_J13_checkIndex _ _ hG) q182 q183 q59 q184 hd_J13_checkIndex rfl (Nat.le_of_ble_eq_true rfl) ⟨Nat.le_of_ble_eq_true rfl, Nat.le_of_ble_eq_true rfl⟩ ⟨Nat.le_refl _, Nat.le_refl _, Nat.le_refl _, Nat.le_refl _⟩ dJ2_get_5 rfl ?_
  refine jj_pop C dJ2_get_8 rfl ?_
  refine jj_aload_n C 0 rfl dJ2_get_9 rfl ?_
  refine jj_iload_n C 1 rfl dJ2_get_10 rfl ?_
  obtain ⟨b11, fs11, he11, hb11, hF⟩ := pO_spec hF
  obtain ⟨r11, M11, hG, hF⟩ := pB_spec hF
  refine jj_callV (k' := 0) (n' := 0) C [jI a1] [] [jR r11] he11 (m_J2_elementData _ _ hG) hb11 rfl q188 q189 q190 q45 q191 ⟨rfl, hd_J2_elementData⟩ rfl (Nat.le_of_ble_eq_true rfl) ⟨Nat.le_of_ble_eq_true rfl, Nat.le_of_ble_eq_true rfl⟩ ⟨Nat.le_refl _, Nat.le_refl _, Nat.le_refl _, Nat.le_refl _⟩ dJ2_get_11 rfl ?_
  exact jj_aret C (by first | exact Or.inl ⟨_, rfl⟩ | exact Or.inr ⟨_, rfl⟩) hQ dJ2_get_14 hF (Nat.zero_le _) (Nat.zero_le _)
/-! jdk/internal/util/ArraysSupport.newLength(III)I -/
def rm_J7_newLength : Room := ({ frames := 1, cells := 0, slots := 0, locals := 64 } : Room)
theorem hd_J7_newLength : yJ7_newLength.cls ≠ "java/lang/invoke/MethodHandle" ∧ yJ7_newLength.cls ≠ "java/lang/invoke/VarHandle" ∧ (parseMethodDescriptor yJ7_newLength.desc).map (fun d => d.parameters.length) = some 3 := ⟨by decide, by decide, by decide +kernel⟩
def f_J7_newLength (a0 : Int32) (a1 : Int32) (a2 : Int32) (M : jW) : Option (Int32 × jW) := pLt (a0 + (if a1 < a2 then a2 else a1)) fun t7 =>
  if t7 ≤ (0 : Int32) then (none)
  else (if (2147483639 : Int32) < t7 then (none)
  else (some (t7, M)))
set_option maxHeartbeats 4000000 in
theorem m_J7_newLength (l : Launch) (g : jG) {a0 : Int32} {a1 : Int32} {a2 : Int32} {M M0 : jW} {v0 : Int32} (hF : f_J7_newLength a0 a1 a2 M = some (v0, M0)) : jMet l g yJ7_newLength cJ7_newLength 4 (some .int) rm_J7_newLength [jI a0, jI a1, jI a2] M (some (jI v0)) M0 := by
  refine jMet.of (L := [(0, jI a0), (1, jI a1), (2, jI a2)]) (by decide) rfl (Nat.le_of_ble_eq_true rfl) (fun x C hxn hg hl hQ hin => ?_)
  subst hg
  unfold f_J7_newLength at hF
  refine jj_iload_n C 0 rfl dJ7_newLength_0 rfl ?_
  refine jj_iload_n C 1 rfl dJ7_newLength_1 rfl ?_
  refine jj_iload_n C 2 rfl dJ7_newLength_2 rfl ?_
  refine jj_max C q333 (Nat.zero_le _) (Nat.zero_le _) ⟨Nat.le_of_ble_eq_true rfl, Nat.le_of_ble_eq_true rfl⟩ dJ7_newLength_3 ?_
  refine jj_iadd C dJ7_newLength_6 ?_
  refine jj_letI hF (fun t7 hF => ?_)
  refine jj_istore_n (L' := [(3, jI t7), (0, jI a0), (1, jI a1), (2, jI a2)]) C rfl (by rw [hxn]; decide) dJ7_newLength_7 rfl ?_
  refine jj_iconst (v := 0) C dJ7_newLength_8 (by decide) ?_
  refine jj_iload_n C 0 rfl dJ7_newLength_9 rfl ?_
  refine jj_icmp_ge (tgt := 21) C dJ7_newLength_10 (by decide) hF (fun hF => ?_) (fun hF => ?_)
  · cases hF
  · refine jj_iload_n C 0 rfl dJ7_newLength_13 rfl ?_
    refine jj_ldc (v := 2147483639) C q336 dJ7_newLength_14 ?_
    refine jj_icmp_gt (tgt := 21) C dJ7_newLength_16 (by decide) hF (fun hF => ?_) (fun hF => ?_)
    · cases hF
    · refine jj_iload_n C 0 rfl dJ7_newLength_19 rfl ?_
      exact jj_iret C hQ dJ7_newLength_20 hF (Nat.zero_le _) (Nat.zero_le _)
/-! java/util/Arrays.copyOf([Ljava/lang/Object;ILjava/lang/Class;)[Ljava/lang/Object; -/
def rm_J9_copyOf_2 : Room := ({ frames := 1, cells := 1, slots := 128, locals := 64 } : Room)
theorem hd_J9_copyOf_2 : yJ9_copyOf_2.cls ≠ "java/lang/invoke/MethodHandle" ∧ yJ9_copyOf_2.cls ≠ "java/lang/invoke/VarHandle" ∧ (parseMethodDescriptor yJ9_copyOf_2.desc).map (fun d => d.parameters.length) = some 3 := ⟨by decide, by decide, by decide +kernel⟩
def f_J9_copyOf_2 (a0 : Option Nat) (a1 : Int32) (a2 : Option Nat) (M : jW) : Option (Option Nat × jW) := if a2 = (some (M.2.2 4)) then (pNA M 3 128 a1 fun q7 M7 =>
  pLen M7 a0 fun v30 =>
  pAC M7 a0 (0 : Int32) (some q7) (0 : Int32) (if a1 < v30 then a1 else v30) fun M35 =>
  some ((some q7), M35))
  else (none)
set_option maxHeartbeats 4000000 in
theorem m_J9_copyOf_2 (l : Launch) (g : jG) {a0 : Option Nat} {a1 : Int32} {a2 : Option Nat} {M M0 : jW} {v0 : Option Nat} (hF : f_J9_copyOf_2 a0 a1 a2 M = some (v0, M0)) : jMet l g yJ9_copyOf_2 cJ9_copyOf_2 4 (some (.array (.object "java/lang/Object"))) rm_J9_copyOf_2 [jR a0, jI a1, jR a2] M (some (jR v0)) M0 := by
  refine jMet.of (L := [(0, jR a0), (1, jI a1), (2, jR a2)]) (by decide) rfl (Nat.le_of_ble_eq_true rfl) (fun x C hxn hg hl hQ hin => ?_)
  subst hg
  unfold f_J9_copyOf_2 at hF
  refine jj_aload_n C 2 rfl dJ9_copyOf_2_0 rfl ?_
  refine jj_ldcM C q370 dJ9_copyOf_2_1 ?_
  refine jj_acmp_ne (tgt := 13) C dJ9_copyOf_2_3 (by decide) hF (fun hF => ?_) (fun hF => ?_)
  · cases hF
  · refine jj_iload_n C 1 rfl dJ9_copyOf_2_6 rfl ?_
    refine jj_anew (t := 3) (nb := 128) C (by decide) rfl q372 C.kk.2.2.1.1 (by decide) (by show 0 + 1 ≤ 1; omega) (by show 0 + 128 ≤ 128; omega) dJ9_copyOf_2_7 hF (fun q7 M7 hF => ?_)
    refine jj_goto (tgt := 24) C dJ9_copyOf_2_10 (by decide) ?_
    refine jj_astore_n (L' := [(3, jR (some q7)), (0, jR a0), (1, jI a1), (2, jR a2)]) C rfl (by rw [hxn]; decide) dJ9_copyOf_2_24 rfl ?_
    refine jj_aload_n C 1 rfl dJ9_copyOf_2_25 rfl ?_
    refine jj_iconst (v := 0) C dJ9_copyOf_2_26 (by decide) ?_
    refine jj_aload_n C 0 rfl dJ9_copyOf_2_27 rfl ?_
    refine jj_iconst (v := 0) C dJ9_copyOf_2_28 (by decide) ?_
    refine jj_aload_n C 1 rfl dJ9_copyOf_2_29 rfl ?_
    refine jj_alen C dJ9_copyOf_2_30 hF (fun v30 hF => ?_)
    refine jj_iload_n C 2 rfl dJ9_copyOf_2_31 rfl ?_
    refine jj_min C q373 (by show 0 + 1 ≤ 1; omega) (by show 0 + 128 ≤ 128; omega) ⟨Nat.le_of_ble_eq_true rfl, Nat.le_of_ble_eq_true rfl⟩ dJ9_copyOf_2_32 ?_
    refine jj_copy C q376 ⟨Nat.le_of_ble_eq_true rfl, by decide⟩ dJ9_copyOf_2_35 hF (fun M35 hF => ?_)
    refine jj_aload_n C 0 rfl dJ9_copyOf_2_38 rfl ?_
    exact jj_aret C (by first | exact Or.inl ⟨_, rfl⟩ | exact Or.inr ⟨_, rfl⟩) hQ dJ9_copyOf_2_39 hF (by show 0 + 1 ≤ 1; omega) (by show 0 + 128 ≤ 128; omega)
/-! java/util/Arrays.copyOf([Ljava/lang/Object;I)[Ljava/lang/Object; -/
def rm_J9_copyOf : Room := ({ frames := 2, cells := 1, slots := 128, locals := 87 } : Room)
theorem hd_J9_copyOf : yJ9_copyOf.cls ≠ "java/lang/invoke/MethodHandle" ∧ yJ9_copyOf.cls ≠ "java/lang/invoke/VarHandle" ∧ (parseMethodDescriptor yJ9_copyOf.desc).map (fun d => d.parameters.length) = some 2 := ⟨by decide, by decide, by decide +kernel⟩
def f_J9_copyOf (a0 : Option Nat) (a1 : Int32) (M : jW) : Option (Option Nat × jW) := pGC M a0 fun v3 =>
  pB (f_J9_copyOf_2 a0 a1 v3 M) fun r6 M6 =>
  some (r6, M6)
set_option maxHeartbeats 4000000 in
theorem m_J9_copyOf (l : Launch) (g : jG) {a0 : Option Nat} {a1 : Int32} {M M0 : jW} {v0 : Option Nat} (hF : f_J9_copyOf a0 a1 M = some (v0, M0)) : jMet l g yJ9_copyOf cJ9_copyOf 2 (some (.array (.object "java/lang/Object"))) rm_J9_copyOf [jR a0, jI a1] M (some (jR v0)) M0 := by
  refine jMet.of (L := [(0, jR a0), (1, jI a1)]) (by decide) rfl (Nat.le_of_ble_eq_true rfl) (fun x C hxn hg hl hQ hin => ?_)
  subst hg
  unfold f_J9_copyOf at hF
  refine jj_aload_n C 0 rfl dJ9_copyOf_0 rfl ?_
  refine jj_iload_n C 1 rfl dJ9_copyOf_1 rfl ?_
  refine jj_aload_n C 0 rfl dJ9_copyOf_2 rfl ?_
  refine jj_getC C q343 ⟨Nat.le_of_ble_eq_true rfl, Nat.le_of_ble_eq_true rfl⟩ dJ9_copyOf_3 hF (fun v3 hF => ?_)
  obtain ⟨r6, M6, hG, hF⟩ := pB_spec hF
  refine jj_callS (k' := 0 + 1) (n' := 0 + 128) C [jR a0, jI a1, jR v3] [] [jR r6] (m_J9_copyOf_2 _ _ hG) q367 q368 q54 q369 hd_J9_copyOf_2 rfl (Nat.le_of_ble_eq_true rfl) ⟨Nat.le_of_ble_eq_true rfl, Nat.le_of_ble_eq_true rfl⟩ ⟨by show 0 + 1 ≤ 0 + 1; omega, by show 0 + 128 ≤ 0 + 128; omega, by show 0 + 1 ≤ 1; omega, by show 0 + 128 ≤ 128; omega⟩ dJ9_copyOf_6 rfl ?_
  exact jj_aret C (by first | exact Or.inl ⟨_, rfl⟩ | exact Or.inr ⟨_, rfl⟩) hQ dJ9_copyOf_9 hF (by show 0 + 1 ≤ 1; omega) (by show 0 + 128 ≤ 128; omega)
/-! java/util/ArrayList.grow(I)[Ljava/lang/Object; -/
def rm_J2_grow_2 : Room := ({ frames := 3, cells := 1, slots := 128, locals := 108 } : Room)
theorem hd_J2_grow_2 : yJ2_grow_2.cls ≠ "java/lang/invoke/MethodHandle" ∧ yJ2_grow_2.cls ≠ "java/lang/invoke/VarHandle" ∧ (parseMethodDescriptor yJ2_grow_2.desc).map (fun d => d.parameters.length) = some 1 := ⟨by decide, by decide, by decide +kernel⟩
def f_J2_grow_2_b20 (l0 : Option Nat) (l1 : Int32) (l2 : Int32) (M : jW) : Option (Option Nat × jW) := pB (f_J7_newLength l2 (l1 - l2) (l2 >>> ((1 : Int32) &&& 31)) M) fun r27 M27 =>
  pR M27 l0 9 1 fun v33 =>
  pB (f_J9_copyOf v33 r27 M27) fun r37 M37 =>
  pP M37 l0 9 1 (jR r37) fun M41 =>
  some (r37, M41)
set_option maxHeartbeats 4000000 in
theorem w_J2_grow_2_b20 {x : jX} (C : jOk x cJ2_grow_2 RJ2 rm_J2_grow_2 (some (.array (.object "java/lang/Object")))) (hxn : xn x = 4) {v0 : Option Nat} {M0 : jW} (hQ : jEnd x rm_J2_grow_2 (some (jR v0)) M0) {l0 : Option Nat} {l1 : Int32} {l2 : Int32} {M : jW} {k n : Nat} (hk : k + 1 ≤ 1 ∧ n + 128 ≤ 128) (hF : f_J2_grow_2_b20 l0 l1 l2 M = some (v0, M0)) : jJ x 20 [(0, jR l0), (1, jI l1), (2, jI l2)] [] M k n := by
  unfold f_J2_grow_2_b20 at hF
  refine jj_iload_n C 2 rfl dJ2_grow_2_20 rfl ?_
  refine jj_iload_n C 1 rfl dJ2_grow_2_21 rfl ?_
  refine jj_iload_n C 2 rfl dJ2_grow_2_22 rfl ?_
  refine jj_isub C dJ2_grow_2_23 ?_
  refine jj_iload_n C 2 rfl dJ2_grow_2_24 rfl ?_
  refine jj_iconst (v := 1) C dJ2_grow_2_25 (by decide) ?_
  refine jj_ishr C dJ2_grow_2_26 ?_
  obtain ⟨r27, M27, hG, hF⟩ := pB_spec hF
  refine jj_callS (k' := k) (n' := n) C [jI l2, jI (l1 - l2), jI (l2 >>> ((1 : Int32) &&& 31))] [] [jI r27] (m_J7_newLength _ _ hG) q330 q331 q52 q332 hd_J7_newLength rfl (Nat.le_of_ble_eq_true rfl) ⟨Nat.le_of_ble_eq_true rfl, Nat.le_of_ble_eq_true rfl⟩ ⟨by show k + 0 ≤ k; omega, by show n + 0 ≤ n; omega, by show k ≤ 1; omega, by show n ≤ 128; omega⟩ dJ2_grow_2_27 rfl ?_
  refine jj_istore_n (L' := [(3, jI r27), (0, jR l0), (1, jI l1), (2, jI l2)]) C rfl (by rw [hxn]; decide) dJ2_grow_2_30 rfl ?_
  refine jj_aload_n C 1 rfl dJ2_grow_2_31 rfl ?_
  refine jj_aload_n C 1 rfl dJ2_grow_2_32 rfl ?_
  refine jj_pR (f := 1) C jcs_9 (Nat.le_of_ble_eq_true rfl) (jLk.of C q101 rfl) dJ2_grow_2_33 hF (fun v33 hF => ?_)
  refine jj_iload_n C 0 rfl dJ2_grow_2_36 rfl ?_
  obtain ⟨r37, M37, hG, hF⟩ := pB_spec hF
  refine jj_callS (k' := k + 1) (n' := n + 128) C [jR v33, jI r27] [jR l0] [jR r37, jR l0] (m_J9_copyOf _ _ hG) q340 q341 q54 q342 hd_J9_copyOf rfl (Nat.le_of_ble_eq_true rfl) ⟨Nat.le_of_ble_eq_true rfl, Nat.le_of_ble_eq_true rfl⟩ ⟨by show k + 1 ≤ k + 1; omega, by show n + 128 ≤ n + 128; omega, by show k + 1 ≤ 1; omega, by show n + 128 ≤ 128; omega⟩ dJ2_grow_2_37 rfl ?_
  refine jj_dup_x1 C dJ2_grow_2_40 rfl rfl ?_
  refine jj_pP (f := 1) C jcs_9 (Nat.le_of_ble_eq_true rfl) (jLk.of C q101 rfl) (Or.inl rfl) dJ2_grow_2_41 (jfit_a _ _) hF (fun M41 hF => ?_)
  exact jj_aret C (by first | exact Or.inl ⟨_, rfl⟩ | exact Or.inr ⟨_, rfl⟩) hQ dJ2_grow_2_44 hF (by show k + 1 ≤ 1; omega) (by show n + 128 ≤ 128; omega)
def f_J2_grow_2 (a0 : Option Nat) (a1 : Int32) (M : jW) : Option (Option Nat × jW) := pR M a0 9 1 fun v1 =>
  pLen M v1 fun v4 =>
  if 0 < v4 then (f_J2_grow_2_b20 a0 a1 v4 M)
  else (pR M a0 9 1 fun v11 =>
  if v11 = (some (M.2.2 3)) then (pNA M 3 16 (if (10 : Int32) < a1 then a1 else (10 : Int32)) fun q52 M52 =>
  pP M52 a0 9 1 (jR (some q52)) fun M56 =>
  some ((some q52), M56))
  else (f_J2_grow_2_b20 a0 a1 v4 M))
set_option maxHeartbeats 4000000 in
theorem m_J2_grow_2 (l : Launch) (g : jG) {a0 : Option Nat} {a1 : Int32} {M M0 : jW} {v0 : Option Nat} (hF : f_J2_grow_2 a0 a1 M = some (v0, M0)) : jMet l g yJ2_grow_2 cJ2_grow_2 4 (some (.array (.object "java/lang/Object"))) rm_J2_grow_2 [jR a0, jI a1] M (some (jR v0)) M0 := by
  refine jMet.of (L := [(0, jR a0), (1, jI a1)]) (by decide) rfl (Nat.le_of_ble_eq_true rfl) (fun x C hxn hg hl hQ hin => ?_)
  subst hg
  unfold f_J2_grow_2 at hF
  refine jj_aload_n C 0 rfl dJ2_grow_2_0 rfl ?_
  refine jj_pR (f := 1) C jcs_9 (Nat.le_of_ble_eq_true rfl) (jLk.of C q101 rfl) dJ2_grow_2_1 hF (fun v1 hF => ?_)
  refine jj_alen C dJ2_grow_2_4 hF (fun v4 hF => ?_)
  refine jj_istore_n (L' := [(2, jI v4), (0, jR a0), (1, jI a1)]) C rfl (by rw [hxn]; decide) dJ2_grow_2_5 rfl ?_
  refine jj_iload_n C 0 rfl dJ2_grow_2_6 rfl ?_
  refine jj_if_gt (tgt := 20) C dJ2_grow_2_7 (by decide) hF (fun hF => ?_) (fun hF => ?_)
  · refine jj_sub [1, 2, 0] rfl ?_
    exact w_J2_grow_2_b20 C hxn hQ (by omega) hF
  · refine jj_aload_n C 1 rfl dJ2_grow_2_10 rfl ?_
    refine jj_pR (f := 1) C jcs_9 (Nat.le_of_ble_eq_true rfl) (jLk.of C q101 rfl) dJ2_grow_2_11 hF (fun v11 hF => ?_)
    refine jj_gets3 C q99 dJ2_grow_2_14 ?_
    refine jj_acmp_eq (tgt := 45) C dJ2_grow_2_17 (by decide) hF (fun hF => ?_) (fun hF => ?_)
    · refine jj_aload_n C 1 rfl dJ2_grow_2_45 rfl ?_
      refine jj_bipush (v := 10) C dJ2_grow_2_46 (by decide) ?_
      refine jj_iload_n C 2 rfl dJ2_grow_2_48 rfl ?_
      refine jj_max C q379 (by show 0 ≤ 1; omega) (by show 0 ≤ 128; omega) ⟨Nat.le_of_ble_eq_true rfl, Nat.le_of_ble_eq_true rfl⟩ dJ2_grow_2_49 ?_
      refine jj_anew (t := 3) (nb := 16) C (by decide) rfl q380 C.kk.2.2.1.1 (by decide) (by show 0 + 1 ≤ 1; omega) (by show 0 + 16 ≤ 128; omega) dJ2_grow_2_52 hF (fun q52 M52 hF => ?_)
      refine jj_dup_x1 C dJ2_grow_2_55 rfl rfl ?_
      refine jj_pP (f := 1) C jcs_9 (Nat.le_of_ble_eq_true rfl) (jLk.of C q101 rfl) (Or.inl rfl) dJ2_grow_2_56 (jfit_a _ _) hF (fun M56 hF => ?_)
      exact jj_aret C (by first | exact Or.inl ⟨_, rfl⟩ | exact Or.inr ⟨_, rfl⟩) hQ dJ2_grow_2_59 hF (by show 0 + 1 ≤ 1; omega) (by show 0 + 16 ≤ 128; omega)
    · refine jj_sub [1, 2, 0] rfl ?_
      exact w_J2_grow_2_b20 C hxn hQ (by omega) hF
/-! java/util/ArrayList.grow()[Ljava/lang/Object; -/
def rm_J2_grow : Room := ({ frames := 4, cells := 1, slots := 128, locals := 131 } : Room)
theorem hd_J2_grow : yJ2_grow.cls ≠ "java/lang/invoke/MethodHandle" ∧ yJ2_grow.cls ≠ "java/lang/invoke/VarHandle" ∧ (parseMethodDescriptor yJ2_grow.desc).map (fun d => d.parameters.length) = some 0 := ⟨by decide, by decide, by decide +kernel⟩
def f_J2_grow (a0 : Option Nat) (M : jW) : Option (Option Nat × jW) := pI M a0 9 2 fun v2 =>
  pO M a0 9 fun b7 _ => pB (f_J2_grow_2 (some b7) (v2 + (1 : Int32)) M) fun r7 M7 =>
  some (r7, M7)
set_option maxHeartbeats 4000000 in
theorem m_J2_grow (l : Launch) (g : jG) {a0 : Option Nat} {M M0 : jW} {v0 : Option Nat} (hF : f_J2_grow a0 M = some (v0, M0)) : jMet l g yJ2_grow cJ2_grow 1 (some (.array (.object "java/lang/Object"))) rm_J2_grow [jR a0] M (some (jR v0)) M0 := by
  refine jMet.of (L := [(0, jR a0)]) (by decide) rfl (Nat.le_of_ble_eq_true rfl) (fun x C hxn hg hl hQ hin => ?_)
  subst hg
  unfold f_J2_grow at hF
  refine jj_aload_n C 0 rfl dJ2_grow_0 rfl ?_
  refine jj_aload_n C 0 rfl dJ2_grow_1 rfl ?_
  refine jj_pI (f := 2) C jcs_9 (Nat.le_of_ble_eq_true rfl) (jLk.of C q104 rfl) dJ2_grow_2 hF (fun v2 hF => ?_)
  refine jj_iconst (v := 1) C dJ2_grow_5 (by decide) ?_
  refine jj_iadd C dJ2_grow_6 ?_
  obtain ⟨b7, fs7, he7, hb7, hF⟩ := pO_spec hF
  obtain ⟨r7, M7, hG, hF⟩ := pB_spec hF
  refine jj_callV (k' := 0 + 1) (n' := 0 + 128) C [jI (v2 + (1 : Int32))] [] [jR r7] he7 (m_J2_grow_2 _ _ hG) hb7 rfl q326 q328 qs7 q45 q329 ⟨rfl, hd_J2_grow_2⟩ rfl (Nat.le_of_ble_eq_true rfl) ⟨Nat.le_of_ble_eq_true rfl, Nat.le_of_ble_eq_true rfl⟩ ⟨by show 0 + 1 ≤ 0 + 1; omega, by show 0 + 128 ≤ 0 + 128; omega, by show 0 + 1 ≤ 1; omega, by show 0 + 128 ≤ 128; omega⟩ dJ2_grow_7 rfl ?_
  exact jj_aret C (by first | exact Or.inl ⟨_, rfl⟩ | exact Or.inr ⟨_, rfl⟩) hQ dJ2_grow_10 hF (by show 0 + 1 ≤ 1; omega) (by show 0 + 128 ≤ 128; omega)
/-! java/util/ArrayList.add(Ljava/lang/Object;[Ljava/lang/Object;I)V -/
def rm_J2_add_2 : Room := ({ frames := 5, cells := 1, slots := 128, locals := 151 } : Room)
theorem hd_J2_add_2 : yJ2_add_2.cls ≠ "java/lang/invoke/MethodHandle" ∧ yJ2_add_2.cls ≠ "java/lang/invoke/VarHandle" ∧ (parseMethodDescriptor yJ2_add_2.desc).map (fun d => d.parameters.length) = some 3 := ⟨by decide, by decide, by decide +kernel⟩
def f_J2_add_2_b11 (l0 : Option Nat) (l1 : Option Nat) (l2 : Option Nat) (l3 : Int32) (M : jW) : Option (Unit × jW) := pSR M l2 3 l3 l1 fun M14 =>
  pP M14 l0 9 2 (jI (l3 + (1 : Int32))) fun M19 =>
  some ((), M19)
set_option maxHeartbeats 4000000 in
theorem w_J2_add_2_b11 {x : jX} (C : jOk x cJ2_add_2 RJ2 rm_J2_add_2 none) (hxn : xn x = 4) {v0 : Unit} {M0 : jW} (hQ : jEnd x rm_J2_add_2 none M0) {l0 : Option Nat} {l1 : Option Nat} {l2 : Option Nat} {l3 : Int32} {M : jW} {k n : Nat} (hk : k ≤ 1 ∧ n ≤ 128) (hF : f_J2_add_2_b11 l0 l1 l2 l3 M = some (v0, M0)) : jJ x 11 [(0, jR l0), (1, jR l1), (2, jR l2), (3, jI l3)] [] M k n := by
  unfold f_J2_add_2_b11 at hF
  refine jj_aload_n C 2 rfl dJ2_add_2_11 rfl ?_
  refine jj_iload_n C 3 rfl dJ2_add_2_12 rfl ?_
  refine jj_aload_n C 1 rfl dJ2_add_2_13 rfl ?_
  refine jj_aast (t := 3) C rfl (by decide) dJ2_add_2_14 hF (fun M14 hF => ?_)
  refine jj_aload_n C 0 rfl dJ2_add_2_15 rfl ?_
  refine jj_iload_n C 3 rfl dJ2_add_2_16 rfl ?_
  refine jj_iconst (v := 1) C dJ2_add_2_17 (by decide) ?_
  refine jj_iadd C dJ2_add_2_18 ?_
  refine jj_pP (f := 2) C jcs_9 (Nat.le_of_ble_eq_true rfl) (jLk.of C q104 rfl) (Or.inl rfl) dJ2_add_2_19 (jfit_i _) hF (fun M19 hF => ?_)
  exact jj_vret C hQ dJ2_add_2_22 hF (by show k ≤ 1; omega) (by show n ≤ 128; omega)
def f_J2_add_2 (a0 : Option Nat) (a1 : Option Nat) (a2 : Option Nat) (a3 : Int32) (M : jW) : Option (Unit × jW) := pLen M a2 fun v2 =>
  if a3 = v2 then (pO M a0 9 fun b7 _ => pB (f_J2_grow (some b7)  M) fun r7 M7 =>
  f_J2_add_2_b11 a0 a1 r7 a3 M7)
  else (f_J2_add_2_b11 a0 a1 a2 a3 M)
set_option maxHeartbeats 4000000 in
theorem m_J2_add_2 (l : Launch) (g : jG) {a0 : Option Nat} {a1 : Option Nat} {a2 : Option Nat} {a3 : Int32} {M M0 : jW} {v0 : Unit} (hF : f_J2_add_2 a0 a1 a2 a3 M = some (v0, M0)) : jMet l g yJ2_add_2 cJ2_add_2 4 none rm_J2_add_2 [jR a0, jR a1, jR a2, jI a3] M none M0 := by
  refine jMet.of (L := [(0, jR a0), (1, jR a1), (2, jR a2), (3, jI a3)]) (by decide) rfl (Nat.le_of_ble_eq_true rfl) (fun x C hxn hg hl hQ hin => ?_)
  subst hg
  unfold f_J2_add_2 at hF
  refine jj_iload_n C 3 rfl dJ2_add_2_0 rfl ?_
  refine jj_aload_n C 2 rfl dJ2_add_2_1 rfl ?_
  refine jj_alen C dJ2_add_2_2 hF (fun v2 hF => ?_)
  refine jj_icmp_ne (tgt := 11) C dJ2_add_2_3 (by decide) hF (fun hF => ?_) (fun hF => ?_)
  · refine jj_sub [0, 1, 2, 3] rfl ?_
    exact w_J2_add_2_b11 C hxn hQ (by omega) hF
  · refine jj_aload_n C 0 rfl dJ2_add_2_6 rfl ?_
    obtain ⟨b7, fs7, he7, hb7, hF⟩ := pO_spec hF
    obtain ⟨r7, M7, hG, hF⟩ := pB_spec hF
    refine jj_callV (k' := 0 + 1) (n' := 0 + 128) C [] [] [jR r7] he7 (m_J2_grow _ _ hG) hb7 rfl q322 q324 qs6 q45 q325 ⟨rfl, hd_J2_grow⟩ rfl (Nat.le_of_ble_eq_true rfl) ⟨Nat.le_of_ble_eq_true rfl, Nat.le_of_ble_eq_true rfl⟩ ⟨by show 0 + 1 ≤ 0 + 1; omega, by show 0 + 128 ≤ 0 + 128; omega, by show 0 + 1 ≤ 1; omega, by show 0 + 128 ≤ 128; omega⟩ dJ2_add_2_7 rfl ?_
    refine jj_astore_n (L' := [(2, jR r7), (0, jR a0), (1, jR a1), (3, jI a3)]) C rfl (by rw [hxn]; decide) dJ2_add_2_10 rfl ?_
    refine jj_sub [1, 2, 0, 3] rfl ?_
    exact w_J2_add_2_b11 C hxn hQ (by omega) hF
/-! java/util/ArrayList.add(Ljava/lang/Object;)Z -/
def rm_J2_add : Room := ({ frames := 6, cells := 1, slots := 128, locals := 174 } : Room)
theorem hd_J2_add : yJ2_add.cls ≠ "java/lang/invoke/MethodHandle" ∧ yJ2_add.cls ≠ "java/lang/invoke/VarHandle" ∧ (parseMethodDescriptor yJ2_add.desc).map (fun d => d.parameters.length) = some 1 := ⟨by decide, by decide, by decide +kernel⟩
def f_J2_add (a0 : Option Nat) (a1 : Option Nat) (M : jW) : Option (Int32 × jW) := pI M a0 9 0 fun v2 =>
  pP M a0 9 0 (jI (v2 + (1 : Int32))) fun M7 =>
  pR M7 a0 9 1 fun v13 =>
  pI M7 a0 9 2 fun v17 =>
  pO M7 a0 9 fun b20 _ => pB (f_J2_add_2 (some b20) a1 v13 v17 M7) fun _ M20 =>
  pRZ (1 : Int32) M20
set_option maxHeartbeats 4000000 in
theorem m_J2_add (l : Launch) (g : jG) {a0 : Option Nat} {a1 : Option Nat} {M M0 : jW} {v0 : Int32} (hF : f_J2_add a0 a1 M = some (v0, M0)) : jMet l g yJ2_add cJ2_add 2 (some .boolean) rm_J2_add [jR a0, jR a1] M (some (jI v0)) M0 := by
  refine jMet.of (L := [(0, jR a0), (1, jR a1)]) (by decide) rfl (Nat.le_of_ble_eq_true rfl) (fun x C hxn hg hl hQ hin => ?_)
  subst hg
  unfold f_J2_add at hF
  refine jj_aload_n C 0 rfl dJ2_add_0 rfl ?_
  refine jj_dup C dJ2_add_1 rfl ?_
  refine jj_pI (f := 0) C jcs_9 (Nat.le_of_ble_eq_true rfl) (jLk.same C q108) dJ2_add_2 hF (fun v2 hF => ?_)
  refine jj_iconst (v := 1) C dJ2_add_5 (by decide) ?_
  refine jj_iadd C dJ2_add_6 ?_
  refine jj_pP (f := 0) C jcs_9 (Nat.le_of_ble_eq_true rfl) (jLk.same C q108) (Or.inl rfl) dJ2_add_7 (jfit_i _) hF (fun M7 hF => ?_)
  refine jj_aload_n C 0 rfl dJ2_add_10 rfl ?_
  refine jj_aload_n C 1 rfl dJ2_add_11 rfl ?_
  refine jj_aload_n C 0 rfl dJ2_add_12 rfl ?_
  refine jj_pR (f := 1) C jcs_9 (Nat.le_of_ble_eq_true rfl) (jLk.of C q101 rfl) dJ2_add_13 hF (fun v13 hF => ?_)
  refine jj_aload_n C 0 rfl dJ2_add_16 rfl ?_
  refine jj_pI (f := 2) C jcs_9 (Nat.le_of_ble_eq_true rfl) (jLk.of C q104 rfl) dJ2_add_17 hF (fun v17 hF => ?_)
  obtain ⟨b20, fs20, he20, hb20, hF⟩ := pO_spec hF
  obtain ⟨r20, M20, hG, hF⟩ := pB_spec hF
  refine jj_callV (k' := 0 + 1) (n' := 0 + 128) C [jR a1, jR v13, jI v17] [] [] he20 (m_J2_add_2 _ _ hG) hb20 rfl q318 q320 qs5 q45 q321 ⟨rfl, hd_J2_add_2⟩ rfl (Nat.le_of_ble_eq_true rfl) ⟨Nat.le_of_ble_eq_true rfl, Nat.le_of_ble_eq_true rfl⟩ ⟨by show 0 + 1 ≤ 0 + 1; omega, by show 0 + 128 ≤ 0 + 128; omega, by show 0 + 1 ≤ 1; omega, by show 0 + 128 ≤ 128; omega⟩ dJ2_add_20 rfl ?_
  refine jj_iconst (v := 1) C dJ2_add_23 (by decide) ?_
  exact jj_zret C hQ dJ2_add_24 hF (by show 0 + 1 ≤ 1; omega) (by show 0 + 128 ≤ 128; omega)
/-! java/util/ArrayList.isEmpty()Z -/
def rm_J2_isEmpty : Room := ({ frames := 1, cells := 0, slots := 0, locals := 64 } : Room)
theorem hd_J2_isEmpty : yJ2_isEmpty.cls ≠ "java/lang/invoke/MethodHandle" ∧ yJ2_isEmpty.cls ≠ "java/lang/invoke/VarHandle" ∧ (parseMethodDescriptor yJ2_isEmpty.desc).map (fun d => d.parameters.length) = some 0 := ⟨by decide, by decide, by decide +kernel⟩
def f_J2_isEmpty (a0 : Option Nat) (M : jW) : Option (Int32 × jW) := pI M a0 9 2 fun v1 =>
  if v1 = 0 then (pRZ (1 : Int32) M)
  else (pRZ (0 : Int32) M)
set_option maxHeartbeats 4000000 in
theorem m_J2_isEmpty (l : Launch) (g : jG) {a0 : Option Nat} {M M0 : jW} {v0 : Int32} (hF : f_J2_isEmpty a0 M = some (v0, M0)) : jMet l g yJ2_isEmpty cJ2_isEmpty 1 (some .boolean) rm_J2_isEmpty [jR a0] M (some (jI v0)) M0 := by
  refine jMet.of (L := [(0, jR a0)]) (by decide) rfl (Nat.le_of_ble_eq_true rfl) (fun x C hxn hg hl hQ hin => ?_)
  subst hg
  unfold f_J2_isEmpty at hF
  refine jj_aload_n C 0 rfl dJ2_isEmpty_0 rfl ?_
  refine jj_pI (f := 2) C jcs_9 (Nat.le_of_ble_eq_true rfl) (jLk.of C q104 rfl) dJ2_isEmpty_1 hF (fun v1 hF => ?_)
  refine jj_if_ne (tgt := 11) C dJ2_isEmpty_4 (by decide) hF (fun hF => ?_) (fun hF => ?_)
  · refine jj_iconst (v := 0) C dJ2_isEmpty_11 (by decide) ?_
    exact jj_zret C hQ dJ2_isEmpty_12 hF (Nat.zero_le _) (Nat.zero_le _)
  · refine jj_iconst (v := 1) C dJ2_isEmpty_7 (by decide) ?_
    refine jj_goto (tgt := 12) C dJ2_isEmpty_8 (by decide) ?_
    exact jj_zret C hQ dJ2_isEmpty_12 hF (Nat.zero_le _) (Nat.zero_le _)
/-! java/util/ArrayList.clear()V -/
def rm_J2_clear : Room := ({ frames := 1, cells := 0, slots := 0, locals := 64 } : Room)
theorem hd_J2_clear : yJ2_clear.cls ≠ "java/lang/invoke/MethodHandle" ∧ yJ2_clear.cls ≠ "java/lang/invoke/VarHandle" ∧ (parseMethodDescriptor yJ2_clear.desc).map (fun d => d.parameters.length) = some 0 := ⟨by decide, by decide, by decide +kernel⟩
def f_J2_clear_b27 : Nat → Option Nat → Int32 → Int32 → jW → Option (Unit × jW)
  | 0, _, _, _, _ => none
  | q + 1, l1, l2, l3, M => if l2 ≤ l3 then (some ((), M))
  else (pSR M l1 3 l3 none fun M35 =>
  (f_J2_clear_b27 q) l1 l2 (l3 + (1 : Int32)) M35)
theorem f_J2_clear_b27_s (q : Nat) (l1 : Option Nat) (l2 : Int32) (l3 : Int32) (M : jW) : f_J2_clear_b27 (q + 1) l1 l2 l3 M = (if l2 ≤ l3 then (some ((), M))
  else (pSR M l1 3 l3 none fun M35 =>
  (f_J2_clear_b27 q) l1 l2 (l3 + (1 : Int32)) M35)) := rfl
set_option maxHeartbeats 4000000 in
theorem w_J2_clear_b27 {x : jX} (C : jOk x cJ2_clear RJ2 rm_J2_clear none) (hxn : xn x = 4) {v0 : Unit} {M0 : jW} (hQ : jEnd x rm_J2_clear none M0) : ∀ (n27 : Nat) (l1 : Option Nat) (l2 : Int32) (l3 : Int32) (M : jW), f_J2_clear_b27 n27 l1 l2 l3 M = some (v0, M0) → jJ x 27 [(1, jR l1), (2, jI l2), (3, jI l3)] [] M 0 0 := by
  intro n27
  induction n27 with
  | zero =>
    intro l1 l2 l3 M hF
    cases hF
  | succ n27 hK27 =>
    intro l1 l2 l3 M hF
    rw [f_J2_clear_b27_s] at hF
    refine jj_iload_n C 2 rfl dJ2_clear_27 rfl ?_
    refine jj_iload_n C 1 rfl dJ2_clear_28 rfl ?_
    refine jj_icmp_ge (tgt := 42) C dJ2_clear_29 (by decide) hF (fun hF => ?_) (fun hF => ?_)
    · exact jj_vret C hQ dJ2_clear_42 hF (Nat.zero_le _) (Nat.zero_le _)
    · refine jj_aload_n C 0 rfl dJ2_clear_32 rfl ?_
      refine jj_iload_n C 2 rfl dJ2_clear_33 rfl ?_
      refine jj_null C dJ2_clear_34 ?_
      refine jj_aast (t := 3) C rfl (by decide) dJ2_clear_35 hF (fun M35 hF => ?_)
      refine jj_iinc (c := 1) (L' := [(3, jI (l3 + (1 : Int32))), (1, jR l1), (2, jI l2)]) C 2 rfl (by decide) rfl (by rw [hxn]; decide) dJ2_clear_36 ?_
      refine jj_goto (tgt := 27) C dJ2_clear_39 (by decide) ?_
      refine jj_sub [1, 2, 0] rfl ?_
      exact hK27 _ _ _ _ hF
def f_J2_clear (a0 : Option Nat) (M : jW) : Option (Unit × jW) := pI M a0 9 0 fun v2 =>
  pP M a0 9 0 (jI (v2 + (1 : Int32))) fun M7 =>
  pR M7 a0 9 1 fun v11 =>
  pI M7 a0 9 2 fun v16 =>
  pP M7 a0 9 2 (jI (0 : Int32)) fun M23 =>
  f_J2_clear_b27 1000 v11 v16 (0 : Int32) M23
set_option maxHeartbeats 4000000 in
theorem m_J2_clear (l : Launch) (g : jG) {a0 : Option Nat} {M M0 : jW} {v0 : Unit} (hF : f_J2_clear a0 M = some (v0, M0)) : jMet l g yJ2_clear cJ2_clear 4 none rm_J2_clear [jR a0] M none M0 := by
  refine jMet.of (L := [(0, jR a0)]) (by decide) rfl (Nat.le_of_ble_eq_true rfl) (fun x C hxn hg hl hQ hin => ?_)
  subst hg
  unfold f_J2_clear at hF
  refine jj_aload_n C 0 rfl dJ2_clear_0 rfl ?_
  refine jj_dup C dJ2_clear_1 rfl ?_
  refine jj_pI (f := 0) C jcs_9 (Nat.le_of_ble_eq_true rfl) (jLk.same C q108) dJ2_clear_2 hF (fun v2 hF => ?_)
  refine jj_iconst (v := 1) C dJ2_clear_5 (by decide) ?_
  refine jj_iadd C dJ2_clear_6 ?_
  refine jj_pP (f := 0) C jcs_9 (Nat.le_of_ble_eq_true rfl) (jLk.same C q108) (Or.inl rfl) dJ2_clear_7 (jfit_i _) hF (fun M7 hF => ?_)
  refine jj_aload_n C 0 rfl dJ2_clear_10 rfl ?_
  refine jj_pR (f := 1) C jcs_9 (Nat.le_of_ble_eq_true rfl) (jLk.of C q101 rfl) dJ2_clear_11 hF (fun v11 hF => ?_)
  refine jj_astore_n (L' := [(1, jR v11), (0, jR a0)]) C rfl (by rw [hxn]; decide) dJ2_clear_14 rfl ?_
  refine jj_aload_n C 1 rfl dJ2_clear_15 rfl ?_
  refine jj_pI (f := 2) C jcs_9 (Nat.le_of_ble_eq_true rfl) (jLk.of C q104 rfl) dJ2_clear_16 hF (fun v16 hF => ?_)
  refine jj_istore_n (L' := [(2, jI v16), (1, jR v11), (0, jR a0)]) C rfl (by rw [hxn]; decide) dJ2_clear_19 rfl ?_
  refine jj_aload_n C 2 rfl dJ2_clear_20 rfl ?_
  refine jj_iconst (v := 0) C dJ2_clear_21 (by decide) ?_
  refine jj_dup_x1 C dJ2_clear_22 rfl rfl ?_
  refine jj_pP (f := 2) C jcs_9 (Nat.le_of_ble_eq_true rfl) (jLk.of C q104 rfl) (Or.inl rfl) dJ2_clear_23 (jfit_i _) hF (fun M23 hF => ?_)
  refine jj_istore_n (L' := [(3, jI (0 : Int32)), (2, jI v16), (1, jR v11), (0, jR a0)]) C rfl (by rw [hxn]; decide) dJ2_clear_26 rfl ?_
  refine jj_sub [2, 1, 0] rfl ?_
  exact w_J2_clear_b27 C hxn hQ 1000 _ _ _ _ hF
/-! java/util/ArrayList$Itr.<init>(Ljava/util/ArrayList;)V -/
def rm_J19_init : Room := ({ frames := 1, cells := 0, slots := 0, locals := 64 } : Room)
theorem hd_J19_init : yJ19_init.cls ≠ "java/lang/invoke/MethodHandle" ∧ yJ19_init.cls ≠ "java/lang/invoke/VarHandle" ∧ (parseMethodDescriptor yJ19_init.desc).map (fun d => d.parameters.length) = some 1 := ⟨by decide, by decide, by decide +kernel⟩
def f_J19_init (a0 : Option Nat) (a1 : Option Nat) (M : jW) : Option (Unit × jW) := pP M a0 10 3 (jR a1) fun M2 =>
  pSm a0 fun b6 =>
  pP M2 a0 10 1 (jI (-1 : Int32)) fun M11 =>
  pR M11 a0 10 3 fun v16 =>
  pI M11 v16 9 0 fun v19 =>
  pP M11 a0 10 2 (jI v19) fun M22 =>
  some ((), M22)
set_option maxHeartbeats 4000000 in
theorem m_J19_init (l : Launch) (g : jG) {a0 : Option Nat} {a1 : Option Nat} {M M0 : jW} {v0 : Unit} (hF : f_J19_init a0 a1 M = some (v0, M0)) : jMet l g yJ19_init cJ19_init 2 none rm_J19_init [jR a0, jR a1] M none M0 := by
  refine jMet.of (L := [(0, jR a0), (1, jR a1)]) (by decide) rfl (Nat.le_of_ble_eq_true rfl) (fun x C hxn hg hl hQ hin => ?_)
  have hin := hin rfl
  subst hg
  unfold f_J19_init at hF
  refine jj_aload_n C 0 rfl dJ19_init_0 rfl ?_
  refine jj_aload_n C 1 rfl dJ19_init_1 rfl ?_
  refine jj_pP (f := 3) C jcs_10 (Nat.le_of_ble_eq_true rfl) (jLk.of C q836 rfl) (Or.inr ⟨rfl, hin, rfl⟩) dJ19_init_2 (jfit_o _ _) hF (fun M2 hF => ?_)
  refine jj_aload_n C 0 rfl dJ19_init_5 rfl ?_
  obtain ⟨b6, hb6, hF⟩ := pSm_spec hF
  refine jj_objInit C ⟨_, hb6⟩ q832 q85 q86 ⟨Nat.le_of_ble_eq_true rfl, Nat.le_of_ble_eq_true rfl⟩ dJ19_init_6 ?_
  refine jj_aload_n C 0 rfl dJ19_init_9 rfl ?_
  refine jj_iconst (v := -1) C dJ19_init_10 (by decide) ?_
  refine jj_pP (f := 1) C jcs_10 (Nat.le_of_ble_eq_true rfl) (jLk.of C q834 rfl) (Or.inl rfl) dJ19_init_11 (jfit_i _) hF (fun M11 hF => ?_)
  refine jj_aload_n C 0 rfl dJ19_init_14 rfl ?_
  refine jj_aload_n C 0 rfl dJ19_init_15 rfl ?_
  refine jj_pR (f := 3) C jcs_10 (Nat.le_of_ble_eq_true rfl) (jLk.of C q836 rfl) dJ19_init_16 hF (fun v16 hF => ?_)
  refine jj_pI (f := 0) C jcs_9 (Nat.le_of_ble_eq_true rfl) (jLk.same C q106) dJ19_init_19 hF (fun v19 hF => ?_)
  refine jj_pP (f := 2) C jcs_10 (Nat.le_of_ble_eq_true rfl) (jLk.of C q835 rfl) (Or.inl rfl) dJ19_init_22 (jfit_i _) hF (fun M22 hF => ?_)
  exact jj_vret C hQ dJ19_init_25 hF (Nat.zero_le _) (Nat.zero_le _)
/-! java/util/ArrayList.iterator()Ljava/util/Iterator; -/
def rm_J2_iterator : Room := ({ frames := 2, cells := 1, slots := 4, locals := 85 } : Room)
theorem hd_J2_iterator : yJ2_iterator.cls ≠ "java/lang/invoke/MethodHandle" ∧ yJ2_iterator.cls ≠ "java/lang/invoke/VarHandle" ∧ (parseMethodDescriptor yJ2_iterator.desc).map (fun d => d.parameters.length) = some 0 := ⟨by decide, by decide, by decide +kernel⟩
def f_J2_iterator (a0 : Option Nat) (M : jW) : Option (Option Nat × jW) := pN M 10 [.int 0, .int 0, .int 0, .null] fun q0 M0 =>
  pSm (some q0) fun b5 => pB (f_J19_init (some b5) a0 M0) fun _ M5 =>
  some ((some q0), M5)
set_option maxHeartbeats 4000000 in
theorem m_J2_iterator (l : Launch) (g : jG) {a0 : Option Nat} {M M0 : jW} {v0 : Option Nat} (hF : f_J2_iterator a0 M = some (v0, M0)) : jMet l g yJ2_iterator cJ2_iterator 1 (some (.object "java/util/Iterator")) rm_J2_iterator [jR a0] M (some (jR v0)) M0 := by
  refine jMet.of (L := [(0, jR a0)]) (by decide) rfl (Nat.le_of_ble_eq_true rfl) (fun x C hxn hg hl hQ hin => ?_)
  subst hg
  unfold f_J2_iterator at hF
  refine jj_new C jcs_10 q827 q828 q73 (by intro j hj; rcases (show j = 0 ∨ j = 1 ∨ j = 2 ∨ j = 3 by omega) with rfl | rfl | rfl | rfl <;> rfl) (by show 0 + 1 ≤ 1; omega) (by show 0 + 4 ≤ 4; omega) dJ2_iterator_0 hF (fun q0 M0 hF => ?_)
  refine jj_dup C dJ2_iterator_3 rfl ?_
  refine jj_aload_n C 0 rfl dJ2_iterator_4 rfl ?_
  obtain ⟨b5, hb5, hF⟩ := pSm_spec hF
  obtain ⟨r5, M5, hG, hF⟩ := pB_spec hF
  refine jj_callI (k' := 0 + 1) (n' := 0 + 4) C [jR a0] [jR (some q0)] hb5 (m_J19_init _ _ hG) q829 q830 q73 q831 rfl hd_J19_init rfl (Nat.le_of_ble_eq_true rfl) ⟨Nat.le_of_ble_eq_true rfl, Nat.le_of_ble_eq_true rfl⟩ ⟨by show 0 + 1 + 0 ≤ 0 + 1; omega, by show 0 + 4 + 0 ≤ 0 + 4; omega, by show 0 + 1 ≤ 1; omega, by show 0 + 4 ≤ 4; omega⟩ dJ2_iterator_5 ?_
  exact jj_aret C (by first | exact Or.inl ⟨_, rfl⟩ | exact Or.inr ⟨_, rfl⟩) hQ dJ2_iterator_8 hF (by show 0 + 1 ≤ 1; omega) (by show 0 + 4 ≤ 4; omega)
/-! java/util/ArrayList$Itr.checkForComodification()V -/
def rm_J19_checkForComodification : Room := ({ frames := 1, cells := 0, slots := 0, locals := 64 } : Room)
theorem hd_J19_checkForComodification : yJ19_checkForComodification.cls ≠ "java/lang/invoke/MethodHandle" ∧ yJ19_checkForComodification.cls ≠ "java/lang/invoke/VarHandle" ∧ (parseMethodDescriptor yJ19_checkForComodification.desc).map (fun d => d.parameters.length) = some 0 := ⟨by decide, by decide, by decide +kernel⟩
def f_J19_checkForComodification (a0 : Option Nat) (M : jW) : Option (Unit × jW) := pR M a0 10 3 fun v1 =>
  pI M v1 9 0 fun v4 =>
  pI M a0 10 2 fun v8 =>
  if v4 = v8 then (some ((), M))
  else (none)
set_option maxHeartbeats 4000000 in
theorem m_J19_checkForComodification (l : Launch) (g : jG) {a0 : Option Nat} {M M0 : jW} {v0 : Unit} (hF : f_J19_checkForComodification a0 M = some (v0, M0)) : jMet l g yJ19_checkForComodification cJ19_checkForComodification 1 none rm_J19_checkForComodification [jR a0] M none M0 := by
  refine jMet.of (L := [(0, jR a0)]) (by decide) rfl (Nat.le_of_ble_eq_true rfl) (fun x C hxn hg hl hQ hin => ?_)
  subst hg
  unfold f_J19_checkForComodification at hF
  refine jj_aload_n C 0 rfl dJ19_checkForComodification_0 rfl ?_
  refine jj_pR (f := 3) C jcs_10 (Nat.le_of_ble_eq_true rfl) (jLk.of C q836 rfl) dJ19_checkForComodification_1 hF (fun v1 hF => ?_)
  refine jj_pI (f := 0) C jcs_9 (Nat.le_of_ble_eq_true rfl) (jLk.same C q106) dJ19_checkForComodification_4 hF (fun v4 hF => ?_)
  refine jj_aload_n C 0 rfl dJ19_checkForComodification_7 rfl ?_
  refine jj_pI (f := 2) C jcs_10 (Nat.le_of_ble_eq_true rfl) (jLk.of C q835 rfl) dJ19_checkForComodification_8 hF (fun v8 hF => ?_)
  refine jj_icmp_eq (tgt := 22) C dJ19_checkForComodification_11 (by decide) hF (fun hF => ?_) (fun hF => ?_)
  · exact jj_vret C hQ dJ19_checkForComodification_22 hF (Nat.zero_le _) (Nat.zero_le _)
  · cases hF
/-! java/util/ArrayList$Itr.hasNext()Z -/
def rm_J19_hasNext : Room := ({ frames := 1, cells := 0, slots := 0, locals := 64 } : Room)
theorem hd_J19_hasNext : yJ19_hasNext.cls ≠ "java/lang/invoke/MethodHandle" ∧ yJ19_hasNext.cls ≠ "java/lang/invoke/VarHandle" ∧ (parseMethodDescriptor yJ19_hasNext.desc).map (fun d => d.parameters.length) = some 0 := ⟨by decide, by decide, by decide +kernel⟩
def f_J19_hasNext (a0 : Option Nat) (M : jW) : Option (Int32 × jW) := pI M a0 10 0 fun v1 =>
  pR M a0 10 3 fun v5 =>
  pI M v5 9 2 fun v8 =>
  if v1 = v8 then (pRZ (0 : Int32) M)
  else (pRZ (1 : Int32) M)
set_option maxHeartbeats 4000000 in
theorem m_J19_hasNext (l : Launch) (g : jG) {a0 : Option Nat} {M M0 : jW} {v0 : Int32} (hF : f_J19_hasNext a0 M = some (v0, M0)) : jMet l g yJ19_hasNext cJ19_hasNext 1 (some .boolean) rm_J19_hasNext [jR a0] M (some (jI v0)) M0 := by
  refine jMet.of (L := [(0, jR a0)]) (by decide) rfl (Nat.le_of_ble_eq_true rfl) (fun x C hxn hg hl hQ hin => ?_)
  subst hg
  unfold f_J19_hasNext at hF
  refine jj_aload_n C 0 rfl dJ19_hasNext_0 rfl ?_
  refine jj_pI (f := 0) C jcs_10 (Nat.le_of_ble_eq_true rfl) (jLk.of C q833 rfl) dJ19_hasNext_1 hF (fun v1 hF => ?_)
  refine jj_aload_n C 0 rfl dJ19_hasNext_4 rfl ?_
  refine jj_pR (f := 3) C jcs_10 (Nat.le_of_ble_eq_true rfl) (jLk.of C q836 rfl) dJ19_hasNext_5 hF (fun v5 hF => ?_)
  refine jj_pI (f := 2) C jcs_9 (Nat.le_of_ble_eq_true rfl) (jLk.nest C q103 rfl) dJ19_hasNext_8 hF (fun v8 hF => ?_)
  refine jj_icmp_eq (tgt := 18) C dJ19_hasNext_11 (by decide) hF (fun hF => ?_) (fun hF => ?_)
  · refine jj_iconst (v := 0) C dJ19_hasNext_18 (by decide) ?_
    exact jj_zret C hQ dJ19_hasNext_19 hF (Nat.zero_le _) (Nat.zero_le _)
  · refine jj_iconst (v := 1) C dJ19_hasNext_14 (by decide) ?_
    refine jj_goto (tgt := 19) C dJ19_hasNext_15 (by decide) ?_
    exact jj_zret C hQ dJ19_hasNext_19 hF (Nat.zero_le _) (Nat.zero_le _)
/-! java/util/ArrayList$Itr.next()Ljava/lang/Object; -/
def rm_J19_next : Room := ({ frames := 2, cells := 0, slots := 0, locals := 84 } : Room)
theorem hd_J19_next : yJ19_next.cls ≠ "java/lang/invoke/MethodHandle" ∧ yJ19_next.cls ≠ "java/lang/invoke/VarHandle" ∧ (parseMethodDescriptor yJ19_next.desc).map (fun d => d.parameters.length) = some 0 := ⟨by decide, by decide, by decide +kernel⟩
def f_J19_next (a0 : Option Nat) (M : jW) : Option (Option Nat × jW) := pO M a0 10 fun b1 _ => pB (f_J19_checkForComodification (some b1)  M) fun _ M1 =>
  pI M1 a0 10 0 fun v5 =>
  pR M1 a0 10 3 fun v11 =>
  pI M1 v11 9 2 fun v14 =>
  if v5 < v14 then (pR M1 a0 10 3 fun v29 =>
  pR M1 v29 9 1 fun v32 =>
  pLen M1 v32 fun v38 =>
  if v5 < v38 then (pP M1 a0 10 0 (jI (v5 + (1 : Int32))) fun M54 =>
  pP M54 a0 10 1 (jI v5) fun M61 =>
  pAR M61 v32 3 v5 fun v64 =>
  some (v64, M61))
  else (none))
  else (none)
set_option maxHeartbeats 4000000 in
theorem m_J19_next (l : Launch) (g : jG) {a0 : Option Nat} {M M0 : jW} {v0 : Option Nat} (hF : f_J19_next a0 M = some (v0, M0)) : jMet l g yJ19_next cJ19_next 3 (some (.object "java/lang/Object")) rm_J19_next [jR a0] M (some (jR v0)) M0 := by
  refine jMet.of (L := [(0, jR a0)]) (by decide) rfl (Nat.le_of_ble_eq_true rfl) (fun x C hxn hg hl hQ hin => ?_)
  subst hg
  unfold f_J19_next at hF
  refine jj_aload_n C 0 rfl dJ19_next_0 rfl ?_
  obtain ⟨b1, fs1, he1, hb1, hF⟩ := pO_spec hF
  obtain ⟨r1, M1, hG, hF⟩ := pB_spec hF
  refine jj_callV (k' := 0) (n' := 0) C [] [] [] he1 (m_J19_checkForComodification _ _ hG) hb1 rfl q865 q866 q867 q73 q868 ⟨rfl, hd_J19_checkForComodification⟩ rfl (Nat.le_of_ble_eq_true rfl) ⟨Nat.le_of_ble_eq_true rfl, Nat.le_of_ble_eq_true rfl⟩ ⟨Nat.le_refl _, Nat.le_refl _, Nat.le_refl _, Nat.le_refl _⟩ dJ19_next_1 rfl ?_
  refine jj_aload_n C 0 rfl dJ19_next_4 rfl ?_
  refine jj_pI (f := 0) C jcs_10 (Nat.le_of_ble_eq_true rfl) (jLk.of C q833 rfl) dJ19_next_5 hF (fun v5 hF => ?_)
  refine jj_istore_n (L' := [(1, jI v5), (0, jR a0)]) C rfl (by rw [hxn]; decide) dJ19_next_8 rfl ?_
  refine jj_iload_n C 0 rfl dJ19_next_9 rfl ?_
  refine jj_aload_n C 1 rfl dJ19_next_10 rfl ?_
  refine jj_pR (f := 3) C jcs_10 (Nat.le_of_ble_eq_true rfl) (jLk.of C q836 rfl) dJ19_next_11 hF (fun v11 hF => ?_)
  refine jj_pI (f := 2) C jcs_9 (Nat.le_of_ble_eq_true rfl) (jLk.nest C q103 rfl) dJ19_next_14 hF (fun v14 hF => ?_)
  refine jj_icmp_lt (tgt := 28) C dJ19_next_17 (by decide) hF (fun hF => ?_) (fun hF => ?_)
  · refine jj_aload_n C 1 rfl dJ19_next_28 rfl ?_
    refine jj_pR (f := 3) C jcs_10 (Nat.le_of_ble_eq_true rfl) (jLk.of C q836 rfl) dJ19_next_29 hF (fun v29 hF => ?_)
    refine jj_pR (f := 1) C jcs_9 (Nat.le_of_ble_eq_true rfl) (jLk.of C q102 rfl) dJ19_next_32 hF (fun v32 hF => ?_)
    refine jj_astore_n (L' := [(2, jR v32), (1, jI v5), (0, jR a0)]) C rfl (by rw [hxn]; decide) dJ19_next_35 rfl ?_
    refine jj_iload_n C 1 rfl dJ19_next_36 rfl ?_
    refine jj_aload_n C 0 rfl dJ19_next_37 rfl ?_
    refine jj_alen C dJ19_next_38 hF (fun v38 hF => ?_)
    refine jj_icmp_lt (tgt := 50) C dJ19_next_39 (by decide) hF (fun hF => ?_) (fun hF => ?_)
    · refine jj_aload_n C 2 rfl dJ19_next_50 rfl ?_
      refine jj_iload_n C 1 rfl dJ19_next_51 rfl ?_
      refine jj_iconst (v := 1) C dJ19_next_52 (by decide) ?_
      refine jj_iadd C dJ19_next_53 ?_
      refine jj_pP (f := 0) C jcs_10 (Nat.le_of_ble_eq_true rfl) (jLk.of C q833 rfl) (Or.inl rfl) dJ19_next_54 (jfit_i _) hF (fun M54 hF => ?_)
      refine jj_aload_n C 0 rfl dJ19_next_57 rfl ?_
      refine jj_aload_n C 2 rfl dJ19_next_58 rfl ?_
      refine jj_iload_n C 1 rfl dJ19_next_59 rfl ?_
      refine jj_dup_x1 C dJ19_next_60 rfl rfl ?_
      refine jj_pP (f := 1) C jcs_10 (Nat.le_of_ble_eq_true rfl) (jLk.of C q834 rfl) (Or.inl rfl) dJ19_next_61 (jfit_i _) hF (fun M61 hF => ?_)
      refine jj_aald (t := 3) C rfl dJ19_next_64 hF (fun v64 hF => ?_)
      exact jj_aret C (by first | exact Or.inl ⟨_, rfl⟩ | exact Or.inr ⟨_, rfl⟩) hQ dJ19_next_65 hF (Nat.zero_le _) (Nat.zero_le _)
    · cases hF
  · cases hF
/-! java/util/ArrayList.rangeCheckForAdd(I)V -/
def rm_J2_rangeCheckForAdd : Room := ({ frames := 1, cells := 0, slots := 0, locals := 64 } : Room)
theorem hd_J2_rangeCheckForAdd : yJ2_rangeCheckForAdd.cls ≠ "java/lang/invoke/MethodHandle" ∧ yJ2_rangeCheckForAdd.cls ≠ "java/lang/invoke/VarHandle" ∧ (parseMethodDescriptor yJ2_rangeCheckForAdd.desc).map (fun d => d.parameters.length) = some 1 := ⟨by decide, by decide, by decide +kernel⟩
def f_J2_rangeCheckForAdd (a0 : Option Nat) (a1 : Int32) (M : jW) : Option (Unit × jW) := pI M a0 9 2 fun v2 =>
  if v2 < a1 then (none)
  else (if 0 ≤ a1 then (some ((), M))
  else (none))
set_option maxHeartbeats 4000000 in
theorem m_J2_rangeCheckForAdd (l : Launch) (g : jG) {a0 : Option Nat} {a1 : Int32} {M M0 : jW} {v0 : Unit} (hF : f_J2_rangeCheckForAdd a0 a1 M = some (v0, M0)) : jMet l g yJ2_rangeCheckForAdd cJ2_rangeCheckForAdd 2 none rm_J2_rangeCheckForAdd [jR a0, jI a1] M none M0 := by
  refine jMet.of (L := [(0, jR a0), (1, jI a1)]) (by decide) rfl (Nat.le_of_ble_eq_true rfl) (fun x C hxn hg hl hQ hin => ?_)
  subst hg
  unfold f_J2_rangeCheckForAdd at hF
  refine jj_iload_n C 1 rfl dJ2_rangeCheckForAdd_0 rfl ?_
  refine jj_aload_n C 0 rfl dJ2_rangeCheckForAdd_1 rfl ?_
  refine jj_pI (f := 2) C jcs_9 (Nat.le_of_ble_eq_true rfl) (jLk.of C q104 rfl) dJ2_rangeCheckForAdd_2 hF (fun v2 hF => ?_)
  refine jj_icmp_gt (tgt := 12) C dJ2_rangeCheckForAdd_5 (by decide) hF (fun hF => ?_) (fun hF => ?_)
  · cases hF
  · refine jj_iload_n C 1 rfl dJ2_rangeCheckForAdd_8 rfl ?_
    refine jj_if_ge (tgt := 25) C dJ2_rangeCheckForAdd_9 (by decide) hF (fun hF => ?_) (fun hF => ?_)
    · exact jj_vret C hQ dJ2_rangeCheckForAdd_25 hF (Nat.zero_le _) (Nat.zero_le _)
    · cases hF
/-! java/util/ArrayList.add(ILjava/lang/Object;)V -/
def rm_J2_add_3 : Room := ({ frames := 5, cells := 1, slots := 128, locals := 151 } : Room)
theorem hd_J2_add_3 : yJ2_add_3.cls ≠ "java/lang/invoke/MethodHandle" ∧ yJ2_add_3.cls ≠ "java/lang/invoke/VarHandle" ∧ (parseMethodDescriptor yJ2_add_3.desc).map (fun d => d.parameters.length) = some 2 := ⟨by decide, by decide, by decide +kernel⟩
def f_J2_add_3_b38 (l0 : Option Nat) (l1 : Int32) (l2 : Option Nat) (l3 : Int32) (l4 : Option Nat) (M : jW) : Option (Unit × jW) := pAC M l4 l1 l4 (l1 + (1 : Int32)) (l3 - l1) fun M49 =>
  pSR M49 l4 3 l1 l2 fun M56 =>
  pP M56 l0 9 2 (jI (l3 + (1 : Int32))) fun M61 =>
  some ((), M61)
set_option maxHeartbeats 4000000 in
theorem w_J2_add_3_b38 {x : jX} (C : jOk x cJ2_add_3 RJ2 rm_J2_add_3 none) (hxn : xn x = 5) {v0 : Unit} {M0 : jW} (hQ : jEnd x rm_J2_add_3 none M0) {l0 : Option Nat} {l1 : Int32} {l2 : Option Nat} {l3 : Int32} {l4 : Option Nat} {M : jW} {k n : Nat} (hk : k ≤ 1 ∧ n ≤ 128) (hF : f_J2_add_3_b38 l0 l1 l2 l3 l4 M = some (v0, M0)) : jJ x 38 [(0, jR l0), (1, jI l1), (2, jR l2), (3, jI l3), (4, jR l4)] [] M k n := by
  unfold f_J2_add_3_b38 at hF
  refine jj_aload C 4 rfl dJ2_add_3_38 ?_
  refine jj_iload_n C 1 rfl dJ2_add_3_40 rfl ?_
  refine jj_aload C 4 rfl dJ2_add_3_41 ?_
  refine jj_iload_n C 1 rfl dJ2_add_3_43 rfl ?_
  refine jj_iconst (v := 1) C dJ2_add_3_44 (by decide) ?_
  refine jj_iadd C dJ2_add_3_45 ?_
  refine jj_iload_n C 3 rfl dJ2_add_3_46 rfl ?_
  refine jj_iload_n C 1 rfl dJ2_add_3_47 rfl ?_
  refine jj_isub C dJ2_add_3_48 ?_
  refine jj_copy C q1159 ⟨Nat.le_of_ble_eq_true rfl, by decide⟩ dJ2_add_3_49 hF (fun M49 hF => ?_)
  refine jj_aload C 4 rfl dJ2_add_3_52 ?_
  refine jj_iload_n C 1 rfl dJ2_add_3_54 rfl ?_
  refine jj_aload_n C 2 rfl dJ2_add_3_55 rfl ?_
  refine jj_aast (t := 3) C rfl (by decide) dJ2_add_3_56 hF (fun M56 hF => ?_)
  refine jj_aload_n C 0 rfl dJ2_add_3_57 rfl ?_
  refine jj_iload_n C 3 rfl dJ2_add_3_58 rfl ?_
  refine jj_iconst (v := 1) C dJ2_add_3_59 (by decide) ?_
  refine jj_iadd C dJ2_add_3_60 ?_
  refine jj_pP (f := 2) C jcs_9 (Nat.le_of_ble_eq_true rfl) (jLk.of C q104 rfl) (Or.inl rfl) dJ2_add_3_61 (jfit_i _) hF (fun M61 hF => ?_)
  exact jj_vret C hQ dJ2_add_3_64 hF (by show k ≤ 1; omega) (by show n ≤ 128; omega)
def f_J2_add_3 (a0 : Option Nat) (a1 : Int32) (a2 : Option Nat) (M : jW) : Option (Unit × jW) := pO M a0 9 fun b2 _ => pB (f_J2_rangeCheckForAdd (some b2) a1 M) fun _ M2 =>
  pI M2 a0 9 0 fun v7 =>
  pP M2 a0 9 0 (jI (v7 + (1 : Int32))) fun M12 =>
  pI M12 a0 9 2 fun v16 =>
  pR M12 a0 9 1 fun v22 =>
  pLen M12 v22 fun v28 =>
  if v16 = v28 then (pO M12 a0 9 fun b33 _ => pB (f_J2_grow (some b33)  M12) fun r33 M33 =>
  f_J2_add_3_b38 a0 a1 a2 v16 r33 M33)
  else (f_J2_add_3_b38 a0 a1 a2 v16 v22 M12)
set_option maxHeartbeats 4000000 in
theorem m_J2_add_3 (l : Launch) (g : jG) {a0 : Option Nat} {a1 : Int32} {a2 : Option Nat} {M M0 : jW} {v0 : Unit} (hF : f_J2_add_3 a0 a1 a2 M = some (v0, M0)) : jMet l g yJ2_add_3 cJ2_add_3 5 none rm_J2_add_3 [jR a0, jI a1, jR a2] M none M0 := by
  refine jMet.of (L := [(0, jR a0), (1, jI a1), (2, jR a2)]) (by decide) rfl (Nat.le_of_ble_eq_true rfl) (fun x C hxn hg hl hQ hin => ?_)
  subst hg
  unfold f_J2_add_3 at hF
  refine jj_aload_n C 0 rfl dJ2_add_3_0 rfl ?_
  refine jj_iload_n C 1 rfl dJ2_add_3_1 rfl ?_
  obtain ⟨b2, fs2, he2, hb2, hF⟩ := pO_spec hF
  obtain ⟨r2, M2, hG, hF⟩ := pB_spec hF
  refine jj_callV (k' := 0) (n' := 0) C [jI a1] [] [] he2 (m_J2_rangeCheckForAdd _ _ hG) hb2 rfl q920 q922 qs18 q45 q923 ⟨rfl, hd_J2_rangeCheckForAdd⟩ rfl (Nat.le_of_ble_eq_true rfl) ⟨Nat.le_of_ble_eq_true rfl, Nat.le_of_ble_eq_true rfl⟩ ⟨by show 0 + 0 ≤ 0; omega, by show 0 + 0 ≤ 0; omega, by show 0 ≤ 1; omega, by show 0 ≤ 128; omega⟩ dJ2_add_3_2 rfl ?_
  refine jj_aload_n C 0 rfl dJ2_add_3_5 rfl ?_
  refine jj_dup C dJ2_add_3_6 rfl ?_
  refine jj_pI (f := 0) C jcs_9 (Nat.le_of_ble_eq_true rfl) (jLk.same C q108) dJ2_add_3_7 hF (fun v7 hF => ?_)
  refine jj_iconst (v := 1) C dJ2_add_3_10 (by decide) ?_
  refine jj_iadd C dJ2_add_3_11 ?_
  refine jj_pP (f := 0) C jcs_9 (Nat.le_of_ble_eq_true rfl) (jLk.same C q108) (Or.inl rfl) dJ2_add_3_12 (jfit_i _) hF (fun M12 hF => ?_)
  refine jj_aload_n C 0 rfl dJ2_add_3_15 rfl ?_
  refine jj_pI (f := 2) C jcs_9 (Nat.le_of_ble_eq_true rfl) (jLk.of C q104 rfl) dJ2_add_3_16 hF (fun v16 hF => ?_)
  refine jj_dup C dJ2_add_3_19 rfl ?_
  refine jj_istore_n (L' := [(3, jI v16), (0, jR a0), (1, jI a1), (2, jR a2)]) C rfl (by rw [hxn]; decide) dJ2_add_3_20 rfl ?_
  refine jj_aload_n C 1 rfl dJ2_add_3_21 rfl ?_
  refine jj_pR (f := 1) C jcs_9 (Nat.le_of_ble_eq_true rfl) (jLk.of C q101 rfl) dJ2_add_3_22 hF (fun v22 hF => ?_)
  refine jj_dup C dJ2_add_3_25 rfl ?_
  refine jj_astore (L' := [(4, jR v22), (3, jI v16), (0, jR a0), (1, jI a1), (2, jR a2)]) C rfl (by rw [hxn]; decide) dJ2_add_3_26 ?_
  refine jj_alen C dJ2_add_3_28 hF (fun v28 hF => ?_)
  refine jj_icmp_ne (tgt := 38) C dJ2_add_3_29 (by decide) hF (fun hF => ?_) (fun hF => ?_)
  · refine jj_sub [2, 3, 4, 1, 0] rfl ?_
    exact w_J2_add_3_b38 C hxn hQ (by omega) hF
  · refine jj_aload_n C 2 rfl dJ2_add_3_32 rfl ?_
    obtain ⟨b33, fs33, he33, hb33, hF⟩ := pO_spec hF
    obtain ⟨r33, M33, hG, hF⟩ := pB_spec hF
    refine jj_callV (k' := 0 + 1) (n' := 0 + 128) C [] [] [jR r33] he33 (m_J2_grow _ _ hG) hb33 rfl q322 q324 qs6 q45 q325 ⟨rfl, hd_J2_grow⟩ rfl (Nat.le_of_ble_eq_true rfl) ⟨Nat.le_of_ble_eq_true rfl, Nat.le_of_ble_eq_true rfl⟩ ⟨by show 0 + 1 ≤ 0 + 1; omega, by show 0 + 128 ≤ 0 + 128; omega, by show 0 + 1 ≤ 1; omega, by show 0 + 128 ≤ 128; omega⟩ dJ2_add_3_33 rfl ?_
    refine jj_astore (L' := [(4, jR r33), (3, jI v16), (0, jR a0), (1, jI a1), (2, jR a2)]) C rfl (by rw [hxn]; decide) dJ2_add_3_36 ?_
    refine jj_sub [2, 3, 4, 1, 0] rfl ?_
    exact w_J2_add_3_b38 C hxn hQ (by omega) hF
/-! java/lang/Integer.bitCount(I)I -/
def rm_J18_bitCount : Room := ({ frames := 1, cells := 0, slots := 0, locals := 64 } : Room)
theorem hd_J18_bitCount : yJ18_bitCount.cls ≠ "java/lang/invoke/MethodHandle" ∧ yJ18_bitCount.cls ≠ "java/lang/invoke/VarHandle" ∧ (parseMethodDescriptor yJ18_bitCount.desc).map (fun d => d.parameters.length) = some 1 := ⟨by decide, by decide, by decide +kernel⟩
def f_J18_bitCount (a0 : Int32) (M : jW) : Option (Int32 × jW) := pLt (a0 - (((a0.toUInt32 >>> ((1 : Int32).toUInt32 &&& Int32.toUInt32 31)).toInt32) &&& (1431655765 : Int32))) fun t9 =>
  pLt ((t9 &&& (858993459 : Int32)) + (((t9.toUInt32 >>> ((2 : Int32).toUInt32 &&& Int32.toUInt32 31)).toInt32) &&& (858993459 : Int32))) fun t23 =>
  pLt ((t23 + ((t23.toUInt32 >>> ((4 : Int32).toUInt32 &&& Int32.toUInt32 31)).toInt32)) &&& (252645135 : Int32)) fun t33 =>
  pLt (t33 + ((t33.toUInt32 >>> ((8 : Int32).toUInt32 &&& Int32.toUInt32 31)).toInt32)) fun t40 =>
  pLt (t40 + ((t40.toUInt32 >>> ((16 : Int32).toUInt32 &&& Int32.toUInt32 31)).toInt32)) fun t47 =>
  some ((t47 &&& (63 : Int32)), M)
set_option maxHeartbeats 4000000 in
theorem m_J18_bitCount (l : Launch) (g : jG) {a0 : Int32} {M M0 : jW} {v0 : Int32} (hF : f_J18_bitCount a0 M = some (v0, M0)) : jMet l g yJ18_bitCount cJ18_bitCount 1 (some .int) rm_J18_bitCount [jI a0] M (some (jI v0)) M0 := by
  refine jMet.of (L := [(0, jI a0)]) (by decide) rfl (Nat.le_of_ble_eq_true rfl) (fun x C hxn hg hl hQ hin => ?_)
  subst hg
  unfold f_J18_bitCount at hF
  refine jj_iload_n C 0 rfl dJ18_bitCount_0 rfl ?_
  refine jj_iload_n C 0 rfl dJ18_bitCount_1 rfl ?_
  refine jj_iconst (v := 1) C dJ18_bitCount_2 (by decide) ?_
  refine jj_iushr C dJ18_bitCount_3 ?_
  refine jj_ldc_w (v := 1431655765) C q765 dJ18_bitCount_4 ?_
  refine jj_iand C dJ18_bitCount_7 ?_
  refine jj_isub C dJ18_bitCount_8 ?_
  refine jj_letI hF (fun t9 hF => ?_)
  refine jj_istore_n (L' := [(0, jI t9)]) C rfl (by rw [hxn]; decide) dJ18_bitCount_9 rfl ?_
  refine jj_iload_n C 0 rfl dJ18_bitCount_10 rfl ?_
  refine jj_ldc_w (v := 858993459) C q766 dJ18_bitCount_11 ?_
  refine jj_iand C dJ18_bitCount_14 ?_
  refine jj_iload_n C 0 rfl dJ18_bitCount_15 rfl ?_
  refine jj_iconst (v := 2) C dJ18_bitCount_16 (by decide) ?_
  refine jj_iushr C dJ18_bitCount_17 ?_
  refine jj_ldc_w (v := 858993459) C q766 dJ18_bitCount_18 ?_
  refine jj_iand C dJ18_bitCount_21 ?_
  refine jj_iadd C dJ18_bitCount_22 ?_
  refine jj_letI hF (fun t23 hF => ?_)
  refine jj_istore_n (L' := [(0, jI t23)]) C rfl (by rw [hxn]; decide) dJ18_bitCount_23 rfl ?_
  refine jj_iload_n C 0 rfl dJ18_bitCount_24 rfl ?_
  refine jj_iload_n C 0 rfl dJ18_bitCount_25 rfl ?_
  refine jj_iconst (v := 4) C dJ18_bitCount_26 (by decide) ?_
  refine jj_iushr C dJ18_bitCount_27 ?_
  refine jj_iadd C dJ18_bitCount_28 ?_
  refine jj_ldc_w (v := 252645135) C q767 dJ18_bitCount_29 ?_
  refine jj_iand C dJ18_bitCount_32 ?_
  refine jj_letI hF (fun t33 hF => ?_)
  refine jj_istore_n (L' := [(0, jI t33)]) C rfl (by rw [hxn]; decide) dJ18_bitCount_33 rfl ?_
  refine jj_iload_n C 0 rfl dJ18_bitCount_34 rfl ?_
  refine jj_iload_n C 0 rfl dJ18_bitCount_35 rfl ?_
  refine jj_bipush (v := 8) C dJ18_bitCount_36 (by decide) ?_
  refine jj_iushr C dJ18_bitCount_38 ?_
  refine jj_iadd C dJ18_bitCount_39 ?_
  refine jj_letI hF (fun t40 hF => ?_)
  refine jj_istore_n (L' := [(0, jI t40)]) C rfl (by rw [hxn]; decide) dJ18_bitCount_40 rfl ?_
  refine jj_iload_n C 0 rfl dJ18_bitCount_41 rfl ?_
  refine jj_iload_n C 0 rfl dJ18_bitCount_42 rfl ?_
  refine jj_bipush (v := 16) C dJ18_bitCount_43 (by decide) ?_
  refine jj_iushr C dJ18_bitCount_45 ?_
  refine jj_iadd C dJ18_bitCount_46 ?_
  refine jj_letI hF (fun t47 hF => ?_)
  refine jj_istore_n (L' := [(0, jI t47)]) C rfl (by rw [hxn]; decide) dJ18_bitCount_47 rfl ?_
  refine jj_iload_n C 0 rfl dJ18_bitCount_48 rfl ?_
  refine jj_bipush (v := 63) C dJ18_bitCount_49 (by decide) ?_
  refine jj_iand C dJ18_bitCount_51 ?_
  exact jj_iret C hQ dJ18_bitCount_52 hF (Nat.zero_le _) (Nat.zero_le _)
/-! java/lang/Integer.intValue()I -/
def rm_J18_intValue : Room := ({ frames := 1, cells := 0, slots := 0, locals := 64 } : Room)
theorem hd_J18_intValue : yJ18_intValue.cls ≠ "java/lang/invoke/MethodHandle" ∧ yJ18_intValue.cls ≠ "java/lang/invoke/VarHandle" ∧ (parseMethodDescriptor yJ18_intValue.desc).map (fun d => d.parameters.length) = some 0 := ⟨by decide, by decide, by decide +kernel⟩
def f_J18_intValue (a0 : Option Nat) (M : jW) : Option (Int32 × jW) := pBV M a0 fun v1 =>
  some (v1, M)
set_option maxHeartbeats 4000000 in
theorem m_J18_intValue (l : Launch) (g : jG) {a0 : Option Nat} {M M0 : jW} {v0 : Int32} (hF : f_J18_intValue a0 M = some (v0, M0)) : jMet l g yJ18_intValue cJ18_intValue 1 (some .int) rm_J18_intValue [jR a0] M (some (jI v0)) M0 := by
  refine jMet.of (L := [(0, jR a0)]) (by decide) rfl (Nat.le_of_ble_eq_true rfl) (fun x C hxn hg hl hQ hin => ?_)
  subst hg
  unfold f_J18_intValue at hF
  refine jj_aload_n C 0 rfl dJ18_intValue_0 rfl ?_
  refine jj_pBV C q912 dJ18_intValue_1 hF (fun v1 hF => ?_)
  exact jj_iret C hQ dJ18_intValue_4 hF (Nat.zero_le _) (Nat.zero_le _)
/-! java/lang/Integer.valueOf(I)Ljava/lang/Integer; -/
def rm_J18_valueOf : Room := ({ frames := 1, cells := 0, slots := 0, locals := 64 } : Room)
theorem hd_J18_valueOf : yJ18_valueOf.cls ≠ "java/lang/invoke/MethodHandle" ∧ yJ18_valueOf.cls ≠ "java/lang/invoke/VarHandle" ∧ (parseMethodDescriptor yJ18_valueOf.desc).map (fun d => d.parameters.length) = some 1 := ⟨by decide, by decide, by decide +kernel⟩
def f_J18_valueOf (a0 : Int32) (M : jW) : Option (Option Nat × jW) := if a0 < (-128 : Int32) then (none)
  else (if (127 : Int32) < a0 then (none)
  else (pBA M (some (M.2.2 5)) (a0 + (128 : Int32)) fun v21 =>
  some (v21, M)))
set_option maxHeartbeats 4000000 in
theorem m_J18_valueOf (l : Launch) (g : jG) {a0 : Int32} {M M0 : jW} {v0 : Option Nat} (hF : f_J18_valueOf a0 M = some (v0, M0)) : jMet l g yJ18_valueOf cJ18_valueOf 1 (some (.object "java/lang/Integer")) rm_J18_valueOf [jI a0] M (some (jR v0)) M0 := by
  refine jMet.of (L := [(0, jI a0)]) (by decide) rfl (Nat.le_of_ble_eq_true rfl) (fun x C hxn hg hl hQ hin => ?_)
  subst hg
  unfold f_J18_valueOf at hF
  refine jj_iload_n C 0 rfl dJ18_valueOf_0 rfl ?_
  refine jj_bipush (v := -128) C dJ18_valueOf_1 (by decide) ?_
  refine jj_icmp_lt (tgt := 23) C dJ18_valueOf_3 (by decide) hF (fun hF => ?_) (fun hF => ?_)
  · cases hF
  · refine jj_iload_n C 0 rfl dJ18_valueOf_6 rfl ?_
    refine jj_getsHigh C q899 dJ18_valueOf_7 ?_
    refine jj_icmp_gt (tgt := 23) C dJ18_valueOf_10 (by decide) hF (fun hF => ?_) (fun hF => ?_)
    · cases hF
    · refine jj_gets5 C q901 dJ18_valueOf_13 ?_
      refine jj_iload_n C 0 rfl dJ18_valueOf_16 rfl ?_
      refine jj_sipush (v := 128) C dJ18_valueOf_17 (by decide) ?_
      refine jj_iadd C dJ18_valueOf_20 ?_
      refine jj_pBA C dJ18_valueOf_21 hF (fun v21 hF => ?_)
      exact jj_aret C (by first | exact Or.inl ⟨_, rfl⟩ | exact Or.inr ⟨_, rfl⟩) hQ dJ18_valueOf_22 hF (Nat.zero_le _) (Nat.zero_le _)
/-! java/lang/Record.<init>()V -/
def rm_J16_init : Room := ({ frames := 1, cells := 0, slots := 0, locals := 64 } : Room)
theorem hd_J16_init : yJ16_init.cls ≠ "java/lang/invoke/MethodHandle" ∧ yJ16_init.cls ≠ "java/lang/invoke/VarHandle" ∧ (parseMethodDescriptor yJ16_init.desc).map (fun d => d.parameters.length) = some 0 := ⟨by decide, by decide, by decide +kernel⟩
def f_J16_init (a0 : Option Nat) (M : jW) : Option (Unit × jW) := pSm a0 fun b1 =>
  some ((), M)
set_option maxHeartbeats 4000000 in
theorem m_J16_init (l : Launch) (g : jG) {a0 : Option Nat} {M M0 : jW} {v0 : Unit} (hF : f_J16_init a0 M = some (v0, M0)) : jMet l g yJ16_init cJ16_init 1 none rm_J16_init [jR a0] M none M0 := by
  refine jMet.of (L := [(0, jR a0)]) (by decide) rfl (Nat.le_of_ble_eq_true rfl) (fun x C hxn hg hl hQ hin => ?_)
  have hin := hin rfl
  subst hg
  unfold f_J16_init at hF
  refine jj_aload_n C 0 rfl dJ16_init_0 rfl ?_
  obtain ⟨b1, hb1, hF⟩ := pSm_spec hF
  refine jj_objInit C ⟨_, hb1⟩ q563 q85 q86 ⟨Nat.le_of_ble_eq_true rfl, Nat.le_of_ble_eq_true rfl⟩ dJ16_init_1 ?_
  exact jj_vret C hQ dJ16_init_4 hF (Nat.zero_le _) (Nat.zero_le _)
/-! java/lang/Number.<init>()V -/
def rm_J17_init : Room := ({ frames := 1, cells := 0, slots := 0, locals := 64 } : Room)
theorem hd_J17_init : yJ17_init.cls ≠ "java/lang/invoke/MethodHandle" ∧ yJ17_init.cls ≠ "java/lang/invoke/VarHandle" ∧ (parseMethodDescriptor yJ17_init.desc).map (fun d => d.parameters.length) = some 0 := ⟨by decide, by decide, by decide +kernel⟩
def f_J17_init (a0 : Option Nat) (M : jW) : Option (Unit × jW) := pSm a0 fun b1 =>
  some ((), M)
set_option maxHeartbeats 4000000 in
theorem m_J17_init (l : Launch) (g : jG) {a0 : Option Nat} {M M0 : jW} {v0 : Unit} (hF : f_J17_init a0 M = some (v0, M0)) : jMet l g yJ17_init cJ17_init 1 none rm_J17_init [jR a0] M none M0 := by
  refine jMet.of (L := [(0, jR a0)]) (by decide) rfl (Nat.le_of_ble_eq_true rfl) (fun x C hxn hg hl hQ hin => ?_)
  have hin := hin rfl
  subst hg
  unfold f_J17_init at hF
  refine jj_aload_n C 0 rfl dJ17_init_0 rfl ?_
  obtain ⟨b1, hb1, hF⟩ := pSm_spec hF
  refine jj_objInit C ⟨_, hb1⟩ q911 q85 q86 ⟨Nat.le_of_ble_eq_true rfl, Nat.le_of_ble_eq_true rfl⟩ dJ17_init_1 ?_
  exact jj_vret C hQ dJ17_init_4 hF (Nat.zero_le _) (Nat.zero_le _)
