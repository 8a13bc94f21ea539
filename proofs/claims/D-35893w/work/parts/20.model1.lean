/-! MODEL: PhrasehallModel methods as pure functions, and their walks (printed by gen) -/
set_option maxRecDepth 100000
/-! PhrasehallModel.<init>()V -/
def rm_X2_init : Room := ({ frames := 1, cells := 21, slots := 1220, locals := 64 } : Room)
theorem hd_X2_init : yX2_init.cls ≠ "java/lang/invoke/MethodHandle" ∧ yX2_init.cls ≠ "java/lang/invoke/VarHandle" ∧ (parseMethodDescriptor yX2_init.desc).map (fun d => d.parameters.length) = some 0 := ⟨by decide, by decide, by decide +kernel⟩
def f_X2_init (a0 : Option Nat) (M : jW) : Option (Unit × jW) := pSm a0 fun b1 =>
  pP M a0 1 2 (jI (-1 : Int32)) fun M6 =>
  pP M6 a0 1 4 (jI (-1 : Int32)) fun M11 =>
  pNA M11 0 160 (160 : Int32) fun q18 M18 =>
  pP M18 a0 1 5 (jR (some q18)) fun M20 =>
  pNA M20 0 160 (160 : Int32) fun q27 M27 =>
  pP M27 a0 1 6 (jR (some q27)) fun M29 =>
  pNA M29 0 80 (80 : Int32) fun q35 M35 =>
  pP M35 a0 1 7 (jR (some q35)) fun M37 =>
  pNA M37 0 80 (80 : Int32) fun q43 M43 =>
  pP M43 a0 1 8 (jR (some q43)) fun M45 =>
  pNA M45 0 80 (80 : Int32) fun q51 M51 =>
  pP M51 a0 1 9 (jR (some q51)) fun M53 =>
  pNA M53 0 80 (80 : Int32) fun q59 M59 =>
  pP M59 a0 1 10 (jR (some q59)) fun M61 =>
  pNA M61 0 80 (80 : Int32) fun q67 M67 =>
  pP M67 a0 1 11 (jR (some q67)) fun M69 =>
  pNA M69 0 80 (80 : Int32) fun q75 M75 =>
  pP M75 a0 1 12 (jR (some q75)) fun M77 =>
  pNA M77 0 80 (80 : Int32) fun q83 M83 =>
  pP M83 a0 1 13 (jR (some q83)) fun M85 =>
  pNA M85 0 2 (2 : Int32) fun q90 M90 =>
  pP M90 a0 1 15 (jR (some q90)) fun M92 =>
  pNA M92 1 2 (2 : Int32) fun q97 M97 =>
  pP M97 a0 1 16 (jR (some q97)) fun M99 =>
  pNA M99 0 24 (24 : Int32) fun q105 M105 =>
  pP M105 a0 1 18 (jR (some q105)) fun M107 =>
  pNA M107 0 24 (24 : Int32) fun q113 M113 =>
  pP M113 a0 1 19 (jR (some q113)) fun M115 =>
  pNA M115 0 24 (24 : Int32) fun q121 M121 =>
  pP M121 a0 1 20 (jR (some q121)) fun M123 =>
  pNA M123 0 24 (24 : Int32) fun q129 M129 =>
  pP M129 a0 1 21 (jR (some q129)) fun M131 =>
  pNA M131 0 24 (24 : Int32) fun q137 M137 =>
  pP M137 a0 1 22 (jR (some q137)) fun M139 =>
  pNA M139 0 6 (6 : Int32) fun q145 M145 =>
  pP M145 a0 1 24 (jR (some q145)) fun M147 =>
  pNA M147 0 6 (6 : Int32) fun q153 M153 =>
  pP M153 a0 1 25 (jR (some q153)) fun M155 =>
  pNA M155 0 12 (12 : Int32) fun q161 M161 =>
  pP M161 a0 1 26 (jR (some q161)) fun M163 =>
  pNA M163 0 128 (128 : Int32) fun q170 M170 =>
  pP M170 a0 1 28 (jR (some q170)) fun M172 =>
  pNA M172 0 64 (64 : Int32) fun q178 M178 =>
  pP M178 a0 1 29 (jR (some q178)) fun M180 =>
  some ((), M180)
set_option maxHeartbeats 4000000 in
theorem m_X2_init (l : Launch) (g : jG) {a0 : Option Nat} {M M0 : jW} {v0 : Unit} (hF : f_X2_init a0 M = some (v0, M0)) : jMet l g yX2_init cX2_init 1 none rm_X2_init [jR a0] M none M0 := by
  refine jMet.of (L := [(0, jR a0)]) (by decide) rfl (Nat.le_of_ble_eq_true rfl) (fun x C hxn hg hl hQ hin => ?_)
  have hin := hin rfl
  subst hg
  unfold f_X2_init at hF
  refine jj_aload_n C 0 rfl dX2_init_0 rfl ?_
  obtain ⟨b1, hb1, hF⟩ := pSm_spec hF
  refine jj_objInit C ⟨_, hb1⟩ q1232 q85 q86 ⟨Nat.le_of_ble_eq_true rfl, Nat.le_of_ble_eq_true rfl⟩ dX2_init_1 ?_
  refine jj_aload_n C 0 rfl dX2_init_4 rfl ?_
  refine jj_iconst (v := -1) C dX2_init_5 (by decide) ?_
  refine jj_pP (f := 2) C jcs_1 (Nat.le_of_ble_eq_true rfl) (jLk.of C q1235 rfl) (Or.inl rfl) dX2_init_6 (jfit_i _) hF (fun M6 hF => ?_)
  refine jj_aload_n C 0 rfl dX2_init_9 rfl ?_
  refine jj_iconst (v := -1) C dX2_init_10 (by decide) ?_
  refine jj_pP (f := 4) C jcs_1 (Nat.le_of_ble_eq_true rfl) (jLk.of C q1237 rfl) (Or.inl rfl) dX2_init_11 (jfit_i _) hF (fun M11 hF => ?_)
  refine jj_aload_n C 0 rfl dX2_init_14 rfl ?_
  refine jj_sipush (v := 160) C dX2_init_15 (by decide) ?_
  refine jj_newarr (t := 0) (nb := 160) (ty := .int) C rfl (by decide) q543 (by decide) (by show 0 + 1 ≤ 21; omega) (by show 0 + 160 ≤ 1220; omega) dX2_init_18 hF (fun q18 M18 hF => ?_)
  refine jj_pP (f := 5) C jcs_1 (Nat.le_of_ble_eq_true rfl) (jLk.of C q1238 rfl) (Or.inr ⟨rfl, hin, rfl⟩) dX2_init_20 (jfit_a _ _) hF (fun M20 hF => ?_)
  refine jj_aload_n C 0 rfl dX2_init_23 rfl ?_
  refine jj_sipush (v := 160) C dX2_init_24 (by decide) ?_
  refine jj_newarr (t := 0) (nb := 160) (ty := .int) C rfl (by decide) q543 (by decide) (by show 0 + 1 + 1 ≤ 21; omega) (by show 0 + 160 + 160 ≤ 1220; omega) dX2_init_27 hF (fun q27 M27 hF => ?_)
  refine jj_pP (f := 6) C jcs_1 (Nat.le_of_ble_eq_true rfl) (jLk.of C q1239 rfl) (Or.inr ⟨rfl, hin, rfl⟩) dX2_init_29 (jfit_a _ _) hF (fun M29 hF => ?_)
  refine jj_aload_n C 0 rfl dX2_init_32 rfl ?_
  refine jj_bipush (v := 80) C dX2_init_33 (by decide) ?_
  refine jj_newarr (t := 0) (nb := 80) (ty := .int) C rfl (by decide) q543 (by decide) (by show 0 + 1 + 1 + 1 ≤ 21; omega) (by show 0 + 160 + 160 + 80 ≤ 1220; omega) dX2_init_35 hF (fun q35 M35 hF => ?_)
  refine jj_pP (f := 7) C jcs_1 (Nat.le_of_ble_eq_true rfl) (jLk.of C q1240 rfl) (Or.inr ⟨rfl, hin, rfl⟩) dX2_init_37 (jfit_a _ _) hF (fun M37 hF => ?_)
  refine jj_aload_n C 0 rfl dX2_init_40 rfl ?_
  refine jj_bipush (v := 80) C dX2_init_41 (by decide) ?_
  refine jj_newarr (t := 0) (nb := 80) (ty := .int) C rfl (by decide) q543 (by decide) (by show 0 + 1 + 1 + 1 + 1 ≤ 21; omega) (by show 0 + 160 + 160 + 80 + 80 ≤ 1220; omega) dX2_init_43 hF (fun q43 M43 hF => ?_)
  refine jj_pP (f := 8) C jcs_1 (Nat.le_of_ble_eq_true rfl) (jLk.of C q1241 rfl) (Or.inr ⟨rfl, hin, rfl⟩) dX2_init_45 (jfit_a _ _) hF (fun M45 hF => ?_)
  refine jj_aload_n C 0 rfl dX2_init_48 rfl ?_
  refine jj_bipush (v := 80) C dX2_init_49 (by decide) ?_
  refine jj_newarr (t := 0) (nb := 80) (ty := .int) C rfl (by decide) q543 (by decide) (by show 0 + 1 + 1 + 1 + 1 + 1 ≤ 21; omega) (by show 0 + 160 + 160 + 80 + 80 + 80 ≤ 1220; omega) dX2_init_51 hF (fun q51 M51 hF => ?_)
  refine jj_pP (f := 9) C jcs_1 (Nat.le_of_ble_eq_true rfl) (jLk.of C q1242 rfl) (Or.inr ⟨rfl, hin, rfl⟩) dX2_init_53 (jfit_a _ _) hF (fun M53 hF => ?_)
  refine jj_aload_n C 0 rfl dX2_init_56 rfl ?_
  refine jj_bipush (v := 80) C dX2_init_57 (by decide) ?_
  refine jj_newarr (t := 0) (nb := 80) (ty := .int) C rfl (by decide) q543 (by decide) (by show 0 + 1 + 1 + 1 + 1 + 1 + 1 ≤ 21; omega) (by show 0 + 160 + 160 + 80 + 80 + 80 + 80 ≤ 1220; omega) dX2_init_59 hF (fun q59 M59 hF => ?_)
  refine jj_pP (f := 10) C jcs_1 (Nat.le_of_ble_eq_true rfl) (jLk.of C q1243 rfl) (Or.inr ⟨rfl, hin, rfl⟩) dX2_init_61 (jfit_a _ _) hF (fun M61 hF => ?_)
  refine jj_aload_n C 0 rfl dX2_init_64 rfl ?_
  refine jj_bipush (v := 80) C dX2_init_65 (by decide) ?_
  refine jj_newarr (t := 0) (nb := 80) (ty := .int) C rfl (by decide) q543 (by decide) (by show 0 + 1 + 1 + 1 + 1 + 1 + 1 + 1 ≤ 21; omega) (by show 0 + 160 + 160 + 80 + 80 + 80 + 80 + 80 ≤ 1220; omega) dX2_init_67 hF (fun q67 M67 hF => ?_)
  refine jj_pP (f := 11) C jcs_1 (Nat.le_of_ble_eq_true rfl) (jLk.of C q1244 rfl) (Or.inr ⟨rfl, hin, rfl⟩) dX2_init_69 (jfit_a _ _) hF (fun M69 hF => ?_)
  refine jj_aload_n C 0 rfl dX2_init_72 rfl ?_
  refine jj_bipush (v := 80) C dX2_init_73 (by decide) ?_
  refine jj_newarr (t := 0) (nb := 80) (ty := .int) C rfl (by decide) q543 (by decide) (by show 0 + 1 + 1 + 1 + 1 + 1 + 1 + 1 + 1 ≤ 21; omega) (by show 0 + 160 + 160 + 80 + 80 + 80 + 80 + 80 + 80 ≤ 1220; omega) dX2_init_75 hF (fun q75 M75 hF => ?_)
  refine jj_pP (f := 12) C jcs_1 (Nat.le_of_ble_eq_true rfl) (jLk.of C q1245 rfl) (Or.inr ⟨rfl, hin, rfl⟩) dX2_init_77 (jfit_a _ _) hF (fun M77 hF => ?_)
  refine jj_aload_n C 0 rfl dX2_init_80 rfl ?_
  refine jj_bipush (v := 80) C dX2_init_81 (by decide) ?_
  refine jj_newarr (t := 0) (nb := 80) (ty := .int) C rfl (by decide) q543 (by decide) (by show 0 + 1 + 1 + 1 + 1 + 1 + 1 + 1 + 1 + 1 ≤ 21; omega) (by show 0 + 160 + 160 + 80 + 80 + 80 + 80 + 80 + 80 + 80 ≤ 1220; omega) dX2_init_83 hF (fun q83 M83 hF => ?_)
  refine jj_pP (f := 13) C jcs_1 (Nat.le_of_ble_eq_true rfl) (jLk.of C q1246 rfl) (Or.inr ⟨rfl, hin, rfl⟩) dX2_init_85 (jfit_a _ _) hF (fun M85 hF => ?_)
  refine jj_aload_n C 0 rfl dX2_init_88 rfl ?_
  refine jj_iconst (v := 2) C dX2_init_89 (by decide) ?_
  refine jj_newarr (t := 0) (nb := 2) (ty := .int) C rfl (by decide) q543 (by decide) (by show 0 + 1 + 1 + 1 + 1 + 1 + 1 + 1 + 1 + 1 + 1 ≤ 21; omega) (by show 0 + 160 + 160 + 80 + 80 + 80 + 80 + 80 + 80 + 80 + 2 ≤ 1220; omega) dX2_init_90 hF (fun q90 M90 hF => ?_)
  refine jj_pP (f := 15) C jcs_1 (Nat.le_of_ble_eq_true rfl) (jLk.of C q1248 rfl) (Or.inr ⟨rfl, hin, rfl⟩) dX2_init_92 (jfit_a _ _) hF (fun M92 hF => ?_)
  refine jj_aload_n C 0 rfl dX2_init_95 rfl ?_
  refine jj_iconst (v := 2) C dX2_init_96 (by decide) ?_
  refine jj_newarr (t := 1) (nb := 2) (ty := .boolean) C rfl (by decide) q544 (by decide) (by show 0 + 1 + 1 + 1 + 1 + 1 + 1 + 1 + 1 + 1 + 1 + 1 ≤ 21; omega) (by show 0 + 160 + 160 + 80 + 80 + 80 + 80 + 80 + 80 + 80 + 2 + 2 ≤ 1220; omega) dX2_init_97 hF (fun q97 M97 hF => ?_)
  refine jj_pP (f := 16) C jcs_1 (Nat.le_of_ble_eq_true rfl) (jLk.of C q1249 rfl) (Or.inr ⟨rfl, hin, rfl⟩) dX2_init_99 (jfit_a _ _) hF (fun M99 hF => ?_)
  refine jj_aload_n C 0 rfl dX2_init_102 rfl ?_
  refine jj_bipush (v := 24) C dX2_init_103 (by decide) ?_
  refine jj_newarr (t := 0) (nb := 24) (ty := .int) C rfl (by decide) q543 (by decide) (by show 0 + 1 + 1 + 1 + 1 + 1 + 1 + 1 + 1 + 1 + 1 + 1 + 1 ≤ 21; omega) (by show 0 + 160 + 160 + 80 + 80 + 80 + 80 + 80 + 80 + 80 + 2 + 2 + 24 ≤ 1220; omega) dX2_init_105 hF (fun q105 M105 hF => ?_)
  refine jj_pP (f := 18) C jcs_1 (Nat.le_of_ble_eq_true rfl) (jLk.of C q1251 rfl) (Or.inr ⟨rfl, hin, rfl⟩) dX2_init_107 (jfit_a _ _) hF (fun M107 hF => ?_)
  refine jj_aload_n C 0 rfl dX2_init_110 rfl ?_
  refine jj_bipush (v := 24) C dX2_init_111 (by decide) ?_
  refine jj_newarr (t := 0) (nb := 24) (ty := .int) C rfl (by decide) q543 (by decide) (by show 0 + 1 + 1 + 1 + 1 + 1 + 1 + 1 + 1 + 1 + 1 + 1 + 1 + 1 ≤ 21; omega) (by show 0 + 160 + 160 + 80 + 80 + 80 + 80 + 80 + 80 + 80 + 2 + 2 + 24 + 24 ≤ 1220; omega) dX2_init_113 hF (fun q113 M113 hF => ?_)
  refine jj_pP (f := 19) C jcs_1 (Nat.le_of_ble_eq_true rfl) (jLk.of C q1252 rfl) (Or.inr ⟨rfl, hin, rfl⟩) dX2_init_115 (jfit_a _ _) hF (fun M115 hF => ?_)
  refine jj_aload_n C 0 rfl dX2_init_118 rfl ?_
  refine jj_bipush (v := 24) C dX2_init_119 (by decide) ?_
  refine jj_newarr (t := 0) (nb := 24) (ty := .int) C rfl (by decide) q543 (by decide) (by show 0 + 1 + 1 + 1 + 1 + 1 + 1 + 1 + 1 + 1 + 1 + 1 + 1 + 1 + 1 ≤ 21; omega) (by show 0 + 160 + 160 + 80 + 80 + 80 + 80 + 80 + 80 + 80 + 2 + 2 + 24 + 24 + 24 ≤ 1220; omega) dX2_init_121 hF (fun q121 M121 hF => ?_)
  refine jj_pP (f := 20) C jcs_1 (Nat.le_of_ble_eq_true rfl) (jLk.of C q1253 rfl) (Or.inr ⟨rfl, hin, rfl⟩) dX2_init_123 (jfit_a _ _) hF (fun M123 hF => ?_)
  refine jj_aload_n C 0 rfl dX2_init_126 rfl ?_
  refine jj_bipush (v := 24) C dX2_init_127 (by decide) ?_
  refine jj_newarr (t := 0) (nb := 24) (ty := .int) C rfl (by decide) q543 (by decide) (by show 0 + 1 + 1 + 1 + 1 + 1 + 1 + 1 + 1 + 1 + 1 + 1 + 1 + 1 + 1 + 1 ≤ 21; omega) (by show 0 + 160 + 160 + 80 + 80 + 80 + 80 + 80 + 80 + 80 + 2 + 2 + 24 + 24 + 24 + 24 ≤ 1220; omega) dX2_init_129 hF (fun q129 M129 hF => ?_)
  refine jj_pP (f := 21) C jcs_1 (Nat.le_of_ble_eq_true rfl) (jLk.of C q1254 rfl) (Or.inr ⟨rfl, hin, rfl⟩) dX2_init_131 (jfit_a _ _) hF (fun M131 hF => ?_)
  refine jj_aload_n C 0 rfl dX2_init_134 rfl ?_
  refine jj_bipush (v := 24) C dX2_init_135 (by decide) ?_
  refine jj_newarr (t := 0) (nb := 24) (ty := .int) C rfl (by decide) q543 (by decide) (by show 0 + 1 + 1 + 1 + 1 + 1 + 1 + 1 + 1 + 1 + 1 + 1 + 1 + 1 + 1 + 1 + 1 ≤ 21; omega) (by show 0 + 160 + 160 + 80 + 80 + 80 + 80 + 80 + 80 + 80 + 2 + 2 + 24 + 24 + 24 + 24 + 24 ≤ 1220; omega) dX2_init_137 hF (fun q137 M137 hF => ?_)
  refine jj_pP (f := 22) C jcs_1 (Nat.le_of_ble_eq_true rfl) (jLk.of C q1255 rfl) (Or.inr ⟨rfl, hin, rfl⟩) dX2_init_139 (jfit_a _ _) hF (fun M139 hF => ?_)
  refine jj_aload_n C 0 rfl dX2_init_142 rfl ?_
  refine jj_bipush (v := 6) C dX2_init_143 (by decide) ?_
  refine jj_newarr (t := 0) (nb := 6) (ty := .int) C rfl (by decide) q543 (by decide) (by show 0 + 1 + 1 + 1 + 1 + 1 + 1 + 1 + 1 + 1 + 1 + 1 + 1 + 1 + 1 + 1 + 1 + 1 ≤ 21; omega) (by show 0 + 160 + 160 + 80 + 80 + 80 + 80 + 80 + 80 + 80 + 2 + 2 + 24 + 24 + 24 + 24 + 24 + 6 ≤ 1220; omega) dX2_init_145 hF (fun q145 M145 hF => ?_)
  refine jj_pP (f := 24) C jcs_1 (Nat.le_of_ble_eq_true rfl) (jLk.of C q1257 rfl) (Or.inr ⟨rfl, hin, rfl⟩) dX2_init_147 (jfit_a _ _) hF (fun M147 hF => ?_)
  refine jj_aload_n C 0 rfl dX2_init_150 rfl ?_
  refine jj_bipush (v := 6) C dX2_init_151 (by decide) ?_
  refine jj_newarr (t := 0) (nb := 6) (ty := .int) C rfl (by decide) q543 (by decide) (by show 0 + 1 + 1 + 1 + 1 + 1 + 1 + 1 + 1 + 1 + 1 + 1 + 1 + 1 + 1 + 1 + 1 + 1 + 1 ≤ 21; omega) (by show 0 + 160 + 160 + 80 + 80 + 80 + 80 + 80 + 80 + 80 + 2 + 2 + 24 + 24 + 24 + 24 + 24 + 6 + 6 ≤ 1220; omega) dX2_init_153 hF (fun q153 M153 hF => ?_)
  refine jj_pP (f := 25) C jcs_1 (Nat.le_of_ble_eq_true rfl) (jLk.of C q1258 rfl) (Or.inr ⟨rfl, hin, rfl⟩) dX2_init_155 (jfit_a _ _) hF (fun M155 hF => ?_)
  refine jj_aload_n C 0 rfl dX2_init_158 rfl ?_
  refine jj_bipush (v := 12) C dX2_init_159 (by decide) ?_
  refine jj_newarr (t := 0) (nb := 12) (ty := .int) C rfl (by decide) q543 (by decide) (by show 0 + 1 + 1 + 1 + 1 + 1 + 1 + 1 + 1 + 1 + 1 + 1 + 1 + 1 + 1 + 1 + 1 + 1 + 1 + 1 ≤ 21; omega) (by show 0 + 160 + 160 + 80 + 80 + 80 + 80 + 80 + 80 + 80 + 2 + 2 + 24 + 24 + 24 + 24 + 24 + 6 + 6 + 12 ≤ 1220; omega) dX2_init_161 hF (fun q161 M161 hF => ?_)
  refine jj_pP (f := 26) C jcs_1 (Nat.le_of_ble_eq_true rfl) (jLk.of C q1259 rfl) (Or.inr ⟨rfl, hin, rfl⟩) dX2_init_163 (jfit_a _ _) hF (fun M163 hF => ?_)
  refine jj_aload_n C 0 rfl dX2_init_166 rfl ?_
  refine jj_sipush (v := 128) C dX2_init_167 (by decide) ?_
  refine jj_newarr (t := 0) (nb := 128) (ty := .int) C rfl (by decide) q543 (by decide) (by show 0 + 1 + 1 + 1 + 1 + 1 + 1 + 1 + 1 + 1 + 1 + 1 + 1 + 1 + 1 + 1 + 1 + 1 + 1 + 1 + 1 ≤ 21; omega) (by show 0 + 160 + 160 + 80 + 80 + 80 + 80 + 80 + 80 + 80 + 2 + 2 + 24 + 24 + 24 + 24 + 24 + 6 + 6 + 12 + 128 ≤ 1220; omega) dX2_init_170 hF (fun q170 M170 hF => ?_)
  refine jj_pP (f := 28) C jcs_1 (Nat.le_of_ble_eq_true rfl) (jLk.of C q1261 rfl) (Or.inr ⟨rfl, hin, rfl⟩) dX2_init_172 (jfit_a _ _) hF (fun M172 hF => ?_)
  refine jj_aload_n C 0 rfl dX2_init_175 rfl ?_
  refine jj_bipush (v := 64) C dX2_init_176 (by decide) ?_
  refine jj_newarr (t := 0) (nb := 64) (ty := .int) C rfl (by decide) q543 (by decide) (by show 0 + 1 + 1 + 1 + 1 + 1 + 1 + 1 + 1 + 1 + 1 + 1 + 1 + 1 + 1 + 1 + 1 + 1 + 1 + 1 + 1 + 1 ≤ 21; omega) (by show 0 + 160 + 160 + 80 + 80 + 80 + 80 + 80 + 80 + 80 + 2 + 2 + 24 + 24 + 24 + 24 + 24 + 6 + 6 + 12 + 128 + 64 ≤ 1220; omega) dX2_init_178 hF (fun q178 M178 hF => ?_)
  refine jj_pP (f := 29) C jcs_1 (Nat.le_of_ble_eq_true rfl) (jLk.of C q1262 rfl) (Or.inr ⟨rfl, hin, rfl⟩) dX2_init_180 (jfit_a _ _) hF (fun M180 hF => ?_)
  exact jj_vret C hQ dX2_init_183 hF (by show 0 + 1 + 1 + 1 + 1 + 1 + 1 + 1 + 1 + 1 + 1 + 1 + 1 + 1 + 1 + 1 + 1 + 1 + 1 + 1 + 1 + 1 ≤ 21; omega) (by show 0 + 160 + 160 + 80 + 80 + 80 + 80 + 80 + 80 + 80 + 2 + 2 + 24 + 24 + 24 + 24 + 24 + 6 + 6 + 12 + 128 + 64 ≤ 1220; omega)
/-! PhrasehallModel.thrown()I -/
def rm_X2_thrown : Room := ({ frames := 1, cells := 0, slots := 0, locals := 64 } : Room)
theorem hd_X2_thrown : yX2_thrown.cls ≠ "java/lang/invoke/MethodHandle" ∧ yX2_thrown.cls ≠ "java/lang/invoke/VarHandle" ∧ (parseMethodDescriptor yX2_thrown.desc).map (fun d => d.parameters.length) = some 0 := ⟨by decide, by decide, by decide +kernel⟩
def f_X2_thrown (a0 : Option Nat) (M : jW) : Option (Int32 × jW) := pI M a0 1 31 fun v1 =>
  some (v1, M)
set_option maxHeartbeats 4000000 in
theorem m_X2_thrown (l : Launch) (g : jG) {a0 : Option Nat} {M M0 : jW} {v0 : Int32} (hF : f_X2_thrown a0 M = some (v0, M0)) : jMet l g yX2_thrown cX2_thrown 1 (some .int) rm_X2_thrown [jR a0] M (some (jI v0)) M0 := by
  refine jMet.of (L := [(0, jR a0)]) (by decide) rfl (Nat.le_of_ble_eq_true rfl) (fun x C hxn hg hl hQ hin => ?_)
  subst hg
  unfold f_X2_thrown at hF
  refine jj_aload_n C 0 rfl dX2_thrown_0 rfl ?_
  refine jj_pI (f := 31) C jcs_1 (Nat.le_of_ble_eq_true rfl) (jLk.of C q1264 rfl) dX2_thrown_1 hF (fun v1 hF => ?_)
  exact jj_iret C hQ dX2_thrown_4 hF (Nat.zero_le _) (Nat.zero_le _)
/-! PhrasehallModel.fencer()I -/
def rm_X2_fencer : Room := ({ frames := 1, cells := 0, slots := 0, locals := 64 } : Room)
theorem hd_X2_fencer : yX2_fencer.cls ≠ "java/lang/invoke/MethodHandle" ∧ yX2_fencer.cls ≠ "java/lang/invoke/VarHandle" ∧ (parseMethodDescriptor yX2_fencer.desc).map (fun d => d.parameters.length) = some 0 := ⟨by decide, by decide, by decide +kernel⟩
def f_X2_fencer_b15 (l0 : Option Nat) (s0 : Option Nat) (s1 : Int32) (M : jW) : Option (Int32 × jW) := pP M s0 1 31 (jI s1) fun M15 =>
  pI M15 l0 1 31 fun v19 =>
  if v19 ≤ 0 then (pI M15 l0 1 0 fun v29 =>
  pP M15 l0 1 0 (jI (v29 + (1 : Int32))) fun M34 =>
  pI M34 l0 1 0 fun v38 =>
  some ((v38 - (1 : Int32)), M34))
  else (some ((0 : Int32), M15))
set_option maxHeartbeats 4000000 in
theorem w_X2_fencer_b15 {x : jX} (C : jOk x cX2_fencer RX2 rm_X2_fencer (some .int)) (hxn : xn x = 1) {v0 : Int32} {M0 : jW} (hQ : jEnd x rm_X2_fencer (some (jI v0)) M0) {l0 : Option Nat} {s0 : Option Nat} {s1 : Int32} {M : jW} (hF : f_X2_fencer_b15 l0 s0 s1 M = some (v0, M0)) : jJ x 15 [(0, jR l0)] [jI s1, jR s0] M 0 0 := by
  unfold f_X2_fencer_b15 at hF
  refine jj_pP (f := 31) C jcs_1 (Nat.le_of_ble_eq_true rfl) (jLk.of C q1264 rfl) (Or.inl rfl) dX2_fencer_15 (jfit_i _) hF (fun M15 hF => ?_)
  refine jj_aload_n C 0 rfl dX2_fencer_18 rfl ?_
  refine jj_pI (f := 31) C jcs_1 (Nat.le_of_ble_eq_true rfl) (jLk.of C q1264 rfl) dX2_fencer_19 hF (fun v19 hF => ?_)
  refine jj_if_le (tgt := 27) C dX2_fencer_22 (by decide) hF (fun hF => ?_) (fun hF => ?_)
  · refine jj_aload_n C 0 rfl dX2_fencer_27 rfl ?_
    refine jj_dup C dX2_fencer_28 rfl ?_
    refine jj_pI (f := 0) C jcs_1 (Nat.le_of_ble_eq_true rfl) (jLk.of C q1233 rfl) dX2_fencer_29 hF (fun v29 hF => ?_)
    refine jj_iconst (v := 1) C dX2_fencer_32 (by decide) ?_
    refine jj_iadd C dX2_fencer_33 ?_
    refine jj_pP (f := 0) C jcs_1 (Nat.le_of_ble_eq_true rfl) (jLk.of C q1233 rfl) (Or.inl rfl) dX2_fencer_34 (jfit_i _) hF (fun M34 hF => ?_)
    refine jj_aload_n C 0 rfl dX2_fencer_37 rfl ?_
    refine jj_pI (f := 0) C jcs_1 (Nat.le_of_ble_eq_true rfl) (jLk.of C q1233 rfl) dX2_fencer_38 hF (fun v38 hF => ?_)
    refine jj_iconst (v := 1) C dX2_fencer_41 (by decide) ?_
    refine jj_isub C dX2_fencer_42 ?_
    exact jj_iret C hQ dX2_fencer_43 hF (Nat.zero_le _) (Nat.zero_le _)
  · refine jj_iconst (v := 0) C dX2_fencer_25 (by decide) ?_
    exact jj_iret C hQ dX2_fencer_26 hF (Nat.zero_le _) (Nat.zero_le _)
def f_X2_fencer (a0 : Option Nat) (M : jW) : Option (Int32 × jW) := pI M a0 1 0 fun v2 =>
  if v2 = (12 : Int32) then (f_X2_fencer_b15 a0 a0 (1 : Int32) M)
  else (f_X2_fencer_b15 a0 a0 (0 : Int32) M)
set_option maxHeartbeats 4000000 in
theorem m_X2_fencer (l : Launch) (g : jG) {a0 : Option Nat} {M M0 : jW} {v0 : Int32} (hF : f_X2_fencer a0 M = some (v0, M0)) : jMet l g yX2_fencer cX2_fencer 1 (some .int) rm_X2_fencer [jR a0] M (some (jI v0)) M0 := by
  refine jMet.of (L := [(0, jR a0)]) (by decide) rfl (Nat.le_of_ble_eq_true rfl) (fun x C hxn hg hl hQ hin => ?_)
  subst hg
  unfold f_X2_fencer at hF
  refine jj_aload_n C 0 rfl dX2_fencer_0 rfl ?_
  refine jj_aload_n C 0 rfl dX2_fencer_1 rfl ?_
  refine jj_pI (f := 0) C jcs_1 (Nat.le_of_ble_eq_true rfl) (jLk.of C q1233 rfl) dX2_fencer_2 hF (fun v2 hF => ?_)
  refine jj_bipush (v := 12) C dX2_fencer_5 (by decide) ?_
  refine jj_icmp_ne (tgt := 14) C dX2_fencer_7 (by decide) hF (fun hF => ?_) (fun hF => ?_)
  · refine jj_iconst (v := 0) C dX2_fencer_14 (by decide) ?_
    refine jj_sub [0] rfl ?_
    exact w_X2_fencer_b15 C hxn hQ hF
  · refine jj_iconst (v := 1) C dX2_fencer_10 (by decide) ?_
    refine jj_goto (tgt := 15) C dX2_fencer_11 (by decide) ?_
    refine jj_sub [0] rfl ?_
    exact w_X2_fencer_b15 C hxn hQ hF
/-! PhrasehallModel.isIn(III)Z -/
def rm_X2_isIn : Room := ({ frames := 1, cells := 0, slots := 0, locals := 64 } : Room)
theorem hd_X2_isIn : yX2_isIn.cls ≠ "java/lang/invoke/MethodHandle" ∧ yX2_isIn.cls ≠ "java/lang/invoke/VarHandle" ∧ (parseMethodDescriptor yX2_isIn.desc).map (fun d => d.parameters.length) = some 3 := ⟨by decide, by decide, by decide +kernel⟩
def f_X2_isIn (a0 : Int32) (a1 : Int32) (a2 : Int32) (M : jW) : Option (Int32 × jW) := if a0 < a1 then (pRZ (0 : Int32) M)
  else (if a2 < a0 then (pRZ (0 : Int32) M)
  else (pRZ (1 : Int32) M))
set_option maxHeartbeats 4000000 in
theorem m_X2_isIn (l : Launch) (g : jG) {a0 : Int32} {a1 : Int32} {a2 : Int32} {M M0 : jW} {v0 : Int32} (hF : f_X2_isIn a0 a1 a2 M = some (v0, M0)) : jMet l g yX2_isIn cX2_isIn 3 (some .boolean) rm_X2_isIn [jI a0, jI a1, jI a2] M (some (jI v0)) M0 := by
  refine jMet.of (L := [(0, jI a0), (1, jI a1), (2, jI a2)]) (by decide) rfl (Nat.le_of_ble_eq_true rfl) (fun x C hxn hg hl hQ hin => ?_)
  subst hg
  unfold f_X2_isIn at hF
  refine jj_iload_n C 0 rfl dX2_isIn_0 rfl ?_
  refine jj_iload_n C 1 rfl dX2_isIn_1 rfl ?_
  refine jj_icmp_lt (tgt := 14) C dX2_isIn_2 (by decide) hF (fun hF => ?_) (fun hF => ?_)
  · refine jj_iconst (v := 0) C dX2_isIn_14 (by decide) ?_
    exact jj_zret C hQ dX2_isIn_15 hF (Nat.zero_le _) (Nat.zero_le _)
  · refine jj_iload_n C 0 rfl dX2_isIn_5 rfl ?_
    refine jj_iload_n C 2 rfl dX2_isIn_6 rfl ?_
    refine jj_icmp_gt (tgt := 14) C dX2_isIn_7 (by decide) hF (fun hF => ?_) (fun hF => ?_)
    · refine jj_iconst (v := 0) C dX2_isIn_14 (by decide) ?_
      exact jj_zret C hQ dX2_isIn_15 hF (Nat.zero_le _) (Nat.zero_le _)
    · refine jj_iconst (v := 1) C dX2_isIn_10 (by decide) ?_
      refine jj_goto (tgt := 15) C dX2_isIn_11 (by decide) ?_
      exact jj_zret C hQ dX2_isIn_15 hF (Nat.zero_le _) (Nat.zero_le _)
/-! PhrasehallModel.isFencer(I)Z -/
def rm_X2_isFencer : Room := ({ frames := 2, cells := 0, slots := 0, locals := 86 } : Room)
theorem hd_X2_isFencer : yX2_isFencer.cls ≠ "java/lang/invoke/MethodHandle" ∧ yX2_isFencer.cls ≠ "java/lang/invoke/VarHandle" ∧ (parseMethodDescriptor yX2_isFencer.desc).map (fun d => d.parameters.length) = some 1 := ⟨by decide, by decide, by decide +kernel⟩
def f_X2_isFencer (a0 : Option Nat) (a1 : Int32) (M : jW) : Option (Int32 × jW) := pI M a0 1 0 fun v3 =>
  pB (f_X2_isIn a1 (0 : Int32) (v3 - (1 : Int32)) M) fun r8 M8 =>
  pRZ r8 M8
set_option maxHeartbeats 4000000 in
theorem m_X2_isFencer (l : Launch) (g : jG) {a0 : Option Nat} {a1 : Int32} {M M0 : jW} {v0 : Int32} (hF : f_X2_isFencer a0 a1 M = some (v0, M0)) : jMet l g yX2_isFencer cX2_isFencer 2 (some .boolean) rm_X2_isFencer [jR a0, jI a1] M (some (jI v0)) M0 := by
  refine jMet.of (L := [(0, jR a0), (1, jI a1)]) (by decide) rfl (Nat.le_of_ble_eq_true rfl) (fun x C hxn hg hl hQ hin => ?_)
  subst hg
  unfold f_X2_isFencer at hF
  refine jj_iload_n C 1 rfl dX2_isFencer_0 rfl ?_
  refine jj_iconst (v := 0) C dX2_isFencer_1 (by decide) ?_
  refine jj_aload_n C 0 rfl dX2_isFencer_2 rfl ?_
  refine jj_pI (f := 0) C jcs_1 (Nat.le_of_ble_eq_true rfl) (jLk.of C q1233 rfl) dX2_isFencer_3 hF (fun v3 hF => ?_)
  refine jj_iconst (v := 1) C dX2_isFencer_6 (by decide) ?_
  refine jj_isub C dX2_isFencer_7 ?_
  obtain ⟨r8, M8, hG, hF⟩ := pB_spec hF
  refine jj_callS (k' := 0) (n' := 0) C [jI a1, jI (0 : Int32), jI (v3 - (1 : Int32))] [] [jI r8] (m_X2_isIn _ _ hG) q1346 q1347 q46 q1348 hd_X2_isIn rfl (Nat.le_of_ble_eq_true rfl) ⟨Nat.le_of_ble_eq_true rfl, Nat.le_of_ble_eq_true rfl⟩ ⟨Nat.le_refl _, Nat.le_refl _, Nat.le_refl _, Nat.le_refl _⟩ dX2_isFencer_8 rfl ?_
  exact jj_zret C hQ dX2_isFencer_11 hF (Nat.zero_le _) (Nat.zero_le _)
/-! PhrasehallModel.isPool(I)Z -/
def rm_X2_isPool : Room := ({ frames := 2, cells := 0, slots := 0, locals := 86 } : Room)
theorem hd_X2_isPool : yX2_isPool.cls ≠ "java/lang/invoke/MethodHandle" ∧ yX2_isPool.cls ≠ "java/lang/invoke/VarHandle" ∧ (parseMethodDescriptor yX2_isPool.desc).map (fun d => d.parameters.length) = some 1 := ⟨by decide, by decide, by decide +kernel⟩
def f_X2_isPool (a0 : Option Nat) (a1 : Int32) (M : jW) : Option (Int32 × jW) := pI M a0 1 23 fun v3 =>
  pB (f_X2_isIn a1 (0 : Int32) (v3 - (1 : Int32)) M) fun r8 M8 =>
  pRZ r8 M8
set_option maxHeartbeats 4000000 in
theorem m_X2_isPool (l : Launch) (g : jG) {a0 : Option Nat} {a1 : Int32} {M M0 : jW} {v0 : Int32} (hF : f_X2_isPool a0 a1 M = some (v0, M0)) : jMet l g yX2_isPool cX2_isPool 2 (some .boolean) rm_X2_isPool [jR a0, jI a1] M (some (jI v0)) M0 := by
  refine jMet.of (L := [(0, jR a0), (1, jI a1)]) (by decide) rfl (Nat.le_of_ble_eq_true rfl) (fun x C hxn hg hl hQ hin => ?_)
  subst hg
  unfold f_X2_isPool at hF
  refine jj_iload_n C 1 rfl dX2_isPool_0 rfl ?_
  refine jj_iconst (v := 0) C dX2_isPool_1 (by decide) ?_
  refine jj_aload_n C 0 rfl dX2_isPool_2 rfl ?_
  refine jj_pI (f := 23) C jcs_1 (Nat.le_of_ble_eq_true rfl) (jLk.of C q1256 rfl) dX2_isPool_3 hF (fun v3 hF => ?_)
  refine jj_iconst (v := 1) C dX2_isPool_6 (by decide) ?_
  refine jj_isub C dX2_isPool_7 ?_
  obtain ⟨r8, M8, hG, hF⟩ := pB_spec hF
  refine jj_callS (k' := 0) (n' := 0) C [jI a1, jI (0 : Int32), jI (v3 - (1 : Int32))] [] [jI r8] (m_X2_isIn _ _ hG) q1346 q1347 q46 q1348 hd_X2_isIn rfl (Nat.le_of_ble_eq_true rfl) ⟨Nat.le_of_ble_eq_true rfl, Nat.le_of_ble_eq_true rfl⟩ ⟨Nat.le_refl _, Nat.le_refl _, Nat.le_refl _, Nat.le_refl _⟩ dX2_isPool_8 rfl ?_
  exact jj_zret C hQ dX2_isPool_11 hF (Nat.zero_le _) (Nat.zero_le _)
/-! PhrasehallModel.has(II)Z -/
def rm_X2_has : Room := ({ frames := 1, cells := 0, slots := 0, locals := 64 } : Room)
theorem hd_X2_has : yX2_has.cls ≠ "java/lang/invoke/MethodHandle" ∧ yX2_has.cls ≠ "java/lang/invoke/VarHandle" ∧ (parseMethodDescriptor yX2_has.desc).map (fun d => d.parameters.length) = some 2 := ⟨by decide, by decide, by decide +kernel⟩
def f_X2_has (a0 : Int32) (a1 : Int32) (M : jW) : Option (Int32 × jW) := if ((a0 >>> (a1 &&& 31)) &&& (1 : Int32)) = (1 : Int32) then (pRZ (1 : Int32) M)
  else (pRZ (0 : Int32) M)
set_option maxHeartbeats 4000000 in
theorem m_X2_has (l : Launch) (g : jG) {a0 : Int32} {a1 : Int32} {M M0 : jW} {v0 : Int32} (hF : f_X2_has a0 a1 M = some (v0, M0)) : jMet l g yX2_has cX2_has 2 (some .boolean) rm_X2_has [jI a0, jI a1] M (some (jI v0)) M0 := by
  refine jMet.of (L := [(0, jI a0), (1, jI a1)]) (by decide) rfl (Nat.le_of_ble_eq_true rfl) (fun x C hxn hg hl hQ hin => ?_)
  subst hg
  unfold f_X2_has at hF
  refine jj_iload_n C 0 rfl dX2_has_0 rfl ?_
  refine jj_iload_n C 1 rfl dX2_has_1 rfl ?_
  refine jj_ishr C dX2_has_2 ?_
  refine jj_iconst (v := 1) C dX2_has_3 (by decide) ?_
  refine jj_iand C dX2_has_4 ?_
  refine jj_iconst (v := 1) C dX2_has_5 (by decide) ?_
  refine jj_icmp_ne (tgt := 13) C dX2_has_6 (by decide) hF (fun hF => ?_) (fun hF => ?_)
  · refine jj_iconst (v := 0) C dX2_has_13 (by decide) ?_
    exact jj_zret C hQ dX2_has_14 hF (Nat.zero_le _) (Nat.zero_le _)
  · refine jj_iconst (v := 1) C dX2_has_9 (by decide) ?_
    refine jj_goto (tgt := 14) C dX2_has_10 (by decide) ?_
    exact jj_zret C hQ dX2_has_14 hF (Nat.zero_le _) (Nat.zero_le _)
/-! PhrasehallModel.begin(IIIII)I -/
def rm_X2_begin : Room := ({ frames := 3, cells := 0, slots := 0, locals := 107 } : Room)
theorem hd_X2_begin : yX2_begin.cls ≠ "java/lang/invoke/MethodHandle" ∧ yX2_begin.cls ≠ "java/lang/invoke/VarHandle" ∧ (parseMethodDescriptor yX2_begin.desc).map (fun d => d.parameters.length) = some 5 := ⟨by decide, by decide, by decide +kernel⟩
def f_X2_begin_b299 : Nat → Option Nat → Int32 → jW → Option (Int32 × jW)
  | 0, _, _, _ => none
  | q + 1, l0, l8, M => if (2 : Int32) ≤ l8 then (pP M l0 1 17 (jI (0 : Int32)) fun M329 =>
  pI M329 l0 1 3 fun v334 =>
  pP M329 l0 1 3 (jI (v334 + (1 : Int32))) fun M339 =>
  pI M339 l0 1 4 fun v343 =>
  some (v343, M339))
  else (pR M l0 1 15 fun v306 =>
  pSI M v306 l8 (0 : Int32) fun M312 =>
  pR M312 l0 1 16 fun v314 =>
  pSZ M312 v314 l8 (0 : Int32) fun M320 =>
  (f_X2_begin_b299 q) l0 (l8 + (1 : Int32)) M320)
theorem f_X2_begin_b299_s (q : Nat) (l0 : Option Nat) (l8 : Int32) (M : jW) : f_X2_begin_b299 (q + 1) l0 l8 M = (if (2 : Int32) ≤ l8 then (pP M l0 1 17 (jI (0 : Int32)) fun M329 =>
  pI M329 l0 1 3 fun v334 =>
  pP M329 l0 1 3 (jI (v334 + (1 : Int32))) fun M339 =>
  pI M339 l0 1 4 fun v343 =>
  some (v343, M339))
  else (pR M l0 1 15 fun v306 =>
  pSI M v306 l8 (0 : Int32) fun M312 =>
  pR M312 l0 1 16 fun v314 =>
  pSZ M312 v314 l8 (0 : Int32) fun M320 =>
  (f_X2_begin_b299 q) l0 (l8 + (1 : Int32)) M320)) := rfl
set_option maxHeartbeats 4000000 in
theorem w_X2_begin_b299 {x : jX} (C : jOk x cX2_begin RX2 rm_X2_begin (some .int)) (hxn : xn x = 9) {v0 : Int32} {M0 : jW} (hQ : jEnd x rm_X2_begin (some (jI v0)) M0) : ∀ (n299 : Nat) (l0 : Option Nat) (l8 : Int32) (M : jW), f_X2_begin_b299 n299 l0 l8 M = some (v0, M0) → jJ x 299 [(0, jR l0), (8, jI l8)] [] M 0 0 := by
  intro n299
  induction n299 with
  | zero =>
    intro l0 l8 M hF
    cases hF
  | succ n299 hK299 =>
    intro l0 l8 M hF
    rw [f_X2_begin_b299_s] at hF
    refine jj_iload C 1 rfl dX2_begin_299 ?_
    refine jj_iconst (v := 2) C dX2_begin_301 (by decide) ?_
    refine jj_icmp_ge (tgt := 327) C dX2_begin_302 (by decide) hF (fun hF => ?_) (fun hF => ?_)
    · refine jj_aload_n C 0 rfl dX2_begin_327 rfl ?_
      refine jj_iconst (v := 0) C dX2_begin_328 (by decide) ?_
      refine jj_pP (f := 17) C jcs_1 (Nat.le_of_ble_eq_true rfl) (jLk.of C q1250 rfl) (Or.inl rfl) dX2_begin_329 (jfit_i _) hF (fun M329 hF => ?_)
      refine jj_aload_n C 0 rfl dX2_begin_332 rfl ?_
      refine jj_dup C dX2_begin_333 rfl ?_
      refine jj_pI (f := 3) C jcs_1 (Nat.le_of_ble_eq_true rfl) (jLk.of C q1236 rfl) dX2_begin_334 hF (fun v334 hF => ?_)
      refine jj_iconst (v := 1) C dX2_begin_337 (by decide) ?_
      refine jj_iadd C dX2_begin_338 ?_
      refine jj_pP (f := 3) C jcs_1 (Nat.le_of_ble_eq_true rfl) (jLk.of C q1236 rfl) (Or.inl rfl) dX2_begin_339 (jfit_i _) hF (fun M339 hF => ?_)
      refine jj_aload_n C 0 rfl dX2_begin_342 rfl ?_
      refine jj_pI (f := 4) C jcs_1 (Nat.le_of_ble_eq_true rfl) (jLk.of C q1237 rfl) dX2_begin_343 hF (fun v343 hF => ?_)
      exact jj_iret C hQ dX2_begin_346 hF (Nat.zero_le _) (Nat.zero_le _)
    · refine jj_aload_n C 0 rfl dX2_begin_305 rfl ?_
      refine jj_pR (f := 15) C jcs_1 (Nat.le_of_ble_eq_true rfl) (jLk.of C q1248 rfl) dX2_begin_306 hF (fun v306 hF => ?_)
      refine jj_iload C 1 rfl dX2_begin_309 ?_
      refine jj_iconst (v := 0) C dX2_begin_311 (by decide) ?_
      refine jj_iast C dX2_begin_312 hF (fun M312 hF => ?_)
      refine jj_aload_n C 0 rfl dX2_begin_313 rfl ?_
      refine jj_pR (f := 16) C jcs_1 (Nat.le_of_ble_eq_true rfl) (jLk.of C q1249 rfl) dX2_begin_314 hF (fun v314 hF => ?_)
      refine jj_iload C 1 rfl dX2_begin_317 ?_
      refine jj_iconst (v := 0) C dX2_begin_319 (by decide) ?_
      refine jj_zast C dX2_begin_320 hF (fun M320 hF => ?_)
      refine jj_iinc (c := 1) (L' := [(8, jI (l8 + (1 : Int32))), (0, jR l0)]) C 1 rfl (by decide) rfl (by rw [hxn]; decide) dX2_begin_321 ?_
      refine jj_goto (tgt := 299) C dX2_begin_324 (by decide) ?_
      refine jj_sub [1, 0] rfl ?_
      exact hK299 _ _ _ hF
def f_X2_begin_b193 (l0 : Option Nat) (l1 : Int32) (l2 : Int32) (l3 : Int32) (l4 : Int32) (l5 : Int32) (s0 : Option Nat) (s1 : Int32) (M : jW) : Option (Int32 × jW) := pP M s0 1 31 (jI s1) fun M193 =>
  pI M193 l0 1 31 fun v197 =>
  if v197 ≤ 0 then (pR M193 l0 1 5 fun v206 =>
  pI M193 l0 1 3 fun v211 =>
  pSI M193 v206 ((2 : Int32) * v211) l1 fun M216 =>
  pR M216 l0 1 5 fun v218 =>
  pI M216 l0 1 3 fun v223 =>
  pSI M216 v218 (((2 : Int32) * v223) + (1 : Int32)) l2 fun M230 =>
  pR M230 l0 1 7 fun v232 =>
  pI M230 l0 1 3 fun v236 =>
  pSI M230 v232 v236 l3 fun M240 =>
  pR M240 l0 1 8 fun v242 =>
  pI M240 l0 1 3 fun v246 =>
  pSI M240 v242 v246 l4 fun M251 =>
  pR M251 l0 1 9 fun v253 =>
  pI M251 l0 1 3 fun v257 =>
  pSI M251 v253 v257 l5 fun M262 =>
  pR M262 l0 1 10 fun v264 =>
  pI M262 l0 1 3 fun v268 =>
  pSI M262 v264 v268 (-1 : Int32) fun M272 =>
  pR M272 l0 1 13 fun v274 =>
  pI M272 l0 1 3 fun v278 =>
  pSI M272 v274 v278 (-1 : Int32) fun M282 =>
  pI M282 l0 1 3 fun v285 =>
  pP M282 l0 1 4 (jI v285) fun M288 =>
  pP M288 l0 1 14 (jI (0 : Int32)) fun M293 =>
  f_X2_begin_b299 1000 l0 (0 : Int32) M293)
  else (some ((0 : Int32), M193))
set_option maxHeartbeats 4000000 in
theorem w_X2_begin_b193 {x : jX} (C : jOk x cX2_begin RX2 rm_X2_begin (some .int)) (hxn : xn x = 9) {v0 : Int32} {M0 : jW} (hQ : jEnd x rm_X2_begin (some (jI v0)) M0) {l0 : Option Nat} {l1 : Int32} {l2 : Int32} {l3 : Int32} {l4 : Int32} {l5 : Int32} {s0 : Option Nat} {s1 : Int32} {M : jW} (hF : f_X2_begin_b193 l0 l1 l2 l3 l4 l5 s0 s1 M = some (v0, M0)) : jJ x 193 [(0, jR l0), (1, jI l1), (2, jI l2), (3, jI l3), (4, jI l4), (5, jI l5)] [jI s1, jR s0] M 0 0 := by
  unfold f_X2_begin_b193 at hF
  refine jj_pP (f := 31) C jcs_1 (Nat.le_of_ble_eq_true rfl) (jLk.of C q1264 rfl) (Or.inl rfl) dX2_begin_193 (jfit_i _) hF (fun M193 hF => ?_)
  refine jj_aload_n C 0 rfl dX2_begin_196 rfl ?_
  refine jj_pI (f := 31) C jcs_1 (Nat.le_of_ble_eq_true rfl) (jLk.of C q1264 rfl) dX2_begin_197 hF (fun v197 hF => ?_)
  refine jj_if_le (tgt := 205) C dX2_begin_200 (by decide) hF (fun hF => ?_) (fun hF => ?_)
  · refine jj_aload_n C 0 rfl dX2_begin_205 rfl ?_
    refine jj_pR (f := 5) C jcs_1 (Nat.le_of_ble_eq_true rfl) (jLk.of C q1238 rfl) dX2_begin_206 hF (fun v206 hF => ?_)
    refine jj_iconst (v := 2) C dX2_begin_209 (by decide) ?_
    refine jj_aload_n C 0 rfl dX2_begin_210 rfl ?_
    refine jj_pI (f := 3) C jcs_1 (Nat.le_of_ble_eq_true rfl) (jLk.of C q1236 rfl) dX2_begin_211 hF (fun v211 hF => ?_)
    refine jj_imul C dX2_begin_214 ?_
    refine jj_iload_n C 1 rfl dX2_begin_215 rfl ?_
    refine jj_iast C dX2_begin_216 hF (fun M216 hF => ?_)
    refine jj_aload_n C 0 rfl dX2_begin_217 rfl ?_
    refine jj_pR (f := 5) C jcs_1 (Nat.le_of_ble_eq_true rfl) (jLk.of C q1238 rfl) dX2_begin_218 hF (fun v218 hF => ?_)
    refine jj_iconst (v := 2) C dX2_begin_221 (by decide) ?_
    refine jj_aload_n C 0 rfl dX2_begin_222 rfl ?_
    refine jj_pI (f := 3) C jcs_1 (Nat.le_of_ble_eq_true rfl) (jLk.of C q1236 rfl) dX2_begin_223 hF (fun v223 hF => ?_)
    refine jj_imul C dX2_begin_226 ?_
    refine jj_iconst (v := 1) C dX2_begin_227 (by decide) ?_
    refine jj_iadd C dX2_begin_228 ?_
    refine jj_iload_n C 2 rfl dX2_begin_229 rfl ?_
    refine jj_iast C dX2_begin_230 hF (fun M230 hF => ?_)
    refine jj_aload_n C 0 rfl dX2_begin_231 rfl ?_
    refine jj_pR (f := 7) C jcs_1 (Nat.le_of_ble_eq_true rfl) (jLk.of C q1240 rfl) dX2_begin_232 hF (fun v232 hF => ?_)
    refine jj_aload_n C 0 rfl dX2_begin_235 rfl ?_
    refine jj_pI (f := 3) C jcs_1 (Nat.le_of_ble_eq_true rfl) (jLk.of C q1236 rfl) dX2_begin_236 hF (fun v236 hF => ?_)
    refine jj_iload_n C 3 rfl dX2_begin_239 rfl ?_
    refine jj_iast C dX2_begin_240 hF (fun M240 hF => ?_)
    refine jj_aload_n C 0 rfl dX2_begin_241 rfl ?_
    refine jj_pR (f := 8) C jcs_1 (Nat.le_of_ble_eq_true rfl) (jLk.of C q1241 rfl) dX2_begin_242 hF (fun v242 hF => ?_)
    refine jj_aload_n C 0 rfl dX2_begin_245 rfl ?_
    refine jj_pI (f := 3) C jcs_1 (Nat.le_of_ble_eq_true rfl) (jLk.of C q1236 rfl) dX2_begin_246 hF (fun v246 hF => ?_)
    refine jj_iload C 4 rfl dX2_begin_249 ?_
    refine jj_iast C dX2_begin_251 hF (fun M251 hF => ?_)
    refine jj_aload_n C 0 rfl dX2_begin_252 rfl ?_
    refine jj_pR (f := 9) C jcs_1 (Nat.le_of_ble_eq_true rfl) (jLk.of C q1242 rfl) dX2_begin_253 hF (fun v253 hF => ?_)
    refine jj_aload_n C 0 rfl dX2_begin_256 rfl ?_
    refine jj_pI (f := 3) C jcs_1 (Nat.le_of_ble_eq_true rfl) (jLk.of C q1236 rfl) dX2_begin_257 hF (fun v257 hF => ?_)
    refine jj_iload C 5 rfl dX2_begin_260 ?_
    refine jj_iast C dX2_begin_262 hF (fun M262 hF => ?_)
    refine jj_aload_n C 0 rfl dX2_begin_263 rfl ?_
    refine jj_pR (f := 10) C jcs_1 (Nat.le_of_ble_eq_true rfl) (jLk.of C q1243 rfl) dX2_begin_264 hF (fun v264 hF => ?_)
    refine jj_aload_n C 0 rfl dX2_begin_267 rfl ?_
    refine jj_pI (f := 3) C jcs_1 (Nat.le_of_ble_eq_true rfl) (jLk.of C q1236 rfl) dX2_begin_268 hF (fun v268 hF => ?_)
    refine jj_iconst (v := -1) C dX2_begin_271 (by decide) ?_
    refine jj_iast C dX2_begin_272 hF (fun M272 hF => ?_)
    refine jj_aload_n C 0 rfl dX2_begin_273 rfl ?_
    refine jj_pR (f := 13) C jcs_1 (Nat.le_of_ble_eq_true rfl) (jLk.of C q1246 rfl) dX2_begin_274 hF (fun v274 hF => ?_)
    refine jj_aload_n C 0 rfl dX2_begin_277 rfl ?_
    refine jj_pI (f := 3) C jcs_1 (Nat.le_of_ble_eq_true rfl) (jLk.of C q1236 rfl) dX2_begin_278 hF (fun v278 hF => ?_)
    refine jj_iconst (v := -1) C dX2_begin_281 (by decide) ?_
    refine jj_iast C dX2_begin_282 hF (fun M282 hF => ?_)
    refine jj_aload_n C 0 rfl dX2_begin_283 rfl ?_
    refine jj_aload_n C 0 rfl dX2_begin_284 rfl ?_
    refine jj_pI (f := 3) C jcs_1 (Nat.le_of_ble_eq_true rfl) (jLk.of C q1236 rfl) dX2_begin_285 hF (fun v285 hF => ?_)
    refine jj_pP (f := 4) C jcs_1 (Nat.le_of_ble_eq_true rfl) (jLk.of C q1237 rfl) (Or.inl rfl) dX2_begin_288 (jfit_i _) hF (fun M288 hF => ?_)
    refine jj_aload_n C 0 rfl dX2_begin_291 rfl ?_
    refine jj_iconst (v := 0) C dX2_begin_292 (by decide) ?_
    refine jj_pP (f := 14) C jcs_1 (Nat.le_of_ble_eq_true rfl) (jLk.of C q1247 rfl) (Or.inl rfl) dX2_begin_293 (jfit_i _) hF (fun M293 hF => ?_)
    refine jj_iconst (v := 0) C dX2_begin_296 (by decide) ?_
    refine jj_istore (L' := [(8, jI (0 : Int32)), (0, jR l0), (1, jI l1), (2, jI l2), (3, jI l3), (4, jI l4), (5, jI l5)]) C rfl (by rw [hxn]; decide) dX2_begin_297 ?_
    refine jj_sub [1, 0] rfl ?_
    exact w_X2_begin_b299 C hxn hQ 1000 _ _ _ hF
  · refine jj_iconst (v := 0) C dX2_begin_203 (by decide) ?_
    exact jj_iret C hQ dX2_begin_204 hF (Nat.zero_le _) (Nat.zero_le _)
def f_X2_begin_b162 (l0 : Option Nat) (l1 : Int32) (l2 : Int32) (l3 : Int32) (l4 : Int32) (l5 : Int32) (s0 : Option Nat) (M : jW) : Option (Int32 × jW) := f_X2_begin_b193 l0 l1 l2 l3 l4 l5 s0 (2 : Int32) M
set_option maxHeartbeats 4000000 in
theorem w_X2_begin_b162 {x : jX} (C : jOk x cX2_begin RX2 rm_X2_begin (some .int)) (hxn : xn x = 9) {v0 : Int32} {M0 : jW} (hQ : jEnd x rm_X2_begin (some (jI v0)) M0) {l0 : Option Nat} {l1 : Int32} {l2 : Int32} {l3 : Int32} {l4 : Int32} {l5 : Int32} {s0 : Option Nat} {M : jW} (hF : f_X2_begin_b162 l0 l1 l2 l3 l4 l5 s0 M = some (v0, M0)) : jJ x 162 [(0, jR l0), (1, jI l1), (2, jI l2), (3, jI l3), (4, jI l4), (5, jI l5)] [jR s0] M 0 0 := by
  unfold f_X2_begin_b162 at hF
  refine jj_iconst (v := 2) C dX2_begin_162 (by decide) ?_
  refine jj_goto (tgt := 193) C dX2_begin_163 (by decide) ?_
  refine jj_sub [0, 1, 2, 3, 4, 5] rfl ?_
  exact w_X2_begin_b193 C hxn hQ hF
def f_X2_begin_b188 (l0 : Option Nat) (l1 : Int32) (l2 : Int32) (l3 : Int32) (l4 : Int32) (l5 : Int32) (s0 : Option Nat) (M : jW) : Option (Int32 × jW) := f_X2_begin_b193 l0 l1 l2 l3 l4 l5 s0 (3 : Int32) M
set_option maxHeartbeats 4000000 in
theorem w_X2_begin_b188 {x : jX} (C : jOk x cX2_begin RX2 rm_X2_begin (some .int)) (hxn : xn x = 9) {v0 : Int32} {M0 : jW} (hQ : jEnd x rm_X2_begin (some (jI v0)) M0) {l0 : Option Nat} {l1 : Int32} {l2 : Int32} {l3 : Int32} {l4 : Int32} {l5 : Int32} {s0 : Option Nat} {M : jW} (hF : f_X2_begin_b188 l0 l1 l2 l3 l4 l5 s0 M = some (v0, M0)) : jJ x 188 [(0, jR l0), (1, jI l1), (2, jI l2), (3, jI l3), (4, jI l4), (5, jI l5)] [jR s0] M 0 0 := by
  unfold f_X2_begin_b188 at hF
  refine jj_iconst (v := 3) C dX2_begin_188 (by decide) ?_
  refine jj_goto (tgt := 193) C dX2_begin_189 (by decide) ?_
  refine jj_sub [0, 1, 2, 3, 4, 5] rfl ?_
  exact w_X2_begin_b193 C hxn hQ hF
def f_X2_begin_b129 (l0 : Option Nat) (l1 : Int32) (l2 : Int32) (l3 : Int32) (l4 : Int32) (l5 : Int32) (l6 : Int32) (s0 : Int32) (M : jW) : Option (Int32 × jW) := if l1 = l2 then (f_X2_begin_b162 l0 l1 l2 l3 l4 l5 l0 M)
  else (pB (f_X2_isIn l3 (0 : Int32) (2 : Int32) M) fun r140 M140 =>
  if r140 = 0 then (f_X2_begin_b162 l0 l1 l2 l3 l4 l5 l0 M140)
  else (pB (f_X2_isIn l4 (1 : Int32) (45 : Int32) M140) fun r151 M151 =>
  if r151 = 0 then (f_X2_begin_b162 l0 l1 l2 l3 l4 l5 l0 M151)
  else (if l6 = 0 then (f_X2_begin_b162 l0 l1 l2 l3 l4 l5 l0 M151)
  else (pI M151 l0 1 4 fun v167 =>
  if v167 = (-1 : Int32) then (if s0 = 0 then (f_X2_begin_b188 l0 l1 l2 l3 l4 l5 l0 M151)
  else (pI M151 l0 1 3 fun v180 =>
  if v180 = (80 : Int32) then (f_X2_begin_b188 l0 l1 l2 l3 l4 l5 l0 M151)
  else (f_X2_begin_b193 l0 l1 l2 l3 l4 l5 l0 (0 : Int32) M151)))
  else (f_X2_begin_b188 l0 l1 l2 l3 l4 l5 l0 M151)))))
set_option maxHeartbeats 4000000 in
theorem w_X2_begin_b129 {x : jX} (C : jOk x cX2_begin RX2 rm_X2_begin (some .int)) (hxn : xn x = 9) {v0 : Int32} {M0 : jW} (hQ : jEnd x rm_X2_begin (some (jI v0)) M0) {l0 : Option Nat} {l1 : Int32} {l2 : Int32} {l3 : Int32} {l4 : Int32} {l5 : Int32} {l6 : Int32} {s0 : Int32} {M : jW} (hF : f_X2_begin_b129 l0 l1 l2 l3 l4 l5 l6 s0 M = some (v0, M0)) : jJ x 129 [(0, jR l0), (1, jI l1), (2, jI l2), (3, jI l3), (4, jI l4), (5, jI l5), (6, jI l6)] [jI s0] M 0 0 := by
  unfold f_X2_begin_b129 at hF
  refine jj_istore (L' := [(7, jI s0), (0, jR l0), (1, jI l1), (2, jI l2), (3, jI l3), (4, jI l4), (5, jI l5), (6, jI l6)]) C rfl (by rw [hxn]; decide) dX2_begin_129 ?_
  refine jj_aload_n C 1 rfl dX2_begin_131 rfl ?_
  refine jj_iload_n C 2 rfl dX2_begin_132 rfl ?_
  refine jj_iload_n C 3 rfl dX2_begin_133 rfl ?_
  refine jj_icmp_eq (tgt := 162) C dX2_begin_134 (by decide) hF (fun hF => ?_) (fun hF => ?_)
  · refine jj_sub [1, 2, 3, 4, 5, 6] rfl ?_
    exact w_X2_begin_b162 C hxn hQ hF
  · refine jj_iload_n C 4 rfl dX2_begin_137 rfl ?_
    refine jj_iconst (v := 0) C dX2_begin_138 (by decide) ?_
    refine jj_iconst (v := 2) C dX2_begin_139 (by decide) ?_
    obtain ⟨r140, M140, hG, hF⟩ := pB_spec hF
    refine jj_callS (k' := 0) (n' := 0) C [jI l3, jI (0 : Int32), jI (2 : Int32)] [jR l0] [jI r140, jR l0] (m_X2_isIn _ _ hG) q1346 q1347 q46 q1348 hd_X2_isIn rfl (Nat.le_of_ble_eq_true rfl) ⟨Nat.le_of_ble_eq_true rfl, Nat.le_of_ble_eq_true rfl⟩ ⟨Nat.le_refl _, Nat.le_refl _, Nat.le_refl _, Nat.le_refl _⟩ dX2_begin_140 rfl ?_
    refine jj_if_eq (tgt := 162) C dX2_begin_143 (by decide) hF (fun hF => ?_) (fun hF => ?_)
    · refine jj_sub [1, 2, 3, 4, 5, 6] rfl ?_
      exact w_X2_begin_b162 C hxn hQ hF
    · refine jj_iload C 5 rfl dX2_begin_146 ?_
      refine jj_iconst (v := 1) C dX2_begin_148 (by decide) ?_
      refine jj_bipush (v := 45) C dX2_begin_149 (by decide) ?_
      obtain ⟨r151, M151, hG, hF⟩ := pB_spec hF
      refine jj_callS (k' := 0) (n' := 0) C [jI l4, jI (1 : Int32), jI (45 : Int32)] [jR l0] [jI r151, jR l0] (m_X2_isIn _ _ hG) q1346 q1347 q46 q1348 hd_X2_isIn rfl (Nat.le_of_ble_eq_true rfl) ⟨Nat.le_of_ble_eq_true rfl, Nat.le_of_ble_eq_true rfl⟩ ⟨Nat.le_refl _, Nat.le_refl _, Nat.le_refl _, Nat.le_refl _⟩ dX2_begin_151 rfl ?_
      refine jj_if_eq (tgt := 162) C dX2_begin_154 (by decide) hF (fun hF => ?_) (fun hF => ?_)
      · refine jj_sub [1, 2, 3, 4, 5, 6] rfl ?_
        exact w_X2_begin_b162 C hxn hQ hF
      · refine jj_iload C 7 rfl dX2_begin_157 ?_
        refine jj_if_ne (tgt := 166) C dX2_begin_159 (by decide) hF (fun hF => ?_) (fun hF => ?_)
        · refine jj_aload_n C 1 rfl dX2_begin_166 rfl ?_
          refine jj_pI (f := 4) C jcs_1 (Nat.le_of_ble_eq_true rfl) (jLk.of C q1237 rfl) dX2_begin_167 hF (fun v167 hF => ?_)
          refine jj_iconst (v := -1) C dX2_begin_170 (by decide) ?_
          refine jj_icmp_ne (tgt := 188) C dX2_begin_171 (by decide) hF (fun hF => ?_) (fun hF => ?_)
          · refine jj_sub [1, 2, 3, 4, 5, 6] rfl ?_
            exact w_X2_begin_b188 C hxn hQ hF
          · refine jj_iload C 0 rfl dX2_begin_174 ?_
            refine jj_if_eq (tgt := 188) C dX2_begin_176 (by decide) hF (fun hF => ?_) (fun hF => ?_)
            · refine jj_sub [1, 2, 3, 4, 5, 6] rfl ?_
              exact w_X2_begin_b188 C hxn hQ hF
            · refine jj_aload_n C 1 rfl dX2_begin_179 rfl ?_
              refine jj_pI (f := 3) C jcs_1 (Nat.le_of_ble_eq_true rfl) (jLk.of C q1236 rfl) dX2_begin_180 hF (fun v180 hF => ?_)
              refine jj_bipush (v := 80) C dX2_begin_183 (by decide) ?_
              refine jj_icmp_ne (tgt := 192) C dX2_begin_185 (by decide) hF (fun hF => ?_) (fun hF => ?_)
              · refine jj_iconst (v := 0) C dX2_begin_192 (by decide) ?_
                refine jj_sub [1, 2, 3, 4, 5, 6] rfl ?_
                exact w_X2_begin_b193 C hxn hQ hF
              · refine jj_sub [1, 2, 3, 4, 5, 6] rfl ?_
                exact w_X2_begin_b188 C hxn hQ hF
        · refine jj_sub [1, 2, 3, 4, 5, 6] rfl ?_
          exact w_X2_begin_b162 C hxn hQ hF
def f_X2_begin_b124 (l0 : Option Nat) (l1 : Int32) (l2 : Int32) (l3 : Int32) (l4 : Int32) (l5 : Int32) (l6 : Int32) (M : jW) : Option (Int32 × jW) := f_X2_begin_b129 l0 l1 l2 l3 l4 l5 l6 (1 : Int32) M
set_option maxHeartbeats 4000000 in
theorem w_X2_begin_b124 {x : jX} (C : jOk x cX2_begin RX2 rm_X2_begin (some .int)) (hxn : xn x = 9) {v0 : Int32} {M0 : jW} (hQ : jEnd x rm_X2_begin (some (jI v0)) M0) {l0 : Option Nat} {l1 : Int32} {l2 : Int32} {l3 : Int32} {l4 : Int32} {l5 : Int32} {l6 : Int32} {M : jW} (hF : f_X2_begin_b124 l0 l1 l2 l3 l4 l5 l6 M = some (v0, M0)) : jJ x 124 [(0, jR l0), (1, jI l1), (2, jI l2), (3, jI l3), (4, jI l4), (5, jI l5), (6, jI l6)] [] M 0 0 := by
  unfold f_X2_begin_b124 at hF
  refine jj_iconst (v := 1) C dX2_begin_124 (by decide) ?_
  refine jj_goto (tgt := 129) C dX2_begin_125 (by decide) ?_
  refine jj_sub [0, 1, 2, 3, 4, 5, 6] rfl ?_
  exact w_X2_begin_b129 C hxn hQ hF
def f_X2_begin_b128 (l0 : Option Nat) (l1 : Int32) (l2 : Int32) (l3 : Int32) (l4 : Int32) (l5 : Int32) (l6 : Int32) (M : jW) : Option (Int32 × jW) := f_X2_begin_b129 l0 l1 l2 l3 l4 l5 l6 (0 : Int32) M
set_option maxHeartbeats 4000000 in
theorem w_X2_begin_b128 {x : jX} (C : jOk x cX2_begin RX2 rm_X2_begin (some .int)) (hxn : xn x = 9) {v0 : Int32} {M0 : jW} (hQ : jEnd x rm_X2_begin (some (jI v0)) M0) {l0 : Option Nat} {l1 : Int32} {l2 : Int32} {l3 : Int32} {l4 : Int32} {l5 : Int32} {l6 : Int32} {M : jW} (hF : f_X2_begin_b128 l0 l1 l2 l3 l4 l5 l6 M = some (v0, M0)) : jJ x 128 [(0, jR l0), (1, jI l1), (2, jI l2), (3, jI l3), (4, jI l4), (5, jI l5), (6, jI l6)] [] M 0 0 := by
  unfold f_X2_begin_b128 at hF
  refine jj_iconst (v := 0) C dX2_begin_128 (by decide) ?_
  refine jj_sub [0, 1, 2, 3, 4, 5, 6] rfl ?_
  exact w_X2_begin_b129 C hxn hQ hF
def f_X2_begin_b88 (l0 : Option Nat) (l1 : Int32) (l2 : Int32) (l3 : Int32) (l4 : Int32) (l5 : Int32) (s0 : Int32) (M : jW) : Option (Int32 × jW) := if l5 = (-1 : Int32) then (f_X2_begin_b124 l0 l1 l2 l3 l4 l5 s0 M)
  else (pR M l0 1 25 fun v97 =>
  pAI M v97 0 l5 fun v102 =>
  pB (f_X2_has v102 l1 M) fun r104 M104 =>
  if r104 = 0 then (pR M104 l0 1 25 fun v111 =>
  pAI M104 v111 0 l5 fun v116 =>
  pB (f_X2_has v116 l2 M104) fun r118 M118 =>
  if r118 = 0 then (f_X2_begin_b124 l0 l1 l2 l3 l4 l5 s0 M118)
  else (f_X2_begin_b128 l0 l1 l2 l3 l4 l5 s0 M118))
  else (f_X2_begin_b128 l0 l1 l2 l3 l4 l5 s0 M104))
set_option maxHeartbeats 4000000 in
theorem w_X2_begin_b88 {x : jX} (C : jOk x cX2_begin RX2 rm_X2_begin (some .int)) (hxn : xn x = 9) {v0 : Int32} {M0 : jW} (hQ : jEnd x rm_X2_begin (some (jI v0)) M0) {l0 : Option Nat} {l1 : Int32} {l2 : Int32} {l3 : Int32} {l4 : Int32} {l5 : Int32} {s0 : Int32} {M : jW} (hF : f_X2_begin_b88 l0 l1 l2 l3 l4 l5 s0 M = some (v0, M0)) : jJ x 88 [(0, jR l0), (1, jI l1), (2, jI l2), (3, jI l3), (4, jI l4), (5, jI l5)] [jI s0] M 0 0 := by
  unfold f_X2_begin_b88 at hF
  refine jj_istore (L' := [(6, jI s0), (0, jR l0), (1, jI l1), (2, jI l2), (3, jI l3), (4, jI l4), (5, jI l5)]) C rfl (by rw [hxn]; decide) dX2_begin_88 ?_
  refine jj_iload C 6 rfl dX2_begin_90 ?_
  refine jj_iconst (v := -1) C dX2_begin_92 (by decide) ?_
  refine jj_icmp_eq (tgt := 124) C dX2_begin_93 (by decide) hF (fun hF => ?_) (fun hF => ?_)
  · refine jj_sub [1, 2, 3, 4, 5, 6, 0] rfl ?_
    exact w_X2_begin_b124 C hxn hQ hF
  · refine jj_aload_n C 1 rfl dX2_begin_96 rfl ?_
    refine jj_pR (f := 25) C jcs_1 (Nat.le_of_ble_eq_true rfl) (jLk.of C q1258 rfl) dX2_begin_97 hF (fun v97 hF => ?_)
    refine jj_iload C 6 rfl dX2_begin_100 ?_
    refine jj_iald C dX2_begin_102 hF (fun v102 hF => ?_)
    refine jj_iload_n C 2 rfl dX2_begin_103 rfl ?_
    obtain ⟨r104, M104, hG, hF⟩ := pB_spec hF
    refine jj_callS (k' := 0) (n' := 0) C [jI v102, jI l1] [] [jI r104] (m_X2_has _ _ hG) q1353 q1354 q46 q1355 hd_X2_has rfl (Nat.le_of_ble_eq_true rfl) ⟨Nat.le_of_ble_eq_true rfl, Nat.le_of_ble_eq_true rfl⟩ ⟨Nat.le_refl _, Nat.le_refl _, Nat.le_refl _, Nat.le_refl _⟩ dX2_begin_104 rfl ?_
    refine jj_if_ne (tgt := 128) C dX2_begin_107 (by decide) hF (fun hF => ?_) (fun hF => ?_)
    · refine jj_sub [1, 2, 3, 4, 5, 6, 0] rfl ?_
      exact w_X2_begin_b128 C hxn hQ hF
    · refine jj_aload_n C 1 rfl dX2_begin_110 rfl ?_
      refine jj_pR (f := 25) C jcs_1 (Nat.le_of_ble_eq_true rfl) (jLk.of C q1258 rfl) dX2_begin_111 hF (fun v111 hF => ?_)
      refine jj_iload C 6 rfl dX2_begin_114 ?_
      refine jj_iald C dX2_begin_116 hF (fun v116 hF => ?_)
      refine jj_iload_n C 3 rfl dX2_begin_117 rfl ?_
      obtain ⟨r118, M118, hG, hF⟩ := pB_spec hF
      refine jj_callS (k' := 0) (n' := 0) C [jI v116, jI l2] [] [jI r118] (m_X2_has _ _ hG) q1353 q1354 q46 q1355 hd_X2_has rfl (Nat.le_of_ble_eq_true rfl) ⟨Nat.le_of_ble_eq_true rfl, Nat.le_of_ble_eq_true rfl⟩ ⟨Nat.le_refl _, Nat.le_refl _, Nat.le_refl _, Nat.le_refl _⟩ dX2_begin_118 rfl ?_
      refine jj_if_ne (tgt := 128) C dX2_begin_121 (by decide) hF (fun hF => ?_) (fun hF => ?_)
      · refine jj_sub [1, 2, 3, 4, 5, 6, 0] rfl ?_
        exact w_X2_begin_b128 C hxn hQ hF
      · refine jj_sub [1, 2, 3, 4, 5, 6, 0] rfl ?_
        exact w_X2_begin_b124 C hxn hQ hF
def f_X2_begin_b83 (l0 : Option Nat) (l1 : Int32) (l2 : Int32) (l3 : Int32) (l4 : Int32) (l5 : Int32) (M : jW) : Option (Int32 × jW) := f_X2_begin_b88 l0 l1 l2 l3 l4 l5 (1 : Int32) M
set_option maxHeartbeats 4000000 in
theorem w_X2_begin_b83 {x : jX} (C : jOk x cX2_begin RX2 rm_X2_begin (some .int)) (hxn : xn x = 9) {v0 : Int32} {M0 : jW} (hQ : jEnd x rm_X2_begin (some (jI v0)) M0) {l0 : Option Nat} {l1 : Int32} {l2 : Int32} {l3 : Int32} {l4 : Int32} {l5 : Int32} {M : jW} (hF : f_X2_begin_b83 l0 l1 l2 l3 l4 l5 M = some (v0, M0)) : jJ x 83 [(0, jR l0), (1, jI l1), (2, jI l2), (3, jI l3), (4, jI l4), (5, jI l5)] [] M 0 0 := by
  unfold f_X2_begin_b83 at hF
  refine jj_iconst (v := 1) C dX2_begin_83 (by decide) ?_
  refine jj_goto (tgt := 88) C dX2_begin_84 (by decide) ?_
  refine jj_sub [0, 1, 2, 3, 4, 5] rfl ?_
  exact w_X2_begin_b88 C hxn hQ hF
def f_X2_begin_b87 (l0 : Option Nat) (l1 : Int32) (l2 : Int32) (l3 : Int32) (l4 : Int32) (l5 : Int32) (M : jW) : Option (Int32 × jW) := f_X2_begin_b88 l0 l1 l2 l3 l4 l5 (0 : Int32) M
set_option maxHeartbeats 4000000 in
theorem w_X2_begin_b87 {x : jX} (C : jOk x cX2_begin RX2 rm_X2_begin (some .int)) (hxn : xn x = 9) {v0 : Int32} {M0 : jW} (hQ : jEnd x rm_X2_begin (some (jI v0)) M0) {l0 : Option Nat} {l1 : Int32} {l2 : Int32} {l3 : Int32} {l4 : Int32} {l5 : Int32} {M : jW} (hF : f_X2_begin_b87 l0 l1 l2 l3 l4 l5 M = some (v0, M0)) : jJ x 87 [(0, jR l0), (1, jI l1), (2, jI l2), (3, jI l3), (4, jI l4), (5, jI l5)] [] M 0 0 := by
  unfold f_X2_begin_b87 at hF
  refine jj_iconst (v := 0) C dX2_begin_87 (by decide) ?_
  refine jj_sub [0, 1, 2, 3, 4, 5] rfl ?_
  exact w_X2_begin_b88 C hxn hQ hF
def f_X2_begin_b37 (l0 : Option Nat) (l1 : Int32) (l2 : Int32) (l3 : Int32) (l4 : Int32) (l5 : Int32) (s0 : Option Nat) (s1 : Int32) (M : jW) : Option (Int32 × jW) := pP M s0 1 31 (jI s1) fun M37 =>
  pI M37 l0 1 31 fun v41 =>
  if v41 ≤ 0 then (if l5 = (-1 : Int32) then (f_X2_begin_b83 l0 l1 l2 l3 l4 l5 M37)
  else (pR M37 l0 1 24 fun v56 =>
  pAI M37 v56 0 l5 fun v61 =>
  pB (f_X2_has v61 l1 M37) fun r63 M63 =>
  if r63 = 0 then (f_X2_begin_b87 l0 l1 l2 l3 l4 l5 M63)
  else (pR M63 l0 1 24 fun v70 =>
  pAI M63 v70 0 l5 fun v75 =>
  pB (f_X2_has v75 l2 M63) fun r77 M77 =>
  if r77 = 0 then (f_X2_begin_b87 l0 l1 l2 l3 l4 l5 M77)
  else (f_X2_begin_b83 l0 l1 l2 l3 l4 l5 M77))))
  else (some ((0 : Int32), M37))
set_option maxHeartbeats 4000000 in
theorem w_X2_begin_b37 {x : jX} (C : jOk x cX2_begin RX2 rm_X2_begin (some .int)) (hxn : xn x = 9) {v0 : Int32} {M0 : jW} (hQ : jEnd x rm_X2_begin (some (jI v0)) M0) {l0 : Option Nat} {l1 : Int32} {l2 : Int32} {l3 : Int32} {l4 : Int32} {l5 : Int32} {s0 : Option Nat} {s1 : Int32} {M : jW} (hF : f_X2_begin_b37 l0 l1 l2 l3 l4 l5 s0 s1 M = some (v0, M0)) : jJ x 37 [(0, jR l0), (1, jI l1), (2, jI l2), (3, jI l3), (4, jI l4), (5, jI l5)] [jI s1, jR s0] M 0 0 := by
  unfold f_X2_begin_b37 at hF
  refine jj_pP (f := 31) C jcs_1 (Nat.le_of_ble_eq_true rfl) (jLk.of C q1264 rfl) (Or.inl rfl) dX2_begin_37 (jfit_i _) hF (fun M37 hF => ?_)
  refine jj_aload_n C 0 rfl dX2_begin_40 rfl ?_
  refine jj_pI (f := 31) C jcs_1 (Nat.le_of_ble_eq_true rfl) (jLk.of C q1264 rfl) dX2_begin_41 hF (fun v41 hF => ?_)
  refine jj_if_le (tgt := 49) C dX2_begin_44 (by decide) hF (fun hF => ?_) (fun hF => ?_)
  · refine jj_iload C 5 rfl dX2_begin_49 ?_
    refine jj_iconst (v := -1) C dX2_begin_51 (by decide) ?_
    refine jj_icmp_eq (tgt := 83) C dX2_begin_52 (by decide) hF (fun hF => ?_) (fun hF => ?_)
    · refine jj_sub [0, 1, 2, 3, 4, 5] rfl ?_
      exact w_X2_begin_b83 C hxn hQ hF
    · refine jj_aload_n C 0 rfl dX2_begin_55 rfl ?_
      refine jj_pR (f := 24) C jcs_1 (Nat.le_of_ble_eq_true rfl) (jLk.of C q1257 rfl) dX2_begin_56 hF (fun v56 hF => ?_)
      refine jj_iload C 5 rfl dX2_begin_59 ?_
      refine jj_iald C dX2_begin_61 hF (fun v61 hF => ?_)
      refine jj_iload_n C 1 rfl dX2_begin_62 rfl ?_
      obtain ⟨r63, M63, hG, hF⟩ := pB_spec hF
      refine jj_callS (k' := 0) (n' := 0) C [jI v61, jI l1] [] [jI r63] (m_X2_has _ _ hG) q1353 q1354 q46 q1355 hd_X2_has rfl (Nat.le_of_ble_eq_true rfl) ⟨Nat.le_of_ble_eq_true rfl, Nat.le_of_ble_eq_true rfl⟩ ⟨Nat.le_refl _, Nat.le_refl _, Nat.le_refl _, Nat.le_refl _⟩ dX2_begin_63 rfl ?_
      refine jj_if_eq (tgt := 87) C dX2_begin_66 (by decide) hF (fun hF => ?_) (fun hF => ?_)
      · refine jj_sub [0, 1, 2, 3, 4, 5] rfl ?_
        exact w_X2_begin_b87 C hxn hQ hF
      · refine jj_aload_n C 0 rfl dX2_begin_69 rfl ?_
        refine jj_pR (f := 24) C jcs_1 (Nat.le_of_ble_eq_true rfl) (jLk.of C q1257 rfl) dX2_begin_70 hF (fun v70 hF => ?_)
        refine jj_iload C 5 rfl dX2_begin_73 ?_
        refine jj_iald C dX2_begin_75 hF (fun v75 hF => ?_)
        refine jj_iload_n C 2 rfl dX2_begin_76 rfl ?_
        obtain ⟨r77, M77, hG, hF⟩ := pB_spec hF
        refine jj_callS (k' := 0) (n' := 0) C [jI v75, jI l2] [] [jI r77] (m_X2_has _ _ hG) q1353 q1354 q46 q1355 hd_X2_has rfl (Nat.le_of_ble_eq_true rfl) ⟨Nat.le_of_ble_eq_true rfl, Nat.le_of_ble_eq_true rfl⟩ ⟨Nat.le_refl _, Nat.le_refl _, Nat.le_refl _, Nat.le_refl _⟩ dX2_begin_77 rfl ?_
        refine jj_if_eq (tgt := 87) C dX2_begin_80 (by decide) hF (fun hF => ?_) (fun hF => ?_)
        · refine jj_sub [0, 1, 2, 3, 4, 5] rfl ?_
          exact w_X2_begin_b87 C hxn hQ hF
        · refine jj_sub [0, 1, 2, 3, 4, 5] rfl ?_
          exact w_X2_begin_b83 C hxn hQ hF
  · refine jj_iconst (v := 0) C dX2_begin_47 (by decide) ?_
    exact jj_iret C hQ dX2_begin_48 hF (Nat.zero_le _) (Nat.zero_le _)
def f_X2_begin_b32 (l0 : Option Nat) (l1 : Int32) (l2 : Int32) (l3 : Int32) (l4 : Int32) (l5 : Int32) (s0 : Option Nat) (M : jW) : Option (Int32 × jW) := f_X2_begin_b37 l0 l1 l2 l3 l4 l5 s0 (1 : Int32) M
set_option maxHeartbeats 4000000 in
theorem w_X2_begin_b32 {x : jX} (C : jOk x cX2_begin RX2 rm_X2_begin (some .int)) (hxn : xn x = 9) {v0 : Int32} {M0 : jW} (hQ : jEnd x rm_X2_begin (some (jI v0)) M0) {l0 : Option Nat} {l1 : Int32} {l2 : Int32} {l3 : Int32} {l4 : Int32} {l5 : Int32} {s0 : Option Nat} {M : jW} (hF : f_X2_begin_b32 l0 l1 l2 l3 l4 l5 s0 M = some (v0, M0)) : jJ x 32 [(0, jR l0), (1, jI l1), (2, jI l2), (3, jI l3), (4, jI l4), (5, jI l5)] [jR s0] M 0 0 := by
  unfold f_X2_begin_b32 at hF
  refine jj_iconst (v := 1) C dX2_begin_32 (by decide) ?_
  refine jj_goto (tgt := 37) C dX2_begin_33 (by decide) ?_
  refine jj_sub [0, 1, 2, 3, 4, 5] rfl ?_
  exact w_X2_begin_b37 C hxn hQ hF
def f_X2_begin_b36 (l0 : Option Nat) (l1 : Int32) (l2 : Int32) (l3 : Int32) (l4 : Int32) (l5 : Int32) (s0 : Option Nat) (M : jW) : Option (Int32 × jW) := f_X2_begin_b37 l0 l1 l2 l3 l4 l5 s0 (0 : Int32) M
set_option maxHeartbeats 4000000 in
theorem w_X2_begin_b36 {x : jX} (C : jOk x cX2_begin RX2 rm_X2_begin (some .int)) (hxn : xn x = 9) {v0 : Int32} {M0 : jW} (hQ : jEnd x rm_X2_begin (some (jI v0)) M0) {l0 : Option Nat} {l1 : Int32} {l2 : Int32} {l3 : Int32} {l4 : Int32} {l5 : Int32} {s0 : Option Nat} {M : jW} (hF : f_X2_begin_b36 l0 l1 l2 l3 l4 l5 s0 M = some (v0, M0)) : jJ x 36 [(0, jR l0), (1, jI l1), (2, jI l2), (3, jI l3), (4, jI l4), (5, jI l5)] [jR s0] M 0 0 := by
  unfold f_X2_begin_b36 at hF
  refine jj_iconst (v := 0) C dX2_begin_36 (by decide) ?_
  refine jj_sub [0, 1, 2, 3, 4, 5] rfl ?_
  exact w_X2_begin_b37 C hxn hQ hF
def f_X2_begin (a0 : Option Nat) (a1 : Int32) (a2 : Int32) (a3 : Int32) (a4 : Int32) (a5 : Int32) (M : jW) : Option (Int32 × jW) := pO M a0 1 fun b3 _ => pB (f_X2_isFencer (some b3) a1 M) fun r3 M3 =>
  if r3 = 0 then (f_X2_begin_b32 a0 a1 a2 a3 a4 a5 a0 M3)
  else (pO M3 a0 1 fun b11 _ => pB (f_X2_isFencer (some b11) a2 M3) fun r11 M11 =>
  if r11 = 0 then (f_X2_begin_b32 a0 a1 a2 a3 a4 a5 a0 M11)
  else (if a5 = (-1 : Int32) then (f_X2_begin_b36 a0 a1 a2 a3 a4 a5 a0 M11)
  else (pO M11 a0 1 fun b26 _ => pB (f_X2_isPool (some b26) a5 M11) fun r26 M26 =>
  if r26 = 0 then (f_X2_begin_b32 a0 a1 a2 a3 a4 a5 a0 M26)
  else (f_X2_begin_b36 a0 a1 a2 a3 a4 a5 a0 M26))))
set_option maxHeartbeats 4000000 in
theorem m_X2_begin (l : Launch) (g : jG) {a0 : Option Nat} {a1 : Int32} {a2 : Int32} {a3 : Int32} {a4 : Int32} {a5 : Int32} {M M0 : jW} {v0 : Int32} (hF : f_X2_begin a0 a1 a2 a3 a4 a5 M = some (v0, M0)) : jMet l g yX2_begin cX2_begin 9 (some .int) rm_X2_begin [jR a0, jI a1, jI a2, jI a3, jI a4, jI a5] M (some (jI v0)) M0 := by
  refine jMet.of (L := [(0, jR a0), (1, jI a1), (2, jI a2), (3, jI a3), (4, jI a4), (5, jI a5)]) (by decide) rfl (Nat.le_of_ble_eq_true rfl) (fun x C hxn hg hl hQ hin => ?_)
  subst hg
  unfold f_X2_begin at hF
  refine jj_aload_n C 0 rfl dX2_begin_0 rfl ?_
  refine jj_aload_n C 0 rfl dX2_begin_1 rfl ?_
  refine jj_iload_n C 1 rfl dX2_begin_2 rfl ?_
  obtain ⟨b3, fs3, he3, hb3, hF⟩ := pO_spec hF
  obtain ⟨r3, M3, hG, hF⟩ := pB_spec hF
  refine jj_callV (k' := 0) (n' := 0) C [jI a1] [jR a0] [jI r3, jR a0] he3 (m_X2_isFencer _ _ hG) hb3 rfl q1342 q1344 qs22 q46 q1345 ⟨rfl, hd_X2_isFencer⟩ rfl (Nat.le_of_ble_eq_true rfl) ⟨Nat.le_of_ble_eq_true rfl, Nat.le_of_ble_eq_true rfl⟩ ⟨Nat.le_refl _, Nat.le_refl _, Nat.le_refl _, Nat.le_refl _⟩ dX2_begin_3 rfl ?_
  refine jj_if_eq (tgt := 32) C dX2_begin_6 (by decide) hF (fun hF => ?_) (fun hF => ?_)
  · refine jj_sub [0, 1, 2, 3, 4, 5] rfl ?_
    exact w_X2_begin_b32 C hxn hQ hF
  · refine jj_aload_n C 0 rfl dX2_begin_9 rfl ?_
    refine jj_iload_n C 2 rfl dX2_begin_10 rfl ?_
    obtain ⟨b11, fs11, he11, hb11, hF⟩ := pO_spec hF
    obtain ⟨r11, M11, hG, hF⟩ := pB_spec hF
    refine jj_callV (k' := 0) (n' := 0) C [jI a2] [jR a0] [jI r11, jR a0] he11 (m_X2_isFencer _ _ hG) hb11 rfl q1342 q1344 qs22 q46 q1345 ⟨rfl, hd_X2_isFencer⟩ rfl (Nat.le_of_ble_eq_true rfl) ⟨Nat.le_of_ble_eq_true rfl, Nat.le_of_ble_eq_true rfl⟩ ⟨Nat.le_refl _, Nat.le_refl _, Nat.le_refl _, Nat.le_refl _⟩ dX2_begin_11 rfl ?_
    refine jj_if_eq (tgt := 32) C dX2_begin_14 (by decide) hF (fun hF => ?_) (fun hF => ?_)
    · refine jj_sub [0, 1, 2, 3, 4, 5] rfl ?_
      exact w_X2_begin_b32 C hxn hQ hF
    · refine jj_iload C 5 rfl dX2_begin_17 ?_
      refine jj_iconst (v := -1) C dX2_begin_19 (by decide) ?_
      refine jj_icmp_eq (tgt := 36) C dX2_begin_20 (by decide) hF (fun hF => ?_) (fun hF => ?_)
      · refine jj_sub [0, 1, 2, 3, 4, 5] rfl ?_
        exact w_X2_begin_b36 C hxn hQ hF
      · refine jj_aload_n C 0 rfl dX2_begin_23 rfl ?_
        refine jj_iload C 5 rfl dX2_begin_24 ?_
        obtain ⟨b26, fs26, he26, hb26, hF⟩ := pO_spec hF
        obtain ⟨r26, M26, hG, hF⟩ := pB_spec hF
        refine jj_callV (k' := 0) (n' := 0) C [jI a5] [jR a0] [jI r26, jR a0] he26 (m_X2_isPool _ _ hG) hb26 rfl q1349 q1351 qs23 q46 q1352 ⟨rfl, hd_X2_isPool⟩ rfl (Nat.le_of_ble_eq_true rfl) ⟨Nat.le_of_ble_eq_true rfl, Nat.le_of_ble_eq_true rfl⟩ ⟨Nat.le_refl _, Nat.le_refl _, Nat.le_refl _, Nat.le_refl _⟩ dX2_begin_26 rfl ?_
        refine jj_if_ne (tgt := 36) C dX2_begin_29 (by decide) hF (fun hF => ?_) (fun hF => ?_)
        · refine jj_sub [0, 1, 2, 3, 4, 5] rfl ?_
          exact w_X2_begin_b36 C hxn hQ hF
        · refine jj_sub [0, 1, 2, 3, 4, 5] rfl ?_
          exact w_X2_begin_b32 C hxn hQ hF
/-! PhrasehallModel.isSide(I)Z -/
def rm_X2_isSide : Room := ({ frames := 2, cells := 0, slots := 0, locals := 86 } : Room)
theorem hd_X2_isSide : yX2_isSide.cls ≠ "java/lang/invoke/MethodHandle" ∧ yX2_isSide.cls ≠ "java/lang/invoke/VarHandle" ∧ (parseMethodDescriptor yX2_isSide.desc).map (fun d => d.parameters.length) = some 1 := ⟨by decide, by decide, by decide +kernel⟩
def f_X2_isSide (a0 : Int32) (M : jW) : Option (Int32 × jW) := pB (f_X2_isIn a0 (0 : Int32) (1 : Int32) M) fun r3 M3 =>
  pRZ r3 M3
set_option maxHeartbeats 4000000 in
theorem m_X2_isSide (l : Launch) (g : jG) {a0 : Int32} {M M0 : jW} {v0 : Int32} (hF : f_X2_isSide a0 M = some (v0, M0)) : jMet l g yX2_isSide cX2_isSide 1 (some .boolean) rm_X2_isSide [jI a0] M (some (jI v0)) M0 := by
  refine jMet.of (L := [(0, jI a0)]) (by decide) rfl (Nat.le_of_ble_eq_true rfl) (fun x C hxn hg hl hQ hin => ?_)
  subst hg
  unfold f_X2_isSide at hF
  refine jj_iload_n C 0 rfl dX2_isSide_0 rfl ?_
  refine jj_iconst (v := 0) C dX2_isSide_1 (by decide) ?_
  refine jj_iconst (v := 1) C dX2_isSide_2 (by decide) ?_
  obtain ⟨r3, M3, hG, hF⟩ := pB_spec hF
  refine jj_callS (k' := 0) (n' := 0) C [jI a0, jI (0 : Int32), jI (1 : Int32)] [] [jI r3] (m_X2_isIn _ _ hG) q1346 q1347 q46 q1348 hd_X2_isIn rfl (Nat.le_of_ble_eq_true rfl) ⟨Nat.le_of_ble_eq_true rfl, Nat.le_of_ble_eq_true rfl⟩ ⟨Nat.le_refl _, Nat.le_refl _, Nat.le_refl _, Nat.le_refl _⟩ dX2_isSide_3 rfl ?_
  exact jj_zret C hQ dX2_isSide_6 hF (Nat.zero_le _) (Nat.zero_le _)
/-! PhrasehallModel.may(I)Z -/
def rm_X2_may : Room := ({ frames := 1, cells := 0, slots := 0, locals := 64 } : Room)
theorem hd_X2_may : yX2_may.cls ≠ "java/lang/invoke/MethodHandle" ∧ yX2_may.cls ≠ "java/lang/invoke/VarHandle" ∧ (parseMethodDescriptor yX2_may.desc).map (fun d => d.parameters.length) = some 1 := ⟨by decide, by decide, by decide +kernel⟩
def f_X2_may_b39 (M : jW) : Option (Int32 × jW) := pRZ (1 : Int32) M
set_option maxHeartbeats 4000000 in
theorem w_X2_may_b39 {x : jX} (C : jOk x cX2_may RX2 rm_X2_may (some .boolean)) (hxn : xn x = 2) {v0 : Int32} {M0 : jW} (hQ : jEnd x rm_X2_may (some (jI v0)) M0) {M : jW} (hF : f_X2_may_b39  M = some (v0, M0)) : jJ x 39 [] [] M 0 0 := by
  unfold f_X2_may_b39 at hF
  refine jj_iconst (v := 1) C dX2_may_39 (by decide) ?_
  refine jj_goto (tgt := 44) C dX2_may_40 (by decide) ?_
  exact jj_zret C hQ dX2_may_44 hF (Nat.zero_le _) (Nat.zero_le _)
def f_X2_may (a0 : Option Nat) (a1 : Int32) (M : jW) : Option (Int32 × jW) := pI M a0 1 4 fun v1 =>
  if v1 = (-1 : Int32) then (pRZ (0 : Int32) M)
  else (pI M a0 1 17 fun v9 =>
  if (24 : Int32) ≤ v9 then (pRZ (0 : Int32) M)
  else (pI M a0 1 17 fun v18 =>
  if v18 = 0 then (f_X2_may_b39  M)
  else (pR M a0 1 20 fun v26 =>
  pI M a0 1 17 fun v30 =>
  pAI M v26 0 (v30 - (1 : Int32)) fun v35 =>
  if a1 < v35 then (pRZ (0 : Int32) M)
  else (f_X2_may_b39  M))))
set_option maxHeartbeats 4000000 in
theorem m_X2_may (l : Launch) (g : jG) {a0 : Option Nat} {a1 : Int32} {M M0 : jW} {v0 : Int32} (hF : f_X2_may a0 a1 M = some (v0, M0)) : jMet l g yX2_may cX2_may 2 (some .boolean) rm_X2_may [jR a0, jI a1] M (some (jI v0)) M0 := by
  refine jMet.of (L := [(0, jR a0), (1, jI a1)]) (by decide) rfl (Nat.le_of_ble_eq_true rfl) (fun x C hxn hg hl hQ hin => ?_)
  subst hg
  unfold f_X2_may at hF
  refine jj_aload_n C 0 rfl dX2_may_0 rfl ?_
  refine jj_pI (f := 4) C jcs_1 (Nat.le_of_ble_eq_true rfl) (jLk.of C q1237 rfl) dX2_may_1 hF (fun v1 hF => ?_)
  refine jj_iconst (v := -1) C dX2_may_4 (by decide) ?_
  refine jj_icmp_eq (tgt := 43) C dX2_may_5 (by decide) hF (fun hF => ?_) (fun hF => ?_)
  · refine jj_iconst (v := 0) C dX2_may_43 (by decide) ?_
    exact jj_zret C hQ dX2_may_44 hF (Nat.zero_le _) (Nat.zero_le _)
  · refine jj_aload_n C 0 rfl dX2_may_8 rfl ?_
    refine jj_pI (f := 17) C jcs_1 (Nat.le_of_ble_eq_true rfl) (jLk.of C q1250 rfl) dX2_may_9 hF (fun v9 hF => ?_)
    refine jj_bipush (v := 24) C dX2_may_12 (by decide) ?_
    refine jj_icmp_ge (tgt := 43) C dX2_may_14 (by decide) hF (fun hF => ?_) (fun hF => ?_)
    · refine jj_iconst (v := 0) C dX2_may_43 (by decide) ?_
      exact jj_zret C hQ dX2_may_44 hF (Nat.zero_le _) (Nat.zero_le _)
    · refine jj_aload_n C 0 rfl dX2_may_17 rfl ?_
      refine jj_pI (f := 17) C jcs_1 (Nat.le_of_ble_eq_true rfl) (jLk.of C q1250 rfl) dX2_may_18 hF (fun v18 hF => ?_)
      refine jj_if_eq (tgt := 39) C dX2_may_21 (by decide) hF (fun hF => ?_) (fun hF => ?_)
      · refine jj_sub [] rfl ?_
        exact w_X2_may_b39 C hxn hQ hF
      · refine jj_iload_n C 1 rfl dX2_may_24 rfl ?_
        refine jj_aload_n C 0 rfl dX2_may_25 rfl ?_
        refine jj_pR (f := 20) C jcs_1 (Nat.le_of_ble_eq_true rfl) (jLk.of C q1253 rfl) dX2_may_26 hF (fun v26 hF => ?_)
        refine jj_aload_n C 0 rfl dX2_may_29 rfl ?_
        refine jj_pI (f := 17) C jcs_1 (Nat.le_of_ble_eq_true rfl) (jLk.of C q1250 rfl) dX2_may_30 hF (fun v30 hF => ?_)
        refine jj_iconst (v := 1) C dX2_may_33 (by decide) ?_
        refine jj_isub C dX2_may_34 ?_
        refine jj_iald C dX2_may_35 hF (fun v35 hF => ?_)
        refine jj_icmp_lt (tgt := 43) C dX2_may_36 (by decide) hF (fun hF => ?_) (fun hF => ?_)
        · refine jj_iconst (v := 0) C dX2_may_43 (by decide) ?_
          exact jj_zret C hQ dX2_may_44 hF (Nat.zero_le _) (Nat.zero_le _)
        · refine jj_sub [] rfl ?_
          exact w_X2_may_b39 C hxn hQ hF
/-! PhrasehallModel.puts(III)I -/
def rm_X2_puts : Room := ({ frames := 1, cells := 0, slots := 0, locals := 64 } : Room)
theorem hd_X2_puts : yX2_puts.cls ≠ "java/lang/invoke/MethodHandle" ∧ yX2_puts.cls ≠ "java/lang/invoke/VarHandle" ∧ (parseMethodDescriptor yX2_puts.desc).map (fun d => d.parameters.length) = some 3 := ⟨by decide, by decide, by decide +kernel⟩
def f_X2_puts (a0 : Option Nat) (a1 : Int32) (a2 : Int32) (a3 : Int32) (M : jW) : Option (Int32 × jW) := pR M a0 1 18 fun v1 =>
  pI M a0 1 17 fun v5 =>
  pSI M v1 v5 a1 fun M9 =>
  pR M9 a0 1 19 fun v11 =>
  pI M9 a0 1 17 fun v15 =>
  pSI M9 v11 v15 a2 fun M19 =>
  pR M19 a0 1 20 fun v21 =>
  pI M19 a0 1 17 fun v25 =>
  pSI M19 v21 v25 a3 fun M29 =>
  pI M29 a0 1 17 fun v32 =>
  pP M29 a0 1 17 (jI (v32 + (1 : Int32))) fun M37 =>
  pI M37 a0 1 17 fun v41 =>
  some (v41, M37)
set_option maxHeartbeats 4000000 in
theorem m_X2_puts (l : Launch) (g : jG) {a0 : Option Nat} {a1 : Int32} {a2 : Int32} {a3 : Int32} {M M0 : jW} {v0 : Int32} (hF : f_X2_puts a0 a1 a2 a3 M = some (v0, M0)) : jMet l g yX2_puts cX2_puts 4 (some .int) rm_X2_puts [jR a0, jI a1, jI a2, jI a3] M (some (jI v0)) M0 := by
  refine jMet.of (L := [(0, jR a0), (1, jI a1), (2, jI a2), (3, jI a3)]) (by decide) rfl (Nat.le_of_ble_eq_true rfl) (fun x C hxn hg hl hQ hin => ?_)
  subst hg
  unfold f_X2_puts at hF
  refine jj_aload_n C 0 rfl dX2_puts_0 rfl ?_
  refine jj_pR (f := 18) C jcs_1 (Nat.le_of_ble_eq_true rfl) (jLk.of C q1251 rfl) dX2_puts_1 hF (fun v1 hF => ?_)
  refine jj_aload_n C 0 rfl dX2_puts_4 rfl ?_
  refine jj_pI (f := 17) C jcs_1 (Nat.le_of_ble_eq_true rfl) (jLk.of C q1250 rfl) dX2_puts_5 hF (fun v5 hF => ?_)
  refine jj_iload_n C 1 rfl dX2_puts_8 rfl ?_
  refine jj_iast C dX2_puts_9 hF (fun M9 hF => ?_)
  refine jj_aload_n C 0 rfl dX2_puts_10 rfl ?_
  refine jj_pR (f := 19) C jcs_1 (Nat.le_of_ble_eq_true rfl) (jLk.of C q1252 rfl) dX2_puts_11 hF (fun v11 hF => ?_)
  refine jj_aload_n C 0 rfl dX2_puts_14 rfl ?_
  refine jj_pI (f := 17) C jcs_1 (Nat.le_of_ble_eq_true rfl) (jLk.of C q1250 rfl) dX2_puts_15 hF (fun v15 hF => ?_)
  refine jj_iload_n C 2 rfl dX2_puts_18 rfl ?_
  refine jj_iast C dX2_puts_19 hF (fun M19 hF => ?_)
  refine jj_aload_n C 0 rfl dX2_puts_20 rfl ?_
  refine jj_pR (f := 20) C jcs_1 (Nat.le_of_ble_eq_true rfl) (jLk.of C q1253 rfl) dX2_puts_21 hF (fun v21 hF => ?_)
  refine jj_aload_n C 0 rfl dX2_puts_24 rfl ?_
  refine jj_pI (f := 17) C jcs_1 (Nat.le_of_ble_eq_true rfl) (jLk.of C q1250 rfl) dX2_puts_25 hF (fun v25 hF => ?_)
  refine jj_iload_n C 3 rfl dX2_puts_28 rfl ?_
  refine jj_iast C dX2_puts_29 hF (fun M29 hF => ?_)
  refine jj_aload_n C 0 rfl dX2_puts_30 rfl ?_
  refine jj_dup C dX2_puts_31 rfl ?_
  refine jj_pI (f := 17) C jcs_1 (Nat.le_of_ble_eq_true rfl) (jLk.of C q1250 rfl) dX2_puts_32 hF (fun v32 hF => ?_)
  refine jj_iconst (v := 1) C dX2_puts_35 (by decide) ?_
  refine jj_iadd C dX2_puts_36 ?_
  refine jj_pP (f := 17) C jcs_1 (Nat.le_of_ble_eq_true rfl) (jLk.of C q1250 rfl) (Or.inl rfl) dX2_puts_37 (jfit_i _) hF (fun M37 hF => ?_)
  refine jj_aload_n C 0 rfl dX2_puts_40 rfl ?_
  refine jj_pI (f := 17) C jcs_1 (Nat.le_of_ble_eq_true rfl) (jLk.of C q1250 rfl) dX2_puts_41 hF (fun v41 hF => ?_)
  exact jj_iret C hQ dX2_puts_44 hF (Nat.zero_le _) (Nat.zero_le _)
/-! PhrasehallModel.act(III)I -/
def rm_X2_act : Room := ({ frames := 3, cells := 0, slots := 0, locals := 106 } : Room)
theorem hd_X2_act : yX2_act.cls ≠ "java/lang/invoke/MethodHandle" ∧ yX2_act.cls ≠ "java/lang/invoke/VarHandle" ∧ (parseMethodDescriptor yX2_act.desc).map (fun d => d.parameters.length) = some 3 := ⟨by decide, by decide, by decide +kernel⟩
def f_X2_act_b45 (l0 : Option Nat) (l1 : Int32) (l2 : Int32) (l3 : Int32) (s0 : Option Nat) (s1 : Int32) (M : jW) : Option (Int32 × jW) := pP M s0 1 31 (jI s1) fun M45 =>
  pI M45 l0 1 31 fun v49 =>
  if v49 ≤ 0 then (pO M45 l0 1 fun b63 _ => pB (f_X2_puts (some b63) l1 l2 l3 M45) fun r63 M63 =>
  some (r63, M63))
  else (some ((0 : Int32), M45))
set_option maxHeartbeats 4000000 in
theorem w_X2_act_b45 {x : jX} (C : jOk x cX2_act RX2 rm_X2_act (some .int)) (hxn : xn x = 4) {v0 : Int32} {M0 : jW} (hQ : jEnd x rm_X2_act (some (jI v0)) M0) {l0 : Option Nat} {l1 : Int32} {l2 : Int32} {l3 : Int32} {s0 : Option Nat} {s1 : Int32} {M : jW} (hF : f_X2_act_b45 l0 l1 l2 l3 s0 s1 M = some (v0, M0)) : jJ x 45 [(0, jR l0), (1, jI l1), (2, jI l2), (3, jI l3)] [jI s1, jR s0] M 0 0 := by
  unfold f_X2_act_b45 at hF
  refine jj_pP (f := 31) C jcs_1 (Nat.le_of_ble_eq_true rfl) (jLk.of C q1264 rfl) (Or.inl rfl) dX2_act_45 (jfit_i _) hF (fun M45 hF => ?_)
  refine jj_aload_n C 0 rfl dX2_act_48 rfl ?_
  refine jj_pI (f := 31) C jcs_1 (Nat.le_of_ble_eq_true rfl) (jLk.of C q1264 rfl) dX2_act_49 hF (fun v49 hF => ?_)
  refine jj_if_le (tgt := 59) C dX2_act_52 (by decide) hF (fun hF => ?_) (fun hF => ?_)
  · refine jj_aload_n C 0 rfl dX2_act_59 rfl ?_
    refine jj_iload_n C 1 rfl dX2_act_60 rfl ?_
    refine jj_iload_n C 2 rfl dX2_act_61 rfl ?_
    refine jj_iload_n C 3 rfl dX2_act_62 rfl ?_
    obtain ⟨b63, fs63, he63, hb63, hF⟩ := pO_spec hF
    obtain ⟨r63, M63, hG, hF⟩ := pB_spec hF
    refine jj_callV (k' := 0) (n' := 0) C [jI l1, jI l2, jI l3] [] [jI r63] he63 (m_X2_puts _ _ hG) hb63 rfl q1368 q1370 qs25 q46 q1371 ⟨rfl, hd_X2_puts⟩ rfl (Nat.le_of_ble_eq_true rfl) ⟨Nat.le_of_ble_eq_true rfl, Nat.le_of_ble_eq_true rfl⟩ ⟨Nat.le_refl _, Nat.le_refl _, Nat.le_refl _, Nat.le_refl _⟩ dX2_act_63 rfl ?_
    exact jj_iret C hQ dX2_act_66 hF (Nat.zero_le _) (Nat.zero_le _)
  · refine jj_iconst (v := 0) C dX2_act_55 (by decide) ?_
    refine jj_goto (tgt := 66) C dX2_act_56 (by decide) ?_
    exact jj_iret C hQ dX2_act_66 hF (Nat.zero_le _) (Nat.zero_le _)
def f_X2_act_b28 (l0 : Option Nat) (l1 : Int32) (l2 : Int32) (l3 : Int32) (s0 : Option Nat) (M : jW) : Option (Int32 × jW) := f_X2_act_b45 l0 l1 l2 l3 s0 (1 : Int32) M
set_option maxHeartbeats 4000000 in
theorem w_X2_act_b28 {x : jX} (C : jOk x cX2_act RX2 rm_X2_act (some .int)) (hxn : xn x = 4) {v0 : Int32} {M0 : jW} (hQ : jEnd x rm_X2_act (some (jI v0)) M0) {l0 : Option Nat} {l1 : Int32} {l2 : Int32} {l3 : Int32} {s0 : Option Nat} {M : jW} (hF : f_X2_act_b28 l0 l1 l2 l3 s0 M = some (v0, M0)) : jJ x 28 [(0, jR l0), (1, jI l1), (2, jI l2), (3, jI l3)] [jR s0] M 0 0 := by
  unfold f_X2_act_b28 at hF
  refine jj_iconst (v := 1) C dX2_act_28 (by decide) ?_
  refine jj_goto (tgt := 45) C dX2_act_29 (by decide) ?_
  refine jj_sub [0, 1, 2, 3] rfl ?_
  exact w_X2_act_b45 C hxn hQ hF
def f_X2_act (a0 : Option Nat) (a1 : Int32) (a2 : Int32) (a3 : Int32) (M : jW) : Option (Int32 × jW) := pB (f_X2_isSide a1 M) fun r2 M2 =>
  if r2 = 0 then (f_X2_act_b28 a0 a1 a2 a3 a0 M2)
  else (pB (f_X2_isIn a2 (0 : Int32) (6 : Int32) M2) fun r12 M12 =>
  if r12 = 0 then (f_X2_act_b28 a0 a1 a2 a3 a0 M12)
  else (pB (f_X2_isIn a3 (0 : Int32) (1000000 : Int32) M12) fun r22 M22 =>
  if r22 = 0 then (f_X2_act_b28 a0 a1 a2 a3 a0 M22)
  else (pO M22 a0 1 fun b34 _ => pB (f_X2_may (some b34) a3 M22) fun r34 M34 =>
  if r34 = 0 then (f_X2_act_b45 a0 a1 a2 a3 a0 (2 : Int32) M34)
  else (f_X2_act_b45 a0 a1 a2 a3 a0 (0 : Int32) M34))))
set_option maxHeartbeats 4000000 in
theorem m_X2_act (l : Launch) (g : jG) {a0 : Option Nat} {a1 : Int32} {a2 : Int32} {a3 : Int32} {M M0 : jW} {v0 : Int32} (hF : f_X2_act a0 a1 a2 a3 M = some (v0, M0)) : jMet l g yX2_act cX2_act 4 (some .int) rm_X2_act [jR a0, jI a1, jI a2, jI a3] M (some (jI v0)) M0 := by
  refine jMet.of (L := [(0, jR a0), (1, jI a1), (2, jI a2), (3, jI a3)]) (by decide) rfl (Nat.le_of_ble_eq_true rfl) (fun x C hxn hg hl hQ hin => ?_)
  subst hg
  unfold f_X2_act at hF
  refine jj_aload_n C 0 rfl dX2_act_0 rfl ?_
  refine jj_iload_n C 1 rfl dX2_act_1 rfl ?_
  obtain ⟨r2, M2, hG, hF⟩ := pB_spec hF
  refine jj_callS (k' := 0) (n' := 0) C [jI a1] [jR a0] [jI r2, jR a0] (m_X2_isSide _ _ hG) q1360 q1361 q46 q1362 hd_X2_isSide rfl (Nat.le_of_ble_eq_true rfl) ⟨Nat.le_of_ble_eq_true rfl, Nat.le_of_ble_eq_true rfl⟩ ⟨Nat.le_refl _, Nat.le_refl _, Nat.le_refl _, Nat.le_refl _⟩ dX2_act_2 rfl ?_
  refine jj_if_eq (tgt := 28) C dX2_act_5 (by decide) hF (fun hF => ?_) (fun hF => ?_)
  · refine jj_sub [0, 1, 2, 3] rfl ?_
    exact w_X2_act_b28 C hxn hQ hF
  · refine jj_iload_n C 2 rfl dX2_act_8 rfl ?_
    refine jj_iconst (v := 0) C dX2_act_9 (by decide) ?_
    refine jj_bipush (v := 6) C dX2_act_10 (by decide) ?_
    obtain ⟨r12, M12, hG, hF⟩ := pB_spec hF
    refine jj_callS (k' := 0) (n' := 0) C [jI a2, jI (0 : Int32), jI (6 : Int32)] [jR a0] [jI r12, jR a0] (m_X2_isIn _ _ hG) q1346 q1347 q46 q1348 hd_X2_isIn rfl (Nat.le_of_ble_eq_true rfl) ⟨Nat.le_of_ble_eq_true rfl, Nat.le_of_ble_eq_true rfl⟩ ⟨Nat.le_refl _, Nat.le_refl _, Nat.le_refl _, Nat.le_refl _⟩ dX2_act_12 rfl ?_
    refine jj_if_eq (tgt := 28) C dX2_act_15 (by decide) hF (fun hF => ?_) (fun hF => ?_)
    · refine jj_sub [0, 1, 2, 3] rfl ?_
      exact w_X2_act_b28 C hxn hQ hF
    · refine jj_iload_n C 3 rfl dX2_act_18 rfl ?_
      refine jj_iconst (v := 0) C dX2_act_19 (by decide) ?_
      refine jj_ldc (v := 1000000) C q1363 dX2_act_20 ?_
      obtain ⟨r22, M22, hG, hF⟩ := pB_spec hF
      refine jj_callS (k' := 0) (n' := 0) C [jI a3, jI (0 : Int32), jI (1000000 : Int32)] [jR a0] [jI r22, jR a0] (m_X2_isIn _ _ hG) q1346 q1347 q46 q1348 hd_X2_isIn rfl (Nat.le_of_ble_eq_true rfl) ⟨Nat.le_of_ble_eq_true rfl, Nat.le_of_ble_eq_true rfl⟩ ⟨Nat.le_refl _, Nat.le_refl _, Nat.le_refl _, Nat.le_refl _⟩ dX2_act_22 rfl ?_
      refine jj_if_ne (tgt := 32) C dX2_act_25 (by decide) hF (fun hF => ?_) (fun hF => ?_)
      · refine jj_aload_n C 0 rfl dX2_act_32 rfl ?_
        refine jj_iload_n C 3 rfl dX2_act_33 rfl ?_
        obtain ⟨b34, fs34, he34, hb34, hF⟩ := pO_spec hF
        obtain ⟨r34, M34, hG, hF⟩ := pB_spec hF
        refine jj_callV (k' := 0) (n' := 0) C [jI a3] [jR a0] [jI r34, jR a0] he34 (m_X2_may _ _ hG) hb34 rfl q1364 q1366 qs24 q46 q1367 ⟨rfl, hd_X2_may⟩ rfl (Nat.le_of_ble_eq_true rfl) ⟨Nat.le_of_ble_eq_true rfl, Nat.le_of_ble_eq_true rfl⟩ ⟨Nat.le_refl _, Nat.le_refl _, Nat.le_refl _, Nat.le_refl _⟩ dX2_act_34 rfl ?_
        refine jj_if_ne (tgt := 44) C dX2_act_37 (by decide) hF (fun hF => ?_) (fun hF => ?_)
        · refine jj_iconst (v := 0) C dX2_act_44 (by decide) ?_
          refine jj_sub [0, 1, 2, 3] rfl ?_
          exact w_X2_act_b45 C hxn hQ hF
        · refine jj_iconst (v := 2) C dX2_act_40 (by decide) ?_
          refine jj_goto (tgt := 45) C dX2_act_41 (by decide) ?_
          refine jj_sub [0, 1, 2, 3] rfl ?_
          exact w_X2_act_b45 C hxn hQ hF
      · refine jj_sub [0, 1, 2, 3] rfl ?_
        exact w_X2_act_b28 C hxn hQ hF
/-! PhrasehallModel.hit(IIII)I -/
def rm_X2_hit : Room := ({ frames := 3, cells := 0, slots := 0, locals := 106 } : Room)
theorem hd_X2_hit : yX2_hit.cls ≠ "java/lang/invoke/MethodHandle" ∧ yX2_hit.cls ≠ "java/lang/invoke/VarHandle" ∧ (parseMethodDescriptor yX2_hit.desc).map (fun d => d.parameters.length) = some 4 := ⟨by decide, by decide, by decide +kernel⟩
def f_X2_hit_b56 (l0 : Option Nat) (l1 : Int32) (l2 : Int32) (l3 : Int32) (l4 : Int32) (s0 : Option Nat) (s1 : Int32) (M : jW) : Option (Int32 × jW) := pP M s0 1 31 (jI s1) fun M56 =>
  pI M56 l0 1 31 fun v60 =>
  if v60 ≤ 0 then (pR M56 l0 1 21 fun v69 =>
  pI M56 l0 1 17 fun v73 =>
  pSI M56 v69 v73 l3 fun M77 =>
  pR M77 l0 1 22 fun v79 =>
  pI M77 l0 1 17 fun v83 =>
  pSI M77 v79 v83 l4 fun M88 =>
  pO M88 l0 1 fun b94 _ => pB (f_X2_puts (some b94) l1 (7 : Int32) l2 M88) fun r94 M94 =>
  some (r94, M94))
  else (some ((0 : Int32), M56))
set_option maxHeartbeats 4000000 in
theorem w_X2_hit_b56 {x : jX} (C : jOk x cX2_hit RX2 rm_X2_hit (some .int)) (hxn : xn x = 5) {v0 : Int32} {M0 : jW} (hQ : jEnd x rm_X2_hit (some (jI v0)) M0) {l0 : Option Nat} {l1 : Int32} {l2 : Int32} {l3 : Int32} {l4 : Int32} {s0 : Option Nat} {s1 : Int32} {M : jW} (hF : f_X2_hit_b56 l0 l1 l2 l3 l4 s0 s1 M = some (v0, M0)) : jJ x 56 [(0, jR l0), (1, jI l1), (2, jI l2), (3, jI l3), (4, jI l4)] [jI s1, jR s0] M 0 0 := by
  unfold f_X2_hit_b56 at hF
  refine jj_pP (f := 31) C jcs_1 (Nat.le_of_ble_eq_true rfl) (jLk.of C q1264 rfl) (Or.inl rfl) dX2_hit_56 (jfit_i _) hF (fun M56 hF => ?_)
  refine jj_aload_n C 0 rfl dX2_hit_59 rfl ?_
  refine jj_pI (f := 31) C jcs_1 (Nat.le_of_ble_eq_true rfl) (jLk.of C q1264 rfl) dX2_hit_60 hF (fun v60 hF => ?_)
  refine jj_if_le (tgt := 68) C dX2_hit_63 (by decide) hF (fun hF => ?_) (fun hF => ?_)
  · refine jj_aload_n C 0 rfl dX2_hit_68 rfl ?_
    refine jj_pR (f := 21) C jcs_1 (Nat.le_of_ble_eq_true rfl) (jLk.of C q1254 rfl) dX2_hit_69 hF (fun v69 hF => ?_)
    refine jj_aload_n C 0 rfl dX2_hit_72 rfl ?_
    refine jj_pI (f := 17) C jcs_1 (Nat.le_of_ble_eq_true rfl) (jLk.of C q1250 rfl) dX2_hit_73 hF (fun v73 hF => ?_)
    refine jj_iload_n C 3 rfl dX2_hit_76 rfl ?_
    refine jj_iast C dX2_hit_77 hF (fun M77 hF => ?_)
    refine jj_aload_n C 0 rfl dX2_hit_78 rfl ?_
    refine jj_pR (f := 22) C jcs_1 (Nat.le_of_ble_eq_true rfl) (jLk.of C q1255 rfl) dX2_hit_79 hF (fun v79 hF => ?_)
    refine jj_aload_n C 0 rfl dX2_hit_82 rfl ?_
    refine jj_pI (f := 17) C jcs_1 (Nat.le_of_ble_eq_true rfl) (jLk.of C q1250 rfl) dX2_hit_83 hF (fun v83 hF => ?_)
    refine jj_iload C 4 rfl dX2_hit_86 ?_
    refine jj_iast C dX2_hit_88 hF (fun M88 hF => ?_)
    refine jj_aload_n C 0 rfl dX2_hit_89 rfl ?_
    refine jj_iload_n C 1 rfl dX2_hit_90 rfl ?_
    refine jj_bipush (v := 7) C dX2_hit_91 (by decide) ?_
    refine jj_iload_n C 2 rfl dX2_hit_93 rfl ?_
    obtain ⟨b94, fs94, he94, hb94, hF⟩ := pO_spec hF
    obtain ⟨r94, M94, hG, hF⟩ := pB_spec hF
    refine jj_callV (k' := 0) (n' := 0) C [jI l1, jI (7 : Int32), jI l2] [] [jI r94] he94 (m_X2_puts _ _ hG) hb94 rfl q1368 q1370 qs25 q46 q1371 ⟨rfl, hd_X2_puts⟩ rfl (Nat.le_of_ble_eq_true rfl) ⟨Nat.le_of_ble_eq_true rfl, Nat.le_of_ble_eq_true rfl⟩ ⟨Nat.le_refl _, Nat.le_refl _, Nat.le_refl _, Nat.le_refl _⟩ dX2_hit_94 rfl ?_
    exact jj_iret C hQ dX2_hit_97 hF (Nat.zero_le _) (Nat.zero_le _)
  · refine jj_iconst (v := 0) C dX2_hit_66 (by decide) ?_
    exact jj_iret C hQ dX2_hit_67 hF (Nat.zero_le _) (Nat.zero_le _)
def f_X2_hit_b39 (l0 : Option Nat) (l1 : Int32) (l2 : Int32) (l3 : Int32) (l4 : Int32) (s0 : Option Nat) (M : jW) : Option (Int32 × jW) := f_X2_hit_b56 l0 l1 l2 l3 l4 s0 (1 : Int32) M
set_option maxHeartbeats 4000000 in
theorem w_X2_hit_b39 {x : jX} (C : jOk x cX2_hit RX2 rm_X2_hit (some .int)) (hxn : xn x = 5) {v0 : Int32} {M0 : jW} (hQ : jEnd x rm_X2_hit (some (jI v0)) M0) {l0 : Option Nat} {l1 : Int32} {l2 : Int32} {l3 : Int32} {l4 : Int32} {s0 : Option Nat} {M : jW} (hF : f_X2_hit_b39 l0 l1 l2 l3 l4 s0 M = some (v0, M0)) : jJ x 39 [(0, jR l0), (1, jI l1), (2, jI l2), (3, jI l3), (4, jI l4)] [jR s0] M 0 0 := by
  unfold f_X2_hit_b39 at hF
  refine jj_iconst (v := 1) C dX2_hit_39 (by decide) ?_
  refine jj_goto (tgt := 56) C dX2_hit_40 (by decide) ?_
  refine jj_sub [0, 1, 2, 3, 4] rfl ?_
  exact w_X2_hit_b56 C hxn hQ hF
def f_X2_hit (a0 : Option Nat) (a1 : Int32) (a2 : Int32) (a3 : Int32) (a4 : Int32) (M : jW) : Option (Int32 × jW) := pB (f_X2_isSide a1 M) fun r2 M2 =>
  if r2 = 0 then (f_X2_hit_b39 a0 a1 a2 a3 a4 a0 M2)
  else (pB (f_X2_isIn a2 (0 : Int32) (1000000 : Int32) M2) fun r12 M12 =>
  if r12 = 0 then (f_X2_hit_b39 a0 a1 a2 a3 a4 a0 M12)
  else (pB (f_X2_isIn a3 (0 : Int32) (1000 : Int32) M12) fun r23 M23 =>
  if r23 = 0 then (f_X2_hit_b39 a0 a1 a2 a3 a4 a0 M23)
  else (pB (f_X2_isIn a4 (0 : Int32) (2 : Int32) M23) fun r33 M33 =>
  if r33 = 0 then (f_X2_hit_b39 a0 a1 a2 a3 a4 a0 M33)
  else (pO M33 a0 1 fun b45 _ => pB (f_X2_may (some b45) a2 M33) fun r45 M45 =>
  if r45 = 0 then (f_X2_hit_b56 a0 a1 a2 a3 a4 a0 (2 : Int32) M45)
  else (f_X2_hit_b56 a0 a1 a2 a3 a4 a0 (0 : Int32) M45)))))
set_option maxHeartbeats 4000000 in
theorem m_X2_hit (l : Launch) (g : jG) {a0 : Option Nat} {a1 : Int32} {a2 : Int32} {a3 : Int32} {a4 : Int32} {M M0 : jW} {v0 : Int32} (hF : f_X2_hit a0 a1 a2 a3 a4 M = some (v0, M0)) : jMet l g yX2_hit cX2_hit 5 (some .int) rm_X2_hit [jR a0, jI a1, jI a2, jI a3, jI a4] M (some (jI v0)) M0 := by
  refine jMet.of (L := [(0, jR a0), (1, jI a1), (2, jI a2), (3, jI a3), (4, jI a4)]) (by decide) rfl (Nat.le_of_ble_eq_true rfl) (fun x C hxn hg hl hQ hin => ?_)
  subst hg
  unfold f_X2_hit at hF
  refine jj_aload_n C 0 rfl dX2_hit_0 rfl ?_
  refine jj_iload_n C 1 rfl dX2_hit_1 rfl ?_
  obtain ⟨r2, M2, hG, hF⟩ := pB_spec hF
  refine jj_callS (k' := 0) (n' := 0) C [jI a1] [jR a0] [jI r2, jR a0] (m_X2_isSide _ _ hG) q1360 q1361 q46 q1362 hd_X2_isSide rfl (Nat.le_of_ble_eq_true rfl) ⟨Nat.le_of_ble_eq_true rfl, Nat.le_of_ble_eq_true rfl⟩ ⟨Nat.le_refl _, Nat.le_refl _, Nat.le_refl _, Nat.le_refl _⟩ dX2_hit_2 rfl ?_
  refine jj_if_eq (tgt := 39) C dX2_hit_5 (by decide) hF (fun hF => ?_) (fun hF => ?_)
  · refine jj_sub [0, 1, 2, 3, 4] rfl ?_
    exact w_X2_hit_b39 C hxn hQ hF
  · refine jj_iload_n C 2 rfl dX2_hit_8 rfl ?_
    refine jj_iconst (v := 0) C dX2_hit_9 (by decide) ?_
    refine jj_ldc (v := 1000000) C q1363 dX2_hit_10 ?_
    obtain ⟨r12, M12, hG, hF⟩ := pB_spec hF
    refine jj_callS (k' := 0) (n' := 0) C [jI a2, jI (0 : Int32), jI (1000000 : Int32)] [jR a0] [jI r12, jR a0] (m_X2_isIn _ _ hG) q1346 q1347 q46 q1348 hd_X2_isIn rfl (Nat.le_of_ble_eq_true rfl) ⟨Nat.le_of_ble_eq_true rfl, Nat.le_of_ble_eq_true rfl⟩ ⟨Nat.le_refl _, Nat.le_refl _, Nat.le_refl _, Nat.le_refl _⟩ dX2_hit_12 rfl ?_
    refine jj_if_eq (tgt := 39) C dX2_hit_15 (by decide) hF (fun hF => ?_) (fun hF => ?_)
    · refine jj_sub [0, 1, 2, 3, 4] rfl ?_
      exact w_X2_hit_b39 C hxn hQ hF
    · refine jj_iload_n C 3 rfl dX2_hit_18 rfl ?_
      refine jj_iconst (v := 0) C dX2_hit_19 (by decide) ?_
      refine jj_sipush (v := 1000) C dX2_hit_20 (by decide) ?_
      obtain ⟨r23, M23, hG, hF⟩ := pB_spec hF
      refine jj_callS (k' := 0) (n' := 0) C [jI a3, jI (0 : Int32), jI (1000 : Int32)] [jR a0] [jI r23, jR a0] (m_X2_isIn _ _ hG) q1346 q1347 q46 q1348 hd_X2_isIn rfl (Nat.le_of_ble_eq_true rfl) ⟨Nat.le_of_ble_eq_true rfl, Nat.le_of_ble_eq_true rfl⟩ ⟨Nat.le_refl _, Nat.le_refl _, Nat.le_refl _, Nat.le_refl _⟩ dX2_hit_23 rfl ?_
      refine jj_if_eq (tgt := 39) C dX2_hit_26 (by decide) hF (fun hF => ?_) (fun hF => ?_)
      · refine jj_sub [0, 1, 2, 3, 4] rfl ?_
        exact w_X2_hit_b39 C hxn hQ hF
      · refine jj_iload C 4 rfl dX2_hit_29 ?_
        refine jj_iconst (v := 0) C dX2_hit_31 (by decide) ?_
        refine jj_iconst (v := 2) C dX2_hit_32 (by decide) ?_
        obtain ⟨r33, M33, hG, hF⟩ := pB_spec hF
        refine jj_callS (k' := 0) (n' := 0) C [jI a4, jI (0 : Int32), jI (2 : Int32)] [jR a0] [jI r33, jR a0] (m_X2_isIn _ _ hG) q1346 q1347 q46 q1348 hd_X2_isIn rfl (Nat.le_of_ble_eq_true rfl) ⟨Nat.le_of_ble_eq_true rfl, Nat.le_of_ble_eq_true rfl⟩ ⟨Nat.le_refl _, Nat.le_refl _, Nat.le_refl _, Nat.le_refl _⟩ dX2_hit_33 rfl ?_
        refine jj_if_ne (tgt := 43) C dX2_hit_36 (by decide) hF (fun hF => ?_) (fun hF => ?_)
        · refine jj_aload_n C 0 rfl dX2_hit_43 rfl ?_
          refine jj_iload_n C 2 rfl dX2_hit_44 rfl ?_
          obtain ⟨b45, fs45, he45, hb45, hF⟩ := pO_spec hF
          obtain ⟨r45, M45, hG, hF⟩ := pB_spec hF
          refine jj_callV (k' := 0) (n' := 0) C [jI a2] [jR a0] [jI r45, jR a0] he45 (m_X2_may _ _ hG) hb45 rfl q1364 q1366 qs24 q46 q1367 ⟨rfl, hd_X2_may⟩ rfl (Nat.le_of_ble_eq_true rfl) ⟨Nat.le_of_ble_eq_true rfl, Nat.le_of_ble_eq_true rfl⟩ ⟨Nat.le_refl _, Nat.le_refl _, Nat.le_refl _, Nat.le_refl _⟩ dX2_hit_45 rfl ?_
          refine jj_if_ne (tgt := 55) C dX2_hit_48 (by decide) hF (fun hF => ?_) (fun hF => ?_)
          · refine jj_iconst (v := 0) C dX2_hit_55 (by decide) ?_
            refine jj_sub [0, 1, 2, 3, 4] rfl ?_
            exact w_X2_hit_b56 C hxn hQ hF
          · refine jj_iconst (v := 2) C dX2_hit_51 (by decide) ?_
            refine jj_goto (tgt := 56) C dX2_hit_52 (by decide) ?_
            refine jj_sub [0, 1, 2, 3, 4] rfl ?_
            exact w_X2_hit_b56 C hxn hQ hF
        · refine jj_sub [0, 1, 2, 3, 4] rfl ?_
          exact w_X2_hit_b39 C hxn hQ hF
