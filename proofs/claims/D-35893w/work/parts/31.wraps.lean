/-! the law's wrappers: each catches what its method throws (printed by gen) -/
set_option maxRecDepth 100000
/-! fencer(LPhrasehall;[J)I -/
def rm_X0_fencer : Room := ({ frames := 8, cells := 3, slots := 135, locals := 215 } : Room)
abbrev hh_X0_fencer : List (Nat × Nat × Nat × Nat) := [(0, 8, 11, 13)]
theorem hd_X0_fencer : yX0_fencer.cls ≠ "java/lang/invoke/MethodHandle" ∧ yX0_fencer.cls ≠ "java/lang/invoke/VarHandle" ∧ (parseMethodDescriptor yX0_fencer.desc).map (fun d => d.parameters.length) = some 2 := ⟨by decide, by decide, by decide +kernel⟩
set_option maxHeartbeats 4000000 in
theorem n_X0_fencer (l : Launch) (g : jG) (hfl : l.stackTraces = false) {a0 : Option Nat} {a1 : Option Nat} {M : jW} {R : Int32 → jW → Prop} {b : Nat} {fs : List Value} (he : a0 = some b) (hb : M.1 b = some (.inr (0, fs))) (hT : ∃ o, f_X1_fencer (some b)  M = some o) (hI : ∀ r M1, f_X1_fencer (some b)  M = some (.inl r, M1) → ∃ M2, pSL M1 a1 0 r.toInt64 some = some M2 ∧ R 0 M2) (hE : ∀ e M1, f_X1_fencer (some b)  M = some (.inr e, M1) → (e = 3 ∧ ∀ n', R 1 (M1.1, (n', M1.2.2)))) : jMetN l g yX0_fencer cX0_fencer 3 hh_X0_fencer rm_X0_fencer [jR a0, jR a1] M R := by
  refine jMetN.of (L := [(0, jR a0), (1, jR a1)]) hfl (by decide) rfl (Nat.le_of_ble_eq_true rfl) (fun x C hxn hg hl hQ => ?_)
  subst hg
  refine jj_aload_n C 1 rfl dX0_fencer_0 rfl ?_
  refine jj_iconst (v := 0) C dX0_fencer_1 (by decide) ?_
  refine jj_aload_n C 0 rfl dX0_fencer_2 rfl ?_
  obtain ⟨⟨res, M1⟩, hT⟩ := hT
  cases res with
  | inl r =>
    refine jj_callVX (k' := 3) (n' := 135) C [] [jI (0 : Int32), jR a1] [jI r, jI (0 : Int32), jR a1] he (m_X1_fencer _ _ hQ.2.2 hT) rfl hb rfl q229 q230 q231 q42 q232 ⟨rfl, hd_X1_fencer⟩ rfl (Nat.le_of_ble_eq_true rfl) ⟨Nat.le_of_ble_eq_true rfl, Nat.le_of_ble_eq_true rfl⟩ ⟨Nat.le_of_ble_eq_true rfl, Nat.le_of_ble_eq_true rfl, Nat.le_of_ble_eq_true rfl, Nat.le_of_ble_eq_true rfl⟩ dX0_fencer_3 rfl ?_
    obtain ⟨M2, hs, hR⟩ := hI r M1 hT
    refine jj_i2l C dX0_fencer_6 ?_
    refine jj_last C dX0_fencer_7 hs (fun M' hF => ?_)
    cases hF
    refine jj_goto (tgt := 14) C dX0_fencer_8 (by decide) ?_
    refine jj_iconst (v := 0) C dX0_fencer_14 (by decide) ?_
    exact jj_nret C hQ dX0_fencer_15 hR (Nat.le_of_ble_eq_true rfl) (Nat.le_of_ble_eq_true rfl)
  | inr e =>
    rcases hE e M1 hT with ⟨rfl, hR⟩
    refine jj_callVXc (k' := 3) (n2 := 135) (nm := "java/lang/IllegalStateException") C [] [jI (0 : Int32), jR a1] he (m_X1_fencer _ _ hQ.2.2 hT) rfl hb rfl q229 q230 q231 q42 q232 ⟨rfl, hd_X1_fencer⟩ rfl (Nat.le_of_ble_eq_true rfl) ⟨Nat.le_of_ble_eq_true rfl, Nat.le_of_ble_eq_true rfl⟩ ⟨Nat.le_of_ble_eq_true rfl, Nat.le_of_ble_eq_true rfl, Nat.le_of_ble_eq_true rfl, Nat.le_of_ble_eq_true rfl⟩ dX0_fencer_3 [] ⟨0, 8, 11, 13⟩ [] (by rw [hQ.2.1]; rfl) (fun z hz => absurd hz List.not_mem_nil) rfl (by decide) q228 q238 (fun q n' => ?_)
    refine jj_astore_n (L' := [(2, jR (some q)), (0, jR a0), (1, jR a1)]) C rfl (by rw [hxn]; decide) dX0_fencer_11 rfl ?_
    refine jj_iconst (v := 1) C dX0_fencer_12 (by decide) ?_
    exact jj_nret C hQ dX0_fencer_13 (hR n') (Nat.le_of_ble_eq_true rfl) (Nat.le_of_ble_eq_true rfl)
/-! begin(LPhrasehall;IIIII[J)I -/
def rm_X0_begin : Room := ({ frames := 9, cells := 11, slots := 179, locals := 223 } : Room)
abbrev hh_X0_begin : List (Nat × Nat × Nat × Nat) := [(0, 16, 19, 19), (0, 16, 23, 21), (0, 16, 27, 13)]
theorem hd_X0_begin : yX0_begin.cls ≠ "java/lang/invoke/MethodHandle" ∧ yX0_begin.cls ≠ "java/lang/invoke/VarHandle" ∧ (parseMethodDescriptor yX0_begin.desc).map (fun d => d.parameters.length) = some 7 := ⟨by decide, by decide, by decide +kernel⟩
set_option maxHeartbeats 4000000 in
theorem n_X0_begin (l : Launch) (g : jG) (hfl : l.stackTraces = false) {a0 : Option Nat} {a1 : Int32} {a2 : Int32} {a3 : Int32} {a4 : Int32} {a5 : Int32} {a6 : Option Nat} {M : jW} {R : Int32 → jW → Prop} {b : Nat} {fs : List Value} (he : a0 = some b) (hb : M.1 b = some (.inr (0, fs))) (hT : ∃ o, f_X1_begin (some b) a1 a2 a3 a4 a5 M = some o) (hI : ∀ r M1, f_X1_begin (some b) a1 a2 a3 a4 a5 M = some (.inl r, M1) → ∃ M2, pSL M1 a6 0 r.toInt64 some = some M2 ∧ R 0 M2) (hE : ∀ e M1, f_X1_begin (some b) a1 a2 a3 a4 a5 M = some (.inr e, M1) → (e = 1 ∧ ∀ n', R 1 (M1.1, (n', M1.2.2))) ∨ (e = 2 ∧ ∀ n', R 2 (M1.1, (n', M1.2.2))) ∨ (e = 3 ∧ ∀ n', R 3 (M1.1, (n', M1.2.2)))) : jMetN l g yX0_begin cX0_begin 8 hh_X0_begin rm_X0_begin [jR a0, jI a1, jI a2, jI a3, jI a4, jI a5, jR a6] M R := by
  refine jMetN.of (L := [(0, jR a0), (1, jI a1), (2, jI a2), (3, jI a3), (4, jI a4), (5, jI a5), (6, jR a6)]) hfl (by decide) rfl (Nat.le_of_ble_eq_true rfl) (fun x C hxn hg hl hQ => ?_)
  subst hg
  refine jj_aload C 6 rfl dX0_begin_0 ?_
  refine jj_iconst (v := 0) C dX0_begin_2 (by decide) ?_
  refine jj_aload_n C 0 rfl dX0_begin_3 rfl ?_
  refine jj_iload_n C 1 rfl dX0_begin_4 rfl ?_
  refine jj_iload_n C 2 rfl dX0_begin_5 rfl ?_
  refine jj_iload_n C 3 rfl dX0_begin_6 rfl ?_
  refine jj_iload C 4 rfl dX0_begin_7 ?_
  refine jj_iload C 5 rfl dX0_begin_9 ?_
  obtain ⟨⟨res, M1⟩, hT⟩ := hT
  cases res with
  | inl r =>
    refine jj_callVX (k' := 11) (n' := 179) C [jI a1, jI a2, jI a3, jI a4, jI a5] [jI (0 : Int32), jR a6] [jI r, jI (0 : Int32), jR a6] he (m_X1_begin _ _ hQ.2.2 hT) rfl hb rfl q418 q419 q420 q42 q421 ⟨rfl, hd_X1_begin⟩ rfl (Nat.le_of_ble_eq_true rfl) ⟨Nat.le_of_ble_eq_true rfl, Nat.le_of_ble_eq_true rfl⟩ ⟨Nat.le_of_ble_eq_true rfl, Nat.le_of_ble_eq_true rfl, Nat.le_of_ble_eq_true rfl, Nat.le_of_ble_eq_true rfl⟩ dX0_begin_11 rfl ?_
    obtain ⟨M2, hs, hR⟩ := hI r M1 hT
    refine jj_i2l C dX0_begin_14 ?_
    refine jj_last C dX0_begin_15 hs (fun M' hF => ?_)
    cases hF
    refine jj_goto (tgt := 31) C dX0_begin_16 (by decide) ?_
    refine jj_iconst (v := 0) C dX0_begin_31 (by decide) ?_
    exact jj_nret C hQ dX0_begin_32 hR (Nat.le_of_ble_eq_true rfl) (Nat.le_of_ble_eq_true rfl)
  | inr e =>
    rcases hE e M1 hT with ⟨rfl, hR⟩ | ⟨rfl, hR⟩ | ⟨rfl, hR⟩
    · refine jj_callVXc (k' := 11) (n2 := 179) (nm := "java/lang/IndexOutOfBoundsException") C [jI a1, jI a2, jI a3, jI a4, jI a5] [jI (0 : Int32), jR a6] he (m_X1_begin _ _ hQ.2.2 hT) rfl hb rfl q418 q419 q420 q42 q421 ⟨rfl, hd_X1_begin⟩ rfl (Nat.le_of_ble_eq_true rfl) ⟨Nat.le_of_ble_eq_true rfl, Nat.le_of_ble_eq_true rfl⟩ ⟨Nat.le_of_ble_eq_true rfl, Nat.le_of_ble_eq_true rfl, Nat.le_of_ble_eq_true rfl, Nat.le_of_ble_eq_true rfl⟩ dX0_begin_11 [] ⟨0, 16, 19, 19⟩ [⟨0, 16, 23, 21⟩, ⟨0, 16, 27, 13⟩] (by rw [hQ.2.1]; rfl) (fun z hz => absurd hz List.not_mem_nil) rfl (by decide) q384 q433 (fun q n' => ?_)
      refine jj_astore (L' := [(7, jR (some q)), (0, jR a0), (1, jI a1), (2, jI a2), (3, jI a3), (4, jI a4), (5, jI a5), (6, jR a6)]) C rfl (by rw [hxn]; decide) dX0_begin_19 ?_
      refine jj_iconst (v := 1) C dX0_begin_21 (by decide) ?_
      exact jj_nret C hQ dX0_begin_22 (hR n') (Nat.le_of_ble_eq_true rfl) (Nat.le_of_ble_eq_true rfl)
    · refine jj_callVXc (k' := 11) (n2 := 179) (nm := "java/lang/IllegalArgumentException") C [jI a1, jI a2, jI a3, jI a4, jI a5] [jI (0 : Int32), jR a6] he (m_X1_begin _ _ hQ.2.2 hT) rfl hb rfl q418 q419 q420 q42 q421 ⟨rfl, hd_X1_begin⟩ rfl (Nat.le_of_ble_eq_true rfl) ⟨Nat.le_of_ble_eq_true rfl, Nat.le_of_ble_eq_true rfl⟩ ⟨Nat.le_of_ble_eq_true rfl, Nat.le_of_ble_eq_true rfl, Nat.le_of_ble_eq_true rfl, Nat.le_of_ble_eq_true rfl⟩ dX0_begin_11 [⟨0, 16, 19, 19⟩] ⟨0, 16, 23, 21⟩ [⟨0, 16, 27, 13⟩] (by rw [hQ.2.1]; rfl) (by intro z hz; simp only [List.mem_cons, List.not_mem_nil, or_false] at hz; subst hz; exact Or.inr ⟨by decide, "java/lang/IndexOutOfBoundsException", C.ts _ q384, C.kk.2.2.2.2.1 _ (List.mem_of_getElem? (i := 2) rfl)⟩) rfl (by decide) q417 q456 (fun q n' => ?_)
      refine jj_astore (L' := [(7, jR (some q)), (0, jR a0), (1, jI a1), (2, jI a2), (3, jI a3), (4, jI a4), (5, jI a5), (6, jR a6)]) C rfl (by rw [hxn]; decide) dX0_begin_23 ?_
      refine jj_iconst (v := 2) C dX0_begin_25 (by decide) ?_
      exact jj_nret C hQ dX0_begin_26 (hR n') (Nat.le_of_ble_eq_true rfl) (Nat.le_of_ble_eq_true rfl)
    · refine jj_callVXc (k' := 11) (n2 := 179) (nm := "java/lang/IllegalStateException") C [jI a1, jI a2, jI a3, jI a4, jI a5] [jI (0 : Int32), jR a6] he (m_X1_begin _ _ hQ.2.2 hT) rfl hb rfl q418 q419 q420 q42 q421 ⟨rfl, hd_X1_begin⟩ rfl (Nat.le_of_ble_eq_true rfl) ⟨Nat.le_of_ble_eq_true rfl, Nat.le_of_ble_eq_true rfl⟩ ⟨Nat.le_of_ble_eq_true rfl, Nat.le_of_ble_eq_true rfl, Nat.le_of_ble_eq_true rfl, Nat.le_of_ble_eq_true rfl⟩ dX0_begin_11 [⟨0, 16, 19, 19⟩, ⟨0, 16, 23, 21⟩] ⟨0, 16, 27, 13⟩ [] (by rw [hQ.2.1]; rfl) (by
      intro z hz
      simp only [List.mem_cons, List.not_mem_nil, or_false] at hz
      rcases hz with rfl | rfl
      · exact Or.inr ⟨by decide, "java/lang/IndexOutOfBoundsException", C.ts _ q384, C.kk.2.2.2.2.1 _ (List.mem_of_getElem? (i := 3) rfl)⟩
      · exact Or.inr ⟨by decide, "java/lang/IllegalArgumentException", C.ts _ q417, C.kk.2.2.2.2.1 _ (List.mem_of_getElem? (i := 4) rfl)⟩) rfl (by decide) q228 q238 (fun q n' => ?_)
      refine jj_astore (L' := [(7, jR (some q)), (0, jR a0), (1, jI a1), (2, jI a2), (3, jI a3), (4, jI a4), (5, jI a5), (6, jR a6)]) C rfl (by rw [hxn]; decide) dX0_begin_27 ?_
      refine jj_iconst (v := 3) C dX0_begin_29 (by decide) ?_
      exact jj_nret C hQ dX0_begin_30 (hR n') (Nat.le_of_ble_eq_true rfl) (Nat.le_of_ble_eq_true rfl)
/-! act(LPhrasehall;III[J)I -/
def rm_X0_act : Room := ({ frames := 9, cells := 4, slots := 143, locals := 240 } : Room)
abbrev hh_X0_act : List (Nat × Nat × Nat × Nat) := [(0, 12, 15, 21), (0, 12, 19, 13)]
theorem hd_X0_act : yX0_act.cls ≠ "java/lang/invoke/MethodHandle" ∧ yX0_act.cls ≠ "java/lang/invoke/VarHandle" ∧ (parseMethodDescriptor yX0_act.desc).map (fun d => d.parameters.length) = some 5 := ⟨by decide, by decide, by decide +kernel⟩
set_option maxHeartbeats 4000000 in
theorem n_X0_act (l : Launch) (g : jG) (hfl : l.stackTraces = false) {a0 : Option Nat} {a1 : Int32} {a2 : Int32} {a3 : Int32} {a4 : Option Nat} {M : jW} {R : Int32 → jW → Prop} {b : Nat} {fs : List Value} (he : a0 = some b) (hb : M.1 b = some (.inr (0, fs))) (hT : ∃ o, f_X1_act (some b) a1 a2 a3 M = some o) (hI : ∀ r M1, f_X1_act (some b) a1 a2 a3 M = some (.inl r, M1) → ∃ M2, pSL M1 a4 0 r.toInt64 some = some M2 ∧ R 0 M2) (hE : ∀ e M1, f_X1_act (some b) a1 a2 a3 M = some (.inr e, M1) → (e = 2 ∧ ∀ n', R 1 (M1.1, (n', M1.2.2))) ∨ (e = 3 ∧ ∀ n', R 2 (M1.1, (n', M1.2.2)))) : jMetN l g yX0_act cX0_act 6 hh_X0_act rm_X0_act [jR a0, jI a1, jI a2, jI a3, jR a4] M R := by
  refine jMetN.of (L := [(0, jR a0), (1, jI a1), (2, jI a2), (3, jI a3), (4, jR a4)]) hfl (by decide) rfl (Nat.le_of_ble_eq_true rfl) (fun x C hxn hg hl hQ => ?_)
  subst hg
  refine jj_aload C 4 rfl dX0_act_0 ?_
  refine jj_iconst (v := 0) C dX0_act_2 (by decide) ?_
  refine jj_aload_n C 0 rfl dX0_act_3 rfl ?_
  refine jj_iload_n C 1 rfl dX0_act_4 rfl ?_
  refine jj_iload_n C 2 rfl dX0_act_5 rfl ?_
  refine jj_iload_n C 3 rfl dX0_act_6 rfl ?_
  obtain ⟨⟨res, M1⟩, hT⟩ := hT
  cases res with
  | inl r =>
    refine jj_callVX (k' := 4) (n' := 143) C [jI a1, jI a2, jI a3] [jI (0 : Int32), jR a4] [jI r, jI (0 : Int32), jR a4] he (m_X1_act _ _ hQ.2.2 hT) rfl hb rfl q548 q549 q550 q42 q551 ⟨rfl, hd_X1_act⟩ rfl (Nat.le_of_ble_eq_true rfl) ⟨Nat.le_of_ble_eq_true rfl, Nat.le_of_ble_eq_true rfl⟩ ⟨Nat.le_of_ble_eq_true rfl, Nat.le_of_ble_eq_true rfl, Nat.le_of_ble_eq_true rfl, Nat.le_of_ble_eq_true rfl⟩ dX0_act_7 rfl ?_
    obtain ⟨M2, hs, hR⟩ := hI r M1 hT
    refine jj_i2l C dX0_act_10 ?_
    refine jj_last C dX0_act_11 hs (fun M' hF => ?_)
    cases hF
    refine jj_goto (tgt := 23) C dX0_act_12 (by decide) ?_
    refine jj_iconst (v := 0) C dX0_act_23 (by decide) ?_
    exact jj_nret C hQ dX0_act_24 hR (Nat.le_of_ble_eq_true rfl) (Nat.le_of_ble_eq_true rfl)
  | inr e =>
    rcases hE e M1 hT with ⟨rfl, hR⟩ | ⟨rfl, hR⟩
    · refine jj_callVXc (k' := 4) (n2 := 143) (nm := "java/lang/IllegalArgumentException") C [jI a1, jI a2, jI a3] [jI (0 : Int32), jR a4] he (m_X1_act _ _ hQ.2.2 hT) rfl hb rfl q548 q549 q550 q42 q551 ⟨rfl, hd_X1_act⟩ rfl (Nat.le_of_ble_eq_true rfl) ⟨Nat.le_of_ble_eq_true rfl, Nat.le_of_ble_eq_true rfl⟩ ⟨Nat.le_of_ble_eq_true rfl, Nat.le_of_ble_eq_true rfl, Nat.le_of_ble_eq_true rfl, Nat.le_of_ble_eq_true rfl⟩ dX0_act_7 [] ⟨0, 12, 15, 21⟩ [⟨0, 12, 19, 13⟩] (by rw [hQ.2.1]; rfl) (fun z hz => absurd hz List.not_mem_nil) rfl (by decide) q417 q456 (fun q n' => ?_)
      refine jj_astore (L' := [(5, jR (some q)), (0, jR a0), (1, jI a1), (2, jI a2), (3, jI a3), (4, jR a4)]) C rfl (by rw [hxn]; decide) dX0_act_15 ?_
      refine jj_iconst (v := 1) C dX0_act_17 (by decide) ?_
      exact jj_nret C hQ dX0_act_18 (hR n') (Nat.le_of_ble_eq_true rfl) (Nat.le_of_ble_eq_true rfl)
    · refine jj_callVXc (k' := 4) (n2 := 143) (nm := "java/lang/IllegalStateException") C [jI a1, jI a2, jI a3] [jI (0 : Int32), jR a4] he (m_X1_act _ _ hQ.2.2 hT) rfl hb rfl q548 q549 q550 q42 q551 ⟨rfl, hd_X1_act⟩ rfl (Nat.le_of_ble_eq_true rfl) ⟨Nat.le_of_ble_eq_true rfl, Nat.le_of_ble_eq_true rfl⟩ ⟨Nat.le_of_ble_eq_true rfl, Nat.le_of_ble_eq_true rfl, Nat.le_of_ble_eq_true rfl, Nat.le_of_ble_eq_true rfl⟩ dX0_act_7 [⟨0, 12, 15, 21⟩] ⟨0, 12, 19, 13⟩ [] (by rw [hQ.2.1]; rfl) (by intro z hz; simp only [List.mem_cons, List.not_mem_nil, or_false] at hz; subst hz; exact Or.inr ⟨by decide, "java/lang/IllegalArgumentException", C.ts _ q417, C.kk.2.2.2.2.1 _ (List.mem_of_getElem? (i := 4) rfl)⟩) rfl (by decide) q228 q238 (fun q n' => ?_)
      refine jj_astore (L' := [(5, jR (some q)), (0, jR a0), (1, jI a1), (2, jI a2), (3, jI a3), (4, jR a4)]) C rfl (by rw [hxn]; decide) dX0_act_19 ?_
      refine jj_iconst (v := 2) C dX0_act_21 (by decide) ?_
      exact jj_nret C hQ dX0_act_22 (hR n') (Nat.le_of_ble_eq_true rfl) (Nat.le_of_ble_eq_true rfl)
/-! hit(LPhrasehall;IIII[J)I -/
def rm_X0_hit : Room := ({ frames := 9, cells := 4, slots := 144, locals := 241 } : Room)
abbrev hh_X0_hit : List (Nat × Nat × Nat × Nat) := [(0, 14, 17, 21), (0, 14, 21, 13)]
theorem hd_X0_hit : yX0_hit.cls ≠ "java/lang/invoke/MethodHandle" ∧ yX0_hit.cls ≠ "java/lang/invoke/VarHandle" ∧ (parseMethodDescriptor yX0_hit.desc).map (fun d => d.parameters.length) = some 6 := ⟨by decide, by decide, by decide +kernel⟩
set_option maxHeartbeats 4000000 in
theorem n_X0_hit (l : Launch) (g : jG) (hfl : l.stackTraces = false) {a0 : Option Nat} {a1 : Int32} {a2 : Int32} {a3 : Int32} {a4 : Int32} {a5 : Option Nat} {M : jW} {R : Int32 → jW → Prop} {b : Nat} {fs : List Value} (he : a0 = some b) (hb : M.1 b = some (.inr (0, fs))) (hT : ∃ o, f_X1_hit (some b) a1 a2 a3 a4 M = some o) (hI : ∀ r M1, f_X1_hit (some b) a1 a2 a3 a4 M = some (.inl r, M1) → ∃ M2, pSL M1 a5 0 r.toInt64 some = some M2 ∧ R 0 M2) (hE : ∀ e M1, f_X1_hit (some b) a1 a2 a3 a4 M = some (.inr e, M1) → (e = 2 ∧ ∀ n', R 1 (M1.1, (n', M1.2.2))) ∨ (e = 3 ∧ ∀ n', R 2 (M1.1, (n', M1.2.2)))) : jMetN l g yX0_hit cX0_hit 7 hh_X0_hit rm_X0_hit [jR a0, jI a1, jI a2, jI a3, jI a4, jR a5] M R := by
  refine jMetN.of (L := [(0, jR a0), (1, jI a1), (2, jI a2), (3, jI a3), (4, jI a4), (5, jR a5)]) hfl (by decide) rfl (Nat.le_of_ble_eq_true rfl) (fun x C hxn hg hl hQ => ?_)
  subst hg
  refine jj_aload C 5 rfl dX0_hit_0 ?_
  refine jj_iconst (v := 0) C dX0_hit_2 (by decide) ?_
  refine jj_aload_n C 0 rfl dX0_hit_3 rfl ?_
  refine jj_iload_n C 1 rfl dX0_hit_4 rfl ?_
  refine jj_iload_n C 2 rfl dX0_hit_5 rfl ?_
  refine jj_iload_n C 3 rfl dX0_hit_6 rfl ?_
  refine jj_iload C 4 rfl dX0_hit_7 ?_
  obtain ⟨⟨res, M1⟩, hT⟩ := hT
  cases res with
  | inl r =>
    refine jj_callVX (k' := 4) (n' := 144) C [jI a1, jI a2, jI a3, jI a4] [jI (0 : Int32), jR a5] [jI r, jI (0 : Int32), jR a5] he (m_X1_hit _ _ hQ.2.2 hT) rfl hb rfl q600 q601 q602 q42 q603 ⟨rfl, hd_X1_hit⟩ rfl (Nat.le_of_ble_eq_true rfl) ⟨Nat.le_of_ble_eq_true rfl, Nat.le_of_ble_eq_true rfl⟩ ⟨Nat.le_of_ble_eq_true rfl, Nat.le_of_ble_eq_true rfl, Nat.le_of_ble_eq_true rfl, Nat.le_of_ble_eq_true rfl⟩ dX0_hit_9 rfl ?_
    obtain ⟨M2, hs, hR⟩ := hI r M1 hT
    refine jj_i2l C dX0_hit_12 ?_
    refine jj_last C dX0_hit_13 hs (fun M' hF => ?_)
    cases hF
    refine jj_goto (tgt := 25) C dX0_hit_14 (by decide) ?_
    refine jj_iconst (v := 0) C dX0_hit_25 (by decide) ?_
    exact jj_nret C hQ dX0_hit_26 hR (Nat.le_of_ble_eq_true rfl) (Nat.le_of_ble_eq_true rfl)
  | inr e =>
    rcases hE e M1 hT with ⟨rfl, hR⟩ | ⟨rfl, hR⟩
    · refine jj_callVXc (k' := 4) (n2 := 144) (nm := "java/lang/IllegalArgumentException") C [jI a1, jI a2, jI a3, jI a4] [jI (0 : Int32), jR a5] he (m_X1_hit _ _ hQ.2.2 hT) rfl hb rfl q600 q601 q602 q42 q603 ⟨rfl, hd_X1_hit⟩ rfl (Nat.le_of_ble_eq_true rfl) ⟨Nat.le_of_ble_eq_true rfl, Nat.le_of_ble_eq_true rfl⟩ ⟨Nat.le_of_ble_eq_true rfl, Nat.le_of_ble_eq_true rfl, Nat.le_of_ble_eq_true rfl, Nat.le_of_ble_eq_true rfl⟩ dX0_hit_9 [] ⟨0, 14, 17, 21⟩ [⟨0, 14, 21, 13⟩] (by rw [hQ.2.1]; rfl) (fun z hz => absurd hz List.not_mem_nil) rfl (by decide) q417 q456 (fun q n' => ?_)
      refine jj_astore (L' := [(6, jR (some q)), (0, jR a0), (1, jI a1), (2, jI a2), (3, jI a3), (4, jI a4), (5, jR a5)]) C rfl (by rw [hxn]; decide) dX0_hit_17 ?_
      refine jj_iconst (v := 1) C dX0_hit_19 (by decide) ?_
      exact jj_nret C hQ dX0_hit_20 (hR n') (Nat.le_of_ble_eq_true rfl) (Nat.le_of_ble_eq_true rfl)
    · refine jj_callVXc (k' := 4) (n2 := 144) (nm := "java/lang/IllegalStateException") C [jI a1, jI a2, jI a3, jI a4] [jI (0 : Int32), jR a5] he (m_X1_hit _ _ hQ.2.2 hT) rfl hb rfl q600 q601 q602 q42 q603 ⟨rfl, hd_X1_hit⟩ rfl (Nat.le_of_ble_eq_true rfl) ⟨Nat.le_of_ble_eq_true rfl, Nat.le_of_ble_eq_true rfl⟩ ⟨Nat.le_of_ble_eq_true rfl, Nat.le_of_ble_eq_true rfl, Nat.le_of_ble_eq_true rfl, Nat.le_of_ble_eq_true rfl⟩ dX0_hit_9 [⟨0, 14, 17, 21⟩] ⟨0, 14, 21, 13⟩ [] (by rw [hQ.2.1]; rfl) (by intro z hz; simp only [List.mem_cons, List.not_mem_nil, or_false] at hz; subst hz; exact Or.inr ⟨by decide, "java/lang/IllegalArgumentException", C.ts _ q417, C.kk.2.2.2.2.1 _ (List.mem_of_getElem? (i := 4) rfl)⟩) rfl (by decide) q228 q238 (fun q n' => ?_)
      refine jj_astore (L' := [(6, jR (some q)), (0, jR a0), (1, jI a1), (2, jI a2), (3, jI a3), (4, jI a4), (5, jR a5)]) C rfl (by rw [hxn]; decide) dX0_hit_21 ?_
      refine jj_iconst (v := 2) C dX0_hit_23 (by decide) ?_
      exact jj_nret C hQ dX0_hit_24 (hR n') (Nat.le_of_ble_eq_true rfl) (Nat.le_of_ble_eq_true rfl)
/-! judge(LPhrasehall;[J)I -/
def rm_X0_judge : Room := ({ frames := 8, cells := 2, slots := 11, locals := 227 } : Room)
abbrev hh_X0_judge : List (Nat × Nat × Nat × Nat) := [(0, 8, 11, 13)]
theorem hd_X0_judge : yX0_judge.cls ≠ "java/lang/invoke/MethodHandle" ∧ yX0_judge.cls ≠ "java/lang/invoke/VarHandle" ∧ (parseMethodDescriptor yX0_judge.desc).map (fun d => d.parameters.length) = some 2 := ⟨by decide, by decide, by decide +kernel⟩
set_option maxHeartbeats 4000000 in
theorem n_X0_judge (l : Launch) (g : jG) (hfl : l.stackTraces = false) {a0 : Option Nat} {a1 : Option Nat} {M : jW} {R : Int32 → jW → Prop} {b : Nat} {fs : List Value} (he : a0 = some b) (hb : M.1 b = some (.inr (0, fs))) (hT : ∃ o, f_X1_judge (some b)  M = some o) (hI : ∀ r M1, f_X1_judge (some b)  M = some (.inl r, M1) → ∃ M2, pSL M1 a1 0 r.toInt64 some = some M2 ∧ R 0 M2) (hE : ∀ e M1, f_X1_judge (some b)  M = some (.inr e, M1) → (e = 3 ∧ ∀ n', R 1 (M1.1, (n', M1.2.2)))) : jMetN l g yX0_judge cX0_judge 3 hh_X0_judge rm_X0_judge [jR a0, jR a1] M R := by
  refine jMetN.of (L := [(0, jR a0), (1, jR a1)]) hfl (by decide) rfl (Nat.le_of_ble_eq_true rfl) (fun x C hxn hg hl hQ => ?_)
  subst hg
  refine jj_aload_n C 1 rfl dX0_judge_0 rfl ?_
  refine jj_iconst (v := 0) C dX0_judge_1 (by decide) ?_
  refine jj_aload_n C 0 rfl dX0_judge_2 rfl ?_
  obtain ⟨⟨res, M1⟩, hT⟩ := hT
  cases res with
  | inl r =>
    refine jj_callVX (k' := 2) (n' := 11) C [] [jI (0 : Int32), jR a1] [jI r, jI (0 : Int32), jR a1] he (m_X1_judge _ _ hQ.2.2 hT) rfl hb rfl q626 q627 q628 q42 q629 ⟨rfl, hd_X1_judge⟩ rfl (Nat.le_of_ble_eq_true rfl) ⟨Nat.le_of_ble_eq_true rfl, Nat.le_of_ble_eq_true rfl⟩ ⟨Nat.le_of_ble_eq_true rfl, Nat.le_of_ble_eq_true rfl, Nat.le_of_ble_eq_true rfl, Nat.le_of_ble_eq_true rfl⟩ dX0_judge_3 rfl ?_
    obtain ⟨M2, hs, hR⟩ := hI r M1 hT
    refine jj_i2l C dX0_judge_6 ?_
    refine jj_last C dX0_judge_7 hs (fun M' hF => ?_)
    cases hF
    refine jj_goto (tgt := 14) C dX0_judge_8 (by decide) ?_
    refine jj_iconst (v := 0) C dX0_judge_14 (by decide) ?_
    exact jj_nret C hQ dX0_judge_15 hR (Nat.le_of_ble_eq_true rfl) (Nat.le_of_ble_eq_true rfl)
  | inr e =>
    rcases hE e M1 hT with ⟨rfl, hR⟩
    refine jj_callVXc (k' := 2) (n2 := 11) (nm := "java/lang/IllegalStateException") C [] [jI (0 : Int32), jR a1] he (m_X1_judge _ _ hQ.2.2 hT) rfl hb rfl q626 q627 q628 q42 q629 ⟨rfl, hd_X1_judge⟩ rfl (Nat.le_of_ble_eq_true rfl) ⟨Nat.le_of_ble_eq_true rfl, Nat.le_of_ble_eq_true rfl⟩ ⟨Nat.le_of_ble_eq_true rfl, Nat.le_of_ble_eq_true rfl, Nat.le_of_ble_eq_true rfl, Nat.le_of_ble_eq_true rfl⟩ dX0_judge_3 [] ⟨0, 8, 11, 13⟩ [] (by rw [hQ.2.1]; rfl) (fun z hz => absurd hz List.not_mem_nil) rfl (by decide) q228 q238 (fun q n' => ?_)
    refine jj_astore_n (L' := [(2, jR (some q)), (0, jR a0), (1, jR a1)]) C rfl (by rw [hxn]; decide) dX0_judge_11 rfl ?_
    refine jj_iconst (v := 1) C dX0_judge_12 (by decide) ?_
    exact jj_nret C hQ dX0_judge_13 (hR n') (Nat.le_of_ble_eq_true rfl) (Nat.le_of_ble_eq_true rfl)
/-! card(LPhrasehall;II[J)I -/
def rm_X0_card : Room := ({ frames := 8, cells := 2, slots := 12, locals := 217 } : Room)
abbrev hh_X0_card : List (Nat × Nat × Nat × Nat) := [(0, 10, 13, 21), (0, 10, 17, 13)]
theorem hd_X0_card : yX0_card.cls ≠ "java/lang/invoke/MethodHandle" ∧ yX0_card.cls ≠ "java/lang/invoke/VarHandle" ∧ (parseMethodDescriptor yX0_card.desc).map (fun d => d.parameters.length) = some 4 := ⟨by decide, by decide, by decide +kernel⟩
set_option maxHeartbeats 4000000 in
theorem n_X0_card (l : Launch) (g : jG) (hfl : l.stackTraces = false) {a0 : Option Nat} {a1 : Int32} {a2 : Int32} {a3 : Option Nat} {M : jW} {R : Int32 → jW → Prop} {b : Nat} {fs : List Value} (he : a0 = some b) (hb : M.1 b = some (.inr (0, fs))) (hT : ∃ o, f_X1_card (some b) a1 a2 M = some o) (hI : ∀ r M1, f_X1_card (some b) a1 a2 M = some (.inl r, M1) → ∃ M2, pSL M1 a3 0 r.toInt64 some = some M2 ∧ R 0 M2) (hE : ∀ e M1, f_X1_card (some b) a1 a2 M = some (.inr e, M1) → (e = 2 ∧ ∀ n', R 1 (M1.1, (n', M1.2.2))) ∨ (e = 3 ∧ ∀ n', R 2 (M1.1, (n', M1.2.2)))) : jMetN l g yX0_card cX0_card 5 hh_X0_card rm_X0_card [jR a0, jI a1, jI a2, jR a3] M R := by
  refine jMetN.of (L := [(0, jR a0), (1, jI a1), (2, jI a2), (3, jR a3)]) hfl (by decide) rfl (Nat.le_of_ble_eq_true rfl) (fun x C hxn hg hl hQ => ?_)
  subst hg
  refine jj_aload_n C 3 rfl dX0_card_0 rfl ?_
  refine jj_iconst (v := 0) C dX0_card_1 (by decide) ?_
  refine jj_aload_n C 0 rfl dX0_card_2 rfl ?_
  refine jj_iload_n C 1 rfl dX0_card_3 rfl ?_
  refine jj_iload_n C 2 rfl dX0_card_4 rfl ?_
  obtain ⟨⟨res, M1⟩, hT⟩ := hT
  cases res with
  | inl r =>
    refine jj_callVX (k' := 2) (n' := 12) C [jI a1, jI a2] [jI (0 : Int32), jR a3] [jI r, jI (0 : Int32), jR a3] he (m_X1_card _ _ hQ.2.2 hT) rfl hb rfl q702 q703 q704 q42 q705 ⟨rfl, hd_X1_card⟩ rfl (Nat.le_of_ble_eq_true rfl) ⟨Nat.le_of_ble_eq_true rfl, Nat.le_of_ble_eq_true rfl⟩ ⟨Nat.le_of_ble_eq_true rfl, Nat.le_of_ble_eq_true rfl, Nat.le_of_ble_eq_true rfl, Nat.le_of_ble_eq_true rfl⟩ dX0_card_5 rfl ?_
    obtain ⟨M2, hs, hR⟩ := hI r M1 hT
    refine jj_i2l C dX0_card_8 ?_
    refine jj_last C dX0_card_9 hs (fun M' hF => ?_)
    cases hF
    refine jj_goto (tgt := 21) C dX0_card_10 (by decide) ?_
    refine jj_iconst (v := 0) C dX0_card_21 (by decide) ?_
    exact jj_nret C hQ dX0_card_22 hR (Nat.le_of_ble_eq_true rfl) (Nat.le_of_ble_eq_true rfl)
  | inr e =>
    rcases hE e M1 hT with ⟨rfl, hR⟩ | ⟨rfl, hR⟩
    · refine jj_callVXc (k' := 2) (n2 := 12) (nm := "java/lang/IllegalArgumentException") C [jI a1, jI a2] [jI (0 : Int32), jR a3] he (m_X1_card _ _ hQ.2.2 hT) rfl hb rfl q702 q703 q704 q42 q705 ⟨rfl, hd_X1_card⟩ rfl (Nat.le_of_ble_eq_true rfl) ⟨Nat.le_of_ble_eq_true rfl, Nat.le_of_ble_eq_true rfl⟩ ⟨Nat.le_of_ble_eq_true rfl, Nat.le_of_ble_eq_true rfl, Nat.le_of_ble_eq_true rfl, Nat.le_of_ble_eq_true rfl⟩ dX0_card_5 [] ⟨0, 10, 13, 21⟩ [⟨0, 10, 17, 13⟩] (by rw [hQ.2.1]; rfl) (fun z hz => absurd hz List.not_mem_nil) rfl (by decide) q417 q456 (fun q n' => ?_)
      refine jj_astore (L' := [(4, jR (some q)), (0, jR a0), (1, jI a1), (2, jI a2), (3, jR a3)]) C rfl (by rw [hxn]; decide) dX0_card_13 ?_
      refine jj_iconst (v := 1) C dX0_card_15 (by decide) ?_
      exact jj_nret C hQ dX0_card_16 (hR n') (Nat.le_of_ble_eq_true rfl) (Nat.le_of_ble_eq_true rfl)
    · refine jj_callVXc (k' := 2) (n2 := 12) (nm := "java/lang/IllegalStateException") C [jI a1, jI a2] [jI (0 : Int32), jR a3] he (m_X1_card _ _ hQ.2.2 hT) rfl hb rfl q702 q703 q704 q42 q705 ⟨rfl, hd_X1_card⟩ rfl (Nat.le_of_ble_eq_true rfl) ⟨Nat.le_of_ble_eq_true rfl, Nat.le_of_ble_eq_true rfl⟩ ⟨Nat.le_of_ble_eq_true rfl, Nat.le_of_ble_eq_true rfl, Nat.le_of_ble_eq_true rfl, Nat.le_of_ble_eq_true rfl⟩ dX0_card_5 [⟨0, 10, 13, 21⟩] ⟨0, 10, 17, 13⟩ [] (by rw [hQ.2.1]; rfl) (by intro z hz; simp only [List.mem_cons, List.not_mem_nil, or_false] at hz; subst hz; exact Or.inr ⟨by decide, "java/lang/IllegalArgumentException", C.ts _ q417, C.kk.2.2.2.2.1 _ (List.mem_of_getElem? (i := 4) rfl)⟩) rfl (by decide) q228 q238 (fun q n' => ?_)
      refine jj_astore (L' := [(4, jR (some q)), (0, jR a0), (1, jI a1), (2, jI a2), (3, jR a3)]) C rfl (by rw [hxn]; decide) dX0_card_17 ?_
      refine jj_iconst (v := 2) C dX0_card_19 (by decide) ?_
      exact jj_nret C hQ dX0_card_20 (hR n') (Nat.le_of_ble_eq_true rfl) (Nat.le_of_ble_eq_true rfl)
/-! clock(LPhrasehall;I[J)I -/
def rm_X0_clock : Room := ({ frames := 8, cells := 2, slots := 12, locals := 214 } : Room)
abbrev hh_X0_clock : List (Nat × Nat × Nat × Nat) := [(0, 9, 12, 21), (0, 9, 15, 13)]
theorem hd_X0_clock : yX0_clock.cls ≠ "java/lang/invoke/MethodHandle" ∧ yX0_clock.cls ≠ "java/lang/invoke/VarHandle" ∧ (parseMethodDescriptor yX0_clock.desc).map (fun d => d.parameters.length) = some 3 := ⟨by decide, by decide, by decide +kernel⟩
set_option maxHeartbeats 4000000 in
theorem n_X0_clock (l : Launch) (g : jG) (hfl : l.stackTraces = false) {a0 : Option Nat} {a1 : Int32} {a2 : Option Nat} {M : jW} {R : Int32 → jW → Prop} {b : Nat} {fs : List Value} (he : a0 = some b) (hb : M.1 b = some (.inr (0, fs))) (hT : ∃ o, f_X1_clock (some b) a1 M = some o) (hI : ∀ r M1, f_X1_clock (some b) a1 M = some (.inl r, M1) → ∃ M2, pSL M1 a2 0 r.toInt64 some = some M2 ∧ R 0 M2) (hE : ∀ e M1, f_X1_clock (some b) a1 M = some (.inr e, M1) → (e = 2 ∧ ∀ n', R 1 (M1.1, (n', M1.2.2))) ∨ (e = 3 ∧ ∀ n', R 2 (M1.1, (n', M1.2.2)))) : jMetN l g yX0_clock cX0_clock 4 hh_X0_clock rm_X0_clock [jR a0, jI a1, jR a2] M R := by
  refine jMetN.of (L := [(0, jR a0), (1, jI a1), (2, jR a2)]) hfl (by decide) rfl (Nat.le_of_ble_eq_true rfl) (fun x C hxn hg hl hQ => ?_)
  subst hg
  refine jj_aload_n C 2 rfl dX0_clock_0 rfl ?_
  refine jj_iconst (v := 0) C dX0_clock_1 (by decide) ?_
  refine jj_aload_n C 0 rfl dX0_clock_2 rfl ?_
  refine jj_iload_n C 1 rfl dX0_clock_3 rfl ?_
  obtain ⟨⟨res, M1⟩, hT⟩ := hT
  cases res with
  | inl r =>
    refine jj_callVX (k' := 2) (n' := 12) C [jI a1] [jI (0 : Int32), jR a2] [jI r, jI (0 : Int32), jR a2] he (m_X1_clock _ _ hQ.2.2 hT) rfl hb rfl q714 q715 q716 q42 q717 ⟨rfl, hd_X1_clock⟩ rfl (Nat.le_of_ble_eq_true rfl) ⟨Nat.le_of_ble_eq_true rfl, Nat.le_of_ble_eq_true rfl⟩ ⟨Nat.le_of_ble_eq_true rfl, Nat.le_of_ble_eq_true rfl, Nat.le_of_ble_eq_true rfl, Nat.le_of_ble_eq_true rfl⟩ dX0_clock_4 rfl ?_
    obtain ⟨M2, hs, hR⟩ := hI r M1 hT
    refine jj_i2l C dX0_clock_7 ?_
    refine jj_last C dX0_clock_8 hs (fun M' hF => ?_)
    cases hF
    refine jj_goto (tgt := 18) C dX0_clock_9 (by decide) ?_
    refine jj_iconst (v := 0) C dX0_clock_18 (by decide) ?_
    exact jj_nret C hQ dX0_clock_19 hR (Nat.le_of_ble_eq_true rfl) (Nat.le_of_ble_eq_true rfl)
  | inr e =>
    rcases hE e M1 hT with ⟨rfl, hR⟩ | ⟨rfl, hR⟩
    · refine jj_callVXc (k' := 2) (n2 := 12) (nm := "java/lang/IllegalArgumentException") C [jI a1] [jI (0 : Int32), jR a2] he (m_X1_clock _ _ hQ.2.2 hT) rfl hb rfl q714 q715 q716 q42 q717 ⟨rfl, hd_X1_clock⟩ rfl (Nat.le_of_ble_eq_true rfl) ⟨Nat.le_of_ble_eq_true rfl, Nat.le_of_ble_eq_true rfl⟩ ⟨Nat.le_of_ble_eq_true rfl, Nat.le_of_ble_eq_true rfl, Nat.le_of_ble_eq_true rfl, Nat.le_of_ble_eq_true rfl⟩ dX0_clock_4 [] ⟨0, 9, 12, 21⟩ [⟨0, 9, 15, 13⟩] (by rw [hQ.2.1]; rfl) (fun z hz => absurd hz List.not_mem_nil) rfl (by decide) q417 q456 (fun q n' => ?_)
      refine jj_astore_n (L' := [(3, jR (some q)), (0, jR a0), (1, jI a1), (2, jR a2)]) C rfl (by rw [hxn]; decide) dX0_clock_12 rfl ?_
      refine jj_iconst (v := 1) C dX0_clock_13 (by decide) ?_
      exact jj_nret C hQ dX0_clock_14 (hR n') (Nat.le_of_ble_eq_true rfl) (Nat.le_of_ble_eq_true rfl)
    · refine jj_callVXc (k' := 2) (n2 := 12) (nm := "java/lang/IllegalStateException") C [jI a1] [jI (0 : Int32), jR a2] he (m_X1_clock _ _ hQ.2.2 hT) rfl hb rfl q714 q715 q716 q42 q717 ⟨rfl, hd_X1_clock⟩ rfl (Nat.le_of_ble_eq_true rfl) ⟨Nat.le_of_ble_eq_true rfl, Nat.le_of_ble_eq_true rfl⟩ ⟨Nat.le_of_ble_eq_true rfl, Nat.le_of_ble_eq_true rfl, Nat.le_of_ble_eq_true rfl, Nat.le_of_ble_eq_true rfl⟩ dX0_clock_4 [⟨0, 9, 12, 21⟩] ⟨0, 9, 15, 13⟩ [] (by rw [hQ.2.1]; rfl) (by intro z hz; simp only [List.mem_cons, List.not_mem_nil, or_false] at hz; subst hz; exact Or.inr ⟨by decide, "java/lang/IllegalArgumentException", C.ts _ q417, C.kk.2.2.2.2.1 _ (List.mem_of_getElem? (i := 4) rfl)⟩) rfl (by decide) q228 q238 (fun q n' => ?_)
      refine jj_astore_n (L' := [(3, jR (some q)), (0, jR a0), (1, jI a1), (2, jR a2)]) C rfl (by rw [hxn]; decide) dX0_clock_15 rfl ?_
      refine jj_iconst (v := 2) C dX0_clock_16 (by decide) ?_
      exact jj_nret C hQ dX0_clock_17 (hR n') (Nat.le_of_ble_eq_true rfl) (Nat.le_of_ble_eq_true rfl)
/-! end(LPhrasehall;[J)I -/
def rm_X0_end : Room := ({ frames := 8, cells := 1, slots := 6, locals := 169 } : Room)
abbrev hh_X0_end : List (Nat × Nat × Nat × Nat) := [(0, 8, 11, 13)]
theorem hd_X0_end : yX0_end.cls ≠ "java/lang/invoke/MethodHandle" ∧ yX0_end.cls ≠ "java/lang/invoke/VarHandle" ∧ (parseMethodDescriptor yX0_end.desc).map (fun d => d.parameters.length) = some 2 := ⟨by decide, by decide, by decide +kernel⟩
set_option maxHeartbeats 4000000 in
theorem n_X0_end (l : Launch) (g : jG) (hfl : l.stackTraces = false) {a0 : Option Nat} {a1 : Option Nat} {M : jW} {R : Int32 → jW → Prop} {b : Nat} {fs : List Value} (he : a0 = some b) (hb : M.1 b = some (.inr (0, fs))) (hT : ∃ o, f_X1_end (some b)  M = some o) (hI : ∀ r M1, f_X1_end (some b)  M = some (.inl r, M1) → ∃ M2, pSL M1 a1 0 r.toInt64 some = some M2 ∧ R 0 M2) (hE : ∀ e M1, f_X1_end (some b)  M = some (.inr e, M1) → (e = 3 ∧ ∀ n', R 1 (M1.1, (n', M1.2.2)))) : jMetN l g yX0_end cX0_end 3 hh_X0_end rm_X0_end [jR a0, jR a1] M R := by
  refine jMetN.of (L := [(0, jR a0), (1, jR a1)]) hfl (by decide) rfl (Nat.le_of_ble_eq_true rfl) (fun x C hxn hg hl hQ => ?_)
  subst hg
  refine jj_aload_n C 1 rfl dX0_end_0 rfl ?_
  refine jj_iconst (v := 0) C dX0_end_1 (by decide) ?_
  refine jj_aload_n C 0 rfl dX0_end_2 rfl ?_
  obtain ⟨⟨res, M1⟩, hT⟩ := hT
  cases res with
  | inl r =>
    refine jj_callVX (k' := 1) (n' := 6) C [] [jI (0 : Int32), jR a1] [jI r, jI (0 : Int32), jR a1] he (m_X1_end _ _ hQ.2.2 hT) rfl hb rfl q742 q743 q744 q42 q745 ⟨rfl, hd_X1_end⟩ rfl (Nat.le_of_ble_eq_true rfl) ⟨Nat.le_of_ble_eq_true rfl, Nat.le_of_ble_eq_true rfl⟩ ⟨Nat.le_of_ble_eq_true rfl, Nat.le_of_ble_eq_true rfl, Nat.le_of_ble_eq_true rfl, Nat.le_of_ble_eq_true rfl⟩ dX0_end_3 rfl ?_
    obtain ⟨M2, hs, hR⟩ := hI r M1 hT
    refine jj_i2l C dX0_end_6 ?_
    refine jj_last C dX0_end_7 hs (fun M' hF => ?_)
    cases hF
    refine jj_goto (tgt := 14) C dX0_end_8 (by decide) ?_
    refine jj_iconst (v := 0) C dX0_end_14 (by decide) ?_
    exact jj_nret C hQ dX0_end_15 hR (Nat.le_of_ble_eq_true rfl) (Nat.le_of_ble_eq_true rfl)
  | inr e =>
    rcases hE e M1 hT with ⟨rfl, hR⟩
    refine jj_callVXc (k' := 1) (n2 := 6) (nm := "java/lang/IllegalStateException") C [] [jI (0 : Int32), jR a1] he (m_X1_end _ _ hQ.2.2 hT) rfl hb rfl q742 q743 q744 q42 q745 ⟨rfl, hd_X1_end⟩ rfl (Nat.le_of_ble_eq_true rfl) ⟨Nat.le_of_ble_eq_true rfl, Nat.le_of_ble_eq_true rfl⟩ ⟨Nat.le_of_ble_eq_true rfl, Nat.le_of_ble_eq_true rfl, Nat.le_of_ble_eq_true rfl, Nat.le_of_ble_eq_true rfl⟩ dX0_end_3 [] ⟨0, 8, 11, 13⟩ [] (by rw [hQ.2.1]; rfl) (fun z hz => absurd hz List.not_mem_nil) rfl (by decide) q228 q238 (fun q n' => ?_)
    refine jj_astore_n (L' := [(2, jR (some q)), (0, jR a0), (1, jR a1)]) C rfl (by rw [hxn]; decide) dX0_end_11 rfl ?_
    refine jj_iconst (v := 1) C dX0_end_12 (by decide) ?_
    exact jj_nret C hQ dX0_end_13 (hR n') (Nat.le_of_ble_eq_true rfl) (Nat.le_of_ble_eq_true rfl)
/-! seed(LPhrasehall;I)I -/
def rm_X0_seed : Room := ({ frames := 8, cells := 1, slots := 6, locals := 169 } : Room)
abbrev hh_X0_seed : List (Nat × Nat × Nat × Nat) := [(0, 5, 8, 21)]
theorem hd_X0_seed : yX0_seed.cls ≠ "java/lang/invoke/MethodHandle" ∧ yX0_seed.cls ≠ "java/lang/invoke/VarHandle" ∧ (parseMethodDescriptor yX0_seed.desc).map (fun d => d.parameters.length) = some 2 := ⟨by decide, by decide, by decide +kernel⟩
set_option maxHeartbeats 4000000 in
theorem n_X0_seed (l : Launch) (g : jG) (hfl : l.stackTraces = false) {a0 : Option Nat} {a1 : Int32} {M : jW} {R : Int32 → jW → Prop} {b : Nat} {fs : List Value} (he : a0 = some b) (hb : M.1 b = some (.inr (0, fs))) (hT : ∃ o, f_X1_seed (some b) a1 M = some o) (hI : ∀ r M1, f_X1_seed (some b) a1 M = some (.inl r, M1) → R 0 M1) (hE : ∀ e M1, f_X1_seed (some b) a1 M = some (.inr e, M1) → (e = 2 ∧ ∀ n', R 1 (M1.1, (n', M1.2.2)))) : jMetN l g yX0_seed cX0_seed 3 hh_X0_seed rm_X0_seed [jR a0, jI a1] M R := by
  refine jMetN.of (L := [(0, jR a0), (1, jI a1)]) hfl (by decide) rfl (Nat.le_of_ble_eq_true rfl) (fun x C hxn hg hl hQ => ?_)
  subst hg
  refine jj_aload_n C 0 rfl dX0_seed_0 rfl ?_
  refine jj_iload_n C 1 rfl dX0_seed_1 rfl ?_
  obtain ⟨⟨res, M1⟩, hT⟩ := hT
  cases res with
  | inl r =>
    refine jj_callVX (k' := 1) (n' := 6) C [jI a1] [] [] he (m_X1_seed _ _ hQ.2.2 hT) rfl hb rfl q751 q752 q753 q42 q754 ⟨rfl, hd_X1_seed⟩ rfl (Nat.le_of_ble_eq_true rfl) ⟨Nat.le_of_ble_eq_true rfl, Nat.le_of_ble_eq_true rfl⟩ ⟨Nat.le_of_ble_eq_true rfl, Nat.le_of_ble_eq_true rfl, Nat.le_of_ble_eq_true rfl, Nat.le_of_ble_eq_true rfl⟩ dX0_seed_2 rfl ?_
    have hR := hI r M1 hT
    refine jj_goto (tgt := 11) C dX0_seed_5 (by decide) ?_
    refine jj_iconst (v := 0) C dX0_seed_11 (by decide) ?_
    exact jj_nret C hQ dX0_seed_12 hR (Nat.le_of_ble_eq_true rfl) (Nat.le_of_ble_eq_true rfl)
  | inr e =>
    rcases hE e M1 hT with ⟨rfl, hR⟩
    refine jj_callVXc (k' := 1) (n2 := 6) (nm := "java/lang/IllegalArgumentException") C [jI a1] [] he (m_X1_seed _ _ hQ.2.2 hT) rfl hb rfl q751 q752 q753 q42 q754 ⟨rfl, hd_X1_seed⟩ rfl (Nat.le_of_ble_eq_true rfl) ⟨Nat.le_of_ble_eq_true rfl, Nat.le_of_ble_eq_true rfl⟩ ⟨Nat.le_of_ble_eq_true rfl, Nat.le_of_ble_eq_true rfl, Nat.le_of_ble_eq_true rfl, Nat.le_of_ble_eq_true rfl⟩ dX0_seed_2 [] ⟨0, 5, 8, 21⟩ [] (by rw [hQ.2.1]; rfl) (fun z hz => absurd hz List.not_mem_nil) rfl (by decide) q417 q456 (fun q n' => ?_)
    refine jj_astore_n (L' := [(2, jR (some q)), (0, jR a0), (1, jI a1)]) C rfl (by rw [hxn]; decide) dX0_seed_8 rfl ?_
    refine jj_iconst (v := 1) C dX0_seed_9 (by decide) ?_
    exact jj_nret C hQ dX0_seed_10 (hR n') (Nat.le_of_ble_eq_true rfl) (Nat.le_of_ble_eq_true rfl)
/-! pool(LPhrasehall;I[J)I -/
def rm_X0_pool : Room := ({ frames := 8, cells := 18, slots := 219, locals := 216 } : Room)
abbrev hh_X0_pool : List (Nat × Nat × Nat × Nat) := [(0, 9, 12, 21), (0, 9, 15, 13)]
theorem hd_X0_pool : yX0_pool.cls ≠ "java/lang/invoke/MethodHandle" ∧ yX0_pool.cls ≠ "java/lang/invoke/VarHandle" ∧ (parseMethodDescriptor yX0_pool.desc).map (fun d => d.parameters.length) = some 3 := ⟨by decide, by decide, by decide +kernel⟩
set_option maxHeartbeats 4000000 in
theorem n_X0_pool (l : Launch) (g : jG) (hfl : l.stackTraces = false) {a0 : Option Nat} {a1 : Int32} {a2 : Option Nat} {M : jW} {R : Int32 → jW → Prop} {b : Nat} {fs : List Value} (he : a0 = some b) (hb : M.1 b = some (.inr (0, fs))) (hT : ∃ o, f_X1_pool (some b) a1 M = some o) (hI : ∀ r M1, f_X1_pool (some b) a1 M = some (.inl r, M1) → ∃ M2, pSL M1 a2 0 r.toInt64 some = some M2 ∧ R 0 M2) (hE : ∀ e M1, f_X1_pool (some b) a1 M = some (.inr e, M1) → (e = 2 ∧ ∀ n', R 1 (M1.1, (n', M1.2.2))) ∨ (e = 3 ∧ ∀ n', R 2 (M1.1, (n', M1.2.2)))) : jMetN l g yX0_pool cX0_pool 4 hh_X0_pool rm_X0_pool [jR a0, jI a1, jR a2] M R := by
  refine jMetN.of (L := [(0, jR a0), (1, jI a1), (2, jR a2)]) hfl (by decide) rfl (Nat.le_of_ble_eq_true rfl) (fun x C hxn hg hl hQ => ?_)
  subst hg
  refine jj_aload_n C 2 rfl dX0_pool_0 rfl ?_
  refine jj_iconst (v := 0) C dX0_pool_1 (by decide) ?_
  refine jj_aload_n C 0 rfl dX0_pool_2 rfl ?_
  refine jj_iload_n C 1 rfl dX0_pool_3 rfl ?_
  obtain ⟨⟨res, M1⟩, hT⟩ := hT
  cases res with
  | inl r =>
    refine jj_callVX (k' := 18) (n' := 219) C [jI a1] [jI (0 : Int32), jR a2] [jI r, jI (0 : Int32), jR a2] he (m_X1_pool _ _ hQ.2.2 hT) rfl hb rfl q758 q759 q760 q42 q761 ⟨rfl, hd_X1_pool⟩ rfl (Nat.le_of_ble_eq_true rfl) ⟨Nat.le_of_ble_eq_true rfl, Nat.le_of_ble_eq_true rfl⟩ ⟨Nat.le_of_ble_eq_true rfl, Nat.le_of_ble_eq_true rfl, Nat.le_of_ble_eq_true rfl, Nat.le_of_ble_eq_true rfl⟩ dX0_pool_4 rfl ?_
    obtain ⟨M2, hs, hR⟩ := hI r M1 hT
    refine jj_i2l C dX0_pool_7 ?_
    refine jj_last C dX0_pool_8 hs (fun M' hF => ?_)
    cases hF
    refine jj_goto (tgt := 18) C dX0_pool_9 (by decide) ?_
    refine jj_iconst (v := 0) C dX0_pool_18 (by decide) ?_
    exact jj_nret C hQ dX0_pool_19 hR (Nat.le_of_ble_eq_true rfl) (Nat.le_of_ble_eq_true rfl)
  | inr e =>
    rcases hE e M1 hT with ⟨rfl, hR⟩ | ⟨rfl, hR⟩
    · refine jj_callVXc (k' := 18) (n2 := 219) (nm := "java/lang/IllegalArgumentException") C [jI a1] [jI (0 : Int32), jR a2] he (m_X1_pool _ _ hQ.2.2 hT) rfl hb rfl q758 q759 q760 q42 q761 ⟨rfl, hd_X1_pool⟩ rfl (Nat.le_of_ble_eq_true rfl) ⟨Nat.le_of_ble_eq_true rfl, Nat.le_of_ble_eq_true rfl⟩ ⟨Nat.le_of_ble_eq_true rfl, Nat.le_of_ble_eq_true rfl, Nat.le_of_ble_eq_true rfl, Nat.le_of_ble_eq_true rfl⟩ dX0_pool_4 [] ⟨0, 9, 12, 21⟩ [⟨0, 9, 15, 13⟩] (by rw [hQ.2.1]; rfl) (fun z hz => absurd hz List.not_mem_nil) rfl (by decide) q417 q456 (fun q n' => ?_)
      refine jj_astore_n (L' := [(3, jR (some q)), (0, jR a0), (1, jI a1), (2, jR a2)]) C rfl (by rw [hxn]; decide) dX0_pool_12 rfl ?_
      refine jj_iconst (v := 1) C dX0_pool_13 (by decide) ?_
      exact jj_nret C hQ dX0_pool_14 (hR n') (Nat.le_of_ble_eq_true rfl) (Nat.le_of_ble_eq_true rfl)
    · refine jj_callVXc (k' := 18) (n2 := 219) (nm := "java/lang/IllegalStateException") C [jI a1] [jI (0 : Int32), jR a2] he (m_X1_pool _ _ hQ.2.2 hT) rfl hb rfl q758 q759 q760 q42 q761 ⟨rfl, hd_X1_pool⟩ rfl (Nat.le_of_ble_eq_true rfl) ⟨Nat.le_of_ble_eq_true rfl, Nat.le_of_ble_eq_true rfl⟩ ⟨Nat.le_of_ble_eq_true rfl, Nat.le_of_ble_eq_true rfl, Nat.le_of_ble_eq_true rfl, Nat.le_of_ble_eq_true rfl⟩ dX0_pool_4 [⟨0, 9, 12, 21⟩] ⟨0, 9, 15, 13⟩ [] (by rw [hQ.2.1]; rfl) (by intro z hz; simp only [List.mem_cons, List.not_mem_nil, or_false] at hz; subst hz; exact Or.inr ⟨by decide, "java/lang/IllegalArgumentException", C.ts _ q417, C.kk.2.2.2.2.1 _ (List.mem_of_getElem? (i := 4) rfl)⟩) rfl (by decide) q228 q238 (fun q n' => ?_)
      refine jj_astore_n (L' := [(3, jR (some q)), (0, jR a0), (1, jI a1), (2, jR a2)]) C rfl (by rw [hxn]; decide) dX0_pool_15 rfl ?_
      refine jj_iconst (v := 2) C dX0_pool_16 (by decide) ?_
      exact jj_nret C hQ dX0_pool_17 (hR n') (Nat.le_of_ble_eq_true rfl) (Nat.le_of_ble_eq_true rfl)
/-! withdraw(LPhrasehall;II[J)I -/
def rm_X0_withdraw : Room := ({ frames := 10, cells := 4, slots := 22, locals := 218 } : Room)
abbrev hh_X0_withdraw : List (Nat × Nat × Nat × Nat) := [(0, 10, 13, 19), (0, 10, 17, 13)]
theorem hd_X0_withdraw : yX0_withdraw.cls ≠ "java/lang/invoke/MethodHandle" ∧ yX0_withdraw.cls ≠ "java/lang/invoke/VarHandle" ∧ (parseMethodDescriptor yX0_withdraw.desc).map (fun d => d.parameters.length) = some 4 := ⟨by decide, by decide, by decide +kernel⟩
set_option maxHeartbeats 4000000 in
theorem n_X0_withdraw (l : Launch) (g : jG) (hfl : l.stackTraces = false) {a0 : Option Nat} {a1 : Int32} {a2 : Int32} {a3 : Option Nat} {M : jW} {R : Int32 → jW → Prop} {b : Nat} {fs : List Value} (he : a0 = some b) (hb : M.1 b = some (.inr (0, fs))) (hT : ∃ o, f_X1_withdraw (some b) a1 a2 M = some o) (hI : ∀ r M1, f_X1_withdraw (some b) a1 a2 M = some (.inl r, M1) → ∃ M2, pSL M1 a3 0 r.toInt64 some = some M2 ∧ R 0 M2) (hE : ∀ e M1, f_X1_withdraw (some b) a1 a2 M = some (.inr e, M1) → (e = 1 ∧ ∀ n', R 1 (M1.1, (n', M1.2.2))) ∨ (e = 3 ∧ ∀ n', R 2 (M1.1, (n', M1.2.2)))) : jMetN l g yX0_withdraw cX0_withdraw 5 hh_X0_withdraw rm_X0_withdraw [jR a0, jI a1, jI a2, jR a3] M R := by
  refine jMetN.of (L := [(0, jR a0), (1, jI a1), (2, jI a2), (3, jR a3)]) hfl (by decide) rfl (Nat.le_of_ble_eq_true rfl) (fun x C hxn hg hl hQ => ?_)
  subst hg
  refine jj_aload_n C 3 rfl dX0_withdraw_0 rfl ?_
  refine jj_iconst (v := 0) C dX0_withdraw_1 (by decide) ?_
  refine jj_aload_n C 0 rfl dX0_withdraw_2 rfl ?_
  refine jj_iload_n C 1 rfl dX0_withdraw_3 rfl ?_
  refine jj_iload_n C 2 rfl dX0_withdraw_4 rfl ?_
  obtain ⟨⟨res, M1⟩, hT⟩ := hT
  cases res with
  | inl r =>
    refine jj_callVX (k' := 4) (n' := 22) C [jI a1, jI a2] [jI (0 : Int32), jR a3] [jI r, jI (0 : Int32), jR a3] he (m_X1_withdraw _ _ hQ.2.2 hT) rfl hb rfl q812 q813 q814 q42 q815 ⟨rfl, hd_X1_withdraw⟩ rfl (Nat.le_of_ble_eq_true rfl) ⟨Nat.le_of_ble_eq_true rfl, Nat.le_of_ble_eq_true rfl⟩ ⟨Nat.le_of_ble_eq_true rfl, Nat.le_of_ble_eq_true rfl, Nat.le_of_ble_eq_true rfl, Nat.le_of_ble_eq_true rfl⟩ dX0_withdraw_5 rfl ?_
    obtain ⟨M2, hs, hR⟩ := hI r M1 hT
    refine jj_i2l C dX0_withdraw_8 ?_
    refine jj_last C dX0_withdraw_9 hs (fun M' hF => ?_)
    cases hF
    refine jj_goto (tgt := 21) C dX0_withdraw_10 (by decide) ?_
    refine jj_iconst (v := 0) C dX0_withdraw_21 (by decide) ?_
    exact jj_nret C hQ dX0_withdraw_22 hR (Nat.le_of_ble_eq_true rfl) (Nat.le_of_ble_eq_true rfl)
  | inr e =>
    rcases hE e M1 hT with ⟨rfl, hR⟩ | ⟨rfl, hR⟩
    · refine jj_callVXc (k' := 4) (n2 := 22) (nm := "java/lang/IndexOutOfBoundsException") C [jI a1, jI a2] [jI (0 : Int32), jR a3] he (m_X1_withdraw _ _ hQ.2.2 hT) rfl hb rfl q812 q813 q814 q42 q815 ⟨rfl, hd_X1_withdraw⟩ rfl (Nat.le_of_ble_eq_true rfl) ⟨Nat.le_of_ble_eq_true rfl, Nat.le_of_ble_eq_true rfl⟩ ⟨Nat.le_of_ble_eq_true rfl, Nat.le_of_ble_eq_true rfl, Nat.le_of_ble_eq_true rfl, Nat.le_of_ble_eq_true rfl⟩ dX0_withdraw_5 [] ⟨0, 10, 13, 19⟩ [⟨0, 10, 17, 13⟩] (by rw [hQ.2.1]; rfl) (fun z hz => absurd hz List.not_mem_nil) rfl (by decide) q384 q433 (fun q n' => ?_)
      refine jj_astore (L' := [(4, jR (some q)), (0, jR a0), (1, jI a1), (2, jI a2), (3, jR a3)]) C rfl (by rw [hxn]; decide) dX0_withdraw_13 ?_
      refine jj_iconst (v := 1) C dX0_withdraw_15 (by decide) ?_
      exact jj_nret C hQ dX0_withdraw_16 (hR n') (Nat.le_of_ble_eq_true rfl) (Nat.le_of_ble_eq_true rfl)
    · refine jj_callVXc (k' := 4) (n2 := 22) (nm := "java/lang/IllegalStateException") C [jI a1, jI a2] [jI (0 : Int32), jR a3] he (m_X1_withdraw _ _ hQ.2.2 hT) rfl hb rfl q812 q813 q814 q42 q815 ⟨rfl, hd_X1_withdraw⟩ rfl (Nat.le_of_ble_eq_true rfl) ⟨Nat.le_of_ble_eq_true rfl, Nat.le_of_ble_eq_true rfl⟩ ⟨Nat.le_of_ble_eq_true rfl, Nat.le_of_ble_eq_true rfl, Nat.le_of_ble_eq_true rfl, Nat.le_of_ble_eq_true rfl⟩ dX0_withdraw_5 [⟨0, 10, 13, 19⟩] ⟨0, 10, 17, 13⟩ [] (by rw [hQ.2.1]; rfl) (by intro z hz; simp only [List.mem_cons, List.not_mem_nil, or_false] at hz; subst hz; exact Or.inr ⟨by decide, "java/lang/IndexOutOfBoundsException", C.ts _ q384, C.kk.2.2.2.2.1 _ (List.mem_of_getElem? (i := 3) rfl)⟩) rfl (by decide) q228 q238 (fun q n' => ?_)
      refine jj_astore (L' := [(4, jR (some q)), (0, jR a0), (1, jI a1), (2, jI a2), (3, jR a3)]) C rfl (by rw [hxn]; decide) dX0_withdraw_17 ?_
      refine jj_iconst (v := 2) C dX0_withdraw_19 (by decide) ?_
      exact jj_nret C hQ dX0_withdraw_20 (hR n') (Nat.le_of_ble_eq_true rfl) (Nat.le_of_ble_eq_true rfl)
/-! tableau(LPhrasehall;I[J)I -/
def rm_X0_tableau : Room := ({ frames := 9, cells := 36, slots := 2769, locals := 225 } : Room)
abbrev hh_X0_tableau : List (Nat × Nat × Nat × Nat) := [(0, 9, 12, 19), (0, 9, 15, 13)]
theorem hd_X0_tableau : yX0_tableau.cls ≠ "java/lang/invoke/MethodHandle" ∧ yX0_tableau.cls ≠ "java/lang/invoke/VarHandle" ∧ (parseMethodDescriptor yX0_tableau.desc).map (fun d => d.parameters.length) = some 3 := ⟨by decide, by decide, by decide +kernel⟩
set_option maxHeartbeats 4000000 in
theorem n_X0_tableau (l : Launch) (g : jG) (hfl : l.stackTraces = false) {a0 : Option Nat} {a1 : Int32} {a2 : Option Nat} {M : jW} {R : Int32 → jW → Prop} {b : Nat} {fs : List Value} (he : a0 = some b) (hb : M.1 b = some (.inr (0, fs))) (hT : ∃ o, f_X1_tableau (some b) a1 M = some o) (hI : ∀ r M1, f_X1_tableau (some b) a1 M = some (.inl r, M1) → ∃ M2, pSL M1 a2 0 r.toInt64 some = some M2 ∧ R 0 M2) (hE : ∀ e M1, f_X1_tableau (some b) a1 M = some (.inr e, M1) → (e = 1 ∧ ∀ n', R 1 (M1.1, (n', M1.2.2))) ∨ (e = 3 ∧ ∀ n', R 2 (M1.1, (n', M1.2.2)))) : jMetN l g yX0_tableau cX0_tableau 4 hh_X0_tableau rm_X0_tableau [jR a0, jI a1, jR a2] M R := by
  refine jMetN.of (L := [(0, jR a0), (1, jI a1), (2, jR a2)]) hfl (by decide) rfl (Nat.le_of_ble_eq_true rfl) (fun x C hxn hg hl hQ => ?_)
  subst hg
  refine jj_aload_n C 2 rfl dX0_tableau_0 rfl ?_
  refine jj_iconst (v := 0) C dX0_tableau_1 (by decide) ?_
  refine jj_aload_n C 0 rfl dX0_tableau_2 rfl ?_
  refine jj_iload_n C 1 rfl dX0_tableau_3 rfl ?_
  obtain ⟨⟨res, M1⟩, hT⟩ := hT
  cases res with
  | inl r =>
    refine jj_callVX (k' := 36) (n' := 2769) C [jI a1] [jI (0 : Int32), jR a2] [jI r, jI (0 : Int32), jR a2] he (m_X1_tableau _ _ hQ.2.2 hT) rfl hb rfl q874 q875 q876 q42 q877 ⟨rfl, hd_X1_tableau⟩ rfl (Nat.le_of_ble_eq_true rfl) ⟨Nat.le_of_ble_eq_true rfl, Nat.le_of_ble_eq_true rfl⟩ ⟨Nat.le_of_ble_eq_true rfl, Nat.le_of_ble_eq_true rfl, Nat.le_of_ble_eq_true rfl, Nat.le_of_ble_eq_true rfl⟩ dX0_tableau_4 rfl ?_
    obtain ⟨M2, hs, hR⟩ := hI r M1 hT
    refine jj_i2l C dX0_tableau_7 ?_
    refine jj_last C dX0_tableau_8 hs (fun M' hF => ?_)
    cases hF
    refine jj_goto (tgt := 18) C dX0_tableau_9 (by decide) ?_
    refine jj_iconst (v := 0) C dX0_tableau_18 (by decide) ?_
    exact jj_nret C hQ dX0_tableau_19 hR (Nat.le_of_ble_eq_true rfl) (Nat.le_of_ble_eq_true rfl)
  | inr e =>
    rcases hE e M1 hT with ⟨rfl, hR⟩ | ⟨rfl, hR⟩
    · refine jj_callVXc (k' := 36) (n2 := 2769) (nm := "java/lang/IndexOutOfBoundsException") C [jI a1] [jI (0 : Int32), jR a2] he (m_X1_tableau _ _ hQ.2.2 hT) rfl hb rfl q874 q875 q876 q42 q877 ⟨rfl, hd_X1_tableau⟩ rfl (Nat.le_of_ble_eq_true rfl) ⟨Nat.le_of_ble_eq_true rfl, Nat.le_of_ble_eq_true rfl⟩ ⟨Nat.le_of_ble_eq_true rfl, Nat.le_of_ble_eq_true rfl, Nat.le_of_ble_eq_true rfl, Nat.le_of_ble_eq_true rfl⟩ dX0_tableau_4 [] ⟨0, 9, 12, 19⟩ [⟨0, 9, 15, 13⟩] (by rw [hQ.2.1]; rfl) (fun z hz => absurd hz List.not_mem_nil) rfl (by decide) q384 q433 (fun q n' => ?_)
      refine jj_astore_n (L' := [(3, jR (some q)), (0, jR a0), (1, jI a1), (2, jR a2)]) C rfl (by rw [hxn]; decide) dX0_tableau_12 rfl ?_
      refine jj_iconst (v := 1) C dX0_tableau_13 (by decide) ?_
      exact jj_nret C hQ dX0_tableau_14 (hR n') (Nat.le_of_ble_eq_true rfl) (Nat.le_of_ble_eq_true rfl)
    · refine jj_callVXc (k' := 36) (n2 := 2769) (nm := "java/lang/IllegalStateException") C [jI a1] [jI (0 : Int32), jR a2] he (m_X1_tableau _ _ hQ.2.2 hT) rfl hb rfl q874 q875 q876 q42 q877 ⟨rfl, hd_X1_tableau⟩ rfl (Nat.le_of_ble_eq_true rfl) ⟨Nat.le_of_ble_eq_true rfl, Nat.le_of_ble_eq_true rfl⟩ ⟨Nat.le_of_ble_eq_true rfl, Nat.le_of_ble_eq_true rfl, Nat.le_of_ble_eq_true rfl, Nat.le_of_ble_eq_true rfl⟩ dX0_tableau_4 [⟨0, 9, 12, 19⟩] ⟨0, 9, 15, 13⟩ [] (by rw [hQ.2.1]; rfl) (by intro z hz; simp only [List.mem_cons, List.not_mem_nil, or_false] at hz; subst hz; exact Or.inr ⟨by decide, "java/lang/IndexOutOfBoundsException", C.ts _ q384, C.kk.2.2.2.2.1 _ (List.mem_of_getElem? (i := 3) rfl)⟩) rfl (by decide) q228 q238 (fun q n' => ?_)
      refine jj_astore_n (L' := [(3, jR (some q)), (0, jR a0), (1, jI a1), (2, jR a2)]) C rfl (by rw [hxn]; decide) dX0_tableau_15 rfl ?_
      refine jj_iconst (v := 2) C dX0_tableau_16 (by decide) ?_
      exact jj_nret C hQ dX0_tableau_17 (hR n') (Nat.le_of_ble_eq_true rfl) (Nat.le_of_ble_eq_true rfl)
/-! wins(LPhrasehall;III[J)I -/
def rm_X0_wins : Room := ({ frames := 9, cells := 3, slots := 18, locals := 194 } : Room)
abbrev hh_X0_wins : List (Nat × Nat × Nat × Nat) := [(0, 12, 15, 19), (0, 12, 19, 21), (0, 12, 23, 13)]
theorem hd_X0_wins : yX0_wins.cls ≠ "java/lang/invoke/MethodHandle" ∧ yX0_wins.cls ≠ "java/lang/invoke/VarHandle" ∧ (parseMethodDescriptor yX0_wins.desc).map (fun d => d.parameters.length) = some 5 := ⟨by decide, by decide, by decide +kernel⟩
set_option maxHeartbeats 4000000 in
theorem n_X0_wins (l : Launch) (g : jG) (hfl : l.stackTraces = false) {a0 : Option Nat} {a1 : Int32} {a2 : Int32} {a3 : Int32} {a4 : Option Nat} {M : jW} {R : Int32 → jW → Prop} {b : Nat} {fs : List Value} (he : a0 = some b) (hb : M.1 b = some (.inr (0, fs))) (hT : ∃ o, f_X1_wins (some b) a1 a2 a3 M = some o) (hI : ∀ r M1, f_X1_wins (some b) a1 a2 a3 M = some (.inl r, M1) → ∃ M2, pSL M1 a4 0 r.toInt64 some = some M2 ∧ R 0 M2) (hE : ∀ e M1, f_X1_wins (some b) a1 a2 a3 M = some (.inr e, M1) → (e = 1 ∧ ∀ n', R 1 (M1.1, (n', M1.2.2))) ∨ (e = 2 ∧ ∀ n', R 2 (M1.1, (n', M1.2.2))) ∨ (e = 3 ∧ ∀ n', R 3 (M1.1, (n', M1.2.2)))) : jMetN l g yX0_wins cX0_wins 6 hh_X0_wins rm_X0_wins [jR a0, jI a1, jI a2, jI a3, jR a4] M R := by
  refine jMetN.of (L := [(0, jR a0), (1, jI a1), (2, jI a2), (3, jI a3), (4, jR a4)]) hfl (by decide) rfl (Nat.le_of_ble_eq_true rfl) (fun x C hxn hg hl hQ => ?_)
  subst hg
  refine jj_aload C 4 rfl dX0_wins_0 ?_
  refine jj_iconst (v := 0) C dX0_wins_2 (by decide) ?_
  refine jj_aload_n C 0 rfl dX0_wins_3 rfl ?_
  refine jj_iload_n C 1 rfl dX0_wins_4 rfl ?_
  refine jj_iload_n C 2 rfl dX0_wins_5 rfl ?_
  refine jj_iload_n C 3 rfl dX0_wins_6 rfl ?_
  obtain ⟨⟨res, M1⟩, hT⟩ := hT
  cases res with
  | inl r =>
    refine jj_callVX (k' := 3) (n' := 18) C [jI a1, jI a2, jI a3] [jI (0 : Int32), jR a4] [jI r, jI (0 : Int32), jR a4] he (m_X1_wins _ _ hQ.2.2 hT) rfl hb rfl q1170 q1171 q1172 q42 q1173 ⟨rfl, hd_X1_wins⟩ rfl (Nat.le_of_ble_eq_true rfl) ⟨Nat.le_of_ble_eq_true rfl, Nat.le_of_ble_eq_true rfl⟩ ⟨Nat.le_of_ble_eq_true rfl, Nat.le_of_ble_eq_true rfl, Nat.le_of_ble_eq_true rfl, Nat.le_of_ble_eq_true rfl⟩ dX0_wins_7 rfl ?_
    obtain ⟨M2, hs, hR⟩ := hI r M1 hT
    refine jj_i2l C dX0_wins_10 ?_
    refine jj_last C dX0_wins_11 hs (fun M' hF => ?_)
    cases hF
    refine jj_goto (tgt := 27) C dX0_wins_12 (by decide) ?_
    refine jj_iconst (v := 0) C dX0_wins_27 (by decide) ?_
    exact jj_nret C hQ dX0_wins_28 hR (Nat.le_of_ble_eq_true rfl) (Nat.le_of_ble_eq_true rfl)
  | inr e =>
    rcases hE e M1 hT with ⟨rfl, hR⟩ | ⟨rfl, hR⟩ | ⟨rfl, hR⟩
    · refine jj_callVXc (k' := 3) (n2 := 18) (nm := "java/lang/IndexOutOfBoundsException") C [jI a1, jI a2, jI a3] [jI (0 : Int32), jR a4] he (m_X1_wins _ _ hQ.2.2 hT) rfl hb rfl q1170 q1171 q1172 q42 q1173 ⟨rfl, hd_X1_wins⟩ rfl (Nat.le_of_ble_eq_true rfl) ⟨Nat.le_of_ble_eq_true rfl, Nat.le_of_ble_eq_true rfl⟩ ⟨Nat.le_of_ble_eq_true rfl, Nat.le_of_ble_eq_true rfl, Nat.le_of_ble_eq_true rfl, Nat.le_of_ble_eq_true rfl⟩ dX0_wins_7 [] ⟨0, 12, 15, 19⟩ [⟨0, 12, 19, 21⟩, ⟨0, 12, 23, 13⟩] (by rw [hQ.2.1]; rfl) (fun z hz => absurd hz List.not_mem_nil) rfl (by decide) q384 q433 (fun q n' => ?_)
      refine jj_astore (L' := [(5, jR (some q)), (0, jR a0), (1, jI a1), (2, jI a2), (3, jI a3), (4, jR a4)]) C rfl (by rw [hxn]; decide) dX0_wins_15 ?_
      refine jj_iconst (v := 1) C dX0_wins_17 (by decide) ?_
      exact jj_nret C hQ dX0_wins_18 (hR n') (Nat.le_of_ble_eq_true rfl) (Nat.le_of_ble_eq_true rfl)
    · refine jj_callVXc (k' := 3) (n2 := 18) (nm := "java/lang/IllegalArgumentException") C [jI a1, jI a2, jI a3] [jI (0 : Int32), jR a4] he (m_X1_wins _ _ hQ.2.2 hT) rfl hb rfl q1170 q1171 q1172 q42 q1173 ⟨rfl, hd_X1_wins⟩ rfl (Nat.le_of_ble_eq_true rfl) ⟨Nat.le_of_ble_eq_true rfl, Nat.le_of_ble_eq_true rfl⟩ ⟨Nat.le_of_ble_eq_true rfl, Nat.le_of_ble_eq_true rfl, Nat.le_of_ble_eq_true rfl, Nat.le_of_ble_eq_true rfl⟩ dX0_wins_7 [⟨0, 12, 15, 19⟩] ⟨0, 12, 19, 21⟩ [⟨0, 12, 23, 13⟩] (by rw [hQ.2.1]; rfl) (by intro z hz; simp only [List.mem_cons, List.not_mem_nil, or_false] at hz; subst hz; exact Or.inr ⟨by decide, "java/lang/IndexOutOfBoundsException", C.ts _ q384, C.kk.2.2.2.2.1 _ (List.mem_of_getElem? (i := 2) rfl)⟩) rfl (by decide) q417 q456 (fun q n' => ?_)
      refine jj_astore (L' := [(5, jR (some q)), (0, jR a0), (1, jI a1), (2, jI a2), (3, jI a3), (4, jR a4)]) C rfl (by rw [hxn]; decide) dX0_wins_19 ?_
      refine jj_iconst (v := 2) C dX0_wins_21 (by decide) ?_
      exact jj_nret C hQ dX0_wins_22 (hR n') (Nat.le_of_ble_eq_true rfl) (Nat.le_of_ble_eq_true rfl)
    · refine jj_callVXc (k' := 3) (n2 := 18) (nm := "java/lang/IllegalStateException") C [jI a1, jI a2, jI a3] [jI (0 : Int32), jR a4] he (m_X1_wins _ _ hQ.2.2 hT) rfl hb rfl q1170 q1171 q1172 q42 q1173 ⟨rfl, hd_X1_wins⟩ rfl (Nat.le_of_ble_eq_true rfl) ⟨Nat.le_of_ble_eq_true rfl, Nat.le_of_ble_eq_true rfl⟩ ⟨Nat.le_of_ble_eq_true rfl, Nat.le_of_ble_eq_true rfl, Nat.le_of_ble_eq_true rfl, Nat.le_of_ble_eq_true rfl⟩ dX0_wins_7 [⟨0, 12, 15, 19⟩, ⟨0, 12, 19, 21⟩] ⟨0, 12, 23, 13⟩ [] (by rw [hQ.2.1]; rfl) (by
      intro z hz
      simp only [List.mem_cons, List.not_mem_nil, or_false] at hz
      rcases hz with rfl | rfl
      · exact Or.inr ⟨by decide, "java/lang/IndexOutOfBoundsException", C.ts _ q384, C.kk.2.2.2.2.1 _ (List.mem_of_getElem? (i := 3) rfl)⟩
      · exact Or.inr ⟨by decide, "java/lang/IllegalArgumentException", C.ts _ q417, C.kk.2.2.2.2.1 _ (List.mem_of_getElem? (i := 4) rfl)⟩) rfl (by decide) q228 q238 (fun q n' => ?_)
      refine jj_astore (L' := [(5, jR (some q)), (0, jR a0), (1, jI a1), (2, jI a2), (3, jI a3), (4, jR a4)]) C rfl (by rw [hxn]; decide) dX0_wins_23 ?_
      refine jj_iconst (v := 3) C dX0_wins_25 (by decide) ?_
      exact jj_nret C hQ dX0_wins_26 (hR n') (Nat.le_of_ble_eq_true rfl) (Nat.le_of_ble_eq_true rfl)
/-! lamp(LPhrasehall;I[J)I -/
def rm_X0_lamp : Room := ({ frames := 8, cells := 1, slots := 6, locals := 174 } : Room)
abbrev hh_X0_lamp : List (Nat × Nat × Nat × Nat) := [(0, 9, 12, 21)]
theorem hd_X0_lamp : yX0_lamp.cls ≠ "java/lang/invoke/MethodHandle" ∧ yX0_lamp.cls ≠ "java/lang/invoke/VarHandle" ∧ (parseMethodDescriptor yX0_lamp.desc).map (fun d => d.parameters.length) = some 3 := ⟨by decide, by decide, by decide +kernel⟩
set_option maxHeartbeats 4000000 in
theorem n_X0_lamp (l : Launch) (g : jG) (hfl : l.stackTraces = false) {a0 : Option Nat} {a1 : Int32} {a2 : Option Nat} {M : jW} {R : Int32 → jW → Prop} {b : Nat} {fs : List Value} (he : a0 = some b) (hb : M.1 b = some (.inr (0, fs))) (hT : ∃ o, f_X1_lamp (some b) a1 M = some o) (hI : ∀ r M1, f_X1_lamp (some b) a1 M = some (.inl r, M1) → ∃ M2, pSL M1 a2 0 r.toInt64 some = some M2 ∧ R 0 M2) (hE : ∀ e M1, f_X1_lamp (some b) a1 M = some (.inr e, M1) → (e = 2 ∧ ∀ n', R 1 (M1.1, (n', M1.2.2)))) : jMetN l g yX0_lamp cX0_lamp 4 hh_X0_lamp rm_X0_lamp [jR a0, jI a1, jR a2] M R := by
  refine jMetN.of (L := [(0, jR a0), (1, jI a1), (2, jR a2)]) hfl (by decide) rfl (Nat.le_of_ble_eq_true rfl) (fun x C hxn hg hl hQ => ?_)
  subst hg
  refine jj_aload_n C 2 rfl dX0_lamp_0 rfl ?_
  refine jj_iconst (v := 0) C dX0_lamp_1 (by decide) ?_
  refine jj_aload_n C 0 rfl dX0_lamp_2 rfl ?_
  refine jj_iload_n C 1 rfl dX0_lamp_3 rfl ?_
  obtain ⟨⟨res, M1⟩, hT⟩ := hT
  cases res with
  | inl r =>
    refine jj_callVX (k' := 1) (n' := 6) C [jI a1] [jI (0 : Int32), jR a2] [jI r, jI (0 : Int32), jR a2] he (m_X1_lamp _ _ hQ.2.2 hT) rfl hb rfl q1181 q1182 q1183 q42 q1184 ⟨rfl, hd_X1_lamp⟩ rfl (Nat.le_of_ble_eq_true rfl) ⟨Nat.le_of_ble_eq_true rfl, Nat.le_of_ble_eq_true rfl⟩ ⟨Nat.le_of_ble_eq_true rfl, Nat.le_of_ble_eq_true rfl, Nat.le_of_ble_eq_true rfl, Nat.le_of_ble_eq_true rfl⟩ dX0_lamp_4 rfl ?_
    obtain ⟨M2, hs, hR⟩ := hI r M1 hT
    refine jj_i2l C dX0_lamp_7 ?_
    refine jj_last C dX0_lamp_8 hs (fun M' hF => ?_)
    cases hF
    refine jj_goto (tgt := 15) C dX0_lamp_9 (by decide) ?_
    refine jj_iconst (v := 0) C dX0_lamp_15 (by decide) ?_
    exact jj_nret C hQ dX0_lamp_16 hR (Nat.le_of_ble_eq_true rfl) (Nat.le_of_ble_eq_true rfl)
  | inr e =>
    rcases hE e M1 hT with ⟨rfl, hR⟩
    refine jj_callVXc (k' := 1) (n2 := 6) (nm := "java/lang/IllegalArgumentException") C [jI a1] [jI (0 : Int32), jR a2] he (m_X1_lamp _ _ hQ.2.2 hT) rfl hb rfl q1181 q1182 q1183 q42 q1184 ⟨rfl, hd_X1_lamp⟩ rfl (Nat.le_of_ble_eq_true rfl) ⟨Nat.le_of_ble_eq_true rfl, Nat.le_of_ble_eq_true rfl⟩ ⟨Nat.le_of_ble_eq_true rfl, Nat.le_of_ble_eq_true rfl, Nat.le_of_ble_eq_true rfl, Nat.le_of_ble_eq_true rfl⟩ dX0_lamp_4 [] ⟨0, 9, 12, 21⟩ [] (by rw [hQ.2.1]; rfl) (fun z hz => absurd hz List.not_mem_nil) rfl (by decide) q417 q456 (fun q n' => ?_)
    refine jj_astore_n (L' := [(3, jR (some q)), (0, jR a0), (1, jI a1), (2, jR a2)]) C rfl (by rw [hxn]; decide) dX0_lamp_12 rfl ?_
    refine jj_iconst (v := 1) C dX0_lamp_13 (by decide) ?_
    exact jj_nret C hQ dX0_lamp_14 (hR n') (Nat.le_of_ble_eq_true rfl) (Nat.le_of_ble_eq_true rfl)
/-! ofBout(LPhrasehall;II[J)I -/
def rm_X0_ofBout : Room := ({ frames := 9, cells := 2, slots := 12, locals := 192 } : Room)
abbrev hh_X0_ofBout : List (Nat × Nat × Nat × Nat) := [(0, 10, 13, 19), (0, 10, 17, 21)]
theorem hd_X0_ofBout : yX0_ofBout.cls ≠ "java/lang/invoke/MethodHandle" ∧ yX0_ofBout.cls ≠ "java/lang/invoke/VarHandle" ∧ (parseMethodDescriptor yX0_ofBout.desc).map (fun d => d.parameters.length) = some 4 := ⟨by decide, by decide, by decide +kernel⟩
set_option maxHeartbeats 4000000 in
theorem n_X0_ofBout (l : Launch) (g : jG) (hfl : l.stackTraces = false) {a0 : Option Nat} {a1 : Int32} {a2 : Int32} {a3 : Option Nat} {M : jW} {R : Int32 → jW → Prop} {b : Nat} {fs : List Value} (he : a0 = some b) (hb : M.1 b = some (.inr (0, fs))) (hT : ∃ o, f_X1_ofBout (some b) a1 a2 M = some o) (hI : ∀ r M1, f_X1_ofBout (some b) a1 a2 M = some (.inl r, M1) → ∃ M2, pSL M1 a3 0 r.toInt64 some = some M2 ∧ R 0 M2) (hE : ∀ e M1, f_X1_ofBout (some b) a1 a2 M = some (.inr e, M1) → (e = 1 ∧ ∀ n', R 1 (M1.1, (n', M1.2.2))) ∨ (e = 2 ∧ ∀ n', R 2 (M1.1, (n', M1.2.2)))) : jMetN l g yX0_ofBout cX0_ofBout 5 hh_X0_ofBout rm_X0_ofBout [jR a0, jI a1, jI a2, jR a3] M R := by
  refine jMetN.of (L := [(0, jR a0), (1, jI a1), (2, jI a2), (3, jR a3)]) hfl (by decide) rfl (Nat.le_of_ble_eq_true rfl) (fun x C hxn hg hl hQ => ?_)
  subst hg
  refine jj_aload_n C 3 rfl dX0_ofBout_0 rfl ?_
  refine jj_iconst (v := 0) C dX0_ofBout_1 (by decide) ?_
  refine jj_aload_n C 0 rfl dX0_ofBout_2 rfl ?_
  refine jj_iload_n C 1 rfl dX0_ofBout_3 rfl ?_
  refine jj_iload_n C 2 rfl dX0_ofBout_4 rfl ?_
  obtain ⟨⟨res, M1⟩, hT⟩ := hT
  cases res with
  | inl r =>
    refine jj_callVX (k' := 2) (n' := 12) C [jI a1, jI a2] [jI (0 : Int32), jR a3] [jI r, jI (0 : Int32), jR a3] he (m_X1_ofBout _ _ hQ.2.2 hT) rfl hb rfl q1188 q1189 q1190 q42 q1191 ⟨rfl, hd_X1_ofBout⟩ rfl (Nat.le_of_ble_eq_true rfl) ⟨Nat.le_of_ble_eq_true rfl, Nat.le_of_ble_eq_true rfl⟩ ⟨Nat.le_of_ble_eq_true rfl, Nat.le_of_ble_eq_true rfl, Nat.le_of_ble_eq_true rfl, Nat.le_of_ble_eq_true rfl⟩ dX0_ofBout_5 rfl ?_
    obtain ⟨M2, hs, hR⟩ := hI r M1 hT
    refine jj_i2l C dX0_ofBout_8 ?_
    refine jj_last C dX0_ofBout_9 hs (fun M' hF => ?_)
    cases hF
    refine jj_goto (tgt := 21) C dX0_ofBout_10 (by decide) ?_
    refine jj_iconst (v := 0) C dX0_ofBout_21 (by decide) ?_
    exact jj_nret C hQ dX0_ofBout_22 hR (Nat.le_of_ble_eq_true rfl) (Nat.le_of_ble_eq_true rfl)
  | inr e =>
    rcases hE e M1 hT with ⟨rfl, hR⟩ | ⟨rfl, hR⟩
    · refine jj_callVXc (k' := 2) (n2 := 12) (nm := "java/lang/IndexOutOfBoundsException") C [jI a1, jI a2] [jI (0 : Int32), jR a3] he (m_X1_ofBout _ _ hQ.2.2 hT) rfl hb rfl q1188 q1189 q1190 q42 q1191 ⟨rfl, hd_X1_ofBout⟩ rfl (Nat.le_of_ble_eq_true rfl) ⟨Nat.le_of_ble_eq_true rfl, Nat.le_of_ble_eq_true rfl⟩ ⟨Nat.le_of_ble_eq_true rfl, Nat.le_of_ble_eq_true rfl, Nat.le_of_ble_eq_true rfl, Nat.le_of_ble_eq_true rfl⟩ dX0_ofBout_5 [] ⟨0, 10, 13, 19⟩ [⟨0, 10, 17, 21⟩] (by rw [hQ.2.1]; rfl) (fun z hz => absurd hz List.not_mem_nil) rfl (by decide) q384 q433 (fun q n' => ?_)
      refine jj_astore (L' := [(4, jR (some q)), (0, jR a0), (1, jI a1), (2, jI a2), (3, jR a3)]) C rfl (by rw [hxn]; decide) dX0_ofBout_13 ?_
      refine jj_iconst (v := 1) C dX0_ofBout_15 (by decide) ?_
      exact jj_nret C hQ dX0_ofBout_16 (hR n') (Nat.le_of_ble_eq_true rfl) (Nat.le_of_ble_eq_true rfl)
    · refine jj_callVXc (k' := 2) (n2 := 12) (nm := "java/lang/IllegalArgumentException") C [jI a1, jI a2] [jI (0 : Int32), jR a3] he (m_X1_ofBout _ _ hQ.2.2 hT) rfl hb rfl q1188 q1189 q1190 q42 q1191 ⟨rfl, hd_X1_ofBout⟩ rfl (Nat.le_of_ble_eq_true rfl) ⟨Nat.le_of_ble_eq_true rfl, Nat.le_of_ble_eq_true rfl⟩ ⟨Nat.le_of_ble_eq_true rfl, Nat.le_of_ble_eq_true rfl, Nat.le_of_ble_eq_true rfl, Nat.le_of_ble_eq_true rfl⟩ dX0_ofBout_5 [⟨0, 10, 13, 19⟩] ⟨0, 10, 17, 21⟩ [] (by rw [hQ.2.1]; rfl) (by intro z hz; simp only [List.mem_cons, List.not_mem_nil, or_false] at hz; subst hz; exact Or.inr ⟨by decide, "java/lang/IndexOutOfBoundsException", C.ts _ q384, C.kk.2.2.2.2.1 _ (List.mem_of_getElem? (i := 2) rfl)⟩) rfl (by decide) q417 q456 (fun q n' => ?_)
      refine jj_astore (L' := [(4, jR (some q)), (0, jR a0), (1, jI a1), (2, jI a2), (3, jR a3)]) C rfl (by rw [hxn]; decide) dX0_ofBout_17 ?_
      refine jj_iconst (v := 2) C dX0_ofBout_19 (by decide) ?_
      exact jj_nret C hQ dX0_ofBout_20 (hR n') (Nat.le_of_ble_eq_true rfl) (Nat.le_of_ble_eq_true rfl)
/-! ofPool(LPhrasehall;III[J)I -/
def rm_X0_ofPool : Room := ({ frames := 10, cells := 3, slots := 18, locals := 216 } : Room)
abbrev hh_X0_ofPool : List (Nat × Nat × Nat × Nat) := [(0, 12, 15, 19), (0, 12, 19, 21)]
theorem hd_X0_ofPool : yX0_ofPool.cls ≠ "java/lang/invoke/MethodHandle" ∧ yX0_ofPool.cls ≠ "java/lang/invoke/VarHandle" ∧ (parseMethodDescriptor yX0_ofPool.desc).map (fun d => d.parameters.length) = some 5 := ⟨by decide, by decide, by decide +kernel⟩
set_option maxHeartbeats 4000000 in
theorem n_X0_ofPool (l : Launch) (g : jG) (hfl : l.stackTraces = false) {a0 : Option Nat} {a1 : Int32} {a2 : Int32} {a3 : Int32} {a4 : Option Nat} {M : jW} {R : Int32 → jW → Prop} {b : Nat} {fs : List Value} (he : a0 = some b) (hb : M.1 b = some (.inr (0, fs))) (hT : ∃ o, f_X1_ofPool (some b) a1 a2 a3 M = some o) (hI : ∀ r M1, f_X1_ofPool (some b) a1 a2 a3 M = some (.inl r, M1) → ∃ M2, pSL M1 a4 0 r.toInt64 some = some M2 ∧ R 0 M2) (hE : ∀ e M1, f_X1_ofPool (some b) a1 a2 a3 M = some (.inr e, M1) → (e = 1 ∧ ∀ n', R 1 (M1.1, (n', M1.2.2))) ∨ (e = 2 ∧ ∀ n', R 2 (M1.1, (n', M1.2.2)))) : jMetN l g yX0_ofPool cX0_ofPool 6 hh_X0_ofPool rm_X0_ofPool [jR a0, jI a1, jI a2, jI a3, jR a4] M R := by
  refine jMetN.of (L := [(0, jR a0), (1, jI a1), (2, jI a2), (3, jI a3), (4, jR a4)]) hfl (by decide) rfl (Nat.le_of_ble_eq_true rfl) (fun x C hxn hg hl hQ => ?_)
  subst hg
  refine jj_aload C 4 rfl dX0_ofPool_0 ?_
  refine jj_iconst (v := 0) C dX0_ofPool_2 (by decide) ?_
  refine jj_aload_n C 0 rfl dX0_ofPool_3 rfl ?_
  refine jj_iload_n C 1 rfl dX0_ofPool_4 rfl ?_
  refine jj_iload_n C 2 rfl dX0_ofPool_5 rfl ?_
  refine jj_iload_n C 3 rfl dX0_ofPool_6 rfl ?_
  obtain ⟨⟨res, M1⟩, hT⟩ := hT
  cases res with
  | inl r =>
    refine jj_callVX (k' := 3) (n' := 18) C [jI a1, jI a2, jI a3] [jI (0 : Int32), jR a4] [jI r, jI (0 : Int32), jR a4] he (m_X1_ofPool _ _ hQ.2.2 hT) rfl hb rfl q1195 q1196 q1197 q42 q1198 ⟨rfl, hd_X1_ofPool⟩ rfl (Nat.le_of_ble_eq_true rfl) ⟨Nat.le_of_ble_eq_true rfl, Nat.le_of_ble_eq_true rfl⟩ ⟨Nat.le_of_ble_eq_true rfl, Nat.le_of_ble_eq_true rfl, Nat.le_of_ble_eq_true rfl, Nat.le_of_ble_eq_true rfl⟩ dX0_ofPool_7 rfl ?_
    obtain ⟨M2, hs, hR⟩ := hI r M1 hT
    refine jj_i2l C dX0_ofPool_10 ?_
    refine jj_last C dX0_ofPool_11 hs (fun M' hF => ?_)
    cases hF
    refine jj_goto (tgt := 23) C dX0_ofPool_12 (by decide) ?_
    refine jj_iconst (v := 0) C dX0_ofPool_23 (by decide) ?_
    exact jj_nret C hQ dX0_ofPool_24 hR (Nat.le_of_ble_eq_true rfl) (Nat.le_of_ble_eq_true rfl)
  | inr e =>
    rcases hE e M1 hT with ⟨rfl, hR⟩ | ⟨rfl, hR⟩
    · refine jj_callVXc (k' := 3) (n2 := 18) (nm := "java/lang/IndexOutOfBoundsException") C [jI a1, jI a2, jI a3] [jI (0 : Int32), jR a4] he (m_X1_ofPool _ _ hQ.2.2 hT) rfl hb rfl q1195 q1196 q1197 q42 q1198 ⟨rfl, hd_X1_ofPool⟩ rfl (Nat.le_of_ble_eq_true rfl) ⟨Nat.le_of_ble_eq_true rfl, Nat.le_of_ble_eq_true rfl⟩ ⟨Nat.le_of_ble_eq_true rfl, Nat.le_of_ble_eq_true rfl, Nat.le_of_ble_eq_true rfl, Nat.le_of_ble_eq_true rfl⟩ dX0_ofPool_7 [] ⟨0, 12, 15, 19⟩ [⟨0, 12, 19, 21⟩] (by rw [hQ.2.1]; rfl) (fun z hz => absurd hz List.not_mem_nil) rfl (by decide) q384 q433 (fun q n' => ?_)
      refine jj_astore (L' := [(5, jR (some q)), (0, jR a0), (1, jI a1), (2, jI a2), (3, jI a3), (4, jR a4)]) C rfl (by rw [hxn]; decide) dX0_ofPool_15 ?_
      refine jj_iconst (v := 1) C dX0_ofPool_17 (by decide) ?_
      exact jj_nret C hQ dX0_ofPool_18 (hR n') (Nat.le_of_ble_eq_true rfl) (Nat.le_of_ble_eq_true rfl)
    · refine jj_callVXc (k' := 3) (n2 := 18) (nm := "java/lang/IllegalArgumentException") C [jI a1, jI a2, jI a3] [jI (0 : Int32), jR a4] he (m_X1_ofPool _ _ hQ.2.2 hT) rfl hb rfl q1195 q1196 q1197 q42 q1198 ⟨rfl, hd_X1_ofPool⟩ rfl (Nat.le_of_ble_eq_true rfl) ⟨Nat.le_of_ble_eq_true rfl, Nat.le_of_ble_eq_true rfl⟩ ⟨Nat.le_of_ble_eq_true rfl, Nat.le_of_ble_eq_true rfl, Nat.le_of_ble_eq_true rfl, Nat.le_of_ble_eq_true rfl⟩ dX0_ofPool_7 [⟨0, 12, 15, 19⟩] ⟨0, 12, 19, 21⟩ [] (by rw [hQ.2.1]; rfl) (by intro z hz; simp only [List.mem_cons, List.not_mem_nil, or_false] at hz; subst hz; exact Or.inr ⟨by decide, "java/lang/IndexOutOfBoundsException", C.ts _ q384, C.kk.2.2.2.2.1 _ (List.mem_of_getElem? (i := 2) rfl)⟩) rfl (by decide) q417 q456 (fun q n' => ?_)
      refine jj_astore (L' := [(5, jR (some q)), (0, jR a0), (1, jI a1), (2, jI a2), (3, jI a3), (4, jR a4)]) C rfl (by rw [hxn]; decide) dX0_ofPool_19 ?_
      refine jj_iconst (v := 2) C dX0_ofPool_21 (by decide) ?_
      exact jj_nret C hQ dX0_ofPool_22 (hR n') (Nat.le_of_ble_eq_true rfl) (Nat.le_of_ble_eq_true rfl)
/-! ofPoolAnew(LPhrasehall;III[J)I -/
def rm_X0_ofPoolAnew : Room := ({ frames := 10, cells := 5, slots := 27, locals := 219 } : Room)
abbrev hh_X0_ofPoolAnew : List (Nat × Nat × Nat × Nat) := [(0, 12, 15, 19), (0, 12, 19, 21)]
theorem hd_X0_ofPoolAnew : yX0_ofPoolAnew.cls ≠ "java/lang/invoke/MethodHandle" ∧ yX0_ofPoolAnew.cls ≠ "java/lang/invoke/VarHandle" ∧ (parseMethodDescriptor yX0_ofPoolAnew.desc).map (fun d => d.parameters.length) = some 5 := ⟨by decide, by decide, by decide +kernel⟩
set_option maxHeartbeats 4000000 in
theorem n_X0_ofPoolAnew (l : Launch) (g : jG) (hfl : l.stackTraces = false) {a0 : Option Nat} {a1 : Int32} {a2 : Int32} {a3 : Int32} {a4 : Option Nat} {M : jW} {R : Int32 → jW → Prop} {b : Nat} {fs : List Value} (he : a0 = some b) (hb : M.1 b = some (.inr (0, fs))) (hT : ∃ o, f_X1_ofPoolAnew (some b) a1 a2 a3 M = some o) (hI : ∀ r M1, f_X1_ofPoolAnew (some b) a1 a2 a3 M = some (.inl r, M1) → ∃ M2, pSL M1 a4 0 r.toInt64 some = some M2 ∧ R 0 M2) (hE : ∀ e M1, f_X1_ofPoolAnew (some b) a1 a2 a3 M = some (.inr e, M1) → (e = 1 ∧ ∀ n', R 1 (M1.1, (n', M1.2.2))) ∨ (e = 2 ∧ ∀ n', R 2 (M1.1, (n', M1.2.2)))) : jMetN l g yX0_ofPoolAnew cX0_ofPoolAnew 6 hh_X0_ofPoolAnew rm_X0_ofPoolAnew [jR a0, jI a1, jI a2, jI a3, jR a4] M R := by
  refine jMetN.of (L := [(0, jR a0), (1, jI a1), (2, jI a2), (3, jI a3), (4, jR a4)]) hfl (by decide) rfl (Nat.le_of_ble_eq_true rfl) (fun x C hxn hg hl hQ => ?_)
  subst hg
  refine jj_aload C 4 rfl dX0_ofPoolAnew_0 ?_
  refine jj_iconst (v := 0) C dX0_ofPoolAnew_2 (by decide) ?_
  refine jj_aload_n C 0 rfl dX0_ofPoolAnew_3 rfl ?_
  refine jj_iload_n C 1 rfl dX0_ofPoolAnew_4 rfl ?_
  refine jj_iload_n C 2 rfl dX0_ofPoolAnew_5 rfl ?_
  refine jj_iload_n C 3 rfl dX0_ofPoolAnew_6 rfl ?_
  obtain ⟨⟨res, M1⟩, hT⟩ := hT
  cases res with
  | inl r =>
    refine jj_callVX (k' := 5) (n' := 27) C [jI a1, jI a2, jI a3] [jI (0 : Int32), jR a4] [jI r, jI (0 : Int32), jR a4] he (m_X1_ofPoolAnew _ _ hQ.2.2 hT) rfl hb rfl q1206 q1207 q1208 q42 q1209 ⟨rfl, hd_X1_ofPoolAnew⟩ rfl (Nat.le_of_ble_eq_true rfl) ⟨Nat.le_of_ble_eq_true rfl, Nat.le_of_ble_eq_true rfl⟩ ⟨Nat.le_of_ble_eq_true rfl, Nat.le_of_ble_eq_true rfl, Nat.le_of_ble_eq_true rfl, Nat.le_of_ble_eq_true rfl⟩ dX0_ofPoolAnew_7 rfl ?_
    obtain ⟨M2, hs, hR⟩ := hI r M1 hT
    refine jj_i2l C dX0_ofPoolAnew_10 ?_
    refine jj_last C dX0_ofPoolAnew_11 hs (fun M' hF => ?_)
    cases hF
    refine jj_goto (tgt := 23) C dX0_ofPoolAnew_12 (by decide) ?_
    refine jj_iconst (v := 0) C dX0_ofPoolAnew_23 (by decide) ?_
    exact jj_nret C hQ dX0_ofPoolAnew_24 hR (Nat.le_of_ble_eq_true rfl) (Nat.le_of_ble_eq_true rfl)
  | inr e =>
    rcases hE e M1 hT with ⟨rfl, hR⟩ | ⟨rfl, hR⟩
    · refine jj_callVXc (k' := 5) (n2 := 27) (nm := "java/lang/IndexOutOfBoundsException") C [jI a1, jI a2, jI a3] [jI (0 : Int32), jR a4] he (m_X1_ofPoolAnew _ _ hQ.2.2 hT) rfl hb rfl q1206 q1207 q1208 q42 q1209 ⟨rfl, hd_X1_ofPoolAnew⟩ rfl (Nat.le_of_ble_eq_true rfl) ⟨Nat.le_of_ble_eq_true rfl, Nat.le_of_ble_eq_true rfl⟩ ⟨Nat.le_of_ble_eq_true rfl, Nat.le_of_ble_eq_true rfl, Nat.le_of_ble_eq_true rfl, Nat.le_of_ble_eq_true rfl⟩ dX0_ofPoolAnew_7 [] ⟨0, 12, 15, 19⟩ [⟨0, 12, 19, 21⟩] (by rw [hQ.2.1]; rfl) (fun z hz => absurd hz List.not_mem_nil) rfl (by decide) q384 q433 (fun q n' => ?_)
      refine jj_astore (L' := [(5, jR (some q)), (0, jR a0), (1, jI a1), (2, jI a2), (3, jI a3), (4, jR a4)]) C rfl (by rw [hxn]; decide) dX0_ofPoolAnew_15 ?_
      refine jj_iconst (v := 1) C dX0_ofPoolAnew_17 (by decide) ?_
      exact jj_nret C hQ dX0_ofPoolAnew_18 (hR n') (Nat.le_of_ble_eq_true rfl) (Nat.le_of_ble_eq_true rfl)
    · refine jj_callVXc (k' := 5) (n2 := 27) (nm := "java/lang/IllegalArgumentException") C [jI a1, jI a2, jI a3] [jI (0 : Int32), jR a4] he (m_X1_ofPoolAnew _ _ hQ.2.2 hT) rfl hb rfl q1206 q1207 q1208 q42 q1209 ⟨rfl, hd_X1_ofPoolAnew⟩ rfl (Nat.le_of_ble_eq_true rfl) ⟨Nat.le_of_ble_eq_true rfl, Nat.le_of_ble_eq_true rfl⟩ ⟨Nat.le_of_ble_eq_true rfl, Nat.le_of_ble_eq_true rfl, Nat.le_of_ble_eq_true rfl, Nat.le_of_ble_eq_true rfl⟩ dX0_ofPoolAnew_7 [⟨0, 12, 15, 19⟩] ⟨0, 12, 19, 21⟩ [] (by rw [hQ.2.1]; rfl) (by intro z hz; simp only [List.mem_cons, List.not_mem_nil, or_false] at hz; subst hz; exact Or.inr ⟨by decide, "java/lang/IndexOutOfBoundsException", C.ts _ q384, C.kk.2.2.2.2.1 _ (List.mem_of_getElem? (i := 2) rfl)⟩) rfl (by decide) q417 q456 (fun q n' => ?_)
      refine jj_astore (L' := [(5, jR (some q)), (0, jR a0), (1, jI a1), (2, jI a2), (3, jI a3), (4, jR a4)]) C rfl (by rw [hxn]; decide) dX0_ofPoolAnew_19 ?_
      refine jj_iconst (v := 2) C dX0_ofPoolAnew_21 (by decide) ?_
      exact jj_nret C hQ dX0_ofPoolAnew_22 (hR n') (Nat.le_of_ble_eq_true rfl) (Nat.le_of_ble_eq_true rfl)
/-! rank(LPhrasehall;II[J)I -/
def rm_X0_rank : Room := ({ frames := 9, cells := 16, slots := 1679, locals := 222 } : Room)
abbrev hh_X0_rank : List (Nat × Nat × Nat × Nat) := [(0, 10, 13, 19)]
theorem hd_X0_rank : yX0_rank.cls ≠ "java/lang/invoke/MethodHandle" ∧ yX0_rank.cls ≠ "java/lang/invoke/VarHandle" ∧ (parseMethodDescriptor yX0_rank.desc).map (fun d => d.parameters.length) = some 4 := ⟨by decide, by decide, by decide +kernel⟩
set_option maxHeartbeats 4000000 in
theorem n_X0_rank (l : Launch) (g : jG) (hfl : l.stackTraces = false) {a0 : Option Nat} {a1 : Int32} {a2 : Int32} {a3 : Option Nat} {M : jW} {R : Int32 → jW → Prop} {b : Nat} {fs : List Value} (he : a0 = some b) (hb : M.1 b = some (.inr (0, fs))) (hT : ∃ o, f_X1_rank (some b) a1 a2 M = some o) (hI : ∀ r M1, f_X1_rank (some b) a1 a2 M = some (.inl r, M1) → ∃ M2, pSL M1 a3 0 r.toInt64 some = some M2 ∧ R 0 M2) (hE : ∀ e M1, f_X1_rank (some b) a1 a2 M = some (.inr e, M1) → (e = 1 ∧ ∀ n', R 1 (M1.1, (n', M1.2.2)))) : jMetN l g yX0_rank cX0_rank 5 hh_X0_rank rm_X0_rank [jR a0, jI a1, jI a2, jR a3] M R := by
  refine jMetN.of (L := [(0, jR a0), (1, jI a1), (2, jI a2), (3, jR a3)]) hfl (by decide) rfl (Nat.le_of_ble_eq_true rfl) (fun x C hxn hg hl hQ => ?_)
  subst hg
  refine jj_aload_n C 3 rfl dX0_rank_0 rfl ?_
  refine jj_iconst (v := 0) C dX0_rank_1 (by decide) ?_
  refine jj_aload_n C 0 rfl dX0_rank_2 rfl ?_
  refine jj_iload_n C 1 rfl dX0_rank_3 rfl ?_
  refine jj_iload_n C 2 rfl dX0_rank_4 rfl ?_
  obtain ⟨⟨res, M1⟩, hT⟩ := hT
  cases res with
  | inl r =>
    refine jj_callVX (k' := 16) (n' := 1679) C [jI a1, jI a2] [jI (0 : Int32), jR a3] [jI r, jI (0 : Int32), jR a3] he (m_X1_rank _ _ hQ.2.2 hT) rfl hb rfl q1216 q1217 q1218 q42 q1219 ⟨rfl, hd_X1_rank⟩ rfl (Nat.le_of_ble_eq_true rfl) ⟨Nat.le_of_ble_eq_true rfl, Nat.le_of_ble_eq_true rfl⟩ ⟨Nat.le_of_ble_eq_true rfl, Nat.le_of_ble_eq_true rfl, Nat.le_of_ble_eq_true rfl, Nat.le_of_ble_eq_true rfl⟩ dX0_rank_5 rfl ?_
    obtain ⟨M2, hs, hR⟩ := hI r M1 hT
    refine jj_i2l C dX0_rank_8 ?_
    refine jj_last C dX0_rank_9 hs (fun M' hF => ?_)
    cases hF
    refine jj_goto (tgt := 17) C dX0_rank_10 (by decide) ?_
    refine jj_iconst (v := 0) C dX0_rank_17 (by decide) ?_
    exact jj_nret C hQ dX0_rank_18 hR (Nat.le_of_ble_eq_true rfl) (Nat.le_of_ble_eq_true rfl)
  | inr e =>
    rcases hE e M1 hT with ⟨rfl, hR⟩
    refine jj_callVXc (k' := 16) (n2 := 1679) (nm := "java/lang/IndexOutOfBoundsException") C [jI a1, jI a2] [jI (0 : Int32), jR a3] he (m_X1_rank _ _ hQ.2.2 hT) rfl hb rfl q1216 q1217 q1218 q42 q1219 ⟨rfl, hd_X1_rank⟩ rfl (Nat.le_of_ble_eq_true rfl) ⟨Nat.le_of_ble_eq_true rfl, Nat.le_of_ble_eq_true rfl⟩ ⟨Nat.le_of_ble_eq_true rfl, Nat.le_of_ble_eq_true rfl, Nat.le_of_ble_eq_true rfl, Nat.le_of_ble_eq_true rfl⟩ dX0_rank_5 [] ⟨0, 10, 13, 19⟩ [] (by rw [hQ.2.1]; rfl) (fun z hz => absurd hz List.not_mem_nil) rfl (by decide) q384 q433 (fun q n' => ?_)
    refine jj_astore (L' := [(4, jR (some q)), (0, jR a0), (1, jI a1), (2, jI a2), (3, jR a3)]) C rfl (by rw [hxn]; decide) dX0_rank_13 ?_
    refine jj_iconst (v := 1) C dX0_rank_15 (by decide) ?_
    exact jj_nret C hQ dX0_rank_16 (hR n') (Nat.le_of_ble_eq_true rfl) (Nat.le_of_ble_eq_true rfl)
/-! meets(LPhrasehall;III[J)I -/
def rm_X0_meets : Room := ({ frames := 9, cells := 2, slots := 12, locals := 193 } : Room)
abbrev hh_X0_meets : List (Nat × Nat × Nat × Nat) := [(0, 12, 15, 19), (0, 12, 19, 21)]
theorem hd_X0_meets : yX0_meets.cls ≠ "java/lang/invoke/MethodHandle" ∧ yX0_meets.cls ≠ "java/lang/invoke/VarHandle" ∧ (parseMethodDescriptor yX0_meets.desc).map (fun d => d.parameters.length) = some 5 := ⟨by decide, by decide, by decide +kernel⟩
set_option maxHeartbeats 4000000 in
theorem n_X0_meets (l : Launch) (g : jG) (hfl : l.stackTraces = false) {a0 : Option Nat} {a1 : Int32} {a2 : Int32} {a3 : Int32} {a4 : Option Nat} {M : jW} {R : Int32 → jW → Prop} {b : Nat} {fs : List Value} (he : a0 = some b) (hb : M.1 b = some (.inr (0, fs))) (hT : ∃ o, f_X1_meets_2 (some b) a1 a2 a3 M = some o) (hI : ∀ r M1, f_X1_meets_2 (some b) a1 a2 a3 M = some (.inl r, M1) → ∃ M2, pSL M1 a4 0 r.toInt64 some = some M2 ∧ R 0 M2) (hE : ∀ e M1, f_X1_meets_2 (some b) a1 a2 a3 M = some (.inr e, M1) → (e = 1 ∧ ∀ n', R 1 (M1.1, (n', M1.2.2))) ∨ (e = 2 ∧ ∀ n', R 2 (M1.1, (n', M1.2.2)))) : jMetN l g yX0_meets cX0_meets 6 hh_X0_meets rm_X0_meets [jR a0, jI a1, jI a2, jI a3, jR a4] M R := by
  refine jMetN.of (L := [(0, jR a0), (1, jI a1), (2, jI a2), (3, jI a3), (4, jR a4)]) hfl (by decide) rfl (Nat.le_of_ble_eq_true rfl) (fun x C hxn hg hl hQ => ?_)
  subst hg
  refine jj_aload C 4 rfl dX0_meets_0 ?_
  refine jj_iconst (v := 0) C dX0_meets_2 (by decide) ?_
  refine jj_aload_n C 0 rfl dX0_meets_3 rfl ?_
  refine jj_iload_n C 1 rfl dX0_meets_4 rfl ?_
  refine jj_iload_n C 2 rfl dX0_meets_5 rfl ?_
  refine jj_iload_n C 3 rfl dX0_meets_6 rfl ?_
  obtain ⟨⟨res, M1⟩, hT⟩ := hT
  cases res with
  | inl r =>
    refine jj_callVX (k' := 2) (n' := 12) C [jI a1, jI a2, jI a3] [jI (0 : Int32), jR a4] [jI r, jI (0 : Int32), jR a4] he (m_X1_meets_2 _ _ hQ.2.2 hT) rfl hb rfl q1223 q1224 q1225 q42 q1226 ⟨rfl, hd_X1_meets_2⟩ rfl (Nat.le_of_ble_eq_true rfl) ⟨Nat.le_of_ble_eq_true rfl, Nat.le_of_ble_eq_true rfl⟩ ⟨Nat.le_of_ble_eq_true rfl, Nat.le_of_ble_eq_true rfl, Nat.le_of_ble_eq_true rfl, Nat.le_of_ble_eq_true rfl⟩ dX0_meets_7 rfl ?_
    obtain ⟨M2, hs, hR⟩ := hI r M1 hT
    refine jj_i2l C dX0_meets_10 ?_
    refine jj_last C dX0_meets_11 hs (fun M' hF => ?_)
    cases hF
    refine jj_goto (tgt := 23) C dX0_meets_12 (by decide) ?_
    refine jj_iconst (v := 0) C dX0_meets_23 (by decide) ?_
    exact jj_nret C hQ dX0_meets_24 hR (Nat.le_of_ble_eq_true rfl) (Nat.le_of_ble_eq_true rfl)
  | inr e =>
    rcases hE e M1 hT with ⟨rfl, hR⟩ | ⟨rfl, hR⟩
    · refine jj_callVXc (k' := 2) (n2 := 12) (nm := "java/lang/IndexOutOfBoundsException") C [jI a1, jI a2, jI a3] [jI (0 : Int32), jR a4] he (m_X1_meets_2 _ _ hQ.2.2 hT) rfl hb rfl q1223 q1224 q1225 q42 q1226 ⟨rfl, hd_X1_meets_2⟩ rfl (Nat.le_of_ble_eq_true rfl) ⟨Nat.le_of_ble_eq_true rfl, Nat.le_of_ble_eq_true rfl⟩ ⟨Nat.le_of_ble_eq_true rfl, Nat.le_of_ble_eq_true rfl, Nat.le_of_ble_eq_true rfl, Nat.le_of_ble_eq_true rfl⟩ dX0_meets_7 [] ⟨0, 12, 15, 19⟩ [⟨0, 12, 19, 21⟩] (by rw [hQ.2.1]; rfl) (fun z hz => absurd hz List.not_mem_nil) rfl (by decide) q384 q433 (fun q n' => ?_)
      refine jj_astore (L' := [(5, jR (some q)), (0, jR a0), (1, jI a1), (2, jI a2), (3, jI a3), (4, jR a4)]) C rfl (by rw [hxn]; decide) dX0_meets_15 ?_
      refine jj_iconst (v := 1) C dX0_meets_17 (by decide) ?_
      exact jj_nret C hQ dX0_meets_18 (hR n') (Nat.le_of_ble_eq_true rfl) (Nat.le_of_ble_eq_true rfl)
    · refine jj_callVXc (k' := 2) (n2 := 12) (nm := "java/lang/IllegalArgumentException") C [jI a1, jI a2, jI a3] [jI (0 : Int32), jR a4] he (m_X1_meets_2 _ _ hQ.2.2 hT) rfl hb rfl q1223 q1224 q1225 q42 q1226 ⟨rfl, hd_X1_meets_2⟩ rfl (Nat.le_of_ble_eq_true rfl) ⟨Nat.le_of_ble_eq_true rfl, Nat.le_of_ble_eq_true rfl⟩ ⟨Nat.le_of_ble_eq_true rfl, Nat.le_of_ble_eq_true rfl, Nat.le_of_ble_eq_true rfl, Nat.le_of_ble_eq_true rfl⟩ dX0_meets_7 [⟨0, 12, 15, 19⟩] ⟨0, 12, 19, 21⟩ [] (by rw [hQ.2.1]; rfl) (by intro z hz; simp only [List.mem_cons, List.not_mem_nil, or_false] at hz; subst hz; exact Or.inr ⟨by decide, "java/lang/IndexOutOfBoundsException", C.ts _ q384, C.kk.2.2.2.2.1 _ (List.mem_of_getElem? (i := 2) rfl)⟩) rfl (by decide) q417 q456 (fun q n' => ?_)
      refine jj_astore (L' := [(5, jR (some q)), (0, jR a0), (1, jI a1), (2, jI a2), (3, jI a3), (4, jR a4)]) C rfl (by rw [hxn]; decide) dX0_meets_19 ?_
      refine jj_iconst (v := 2) C dX0_meets_21 (by decide) ?_
      exact jj_nret C hQ dX0_meets_22 (hR n') (Nat.le_of_ble_eq_true rfl) (Nat.le_of_ble_eq_true rfl)
