/-! WHOLE: the law's start, over what the pure side gives -/
set_option maxRecDepth 100000
abbrev ld0 : List Value := [.null, .null, .null, .null, .null, .int 0, .long 0, .null]
abbrev ld1 : List Value := [.int 0, .long 0, .int 0, .int 0, .int 0, .null, .null, .null, .null, .null, .null, .null, .null, .null, .int 0, .null, .null, .int 0, .null, .null, .null, .null, .null, .int 0, .null, .null, .null, .int 0, .null, .null, .int 0, .int 0]
/-- what the pure side owes -/
def lGoal : Prop := ∀ (z : Nat) (kc : Nat → Nat), kOk z kc → ∃ (LI : jW → Prop) (mo ao : Nat) (M1 M2 : jW), mo ≠ ao ∧ (∀ M, LI M → ∃ fs, M.1 z = some (.inr (0, fs))) ∧ (∀ M, LI M → ∃ fs, M.1 mo = some (.inr (1, fs))) ∧ lAll LI z mo ao ∧
  f_X1_init (some z) (jN ((fun _ => none), (z, kc)) (.inr (0, ld0))) = some ((), M1) ∧ M1.2.1 = mo ∧ f_X2_init (some mo) (jN M1 (.inr (1, ld1))) = some ((), M2) ∧ M2.2.1 = ao ∧ LI (jN M2 (.inl (2, (1, .inr (.inl fun _ => 0)))))
set_option maxHeartbeats 4000000 in
theorem whole_start0 (G : lGoal) {p : Program} {e : Env} {s : State} {m : MethodId} {below : List Frame} {meth : Method} {c : Code} (l : Launch) (hflags : l.flags = flags0) {b L : Nat} {xs : Nat → Int32} (hL : L ≤ 384) (C0 : lw_At p s m meth c b L xs) : W p l e room_1 s m #[Value.ref b] below meth c s.heap [] 0 0 (lw_Z below #[Value.ref b] s) (entryFrame m ([Value.ref b] : List Value).toArray 7) := by
  obtain ⟨hx, hcb, hre, hml, hown, hts, hX, hbl, hlk, hgv⟩ := C0
  obtain ⟨g, hz, hkk, hko⟩ := st_kk hts hgv
  obtain ⟨LI, mo, ao, M1, M2, hmo, hLz, hLm, hall, hi1, hm1, hi2, hm2, hLI⟩ := G s.heap.size (gk g) hko
  have hfl : l.stackTraces = false := by
    unfold Launch.stackTraces
    rw [hflags]
    decide
  rw [lg_entry_eq]
  have C : jOk (p, l, e, room_1, s, m, #[Value.ref b], below, meth, c, lw_Z below #[Value.ref b] s, 7, g) cL_law "PhrasehallLaw" room_1 (some .boolean) :=
    ⟨hx, hcb, hml, hown, fun w h => hts w (List.mem_filter.mp h).1, hlk, hre, hkk, Nat.le_of_eq hz, rfl⟩
  have hn : xn ((p, l, e, room_1, s, m, #[Value.ref b], below, meth, c, lw_Z below #[Value.ref b] s, 7, g) : jX) = 7 := rfl
  have hend : ∀ (M : jW) (k n : Nat) (L : List (Nat × jV)), k ≤ 603072 → n ≤ 7190634 → jJ (p, l, e, room_1, s, m, #[Value.ref b], below, meth, c, lw_Z below #[Value.ref b] s, 7, g) 1432 L [] M k n := by
    intro M k n L hk hn
    refine jj_iconst (v := 1) C dL_law_1432 (by decide) ?_
    intro H locs ls hM hS hl
    refine va_forget (fun q hq => ?_) (W.widen hk hn (lw_ret hx hcb hre hlk dL_law_1433))
    have := hS.2.2 q hq
    rw [← hz]
    exact this
  have hl := lv_entry ([jR (some b)].map jv) (n := 7) (by rw [jlen_map]; exact Nat.le_of_ble_eq_true rfl)
  suffices hJ : jJ (p, l, e, room_1, s, m, #[Value.ref b], below, meth, c, lw_Z below #[Value.ref b] s, 7, g) 0 [(0, jR (some b))] [] ((fun _ => none), (s.heap.size, gk g)) 0 0 by
    exact hJ s.heap [] _ ⟨fun a e h => (by cases h), rfl, rfl⟩ va_S.rf hl
  refine jj_new (β := Nat × jW) (K := fun q M' => some (q, M')) (out := (s.heap.size, jN ((fun _ => none), (s.heap.size, gk g)) (.inr (0, ld0)))) C jcs_0 q79 q80 q42 (fs := ld0) (by intro j hj; rcases (show j = 0 ∨ j = 1 ∨ j = 2 ∨ j = 3 ∨ j = 4 ∨ j = 5 ∨ j = 6 ∨ j = 7 by omega) with rfl | rfl | rfl | rfl | rfl | rfl | rfl | rfl <;> rfl) (by decide) (by decide) dL_law_0 rfl (fun q M' hF => ?_)
  cases hF
  refine jj_dup C dL_law_3 rfl ?_
  refine jj_callI (k' := 6) (n' := 23) C [] [jR (some s.heap.size)] rfl (m_X1_init _ _ hi1) q81 q82 q42 q83 rfl hd_X1_init rfl (Nat.le_of_ble_eq_true rfl) ⟨Nat.le_of_ble_eq_true rfl, Nat.le_of_ble_eq_true rfl⟩ ⟨by decide, by decide, by decide, by decide⟩ dL_law_4 ?_
  refine jj_astore_n (L' := [(1, jR (some s.heap.size)), (0, jR (some b))]) C rfl (by rw [hn]; decide) dL_law_7 rfl ?_
  subst hm1
  refine jj_new (β := Nat × jW) (K := fun q M' => some (q, M')) (out := (M1.2.1, jN M1 (.inr (1, ld1)))) C jcs_1 q1227 q1228 q46 (fs := ld1) (by intro j hj; rcases (show j = 0 ∨ j = 1 ∨ j = 2 ∨ j = 3 ∨ j = 4 ∨ j = 5 ∨ j = 6 ∨ j = 7 ∨ j = 8 ∨ j = 9 ∨ j = 10 ∨ j = 11 ∨ j = 12 ∨ j = 13 ∨ j = 14 ∨ j = 15 ∨ j = 16 ∨ j = 17 ∨ j = 18 ∨ j = 19 ∨ j = 20 ∨ j = 21 ∨ j = 22 ∨ j = 23 ∨ j = 24 ∨ j = 25 ∨ j = 26 ∨ j = 27 ∨ j = 28 ∨ j = 29 ∨ j = 30 ∨ j = 31 by omega) with rfl | rfl | rfl | rfl | rfl | rfl | rfl | rfl | rfl | rfl | rfl | rfl | rfl | rfl | rfl | rfl | rfl | rfl | rfl | rfl | rfl | rfl | rfl | rfl | rfl | rfl | rfl | rfl | rfl | rfl | rfl | rfl <;> rfl) (by decide) (by decide) dL_law_8 rfl (fun q M' hF => ?_)
  cases hF
  refine jj_dup C dL_law_11 rfl ?_
  refine jj_callI (k' := 28) (n' := 1275) C [] [jR (some M1.2.1)] rfl (m_X2_init _ _ hi2) q1229 q1230 q46 q1231 rfl hd_X2_init rfl (Nat.le_of_ble_eq_true rfl) ⟨Nat.le_of_ble_eq_true rfl, Nat.le_of_ble_eq_true rfl⟩ ⟨by decide, by decide, by decide, by decide⟩ dL_law_12 ?_
  refine jj_astore_n (L' := [(2, jR (some M1.2.1)), (1, jR (some s.heap.size)), (0, jR (some b))]) C rfl (by rw [hn]; decide) dL_law_15 rfl ?_
  refine jj_iconst (v := 1) C dL_law_16 (by decide) ?_
  subst hm2
  refine jj_newarr (β := Nat × jW) (t := 2) (nb := 1) (ty := .long) (K := fun q M' => some (q, M')) (out := (M2.2.1, jN M2 (.inl (2, (1, .inr (.inl fun _ => 0)))))) C rfl (by simp) q1527 (by decide) (by decide) (by decide) dL_law_17 rfl (fun q M' hF => ?_)
  cases hF
  refine jj_astore_n (L' := [(3, jR (some M2.2.1)), (2, jR (some M1.2.1)), (1, jR (some s.heap.size)), (0, jR (some b))]) C rfl (by rw [hn]; decide) dL_law_19 rfl ?_
  refine jj_iconst (v := 0) C dL_law_20 (by decide) ?_
  refine jj_istore (L' := [(4, jI 0), (3, jR (some M2.2.1)), (2, jR (some M1.2.1)), (1, jR (some s.heap.size)), (0, jR (some b))]) C rfl (by rw [hn]; decide) dL_law_21 ?_
  refine jj_sub [4, 3, 2, 1, 0] rfl ?_
  refine jj_widen (k' := 50) (n' := 5000) C (by decide) (by decide) ?_
  exact law_loop C hn hfl hX hbl (by show b < gz g; rw [hz]; exact hbl) hL hmo hLz hLm hall hend 65 0 rfl _ hLI 50 5000 rfl rfl
