set_option maxRecDepth 100000
abbrev sW (n : String) : Term := .static "Phrasehall$Weapon" n "LPhrasehall$Weapon;"
abbrev sE : Term := .static "java/util/ArrayList" "DEFAULTCAPACITY_EMPTY_ELEMENTDATA" "[Ljava/lang/Object;"
abbrev sC : Term := .static "java/lang/Integer$IntegerCache" "cache" "[Ljava/lang/Integer;"
theorem st_lt {s : State} {A : Nat → Prop} {n : String} {a : Nat} (h : va_O n a A s s.heap) : a < s.heap.size := by
  obtain ⟨cell, h1, -⟩ := h
  exact (Array.getElem?_eq_some_iff.mp h1).1
set_option maxHeartbeats 4000000 in
theorem st_kk {s : State} {args : Array Value} (hts : ∀ w ∈ lw_tbl, w.before args s = true) (hgv : (Jvm.Cond.and given_1 narrow_1).before args s = true) : ∃ g : jG, gz g = s.heap.size ∧ jKK g s ∧ kOk s.heap.size (gk g) := by
  have hs := flat_of_before _ hgv
  have hall : ∀ w ∈ lw_all, w.before args s = true := fun w h => hts w (List.mem_filter.mp h).1
  obtain ⟨D, ca, hK⟩ := st_K hts
  have hA : ∀ a : Nat, a < s.heap.size → ¬ (s.heap.size ≤ a) := fun a h => Nat.not_le.mpr h
  have e0 : (Cond.exactly (sW "OF_FOIL") "Phrasehall$Weapon$1").before args s = true := hs _ (by decide +kernel)
  have e1 : (Cond.exactly (sW "OF_EPEE") "Phrasehall$Weapon").before args s = true := hs _ (by decide +kernel)
  have e2 : (Cond.exactly (sW "OF_SABRE") "Phrasehall$Weapon").before args s = true := hs _ (by decide +kernel)
  obtain ⟨a0, h0⟩ := st_ex e0
  obtain ⟨a1, h1⟩ := st_ex e1
  obtain ⟨a2, h2⟩ := st_ex e2
  have n01 : (Cond.not (.eq (sW "OF_FOIL") (sW "OF_EPEE"))).before args s = true := hs _ (by decide +kernel)
  have n02 : (Cond.not (.eq (sW "OF_FOIL") (sW "OF_SABRE"))).before args s = true := hs _ (by decide +kernel)
  have n12 : (Cond.not (.eq (sW "OF_EPEE") (sW "OF_SABRE"))).before args s = true := hs _ (by decide +kernel)
  have ne : ∀ {t u : Term} {a b : Nat}, (Cond.not (.eq t u)).before args s = true → t.eval args s none [] s = some (.ref a) → u.eval args s none [] s = some (.ref b) → a ≠ b := by
    intro t u a b h ht hu hab
    subst hab
    simp [Cond.before, Cond.holds, Cond.value, ht, hu] at h
  have hE1 : (Cond.arrayOf sE (.object "java/lang/Object")).before args s = true := hs _ (by decide +kernel)
  have hE2 : (Cond.eq (.length sE) (.int 0)).before args s = true := hs _ (by decide +kernel)
  obtain ⟨a3, h3, hT3⟩ := va_Tof (N := 0) (f := fun _ => .null) (A := fun a => s.heap.size ≤ a) (by decide) hE1 (va_eqI (v := .int (Int32.ofNat 0)) (show (Cond.eq (.length sE) (.int 0)).value args s none s [] = some true by simpa [Cond.before, Cond.holds] using hE2) rfl) (fun j hj => absurd hj (Nat.not_lt_zero j)) hA
  have hC1 : (Cond.arrayOf sC (.object "java/lang/Integer")).before args s = true := hs _ (by decide +kernel)
  have hC2 : (Cond.eq (.length sC) (.int 256)).before args s = true := hs _ (by decide +kernel)
  have hC3 : (Cond.all sC (.and (.exactly (.elem sC (.index 0)) "java/lang/Integer") (.eq (.field (.elem sC (.index 0)) "java/lang/Integer" "value" "I") (.sub (.index 0) (.int 128))))).before args s = true := hs _ (by decide +kernel)
  have hC4 := va_eqI (v := .int (Int32.ofNat 256)) (show (Cond.eq (.length sC) (.int 256)).value args s none s [] = some true by simpa [Cond.before, Cond.holds] using hC2) rfl
  obtain ⟨ad, hB, hBe⟩ := vb_Cof (A := fun a => s.heap.size ≤ a) (st := sC) rfl hC4 hC3 hA
  obtain ⟨a5, h5, hT5⟩ := va_Tof (N := 256) (f := fun j => .ref (ad j)) (A := fun a => s.heap.size ≤ a) (by decide) hC1 hC4 (fun j hj => hBe j hj) hA
  obtain ⟨a4, h4⟩ := va_Mi.of (C := "[Ljava/lang/Object;") (hs (Cond.isRef (.mirror "[Ljava/lang/Object;")) (by decide +kernel))
  have hH : (Cond.eq (.static "java/lang/Integer$IntegerCache" "high" "I") (.int 127)).before args s = true := hs _ (by decide +kernel)
  have w1 : va_O "Phrasehall$Weapon$1" a0 (fun a => s.heap.size ≤ a) s s.heap := va_Oof e0 h0 hA
  have w2 : va_O "Phrasehall$Weapon" a1 (fun a => s.heap.size ≤ a) s s.heap := va_Oof e1 h1 hA
  have w3 : va_O "Phrasehall$Weapon" a2 (fun a => s.heap.size ≤ a) s s.heap := va_Oof e2 h2 hA
  have hin : ∀ q ∈ jNcL, va_Nc q.1 q.2 s := by
    intro q hq
    simp only [jNcL, List.mem_cons, List.not_mem_nil, or_false] at hq
    rcases hq with rfl | rfl | rfl | rfl | rfl <;> exact va_Nc.of (hs _ (by decide +kernel))
  have fw : ∀ (C : String) (x y : MethodName), Cond.declares x ∈ lw_tbl → Cond.interfaceMethod x.cls x.cls x.name x.desc ∈ lw_tbl → Cond.publicMethod y ∈ lw_tbl → Cond.unhidden C x.name x.desc ∈ lw_tbl → Cond.castable C x.cls ∈ lw_tbl → va_Fw C x y s := fun C x y q1 q2 q3 q4 q5 => va_Fw.of (hts _ q1) (hts _ q2) (hts _ q3) (hts _ q4) (hts _ q5)
  have hj5 : a5 < s.heap.size := by obtain ⟨cell, q, -⟩ := hT5; exact (Array.getElem?_eq_some_iff.mp q).1
  have hj3 : a3 < s.heap.size := by obtain ⟨cell, q, -⟩ := hT3; exact (Array.getElem?_eq_some_iff.mp q).1
  refine ⟨(D, (ca, (s.heap.size, st_k a0 a1 a2 a3 a4 a5 ad))), rfl, ⟨hK, fun w hw hk => ?_, ⟨hts _ q371, hts _ q490, hts _ q774⟩, ⟨fw _ _ _ (by decide +kernel) (by decide +kernel) (by decide +kernel) (by decide +kernel) (by decide +kernel), fw _ _ _ (by decide +kernel) (by decide +kernel) (by decide +kernel) (by decide +kernel) (by decide +kernel), fw _ _ _ (by decide +kernel) (by decide +kernel) (by decide +kernel) (by decide +kernel) (by decide +kernel), fw _ _ _ (by decide +kernel) (by decide +kernel) (by decide +kernel) (by decide +kernel) (by decide +kernel)⟩, hin, ?_, hT3, ?_, ?_, ?_, ?_, ⟨?_, ?_⟩, h4⟩, ⟨ne n01 h0 h1, ne n02 h0 h2, ne n12 h1 h2⟩, ⟨st_lt w1, st_lt w2, st_lt w3, hj3, hj5⟩, ?_, ?_⟩
  · cases w <;> first | exact va_any rfl (hts _ hw) | cases hk
  · intro q hq
    have zw : ∀ {C n d : String} {v : Value}, Cond.laysStatic C n d ∈ lw_tbl → Cond.initialized C ∈ lw_tbl → (Term.static C n d).eval args s none [] s = some v → va_Z C n d v (fun a => s.heap.size ≤ a) s s.heap := fun q1 q2 q3 => va_Zof (hts _ q1) (hts _ q2) q3 hA
    simp only [jZL, List.mem_cons, List.not_mem_nil, or_false] at hq
    rcases hq with rfl | rfl | rfl | rfl | rfl | rfl
    · exact zw (C := "Phrasehall$Weapon") (n := "OF_FOIL") (d := "LPhrasehall$Weapon;") (by decide +kernel) (by decide +kernel) h0
    · exact zw (C := "Phrasehall$Weapon") (n := "OF_EPEE") (d := "LPhrasehall$Weapon;") (by decide +kernel) (by decide +kernel) h1
    · exact zw (C := "Phrasehall$Weapon") (n := "OF_SABRE") (d := "LPhrasehall$Weapon;") (by decide +kernel) (by decide +kernel) h2
    · exact zw (C := "java/util/ArrayList") (n := "DEFAULTCAPACITY_EMPTY_ELEMENTDATA") (d := "[Ljava/lang/Object;") (by decide +kernel) (by decide +kernel) h3
    · exact zw (C := "java/lang/Integer$IntegerCache") (n := "high") (d := "I") (by decide +kernel) (by decide +kernel) (va_eqi hH)
    · exact zw (C := "java/lang/Integer$IntegerCache") (n := "cache") (d := "[Ljava/lang/Integer;") (by decide +kernel) (by decide +kernel) h5
  · intro q hq
    simp only [jOL, List.mem_cons, List.not_mem_nil, or_false] at hq
    rcases hq with rfl | rfl | rfl
    · exact w1
    · exact w2
    · exact w3
  · intro q hq
    simp only [jFL, List.mem_cons, List.not_mem_nil, or_false] at hq
    rcases hq with rfl | rfl | rfl | rfl | rfl | rfl
    · exact st_OF (t := sW "OF_FOIL") (o := "Phrasehall$Weapon") (n := "least") (d := "I") (v := 14) (hs _ (by decide +kernel)) h0 hA
    · exact st_OF (t := sW "OF_FOIL") (o := "Phrasehall$Weapon") (n := "lockout") (d := "I") (v := 300) (hs _ (by decide +kernel)) h0 hA
    · exact st_OF (t := sW "OF_EPEE") (o := "Phrasehall$Weapon") (n := "least") (d := "I") (v := 2) (hs _ (by decide +kernel)) h1 hA
    · exact st_OF (t := sW "OF_EPEE") (o := "Phrasehall$Weapon") (n := "lockout") (d := "I") (v := 45) (hs _ (by decide +kernel)) h1 hA
    · exact st_OF (t := sW "OF_SABRE") (o := "Phrasehall$Weapon") (n := "least") (d := "I") (v := 1) (hs _ (by decide +kernel)) h2 hA
    · exact st_OF (t := sW "OF_SABRE") (o := "Phrasehall$Weapon") (n := "lockout") (d := "I") (v := 170) (hs _ (by decide +kernel)) h2 hA
  · have e : (fun j => Value.ref (st_k a0 a1 a2 a3 a4 a5 ad (16 + j))) = fun j => Value.ref (ad j) := by
      funext j; rw [st_k16]
    show va_T _ a5 256 (fun j => Value.ref (st_k a0 a1 a2 a3 a4 a5 ad (16 + j))) _ _ _
    rw [e]
    exact hT5
  · have e : (fun j => st_k a0 a1 a2 a3 a4 a5 ad (16 + j)) = ad := by
      funext j; rw [st_k16]
    show vb_C (fun j => st_k a0 a1 a2 a3 a4 a5 ad (16 + j)) _ _ _
    rw [e]
    exact hB
  · exact vx_Zqof (hts _ (by decide +kernel)) (hts _ (by decide +kernel)) (hs _ (by decide +kernel)) hA
  · exact vx_Zqof (hts _ (by decide +kernel)) (hts _ (by decide +kernel)) (hs _ (by decide +kernel)) hA
  · intro j hj
    show st_k a0 a1 a2 a3 a4 a5 ad (16 + j) < _
    rw [st_k16]
    exact st_lt (hB.1 j hj)
  · intro i j hi hj hij
    have hij : st_k a0 a1 a2 a3 a4 a5 ad (16 + i) = st_k a0 a1 a2 a3 a4 a5 ad (16 + j) := hij
    rw [st_k16, st_k16] at hij
    obtain ⟨cf, k, fi, f, cell, f1, f2, f3, f4, f5, f6⟩ := hB.2 i hi
    obtain ⟨cf', k', fi', f', cell', g1, g2, g3, g4, g5, g6⟩ := hB.2 j hj
    rw [hij] at f3
    cases f1.symm.trans g1
    cases f3.symm.trans g3
    have := Value.int.inj (Option.some.inj (f5.symm.trans g5))
    unfold vb_c at this
    have e1 : (Int32.ofNat i).toInt = i := law_i (by omega)
    have e2 : (Int32.ofNat j).toInt = j := law_i (by omega)
    have h3 : Int32.ofNat i = Int32.ofNat j := by
      first | exact (Int32.sub_right_inj _).mp this | simpa using this
    rw [h3, e2] at e1
    omega
