/-! the law's loop (printed by gen/law.py) -/
set_option maxRecDepth 100000
def lS0 (LI : jW → Prop) (z mo ao : Nat) : Prop := lSim LI mo ao (fun M => f_X1_fencer (some z)  M) (fun M => f_X2_fencer (some mo)  M) [(3, 1)]
def lS1 (LI : jW → Prop) (z mo ao : Nat) : Prop := ∀ a1 a2 a3 a4 a5 : Int32, lSim LI mo ao (fun M => f_X1_begin (some z) a1 a2 a3 a4 a5 M) (fun M => f_X2_begin (some mo) a1 a2 a3 a4 a5 M) [(1, 1), (2, 2), (3, 3)]
def lS2 (LI : jW → Prop) (z mo ao : Nat) : Prop := ∀ a1 a2 a3 : Int32, lSim LI mo ao (fun M => f_X1_act (some z) a1 a2 a3 M) (fun M => f_X2_act (some mo) a1 a2 a3 M) [(2, 1), (3, 2)]
def lS3 (LI : jW → Prop) (z mo ao : Nat) : Prop := ∀ a1 a2 a3 a4 : Int32, lSim LI mo ao (fun M => f_X1_hit (some z) a1 a2 a3 a4 M) (fun M => f_X2_hit (some mo) a1 a2 a3 a4 M) [(2, 1), (3, 2)]
def lS4 (LI : jW → Prop) (z mo ao : Nat) : Prop := lSim LI mo ao (fun M => f_X1_judge (some z)  M) (fun M => f_X2_judge (some mo)  M) [(3, 1)]
def lS5 (LI : jW → Prop) (z mo ao : Nat) : Prop := ∀ a1 a2 : Int32, lSim LI mo ao (fun M => f_X1_card (some z) a1 a2 M) (fun M => f_X2_card (some mo) a1 a2 M) [(2, 1), (3, 2)]
def lS6 (LI : jW → Prop) (z mo ao : Nat) : Prop := ∀ a1 : Int32, lSim LI mo ao (fun M => f_X1_clock (some z) a1 M) (fun M => f_X2_clock (some mo) a1 M) [(2, 1), (3, 2)]
def lS7 (LI : jW → Prop) (z mo ao : Nat) : Prop := lSim LI mo ao (fun M => f_X1_end (some z)  M) (fun M => f_X2_end (some mo)  M) [(3, 1)]
def lS8 (LI : jW → Prop) (z mo ao : Nat) : Prop := ∀ a1 : Int32, lSim LI mo ao (fun M => f_X1_seed (some z) a1 M) (fun M => f_X2_seed (some mo) a1 M) [(2, 1)]
def lS9 (LI : jW → Prop) (z mo ao : Nat) : Prop := ∀ a1 : Int32, lSim LI mo ao (fun M => f_X1_pool (some z) a1 M) (fun M => f_X2_pool (some mo) a1 M) [(2, 1), (3, 2)]
def lS10 (LI : jW → Prop) (z mo ao : Nat) : Prop := ∀ a1 a2 : Int32, lSim LI mo ao (fun M => f_X1_withdraw (some z) a1 a2 M) (fun M => f_X2_withdraw (some mo) a1 a2 M) [(1, 1), (3, 2)]
def lS11 (LI : jW → Prop) (z mo ao : Nat) : Prop := ∀ a1 : Int32, lSim LI mo ao (fun M => f_X1_tableau (some z) a1 M) (fun M => f_X2_tableau (some mo) a1 M) [(1, 1), (3, 2)]
def lS12 (LI : jW → Prop) (z mo ao : Nat) : Prop := ∀ a1 a2 a3 : Int32, lSim LI mo ao (fun M => f_X1_wins (some z) a1 a2 a3 M) (fun M => f_X2_wins (some mo) a1 a2 a3 M) [(1, 1), (2, 2), (3, 3)]
def lS13 (LI : jW → Prop) (z mo ao : Nat) : Prop := ∀ a1 : Int32, lSim LI mo ao (fun M => f_X1_lamp (some z) a1 M) (fun M => f_X2_lamp (some mo) a1 M) [(2, 1)]
def lS14 (LI : jW → Prop) (z mo ao : Nat) : Prop := lAns LI (fun M => f_X1_holder (some z) M) (fun M => f_X2_holder (some mo) M)
def lS15 (LI : jW → Prop) (z mo ao : Nat) : Prop := lAns LI (fun M => f_X1_reason (some z) M) (fun M => f_X2_reason (some mo) M)
def lS16 (LI : jW → Prop) (z mo ao : Nat) : Prop := ∀ a1 a2 : Int32, lSim LI mo ao (fun M => f_X1_ofBout (some z) a1 a2 M) (fun M => f_X2_ofBout (some mo) a1 a2 M) [(1, 1), (2, 2)]
def lS17 (LI : jW → Prop) (z mo ao : Nat) : Prop := ∀ a1 a2 a3 : Int32, lSim LI mo ao (fun M => f_X1_ofPool (some z) a1 a2 a3 M) (fun M => f_X2_ofPool (some mo) a1 a2 a3 M) [(1, 1), (2, 2)]
def lS18 (LI : jW → Prop) (z mo ao : Nat) : Prop := ∀ a1 a2 a3 : Int32, lSim LI mo ao (fun M => f_X1_ofPoolAnew (some z) a1 a2 a3 M) (fun M => f_X2_ofPoolAnew (some mo) a1 a2 a3 M) [(1, 1), (2, 2)]
def lS19 (LI : jW → Prop) (z mo ao : Nat) : Prop := ∀ a1 a2 : Int32, lSim LI mo ao (fun M => f_X1_rank (some z) a1 a2 M) (fun M => f_X2_rank (some mo) a1 a2 M) [(1, 1)]
def lS20 (LI : jW → Prop) (z mo ao : Nat) : Prop := ∀ a1 a2 a3 : Int32, lSim LI mo ao (fun M => f_X1_meets_2 (some z) a1 a2 a3 M) (fun M => f_X2_meets (some mo) a1 a2 a3 M) [(1, 1), (2, 2)]
def lAll (LI : jW → Prop) (z mo ao : Nat) : Prop := lS0 LI z mo ao ∧ lS1 LI z mo ao ∧ lS2 LI z mo ao ∧ lS3 LI z mo ao ∧ lS4 LI z mo ao ∧ lS5 LI z mo ao ∧ lS6 LI z mo ao ∧ lS7 LI z mo ao ∧ lS8 LI z mo ao ∧ lS9 LI z mo ao ∧ lS10 LI z mo ao ∧ lS11 LI z mo ao ∧ lS12 LI z mo ao ∧ lS13 LI z mo ao ∧ lS14 LI z mo ao ∧ lS15 LI z mo ao ∧ lS16 LI z mo ao ∧ lS17 LI z mo ao ∧ lS18 LI z mo ao ∧ lS19 LI z mo ao ∧ lS20 LI z mo ao
set_option maxHeartbeats 4000000 in
theorem law_body {x : jX} {rt : Option FieldType} {M : jW} {k n : Nat} (C : jOk x cL_law "PhrasehallLaw" room_1 rt) (hn : xn x = 7) (hfl : (xl x).stackTraces = false) {LI : jW → Prop} {z mo ao b Ln : Nat} {q : Nat → Int32} {i : Int32} (hX : va_X b Ln q (xs x) (xs x).heap) (hbl : b < (xs x).heap.size) (hbA : b < gz (xg x)) (hin : ∀ c : Int32, 0 ≤ c → c ≤ 5 → vp_in (i + c) Ln) (hmo : mo ≠ ao) (hLz : ∀ M, LI M → ∃ fs, M.1 z = some (.inr (0, fs))) (hLm : ∀ M, LI M → ∃ fs, M.1 mo = some (.inr (1, fs))) (hLI : LI M) (SS : lAll LI z mo ao) (h0 : vp_in i Ln) (hk : k + 200 ≤ 603072) (hs : n + 5000 ≤ 7190634) (h : ∀ M', LI M' → jJ x 23 [(0, jR (some b)), (1, jR (some z)), (2, jR (some mo)), (3, jR (some ao)), (4, jI (i + 6))] [] M' (k + 200) (n + 5000)) : jJ x 33 [(0, jR (some b)), (1, jR (some z)), (2, jR (some mo)), (3, jR (some ao)), (4, jI i)] [] M k n := by
  obtain ⟨s0, s1, s2, s3, s4, s5, s6, s7, s8, s9, s10, s11, s12, s13, s14, s15, s16, s17, s18, s19, s20⟩ := SS
  refine jj_aload_n C 0 rfl dL_law_33 rfl ?_
  refine jj_iload C 4 rfl dL_law_34 ?_
  refine jj_sld C hX hbl hbA h0 dL_law_36 ?_
  refine jj_bipush (v := 31) C dL_law_37 (by decide) ?_
  refine jj_iand C dL_law_39 ?_
  generalize (q i.toNatClampNeg) &&& 31 = w
  by_cases h1 : w = 0
  · exact jj_tabIn (c := 0) (tgt := 140) C h1 dL_law_40 (by decide) (by decide) rfl (by decide) (law_c0 C hn hfl hX hbl hbA hin hmo hLz hLm hLI s0 hk hs h)
  by_cases h2 : w = 1
  · exact jj_tabIn (c := 1) (tgt := 184) C h2 dL_law_40 (by decide) (by decide) rfl (by decide) (law_c1 C hn hfl hX hbl hbA hin hmo hLz hLm hLI (s1 _ _ _ _ _) hk hs h)
  by_cases h3 : w = 2
  · exact jj_tabIn (c := 2) (tgt := 288) C h3 dL_law_40 (by decide) (by decide) rfl (by decide) (law_c2 C hn hfl hX hbl hbA hin hmo hLz hLm hLI (s2 _ _ _) hk hs h)
  by_cases h4 : w = 3
  · exact jj_tabIn (c := 3) (tgt := 368) C h4 dL_law_40 (by decide) (by decide) rfl (by decide) (law_c3 C hn hfl hX hbl hbA hin hmo hLz hLm hLI (s3 _ _ _ _) hk hs h)
  by_cases h5 : w = 4
  · exact jj_tabIn (c := 4) (tgt := 460) C h5 dL_law_40 (by decide) (by decide) rfl (by decide) (law_c4 C hn hfl hX hbl hbA hin hmo hLz hLm hLI s4 hk hs h)
  by_cases h6 : w = 5
  · exact jj_tabIn (c := 5) (tgt := 504) C h6 dL_law_40 (by decide) (by decide) rfl (by decide) (law_c5 C hn hfl hX hbl hbA hin hmo hLz hLm hLI (s5 _ _) hk hs h)
  by_cases h7 : w = 6
  · exact jj_tabIn (c := 6) (tgt := 572) C h7 dL_law_40 (by decide) (by decide) rfl (by decide) (law_c6 C hn hfl hX hbl hbA hin hmo hLz hLm hLI (s6 _) hk hs h)
  by_cases h8 : w = 7
  · exact jj_tabIn (c := 7) (tgt := 628) C h8 dL_law_40 (by decide) (by decide) rfl (by decide) (law_c7 C hn hfl hX hbl hbA hin hmo hLz hLm hLI s7 hk hs h)
  by_cases h9 : w = 8
  · exact jj_tabIn (c := 8) (tgt := 672) C h9 dL_law_40 (by decide) (by decide) rfl (by decide) (law_c8 C hn hfl hX hbl hbA hin hmo hLz hLm hLI (s8 _) hk hs h)
  by_cases h10 : w = 9
  · exact jj_tabIn (c := 9) (tgt := 708) C h10 dL_law_40 (by decide) (by decide) rfl (by decide) (law_c9 C hn hfl hX hbl hbA hin hmo hLz hLm hLI (s9 _) hk hs h)
  by_cases h11 : w = 10
  · exact jj_tabIn (c := 10) (tgt := 764) C h11 dL_law_40 (by decide) (by decide) rfl (by decide) (law_c10 C hn hfl hX hbl hbA hin hmo hLz hLm hLI (s10 _ _) hk hs h)
  by_cases h12 : w = 11
  · exact jj_tabIn (c := 11) (tgt := 832) C h12 dL_law_40 (by decide) (by decide) rfl (by decide) (law_c11 C hn hfl hX hbl hbA hin hmo hLz hLm hLI (s11 _) hk hs h)
  by_cases h13 : w = 12
  · exact jj_tabIn (c := 12) (tgt := 888) C h13 dL_law_40 (by decide) (by decide) rfl (by decide) (law_c12 C hn hfl hX hbl hbA hin hmo hLz hLm hLI (s12 _ _ _) hk hs h)
  by_cases h14 : w = 13
  · exact jj_tabIn (c := 13) (tgt := 968) C h14 dL_law_40 (by decide) (by decide) rfl (by decide) (law_c13 C hn hfl hX hbl hbA hin hmo hLz hLm hLI (s13 _) hk hs h)
  by_cases h15 : w = 14
  · exact jj_tabIn (c := 14) (tgt := 1024) C h15 dL_law_40 (by decide) (by decide) rfl (by decide) (law_c14 C hn hfl hX hbl hbA hin hmo hLz hLm hLI s14 hk hs h)
  by_cases h16 : w = 15
  · exact jj_tabIn (c := 15) (tgt := 1037) C h16 dL_law_40 (by decide) (by decide) rfl (by decide) (law_c15 C hn hfl hX hbl hbA hin hmo hLz hLm hLI s15 hk hs h)
  by_cases h17 : w = 16
  · exact jj_tabIn (c := 16) (tgt := 1050) C h17 dL_law_40 (by decide) (by decide) rfl (by decide) (law_c16 C hn hfl hX hbl hbA hin hmo hLz hLm hLI (s16 _ _) hk hs h)
  by_cases h18 : w = 17
  · exact jj_tabIn (c := 17) (tgt := 1118) C h18 dL_law_40 (by decide) (by decide) rfl (by decide) (law_c17 C hn hfl hX hbl hbA hin hmo hLz hLm hLI (s17 _ _ _) hk hs h)
  by_cases h19 : w = 18
  · exact jj_tabIn (c := 18) (tgt := 1198) C h19 dL_law_40 (by decide) (by decide) rfl (by decide) (law_c18 C hn hfl hX hbl hbA hin hmo hLz hLm hLI (s18 _ _ _) hk hs h)
  by_cases h20 : w = 19
  · exact jj_tabIn (c := 19) (tgt := 1278) C h20 dL_law_40 (by decide) (by decide) rfl (by decide) (law_c19 C hn hfl hX hbl hbA hin hmo hLz hLm hLI (s19 _ _) hk hs h)
  by_cases h21 : w = 20
  · exact jj_tabIn (c := 20) (tgt := 1346) C h21 dL_law_40 (by decide) (by decide) rfl (by decide) (law_c20 C hn hfl hX hbl hbA hin hmo hLz hLm hLI (s20 _ _ _) hk hs h)
  refine jj_tabOut (tgt := 1426) C dL_law_40 ?_ (by decide) ?_
  · have hw : ∀ c : Int32, ¬ w = c → ¬ w.toInt = c.toInt := fun c => jne
    have g0 : ¬ w.toInt = 0 := hw 0 h1
    have g1 : ¬ w.toInt = 1 := hw 1 h2
    have g2 : ¬ w.toInt = 2 := hw 2 h3
    have g3 : ¬ w.toInt = 3 := hw 3 h4
    have g4 : ¬ w.toInt = 4 := hw 4 h5
    have g5 : ¬ w.toInt = 5 := hw 5 h6
    have g6 : ¬ w.toInt = 6 := hw 6 h7
    have g7 : ¬ w.toInt = 7 := hw 7 h8
    have g8 : ¬ w.toInt = 8 := hw 8 h9
    have g9 : ¬ w.toInt = 9 := hw 9 h10
    have g10 : ¬ w.toInt = 10 := hw 10 h11
    have g11 : ¬ w.toInt = 11 := hw 11 h12
    have g12 : ¬ w.toInt = 12 := hw 12 h13
    have g13 : ¬ w.toInt = 13 := hw 13 h14
    have g14 : ¬ w.toInt = 14 := hw 14 h15
    have g15 : ¬ w.toInt = 15 := hw 15 h16
    have g16 : ¬ w.toInt = 16 := hw 16 h17
    have g17 : ¬ w.toInt = 17 := hw 17 h18
    have g18 : ¬ w.toInt = 18 := hw 18 h19
    have g19 : ¬ w.toInt = 19 := hw 19 h20
    have g20 : ¬ w.toInt = 20 := hw 20 h21
    omega
  · exact law_next C [0, 1, 2, 3, 4] rfl hn (jj_widen C (by omega) (by omega) (h M hLI))
theorem law_i {n : Nat} (h : n < 2000) : (Int32.ofNat n).toInt = n := by
  rw [Int32.toInt_ofNat', Int.bmod_eq_of_le (by simp only [show Int32.size = 4294967296 from rfl]; omega) (by simp only [show Int32.size = 4294967296 from rfl]; omega)]
theorem law_nat {i : Int32} {n : Nat} (h : i.toInt = n) : ¬ i < 0 ∧ i.toNatClampNeg = n := by
  refine ⟨fun q => ?_, ?_⟩
  · have := Int32.lt_iff_toInt_lt.mp q
    rw [h] at this
    exact absurd this (by show ¬ ((n : Int) < 0); omega)
  · show i.toInt.toNat = n
    rw [h]; rfl
theorem law_add {t : Nat} (ht : t < 1000) {c : Int32} (h0 : 0 ≤ c) (h5 : c ≤ 6) : (Int32.ofNat t + c).toInt = t + c.toInt := by
  have a : (0 : Int) ≤ c.toInt := Int32.le_iff_toInt_le.mp h0
  have b : c.toInt ≤ 6 := Int32.le_iff_toInt_le.mp h5
  rw [Int32.toInt_add, law_i (by omega), Int.bmod_eq_of_le (by omega) (by omega)]
theorem law_in {Ln t : Nat} (hL : Ln ≤ 384) (ht : t + 6 ≤ Ln) {c : Int32} (h0 : 0 ≤ c) (h5 : c ≤ 5) : vp_in (Int32.ofNat t + c) Ln := by
  have a : (0 : Int) ≤ c.toInt := Int32.le_iff_toInt_le.mp h0
  have b : c.toInt ≤ 5 := Int32.le_iff_toInt_le.mp h5
  have e := law_add (t := t) (c := c) (by omega) h0 (Int32.le_iff_toInt_le.mpr (by show c.toInt ≤ 6; omega))
  obtain ⟨p, r⟩ := law_nat (n := t + c.toInt.toNat) (i := Int32.ofNat t + c) (by rw [e]; omega)
  intro q
  rcases q with q | q
  · exact p q
  · rw [r] at q; omega
theorem law_step {t : Nat} (ht : t < 1000) : Int32.ofNat t + 6 = Int32.ofNat (t + 6) := by
  apply Int32.toInt_inj.mp
  rw [law_add ht (by decide) (by decide), law_i (by omega)]
  rfl
theorem law_gt {Ln t : Nat} (hL : Ln ≤ 384) (ht : t < 1000) : (Int32.ofNat Ln - 6 < Int32.ofNat t) ↔ Ln < t + 6 := by
  rw [Int32.lt_iff_toInt_lt, Int32.toInt_sub, law_i (by omega), law_i (by omega), show ((6 : Int32).toInt) = 6 from rfl, Int.bmod_eq_of_le (by omega) (by omega)]
  omega
set_option maxHeartbeats 4000000 in
theorem law_loop {x : jX} (C : jOk x cL_law "PhrasehallLaw" room_1 (some .boolean)) (hn : xn x = 7) (hfl : (xl x).stackTraces = false) {LI : jW → Prop} {z mo ao b Ln : Nat} {q : Nat → Int32} (hX : va_X b Ln q (xs x) (xs x).heap) (hbl : b < (xs x).heap.size) (hbA : b < gz (xg x)) (hLn : Ln ≤ 384) (hmo : mo ≠ ao) (hLz : ∀ M, LI M → ∃ fs, M.1 z = some (.inr (0, fs))) (hLm : ∀ M, LI M → ∃ fs, M.1 mo = some (.inr (1, fs))) (SS : lAll LI z mo ao)
    (hend : ∀ (M : jW) (k n : Nat) (L : List (Nat × jV)), k ≤ 603072 → n ≤ 7190634 → jJ x 1432 L [] M k n) :
    ∀ (r t : Nat), t + r = 65 → ∀ M, LI M → ∀ k n, k = 50 + 200 * t → n = 5000 + 5000 * t → jJ x 23 [(0, jR (some b)), (1, jR (some z)), (2, jR (some mo)), (3, jR (some ao)), (4, jI (Int32.ofNat (6 * t)))] [] M k n := by
  intro r
  induction r with
  | zero =>
    intro t ht M hLI k n hk hn'
    refine jj_iload C 4 rfl dL_law_23 ?_
    refine jj_aload_n C 0 rfl dL_law_25 rfl ?_
    refine jj_slen C hX hbl hbA dL_law_26 ?_
    refine jj_bipush (v := 6) C dL_law_27 (by decide) ?_
    refine jj_isub C dL_law_29 ?_
    refine jj_icmp_gt (β := Unit) (A := some ()) (B := none) (out := ()) (tgt := 1432) C dL_law_30 (by decide) (by rw [if_pos]; exact (law_gt hLn (by omega)).mpr (by omega)) (fun _ => hend _ _ _ _ (by omega) (by omega)) (fun q => nomatch q)
  | succ r ih =>
    intro t ht M hLI k n hk hn'
    refine jj_iload C 4 rfl dL_law_23 ?_
    refine jj_aload_n C 0 rfl dL_law_25 rfl ?_
    refine jj_slen C hX hbl hbA dL_law_26 ?_
    refine jj_bipush (v := 6) C dL_law_27 (by decide) ?_
    refine jj_isub C dL_law_29 ?_
    by_cases hg : Ln < 6 * t + 6
    · refine jj_icmp_gt (β := Unit) (A := some ()) (B := none) (out := ()) (tgt := 1432) C dL_law_30 (by decide) (by rw [if_pos]; exact (law_gt hLn (by omega)).mpr (by omega)) (fun _ => hend _ _ _ _ (by omega) (by omega)) (fun q => nomatch q)
    · refine jj_icmp_gt (β := Unit) (A := none) (B := some ()) (out := ()) (tgt := 1432) C dL_law_30 (by decide) (by rw [if_neg]; exact fun w => hg ((law_gt hLn (by omega)).mp w)) (fun q => nomatch q) (fun _ => ?_)
      have h6 : vp_in (Int32.ofNat (6 * t)) Ln := by
        have := law_in (c := 0) hLn (show 6 * t + 6 ≤ Ln by omega) (by decide) (by decide)
        rwa [show Int32.ofNat (6 * t) + 0 = Int32.ofNat (6 * t) by simp] at this
      refine law_body C hn hfl hX hbl hbA (fun c h0 h5 => law_in hLn (by omega) h0 h5) hmo hLz hLm hLI SS h6 (by omega) (by omega) (fun M' hL' => ?_)
      rw [law_step (by omega), show 6 * t + 6 = 6 * (t + 1) by omega]
      exact ih (t + 1) (by omega) M' hL' _ _ (by omega) (by omega)
