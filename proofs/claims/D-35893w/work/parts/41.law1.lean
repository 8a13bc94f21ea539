/-! the law's cases (printed by gen/law.py) -/
set_option maxRecDepth 100000
set_option maxHeartbeats 4000000 in
theorem law_c0 {x : jX} {rt : Option FieldType} {M : jW} {k n : Nat} (C : jOk x cL_law "PhrasehallLaw" room_1 rt) (hn : xn x = 7) (hfl : (xl x).stackTraces = false) {LI : jW → Prop} {z mo ao b Ln : Nat} {q : Nat → Int32} {i : Int32} (hX : va_X b Ln q (xs x) (xs x).heap) (hbl : b < (xs x).heap.size) (hbA : b < gz (xg x)) (hin : ∀ c : Int32, 0 ≤ c → c ≤ 5 → vp_in (i + c) Ln) (hmo : mo ≠ ao) (hLz : ∀ M, LI M → ∃ fs, M.1 z = some (.inr (0, fs))) (hLm : ∀ M, LI M → ∃ fs, M.1 mo = some (.inr (1, fs))) (hLI : LI M) (S : lSim LI mo ao (fun M => f_X1_fencer (some z)  M) (fun M => f_X2_fencer (some mo)  M) [(3, 1)]) (hk : k + 200 ≤ 603072) (hs : n + 5000 ≤ 7190634) (h : ∀ M', LI M' → jJ x 23 [(0, jR (some b)), (1, jR (some z)), (2, jR (some mo)), (3, jR (some ao)), (4, jI (i + 6))] [] M' (k + 200) (n + 5000)) : jJ x 140 [(0, jR (some b)), (1, jR (some z)), (2, jR (some mo)), (3, jR (some ao)), (4, jI i)] [] M k n := by
  refine jj_lt (fun hW => ?_)
  obtain ⟨res, M1, c, hF1, hc, hA, hm, hS⟩ := S M hLI hW
  obtain ⟨fs, hz⟩ := hLz M hLI
  refine jj_aload_n C 1 rfl dL_law_140 rfl ?_
  refine jj_aload_n C 3 rfl dL_law_141 rfl ?_
  refine jj_callN (k' := k + 3) (n' := n + 135) C [jR (some z), jR (some ao)] [] (n_X0_fencer _ _ hfl rfl hz ⟨_, hF1⟩ (R := lR M1 ao c res) (fun r M1' h' => lR_I hc hA (h'.symm.trans hF1)) (fun e M1' h' => by
      obtain ⟨he, hR⟩ := lR_E hc hA (h'.symm.trans hF1)
      simp only [List.mem_cons, List.not_mem_nil, or_false, Prod.mk.injEq] at he
      obtain ⟨rfl, rfl⟩ := he; exact ⟨rfl, hR⟩)) q225 q226 q41 q227 hd_X0_fencer rfl (Nat.le_of_ble_eq_true rfl) ⟨Nat.le_of_ble_eq_true rfl, Nat.le_of_ble_eq_true rfl⟩ ⟨Nat.le_refl _, Nat.le_refl _, by show _ ≤ 603072; omega, by show _ ≤ 7190634; omega⟩ dL_law_142 (fun kc M2 hR hW2 => ?_)
  obtain ⟨hkc, hoff, hk2, A', hA', hr⟩ := hR
  obtain ⟨v, M3, hF2, hL3, ho3, hth, hv⟩ := hS M2 hoff hk2 hW2 ⟨A', hA'⟩
  obtain ⟨fs2, hm⟩ := hm
  have hm2 : M2.1 mo = some (.inr (1, fs2)) := by rw [hoff mo hmo]; exact hm
  refine jj_istore (L' := [(5, jI kc), (0, jR (some b)), (1, jR (some z)), (2, jR (some mo)), (3, jR (some ao)), (4, jI i)]) C rfl (by rw [hn]; decide) dL_law_145 ?_
  refine jj_aload_n C 3 rfl dL_law_147 rfl ?_
  refine jj_callV (k' := k + 3) (n' := n + 135) C [] [] [jI v] rfl (m_X2_fencer _ _ hF2) hm2 rfl q1334 q1335 q1336 q46 q1337 ⟨rfl, hd_X2_fencer⟩ rfl (Nat.le_of_ble_eq_true rfl) ⟨Nat.le_of_ble_eq_true rfl, Nat.le_of_ble_eq_true rfl⟩ ⟨by show _ + 0 ≤ _; omega, by show _ + 0 ≤ _; omega, by show _ ≤ 603072; omega, by show _ ≤ 7190634; omega⟩ dL_law_148 rfl ?_
  exact law_tail (k' := k + 200) (n' := n + 5000) C rfl hn hc (by decide) hkc dL_law_151 dL_law_153 dL_law_154 dL_law_157 dL_law_159 dL_law_164 dL_law_166 dL_law_169 dL_law_170 dL_law_171 dL_law_172 dL_law_174 dL_law_175 dL_law_176 dL_law_181 (by decide) (hLm M3 hL3) hth ⟨A', by rw [ho3]; exact hA', fun r h' => by rw [hr r h', hv r h']⟩ (by omega) hk (by omega) hs (h M3 hL3)
set_option maxHeartbeats 4000000 in
theorem law_c1 {x : jX} {rt : Option FieldType} {M : jW} {k n : Nat} (C : jOk x cL_law "PhrasehallLaw" room_1 rt) (hn : xn x = 7) (hfl : (xl x).stackTraces = false) {LI : jW → Prop} {z mo ao b Ln : Nat} {q : Nat → Int32} {i : Int32} (hX : va_X b Ln q (xs x) (xs x).heap) (hbl : b < (xs x).heap.size) (hbA : b < gz (xg x)) (hin : ∀ c : Int32, 0 ≤ c → c ≤ 5 → vp_in (i + c) Ln) (hmo : mo ≠ ao) (hLz : ∀ M, LI M → ∃ fs, M.1 z = some (.inr (0, fs))) (hLm : ∀ M, LI M → ∃ fs, M.1 mo = some (.inr (1, fs))) (hLI : LI M) (S : lSim LI mo ao (fun M => f_X1_begin (some z) (q (i + 1).toNatClampNeg) (q (i + 2).toNatClampNeg) (q (i + 3).toNatClampNeg) (q (i + 4).toNatClampNeg) (q (i + 5).toNatClampNeg) M) (fun M => f_X2_begin (some mo) (q (i + 1).toNatClampNeg) (q (i + 2).toNatClampNeg) (q (i + 3).toNatClampNeg) (q (i + 4).toNatClampNeg) (q (i + 5).toNatClampNeg) M) [(1, 1), (2, 2), (3, 3)]) (hk : k + 200 ≤ 603072) (hs : n + 5000 ≤ 7190634) (h : ∀ M', LI M' → jJ x 23 [(0, jR (some b)), (1, jR (some z)), (2, jR (some mo)), (3, jR (some ao)), (4, jI (i + 6))] [] M' (k + 200) (n + 5000)) : jJ x 184 [(0, jR (some b)), (1, jR (some z)), (2, jR (some mo)), (3, jR (some ao)), (4, jI i)] [] M k n := by
  refine jj_lt (fun hW => ?_)
  obtain ⟨res, M1, c, hF1, hc, hA, hm, hS⟩ := S M hLI hW
  obtain ⟨fs, hz⟩ := hLz M hLI
  refine jj_aload_n C 1 rfl dL_law_184 rfl ?_
  refine jj_aload_n C 0 rfl dL_law_185 rfl ?_
  refine jj_iload C 4 rfl dL_law_186 ?_
  refine jj_iconst (v := 1) C dL_law_188 (by decide) ?_
  refine jj_iadd C dL_law_189 ?_
  refine jj_sld C hX hbl hbA (hin 1 (by decide) (by decide)) dL_law_190 ?_
  refine jj_aload_n C 0 rfl dL_law_191 rfl ?_
  refine jj_iload C 4 rfl dL_law_192 ?_
  refine jj_iconst (v := 2) C dL_law_194 (by decide) ?_
  refine jj_iadd C dL_law_195 ?_
  refine jj_sld C hX hbl hbA (hin 2 (by decide) (by decide)) dL_law_196 ?_
  refine jj_aload_n C 0 rfl dL_law_197 rfl ?_
  refine jj_iload C 4 rfl dL_law_198 ?_
  refine jj_iconst (v := 3) C dL_law_200 (by decide) ?_
  refine jj_iadd C dL_law_201 ?_
  refine jj_sld C hX hbl hbA (hin 3 (by decide) (by decide)) dL_law_202 ?_
  refine jj_aload_n C 0 rfl dL_law_203 rfl ?_
  refine jj_iload C 4 rfl dL_law_204 ?_
  refine jj_iconst (v := 4) C dL_law_206 (by decide) ?_
  refine jj_iadd C dL_law_207 ?_
  refine jj_sld C hX hbl hbA (hin 4 (by decide) (by decide)) dL_law_208 ?_
  refine jj_aload_n C 0 rfl dL_law_209 rfl ?_
  refine jj_iload C 4 rfl dL_law_210 ?_
  refine jj_iconst (v := 5) C dL_law_212 (by decide) ?_
  refine jj_iadd C dL_law_213 ?_
  refine jj_sld C hX hbl hbA (hin 5 (by decide) (by decide)) dL_law_214 ?_
  refine jj_aload_n C 3 rfl dL_law_215 rfl ?_
  refine jj_callN (k' := k + 11) (n' := n + 179) C [jR (some z), jI (q (i + 1).toNatClampNeg), jI (q (i + 2).toNatClampNeg), jI (q (i + 3).toNatClampNeg), jI (q (i + 4).toNatClampNeg), jI (q (i + 5).toNatClampNeg), jR (some ao)] [] (n_X0_begin _ _ hfl rfl hz ⟨_, hF1⟩ (R := lR M1 ao c res) (fun r M1' h' => lR_I hc hA (h'.symm.trans hF1)) (fun e M1' h' => by
      obtain ⟨he, hR⟩ := lR_E hc hA (h'.symm.trans hF1)
      simp only [List.mem_cons, List.not_mem_nil, or_false, Prod.mk.injEq] at he
      rcases he with ⟨rfl, rfl⟩ | ⟨rfl, rfl⟩ | ⟨rfl, rfl⟩
      · exact Or.inl ⟨rfl, hR⟩
      · exact Or.inr (Or.inl ⟨rfl, hR⟩)
      · exact Or.inr (Or.inr (⟨rfl, hR⟩)))) q381 q382 q41 q383 hd_X0_begin rfl (Nat.le_of_ble_eq_true rfl) ⟨Nat.le_of_ble_eq_true rfl, Nat.le_of_ble_eq_true rfl⟩ ⟨Nat.le_refl _, Nat.le_refl _, by show _ ≤ 603072; omega, by show _ ≤ 7190634; omega⟩ dL_law_216 (fun kc M2 hR hW2 => ?_)
  obtain ⟨hkc, hoff, hk2, A', hA', hr⟩ := hR
  obtain ⟨v, M3, hF2, hL3, ho3, hth, hv⟩ := hS M2 hoff hk2 hW2 ⟨A', hA'⟩
  obtain ⟨fs2, hm⟩ := hm
  have hm2 : M2.1 mo = some (.inr (1, fs2)) := by rw [hoff mo hmo]; exact hm
  refine jj_istore (L' := [(5, jI kc), (0, jR (some b)), (1, jR (some z)), (2, jR (some mo)), (3, jR (some ao)), (4, jI i)]) C rfl (by rw [hn]; decide) dL_law_219 ?_
  refine jj_aload_n C 3 rfl dL_law_221 rfl ?_
  refine jj_aload_n C 1 rfl dL_law_222 rfl ?_
  refine jj_iload C 5 rfl dL_law_223 ?_
  refine jj_iconst (v := 1) C dL_law_225 (by decide) ?_
  refine jj_iadd C dL_law_226 ?_
  refine jj_sld C hX hbl hbA (hin 1 (by decide) (by decide)) dL_law_227 ?_
  refine jj_aload_n C 1 rfl dL_law_228 rfl ?_
  refine jj_iload C 5 rfl dL_law_229 ?_
  refine jj_iconst (v := 2) C dL_law_231 (by decide) ?_
  refine jj_iadd C dL_law_232 ?_
  refine jj_sld C hX hbl hbA (hin 2 (by decide) (by decide)) dL_law_233 ?_
  refine jj_aload_n C 1 rfl dL_law_234 rfl ?_
  refine jj_iload C 5 rfl dL_law_235 ?_
  refine jj_iconst (v := 3) C dL_law_237 (by decide) ?_
  refine jj_iadd C dL_law_238 ?_
  refine jj_sld C hX hbl hbA (hin 3 (by decide) (by decide)) dL_law_239 ?_
  refine jj_aload_n C 1 rfl dL_law_240 rfl ?_
  refine jj_iload C 5 rfl dL_law_241 ?_
  refine jj_iconst (v := 4) C dL_law_243 (by decide) ?_
  refine jj_iadd C dL_law_244 ?_
  refine jj_sld C hX hbl hbA (hin 4 (by decide) (by decide)) dL_law_245 ?_
  refine jj_aload_n C 1 rfl dL_law_246 rfl ?_
  refine jj_iload C 5 rfl dL_law_247 ?_
  refine jj_iconst (v := 5) C dL_law_249 (by decide) ?_
  refine jj_iadd C dL_law_250 ?_
  refine jj_sld C hX hbl hbA (hin 5 (by decide) (by decide)) dL_law_251 ?_
  refine jj_callV (k' := k + 11) (n' := n + 179) C [jI (q (i + 1).toNatClampNeg), jI (q (i + 2).toNatClampNeg), jI (q (i + 3).toNatClampNeg), jI (q (i + 4).toNatClampNeg), jI (q (i + 5).toNatClampNeg)] [] [jI v] rfl (m_X2_begin _ _ hF2) hm2 rfl q1338 q1339 q1340 q46 q1341 ⟨rfl, hd_X2_begin⟩ rfl (Nat.le_of_ble_eq_true rfl) ⟨Nat.le_of_ble_eq_true rfl, Nat.le_of_ble_eq_true rfl⟩ ⟨by show _ + 0 ≤ _; omega, by show _ + 0 ≤ _; omega, by show _ ≤ 603072; omega, by show _ ≤ 7190634; omega⟩ dL_law_252 rfl ?_
  exact law_tail (k' := k + 200) (n' := n + 5000) C rfl hn hc (by decide) hkc dL_law_255 dL_law_257 dL_law_258 dL_law_261 dL_law_263 dL_law_268 dL_law_270 dL_law_273 dL_law_274 dL_law_275 dL_law_276 dL_law_278 dL_law_279 dL_law_280 dL_law_285 (by decide) (hLm M3 hL3) hth ⟨A', by rw [ho3]; exact hA', fun r h' => by rw [hr r h', hv r h']⟩ (by omega) hk (by omega) hs (h M3 hL3)
set_option maxHeartbeats 4000000 in
theorem law_c2 {x : jX} {rt : Option FieldType} {M : jW} {k n : Nat} (C : jOk x cL_law "PhrasehallLaw" room_1 rt) (hn : xn x = 7) (hfl : (xl x).stackTraces = false) {LI : jW → Prop} {z mo ao b Ln : Nat} {q : Nat → Int32} {i : Int32} (hX : va_X b Ln q (xs x) (xs x).heap) (hbl : b < (xs x).heap.size) (hbA : b < gz (xg x)) (hin : ∀ c : Int32, 0 ≤ c → c ≤ 5 → vp_in (i + c) Ln) (hmo : mo ≠ ao) (hLz : ∀ M, LI M → ∃ fs, M.1 z = some (.inr (0, fs))) (hLm : ∀ M, LI M → ∃ fs, M.1 mo = some (.inr (1, fs))) (hLI : LI M) (S : lSim LI mo ao (fun M => f_X1_act (some z) (q (i + 1).toNatClampNeg) (q (i + 2).toNatClampNeg) (q (i + 3).toNatClampNeg) M) (fun M => f_X2_act (some mo) (q (i + 1).toNatClampNeg) (q (i + 2).toNatClampNeg) (q (i + 3).toNatClampNeg) M) [(2, 1), (3, 2)]) (hk : k + 200 ≤ 603072) (hs : n + 5000 ≤ 7190634) (h : ∀ M', LI M' → jJ x 23 [(0, jR (some b)), (1, jR (some z)), (2, jR (some mo)), (3, jR (some ao)), (4, jI (i + 6))] [] M' (k + 200) (n + 5000)) : jJ x 288 [(0, jR (some b)), (1, jR (some z)), (2, jR (some mo)), (3, jR (some ao)), (4, jI i)] [] M k n := by
  refine jj_lt (fun hW => ?_)
  obtain ⟨res, M1, c, hF1, hc, hA, hm, hS⟩ := S M hLI hW
  obtain ⟨fs, hz⟩ := hLz M hLI
  refine jj_aload_n C 1 rfl dL_law_288 rfl ?_
  refine jj_aload_n C 0 rfl dL_law_289 rfl ?_
  refine jj_iload C 4 rfl dL_law_290 ?_
  refine jj_iconst (v := 1) C dL_law_292 (by decide) ?_
  refine jj_iadd C dL_law_293 ?_
  refine jj_sld C hX hbl hbA (hin 1 (by decide) (by decide)) dL_law_294 ?_
  refine jj_aload_n C 0 rfl dL_law_295 rfl ?_
  refine jj_iload C 4 rfl dL_law_296 ?_
  refine jj_iconst (v := 2) C dL_law_298 (by decide) ?_
  refine jj_iadd C dL_law_299 ?_
  refine jj_sld C hX hbl hbA (hin 2 (by decide) (by decide)) dL_law_300 ?_
  refine jj_aload_n C 0 rfl dL_law_301 rfl ?_
  refine jj_iload C 4 rfl dL_law_302 ?_
  refine jj_iconst (v := 3) C dL_law_304 (by decide) ?_
  refine jj_iadd C dL_law_305 ?_
  refine jj_sld C hX hbl hbA (hin 3 (by decide) (by decide)) dL_law_306 ?_
  refine jj_aload_n C 3 rfl dL_law_307 rfl ?_
  refine jj_callN (k' := k + 4) (n' := n + 143) C [jR (some z), jI (q (i + 1).toNatClampNeg), jI (q (i + 2).toNatClampNeg), jI (q (i + 3).toNatClampNeg), jR (some ao)] [] (n_X0_act _ _ hfl rfl hz ⟨_, hF1⟩ (R := lR M1 ao c res) (fun r M1' h' => lR_I hc hA (h'.symm.trans hF1)) (fun e M1' h' => by
      obtain ⟨he, hR⟩ := lR_E hc hA (h'.symm.trans hF1)
      simp only [List.mem_cons, List.not_mem_nil, or_false, Prod.mk.injEq] at he
      rcases he with ⟨rfl, rfl⟩ | ⟨rfl, rfl⟩
      · exact Or.inl ⟨rfl, hR⟩
      · exact Or.inr (⟨rfl, hR⟩))) q545 q546 q41 q547 hd_X0_act rfl (Nat.le_of_ble_eq_true rfl) ⟨Nat.le_of_ble_eq_true rfl, Nat.le_of_ble_eq_true rfl⟩ ⟨Nat.le_refl _, Nat.le_refl _, by show _ ≤ 603072; omega, by show _ ≤ 7190634; omega⟩ dL_law_308 (fun kc M2 hR hW2 => ?_)
  obtain ⟨hkc, hoff, hk2, A', hA', hr⟩ := hR
  obtain ⟨v, M3, hF2, hL3, ho3, hth, hv⟩ := hS M2 hoff hk2 hW2 ⟨A', hA'⟩
  obtain ⟨fs2, hm⟩ := hm
  have hm2 : M2.1 mo = some (.inr (1, fs2)) := by rw [hoff mo hmo]; exact hm
  refine jj_istore (L' := [(5, jI kc), (0, jR (some b)), (1, jR (some z)), (2, jR (some mo)), (3, jR (some ao)), (4, jI i)]) C rfl (by rw [hn]; decide) dL_law_311 ?_
  refine jj_aload_n C 3 rfl dL_law_313 rfl ?_
  refine jj_aload_n C 1 rfl dL_law_314 rfl ?_
  refine jj_iload C 5 rfl dL_law_315 ?_
  refine jj_iconst (v := 1) C dL_law_317 (by decide) ?_
  refine jj_iadd C dL_law_318 ?_
  refine jj_sld C hX hbl hbA (hin 1 (by decide) (by decide)) dL_law_319 ?_
  refine jj_aload_n C 1 rfl dL_law_320 rfl ?_
  refine jj_iload C 5 rfl dL_law_321 ?_
  refine jj_iconst (v := 2) C dL_law_323 (by decide) ?_
  refine jj_iadd C dL_law_324 ?_
  refine jj_sld C hX hbl hbA (hin 2 (by decide) (by decide)) dL_law_325 ?_
  refine jj_aload_n C 1 rfl dL_law_326 rfl ?_
  refine jj_iload C 5 rfl dL_law_327 ?_
  refine jj_iconst (v := 3) C dL_law_329 (by decide) ?_
  refine jj_iadd C dL_law_330 ?_
  refine jj_sld C hX hbl hbA (hin 3 (by decide) (by decide)) dL_law_331 ?_
  refine jj_callV (k' := k + 4) (n' := n + 143) C [jI (q (i + 1).toNatClampNeg), jI (q (i + 2).toNatClampNeg), jI (q (i + 3).toNatClampNeg)] [] [jI v] rfl (m_X2_act _ _ hF2) hm2 rfl q1356 q1357 q1358 q46 q1359 ⟨rfl, hd_X2_act⟩ rfl (Nat.le_of_ble_eq_true rfl) ⟨Nat.le_of_ble_eq_true rfl, Nat.le_of_ble_eq_true rfl⟩ ⟨by show _ + 0 ≤ _; omega, by show _ + 0 ≤ _; omega, by show _ ≤ 603072; omega, by show _ ≤ 7190634; omega⟩ dL_law_332 rfl ?_
  exact law_tail (k' := k + 200) (n' := n + 5000) C rfl hn hc (by decide) hkc dL_law_335 dL_law_337 dL_law_338 dL_law_341 dL_law_343 dL_law_348 dL_law_350 dL_law_353 dL_law_354 dL_law_355 dL_law_356 dL_law_358 dL_law_359 dL_law_360 dL_law_365 (by decide) (hLm M3 hL3) hth ⟨A', by rw [ho3]; exact hA', fun r h' => by rw [hr r h', hv r h']⟩ (by omega) hk (by omega) hs (h M3 hL3)
set_option maxHeartbeats 4000000 in
theorem law_c3 {x : jX} {rt : Option FieldType} {M : jW} {k n : Nat} (C : jOk x cL_law "PhrasehallLaw" room_1 rt) (hn : xn x = 7) (hfl : (xl x).stackTraces = false) {LI : jW → Prop} {z mo ao b Ln : Nat} {q : Nat → Int32} {i : Int32} (hX : va_X b Ln q (xs x) (xs x).heap) (hbl : b < (xs x).heap.size) (hbA : b < gz (xg x)) (hin : ∀ c : Int32, 0 ≤ c → c ≤ 5 → vp_in (i + c) Ln) (hmo : mo ≠ ao) (hLz : ∀ M, LI M → ∃ fs, M.1 z = some (.inr (0, fs))) (hLm : ∀ M, LI M → ∃ fs, M.1 mo = some (.inr (1, fs))) (hLI : LI M) (S : lSim LI mo ao (fun M => f_X1_hit (some z) (q (i + 1).toNatClampNeg) (q (i + 2).toNatClampNeg) (q (i + 3).toNatClampNeg) (q (i + 4).toNatClampNeg) M) (fun M => f_X2_hit (some mo) (q (i + 1).toNatClampNeg) (q (i + 2).toNatClampNeg) (q (i + 3).toNatClampNeg) (q (i + 4).toNatClampNeg) M) [(2, 1), (3, 2)]) (hk : k + 200 ≤ 603072) (hs : n + 5000 ≤ 7190634) (h : ∀ M', LI M' → jJ x 23 [(0, jR (some b)), (1, jR (some z)), (2, jR (some mo)), (3, jR (some ao)), (4, jI (i + 6))] [] M' (k + 200) (n + 5000)) : jJ x 368 [(0, jR (some b)), (1, jR (some z)), (2, jR (some mo)), (3, jR (some ao)), (4, jI i)] [] M k n := by
  refine jj_lt (fun hW => ?_)
  obtain ⟨res, M1, c, hF1, hc, hA, hm, hS⟩ := S M hLI hW
  obtain ⟨fs, hz⟩ := hLz M hLI
  refine jj_aload_n C 1 rfl dL_law_368 rfl ?_
  refine jj_aload_n C 0 rfl dL_law_369 rfl ?_
  refine jj_iload C 4 rfl dL_law_370 ?_
  refine jj_iconst (v := 1) C dL_law_372 (by decide) ?_
  refine jj_iadd C dL_law_373 ?_
  refine jj_sld C hX hbl hbA (hin 1 (by decide) (by decide)) dL_law_374 ?_
  refine jj_aload_n C 0 rfl dL_law_375 rfl ?_
  refine jj_iload C 4 rfl dL_law_376 ?_
  refine jj_iconst (v := 2) C dL_law_378 (by decide) ?_
  refine jj_iadd C dL_law_379 ?_
  refine jj_sld C hX hbl hbA (hin 2 (by decide) (by decide)) dL_law_380 ?_
  refine jj_aload_n C 0 rfl dL_law_381 rfl ?_
  refine jj_iload C 4 rfl dL_law_382 ?_
  refine jj_iconst (v := 3) C dL_law_384 (by decide) ?_
  refine jj_iadd C dL_law_385 ?_
  refine jj_sld C hX hbl hbA (hin 3 (by decide) (by decide)) dL_law_386 ?_
  refine jj_aload_n C 0 rfl dL_law_387 rfl ?_
  refine jj_iload C 4 rfl dL_law_388 ?_
  refine jj_iconst (v := 4) C dL_law_390 (by decide) ?_
  refine jj_iadd C dL_law_391 ?_
  refine jj_sld C hX hbl hbA (hin 4 (by decide) (by decide)) dL_law_392 ?_
  refine jj_aload_n C 3 rfl dL_law_393 rfl ?_
  refine jj_callN (k' := k + 4) (n' := n + 144) C [jR (some z), jI (q (i + 1).toNatClampNeg), jI (q (i + 2).toNatClampNeg), jI (q (i + 3).toNatClampNeg), jI (q (i + 4).toNatClampNeg), jR (some ao)] [] (n_X0_hit _ _ hfl rfl hz ⟨_, hF1⟩ (R := lR M1 ao c res) (fun r M1' h' => lR_I hc hA (h'.symm.trans hF1)) (fun e M1' h' => by
      obtain ⟨he, hR⟩ := lR_E hc hA (h'.symm.trans hF1)
      simp only [List.mem_cons, List.not_mem_nil, or_false, Prod.mk.injEq] at he
      rcases he with ⟨rfl, rfl⟩ | ⟨rfl, rfl⟩
      · exact Or.inl ⟨rfl, hR⟩
      · exact Or.inr (⟨rfl, hR⟩))) q597 q598 q41 q599 hd_X0_hit rfl (Nat.le_of_ble_eq_true rfl) ⟨Nat.le_of_ble_eq_true rfl, Nat.le_of_ble_eq_true rfl⟩ ⟨Nat.le_refl _, Nat.le_refl _, by show _ ≤ 603072; omega, by show _ ≤ 7190634; omega⟩ dL_law_394 (fun kc M2 hR hW2 => ?_)
  obtain ⟨hkc, hoff, hk2, A', hA', hr⟩ := hR
  obtain ⟨v, M3, hF2, hL3, ho3, hth, hv⟩ := hS M2 hoff hk2 hW2 ⟨A', hA'⟩
  obtain ⟨fs2, hm⟩ := hm
  have hm2 : M2.1 mo = some (.inr (1, fs2)) := by rw [hoff mo hmo]; exact hm
  refine jj_istore (L' := [(5, jI kc), (0, jR (some b)), (1, jR (some z)), (2, jR (some mo)), (3, jR (some ao)), (4, jI i)]) C rfl (by rw [hn]; decide) dL_law_397 ?_
  refine jj_aload_n C 3 rfl dL_law_399 rfl ?_
  refine jj_aload_n C 1 rfl dL_law_400 rfl ?_
  refine jj_iload C 5 rfl dL_law_401 ?_
  refine jj_iconst (v := 1) C dL_law_403 (by decide) ?_
  refine jj_iadd C dL_law_404 ?_
  refine jj_sld C hX hbl hbA (hin 1 (by decide) (by decide)) dL_law_405 ?_
  refine jj_aload_n C 1 rfl dL_law_406 rfl ?_
  refine jj_iload C 5 rfl dL_law_407 ?_
  refine jj_iconst (v := 2) C dL_law_409 (by decide) ?_
  refine jj_iadd C dL_law_410 ?_
  refine jj_sld C hX hbl hbA (hin 2 (by decide) (by decide)) dL_law_411 ?_
  refine jj_aload_n C 1 rfl dL_law_412 rfl ?_
  refine jj_iload C 5 rfl dL_law_413 ?_
  refine jj_iconst (v := 3) C dL_law_415 (by decide) ?_
  refine jj_iadd C dL_law_416 ?_
  refine jj_sld C hX hbl hbA (hin 3 (by decide) (by decide)) dL_law_417 ?_
  refine jj_aload_n C 1 rfl dL_law_418 rfl ?_
  refine jj_iload C 5 rfl dL_law_419 ?_
  refine jj_iconst (v := 4) C dL_law_421 (by decide) ?_
  refine jj_iadd C dL_law_422 ?_
  refine jj_sld C hX hbl hbA (hin 4 (by decide) (by decide)) dL_law_423 ?_
  refine jj_callV (k' := k + 4) (n' := n + 144) C [jI (q (i + 1).toNatClampNeg), jI (q (i + 2).toNatClampNeg), jI (q (i + 3).toNatClampNeg), jI (q (i + 4).toNatClampNeg)] [] [jI v] rfl (m_X2_hit _ _ hF2) hm2 rfl q1372 q1373 q1374 q46 q1375 ⟨rfl, hd_X2_hit⟩ rfl (Nat.le_of_ble_eq_true rfl) ⟨Nat.le_of_ble_eq_true rfl, Nat.le_of_ble_eq_true rfl⟩ ⟨by show _ + 0 ≤ _; omega, by show _ + 0 ≤ _; omega, by show _ ≤ 603072; omega, by show _ ≤ 7190634; omega⟩ dL_law_424 rfl ?_
  exact law_tail (k' := k + 200) (n' := n + 5000) C rfl hn hc (by decide) hkc dL_law_427 dL_law_429 dL_law_430 dL_law_433 dL_law_435 dL_law_440 dL_law_442 dL_law_445 dL_law_446 dL_law_447 dL_law_448 dL_law_450 dL_law_451 dL_law_452 dL_law_457 (by decide) (hLm M3 hL3) hth ⟨A', by rw [ho3]; exact hA', fun r h' => by rw [hr r h', hv r h']⟩ (by omega) hk (by omega) hs (h M3 hL3)
set_option maxHeartbeats 4000000 in
theorem law_c4 {x : jX} {rt : Option FieldType} {M : jW} {k n : Nat} (C : jOk x cL_law "PhrasehallLaw" room_1 rt) (hn : xn x = 7) (hfl : (xl x).stackTraces = false) {LI : jW → Prop} {z mo ao b Ln : Nat} {q : Nat → Int32} {i : Int32} (hX : va_X b Ln q (xs x) (xs x).heap) (hbl : b < (xs x).heap.size) (hbA : b < gz (xg x)) (hin : ∀ c : Int32, 0 ≤ c → c ≤ 5 → vp_in (i + c) Ln) (hmo : mo ≠ ao) (hLz : ∀ M, LI M → ∃ fs, M.1 z = some (.inr (0, fs))) (hLm : ∀ M, LI M → ∃ fs, M.1 mo = some (.inr (1, fs))) (hLI : LI M) (S : lSim LI mo ao (fun M => f_X1_judge (some z)  M) (fun M => f_X2_judge (some mo)  M) [(3, 1)]) (hk : k + 200 ≤ 603072) (hs : n + 5000 ≤ 7190634) (h : ∀ M', LI M' → jJ x 23 [(0, jR (some b)), (1, jR (some z)), (2, jR (some mo)), (3, jR (some ao)), (4, jI (i + 6))] [] M' (k + 200) (n + 5000)) : jJ x 460 [(0, jR (some b)), (1, jR (some z)), (2, jR (some mo)), (3, jR (some ao)), (4, jI i)] [] M k n := by
  refine jj_lt (fun hW => ?_)
  obtain ⟨res, M1, c, hF1, hc, hA, hm, hS⟩ := S M hLI hW
  obtain ⟨fs, hz⟩ := hLz M hLI
  refine jj_aload_n C 1 rfl dL_law_460 rfl ?_
  refine jj_aload_n C 3 rfl dL_law_461 rfl ?_
  refine jj_callN (k' := k + 2) (n' := n + 11) C [jR (some z), jR (some ao)] [] (n_X0_judge _ _ hfl rfl hz ⟨_, hF1⟩ (R := lR M1 ao c res) (fun r M1' h' => lR_I hc hA (h'.symm.trans hF1)) (fun e M1' h' => by
      obtain ⟨he, hR⟩ := lR_E hc hA (h'.symm.trans hF1)
      simp only [List.mem_cons, List.not_mem_nil, or_false, Prod.mk.injEq] at he
      obtain ⟨rfl, rfl⟩ := he; exact ⟨rfl, hR⟩)) q623 q624 q41 q625 hd_X0_judge rfl (Nat.le_of_ble_eq_true rfl) ⟨Nat.le_of_ble_eq_true rfl, Nat.le_of_ble_eq_true rfl⟩ ⟨Nat.le_refl _, Nat.le_refl _, by show _ ≤ 603072; omega, by show _ ≤ 7190634; omega⟩ dL_law_462 (fun kc M2 hR hW2 => ?_)
  obtain ⟨hkc, hoff, hk2, A', hA', hr⟩ := hR
  obtain ⟨v, M3, hF2, hL3, ho3, hth, hv⟩ := hS M2 hoff hk2 hW2 ⟨A', hA'⟩
  obtain ⟨fs2, hm⟩ := hm
  have hm2 : M2.1 mo = some (.inr (1, fs2)) := by rw [hoff mo hmo]; exact hm
  refine jj_istore (L' := [(5, jI kc), (0, jR (some b)), (1, jR (some z)), (2, jR (some mo)), (3, jR (some ao)), (4, jI i)]) C rfl (by rw [hn]; decide) dL_law_465 ?_
  refine jj_aload_n C 3 rfl dL_law_467 rfl ?_
  refine jj_callV (k' := k + 2) (n' := n + 11) C [] [] [jI v] rfl (m_X2_judge _ _ hF2) hm2 rfl q1376 q1377 q1378 q46 q1379 ⟨rfl, hd_X2_judge⟩ rfl (Nat.le_of_ble_eq_true rfl) ⟨Nat.le_of_ble_eq_true rfl, Nat.le_of_ble_eq_true rfl⟩ ⟨by show _ + 0 ≤ _; omega, by show _ + 0 ≤ _; omega, by show _ ≤ 603072; omega, by show _ ≤ 7190634; omega⟩ dL_law_468 rfl ?_
  exact law_tail (k' := k + 200) (n' := n + 5000) C rfl hn hc (by decide) hkc dL_law_471 dL_law_473 dL_law_474 dL_law_477 dL_law_479 dL_law_484 dL_law_486 dL_law_489 dL_law_490 dL_law_491 dL_law_492 dL_law_494 dL_law_495 dL_law_496 dL_law_501 (by decide) (hLm M3 hL3) hth ⟨A', by rw [ho3]; exact hA', fun r h' => by rw [hr r h', hv r h']⟩ (by omega) hk (by omega) hs (h M3 hL3)
set_option maxHeartbeats 4000000 in
theorem law_c5 {x : jX} {rt : Option FieldType} {M : jW} {k n : Nat} (C : jOk x cL_law "PhrasehallLaw" room_1 rt) (hn : xn x = 7) (hfl : (xl x).stackTraces = false) {LI : jW → Prop} {z mo ao b Ln : Nat} {q : Nat → Int32} {i : Int32} (hX : va_X b Ln q (xs x) (xs x).heap) (hbl : b < (xs x).heap.size) (hbA : b < gz (xg x)) (hin : ∀ c : Int32, 0 ≤ c → c ≤ 5 → vp_in (i + c) Ln) (hmo : mo ≠ ao) (hLz : ∀ M, LI M → ∃ fs, M.1 z = some (.inr (0, fs))) (hLm : ∀ M, LI M → ∃ fs, M.1 mo = some (.inr (1, fs))) (hLI : LI M) (S : lSim LI mo ao (fun M => f_X1_card (some z) (q (i + 1).toNatClampNeg) (q (i + 2).toNatClampNeg) M) (fun M => f_X2_card (some mo) (q (i + 1).toNatClampNeg) (q (i + 2).toNatClampNeg) M) [(2, 1), (3, 2)]) (hk : k + 200 ≤ 603072) (hs : n + 5000 ≤ 7190634) (h : ∀ M', LI M' → jJ x 23 [(0, jR (some b)), (1, jR (some z)), (2, jR (some mo)), (3, jR (some ao)), (4, jI (i + 6))] [] M' (k + 200) (n + 5000)) : jJ x 504 [(0, jR (some b)), (1, jR (some z)), (2, jR (some mo)), (3, jR (some ao)), (4, jI i)] [] M k n := by
  refine jj_lt (fun hW => ?_)
  obtain ⟨res, M1, c, hF1, hc, hA, hm, hS⟩ := S M hLI hW
  obtain ⟨fs, hz⟩ := hLz M hLI
  refine jj_aload_n C 1 rfl dL_law_504 rfl ?_
  refine jj_aload_n C 0 rfl dL_law_505 rfl ?_
  refine jj_iload C 4 rfl dL_law_506 ?_
  refine jj_iconst (v := 1) C dL_law_508 (by decide) ?_
  refine jj_iadd C dL_law_509 ?_
  refine jj_sld C hX hbl hbA (hin 1 (by decide) (by decide)) dL_law_510 ?_
  refine jj_aload_n C 0 rfl dL_law_511 rfl ?_
  refine jj_iload C 4 rfl dL_law_512 ?_
  refine jj_iconst (v := 2) C dL_law_514 (by decide) ?_
  refine jj_iadd C dL_law_515 ?_
  refine jj_sld C hX hbl hbA (hin 2 (by decide) (by decide)) dL_law_516 ?_
  refine jj_aload_n C 3 rfl dL_law_517 rfl ?_
  refine jj_callN (k' := k + 2) (n' := n + 12) C [jR (some z), jI (q (i + 1).toNatClampNeg), jI (q (i + 2).toNatClampNeg), jR (some ao)] [] (n_X0_card _ _ hfl rfl hz ⟨_, hF1⟩ (R := lR M1 ao c res) (fun r M1' h' => lR_I hc hA (h'.symm.trans hF1)) (fun e M1' h' => by
      obtain ⟨he, hR⟩ := lR_E hc hA (h'.symm.trans hF1)
      simp only [List.mem_cons, List.not_mem_nil, or_false, Prod.mk.injEq] at he
      rcases he with ⟨rfl, rfl⟩ | ⟨rfl, rfl⟩
      · exact Or.inl ⟨rfl, hR⟩
      · exact Or.inr (⟨rfl, hR⟩))) q699 q700 q41 q701 hd_X0_card rfl (Nat.le_of_ble_eq_true rfl) ⟨Nat.le_of_ble_eq_true rfl, Nat.le_of_ble_eq_true rfl⟩ ⟨Nat.le_refl _, Nat.le_refl _, by show _ ≤ 603072; omega, by show _ ≤ 7190634; omega⟩ dL_law_518 (fun kc M2 hR hW2 => ?_)
  obtain ⟨hkc, hoff, hk2, A', hA', hr⟩ := hR
  obtain ⟨v, M3, hF2, hL3, ho3, hth, hv⟩ := hS M2 hoff hk2 hW2 ⟨A', hA'⟩
  obtain ⟨fs2, hm⟩ := hm
  have hm2 : M2.1 mo = some (.inr (1, fs2)) := by rw [hoff mo hmo]; exact hm
  refine jj_istore (L' := [(5, jI kc), (0, jR (some b)), (1, jR (some z)), (2, jR (some mo)), (3, jR (some ao)), (4, jI i)]) C rfl (by rw [hn]; decide) dL_law_521 ?_
  refine jj_aload_n C 3 rfl dL_law_523 rfl ?_
  refine jj_aload_n C 1 rfl dL_law_524 rfl ?_
  refine jj_iload C 5 rfl dL_law_525 ?_
  refine jj_iconst (v := 1) C dL_law_527 (by decide) ?_
  refine jj_iadd C dL_law_528 ?_
  refine jj_sld C hX hbl hbA (hin 1 (by decide) (by decide)) dL_law_529 ?_
  refine jj_aload_n C 1 rfl dL_law_530 rfl ?_
  refine jj_iload C 5 rfl dL_law_531 ?_
  refine jj_iconst (v := 2) C dL_law_533 (by decide) ?_
  refine jj_iadd C dL_law_534 ?_
  refine jj_sld C hX hbl hbA (hin 2 (by decide) (by decide)) dL_law_535 ?_
  refine jj_callV (k' := k + 2) (n' := n + 12) C [jI (q (i + 1).toNatClampNeg), jI (q (i + 2).toNatClampNeg)] [] [jI v] rfl (m_X2_card _ _ hF2) hm2 rfl q1410 q1411 q1412 q46 q1413 ⟨rfl, hd_X2_card⟩ rfl (Nat.le_of_ble_eq_true rfl) ⟨Nat.le_of_ble_eq_true rfl, Nat.le_of_ble_eq_true rfl⟩ ⟨by show _ + 0 ≤ _; omega, by show _ + 0 ≤ _; omega, by show _ ≤ 603072; omega, by show _ ≤ 7190634; omega⟩ dL_law_536 rfl ?_
  exact law_tail (k' := k + 200) (n' := n + 5000) C rfl hn hc (by decide) hkc dL_law_539 dL_law_541 dL_law_542 dL_law_545 dL_law_547 dL_law_552 dL_law_554 dL_law_557 dL_law_558 dL_law_559 dL_law_560 dL_law_562 dL_law_563 dL_law_564 dL_law_569 (by decide) (hLm M3 hL3) hth ⟨A', by rw [ho3]; exact hA', fun r h' => by rw [hr r h', hv r h']⟩ (by omega) hk (by omega) hs (h M3 hL3)
set_option maxHeartbeats 4000000 in
theorem law_c6 {x : jX} {rt : Option FieldType} {M : jW} {k n : Nat} (C : jOk x cL_law "PhrasehallLaw" room_1 rt) (hn : xn x = 7) (hfl : (xl x).stackTraces = false) {LI : jW → Prop} {z mo ao b Ln : Nat} {q : Nat → Int32} {i : Int32} (hX : va_X b Ln q (xs x) (xs x).heap) (hbl : b < (xs x).heap.size) (hbA : b < gz (xg x)) (hin : ∀ c : Int32, 0 ≤ c → c ≤ 5 → vp_in (i + c) Ln) (hmo : mo ≠ ao) (hLz : ∀ M, LI M → ∃ fs, M.1 z = some (.inr (0, fs))) (hLm : ∀ M, LI M → ∃ fs, M.1 mo = some (.inr (1, fs))) (hLI : LI M) (S : lSim LI mo ao (fun M => f_X1_clock (some z) (q (i + 1).toNatClampNeg) M) (fun M => f_X2_clock (some mo) (q (i + 1).toNatClampNeg) M) [(2, 1), (3, 2)]) (hk : k + 200 ≤ 603072) (hs : n + 5000 ≤ 7190634) (h : ∀ M', LI M' → jJ x 23 [(0, jR (some b)), (1, jR (some z)), (2, jR (some mo)), (3, jR (some ao)), (4, jI (i + 6))] [] M' (k + 200) (n + 5000)) : jJ x 572 [(0, jR (some b)), (1, jR (some z)), (2, jR (some mo)), (3, jR (some ao)), (4, jI i)] [] M k n := by
  refine jj_lt (fun hW => ?_)
  obtain ⟨res, M1, c, hF1, hc, hA, hm, hS⟩ := S M hLI hW
  obtain ⟨fs, hz⟩ := hLz M hLI
  refine jj_aload_n C 1 rfl dL_law_572 rfl ?_
  refine jj_aload_n C 0 rfl dL_law_573 rfl ?_
  refine jj_iload C 4 rfl dL_law_574 ?_
  refine jj_iconst (v := 1) C dL_law_576 (by decide) ?_
  refine jj_iadd C dL_law_577 ?_
  refine jj_sld C hX hbl hbA (hin 1 (by decide) (by decide)) dL_law_578 ?_
  refine jj_aload_n C 3 rfl dL_law_579 rfl ?_
  refine jj_callN (k' := k + 2) (n' := n + 12) C [jR (some z), jI (q (i + 1).toNatClampNeg), jR (some ao)] [] (n_X0_clock _ _ hfl rfl hz ⟨_, hF1⟩ (R := lR M1 ao c res) (fun r M1' h' => lR_I hc hA (h'.symm.trans hF1)) (fun e M1' h' => by
      obtain ⟨he, hR⟩ := lR_E hc hA (h'.symm.trans hF1)
      simp only [List.mem_cons, List.not_mem_nil, or_false, Prod.mk.injEq] at he
      rcases he with ⟨rfl, rfl⟩ | ⟨rfl, rfl⟩
      · exact Or.inl ⟨rfl, hR⟩
      · exact Or.inr (⟨rfl, hR⟩))) q711 q712 q41 q713 hd_X0_clock rfl (Nat.le_of_ble_eq_true rfl) ⟨Nat.le_of_ble_eq_true rfl, Nat.le_of_ble_eq_true rfl⟩ ⟨Nat.le_refl _, Nat.le_refl _, by show _ ≤ 603072; omega, by show _ ≤ 7190634; omega⟩ dL_law_580 (fun kc M2 hR hW2 => ?_)
  obtain ⟨hkc, hoff, hk2, A', hA', hr⟩ := hR
  obtain ⟨v, M3, hF2, hL3, ho3, hth, hv⟩ := hS M2 hoff hk2 hW2 ⟨A', hA'⟩
  obtain ⟨fs2, hm⟩ := hm
  have hm2 : M2.1 mo = some (.inr (1, fs2)) := by rw [hoff mo hmo]; exact hm
  refine jj_istore (L' := [(5, jI kc), (0, jR (some b)), (1, jR (some z)), (2, jR (some mo)), (3, jR (some ao)), (4, jI i)]) C rfl (by rw [hn]; decide) dL_law_583 ?_
  refine jj_aload_n C 3 rfl dL_law_585 rfl ?_
  refine jj_aload_n C 1 rfl dL_law_586 rfl ?_
  refine jj_iload C 5 rfl dL_law_587 ?_
  refine jj_iconst (v := 1) C dL_law_589 (by decide) ?_
  refine jj_iadd C dL_law_590 ?_
  refine jj_sld C hX hbl hbA (hin 1 (by decide) (by decide)) dL_law_591 ?_
  refine jj_callV (k' := k + 2) (n' := n + 12) C [jI (q (i + 1).toNatClampNeg)] [] [jI v] rfl (m_X2_clock _ _ hF2) hm2 rfl q1414 q1415 q1416 q46 q1417 ⟨rfl, hd_X2_clock⟩ rfl (Nat.le_of_ble_eq_true rfl) ⟨Nat.le_of_ble_eq_true rfl, Nat.le_of_ble_eq_true rfl⟩ ⟨by show _ + 0 ≤ _; omega, by show _ + 0 ≤ _; omega, by show _ ≤ 603072; omega, by show _ ≤ 7190634; omega⟩ dL_law_592 rfl ?_
  exact law_tail (k' := k + 200) (n' := n + 5000) C rfl hn hc (by decide) hkc dL_law_595 dL_law_597 dL_law_598 dL_law_601 dL_law_603 dL_law_608 dL_law_610 dL_law_613 dL_law_614 dL_law_615 dL_law_616 dL_law_618 dL_law_619 dL_law_620 dL_law_625 (by decide) (hLm M3 hL3) hth ⟨A', by rw [ho3]; exact hA', fun r h' => by rw [hr r h', hv r h']⟩ (by omega) hk (by omega) hs (h M3 hL3)
set_option maxHeartbeats 4000000 in
theorem law_c7 {x : jX} {rt : Option FieldType} {M : jW} {k n : Nat} (C : jOk x cL_law "PhrasehallLaw" room_1 rt) (hn : xn x = 7) (hfl : (xl x).stackTraces = false) {LI : jW → Prop} {z mo ao b Ln : Nat} {q : Nat → Int32} {i : Int32} (hX : va_X b Ln q (xs x) (xs x).heap) (hbl : b < (xs x).heap.size) (hbA : b < gz (xg x)) (hin : ∀ c : Int32, 0 ≤ c → c ≤ 5 → vp_in (i + c) Ln) (hmo : mo ≠ ao) (hLz : ∀ M, LI M → ∃ fs, M.1 z = some (.inr (0, fs))) (hLm : ∀ M, LI M → ∃ fs, M.1 mo = some (.inr (1, fs))) (hLI : LI M) (S : lSim LI mo ao (fun M => f_X1_end (some z)  M) (fun M => f_X2_end (some mo)  M) [(3, 1)]) (hk : k + 200 ≤ 603072) (hs : n + 5000 ≤ 7190634) (h : ∀ M', LI M' → jJ x 23 [(0, jR (some b)), (1, jR (some z)), (2, jR (some mo)), (3, jR (some ao)), (4, jI (i + 6))] [] M' (k + 200) (n + 5000)) : jJ x 628 [(0, jR (some b)), (1, jR (some z)), (2, jR (some mo)), (3, jR (some ao)), (4, jI i)] [] M k n := by
  refine jj_lt (fun hW => ?_)
  obtain ⟨res, M1, c, hF1, hc, hA, hm, hS⟩ := S M hLI hW
  obtain ⟨fs, hz⟩ := hLz M hLI
  refine jj_aload_n C 1 rfl dL_law_628 rfl ?_
  refine jj_aload_n C 3 rfl dL_law_629 rfl ?_
  refine jj_callN (k' := k + 1) (n' := n + 6) C [jR (some z), jR (some ao)] [] (n_X0_end _ _ hfl rfl hz ⟨_, hF1⟩ (R := lR M1 ao c res) (fun r M1' h' => lR_I hc hA (h'.symm.trans hF1)) (fun e M1' h' => by
      obtain ⟨he, hR⟩ := lR_E hc hA (h'.symm.trans hF1)
      simp only [List.mem_cons, List.not_mem_nil, or_false, Prod.mk.injEq] at he
      obtain ⟨rfl, rfl⟩ := he; exact ⟨rfl, hR⟩)) q739 q740 q41 q741 hd_X0_end rfl (Nat.le_of_ble_eq_true rfl) ⟨Nat.le_of_ble_eq_true rfl, Nat.le_of_ble_eq_true rfl⟩ ⟨Nat.le_refl _, Nat.le_refl _, by show _ ≤ 603072; omega, by show _ ≤ 7190634; omega⟩ dL_law_630 (fun kc M2 hR hW2 => ?_)
  obtain ⟨hkc, hoff, hk2, A', hA', hr⟩ := hR
  obtain ⟨v, M3, hF2, hL3, ho3, hth, hv⟩ := hS M2 hoff hk2 hW2 ⟨A', hA'⟩
  obtain ⟨fs2, hm⟩ := hm
  have hm2 : M2.1 mo = some (.inr (1, fs2)) := by rw [hoff mo hmo]; exact hm
  refine jj_istore (L' := [(5, jI kc), (0, jR (some b)), (1, jR (some z)), (2, jR (some mo)), (3, jR (some ao)), (4, jI i)]) C rfl (by rw [hn]; decide) dL_law_633 ?_
  refine jj_aload_n C 3 rfl dL_law_635 rfl ?_
  refine jj_callV (k' := k + 1) (n' := n + 6) C [] [] [jI v] rfl (m_X2_end _ _ hF2) hm2 rfl q1430 q1431 q1432 q46 q1433 ⟨rfl, hd_X2_end⟩ rfl (Nat.le_of_ble_eq_true rfl) ⟨Nat.le_of_ble_eq_true rfl, Nat.le_of_ble_eq_true rfl⟩ ⟨by show _ + 0 ≤ _; omega, by show _ + 0 ≤ _; omega, by show _ ≤ 603072; omega, by show _ ≤ 7190634; omega⟩ dL_law_636 rfl ?_
  exact law_tail (k' := k + 200) (n' := n + 5000) C rfl hn hc (by decide) hkc dL_law_639 dL_law_641 dL_law_642 dL_law_645 dL_law_647 dL_law_652 dL_law_654 dL_law_657 dL_law_658 dL_law_659 dL_law_660 dL_law_662 dL_law_663 dL_law_664 dL_law_669 (by decide) (hLm M3 hL3) hth ⟨A', by rw [ho3]; exact hA', fun r h' => by rw [hr r h', hv r h']⟩ (by omega) hk (by omega) hs (h M3 hL3)
set_option maxHeartbeats 4000000 in
theorem law_c8 {x : jX} {rt : Option FieldType} {M : jW} {k n : Nat} (C : jOk x cL_law "PhrasehallLaw" room_1 rt) (hn : xn x = 7) (hfl : (xl x).stackTraces = false) {LI : jW → Prop} {z mo ao b Ln : Nat} {q : Nat → Int32} {i : Int32} (hX : va_X b Ln q (xs x) (xs x).heap) (hbl : b < (xs x).heap.size) (hbA : b < gz (xg x)) (hin : ∀ c : Int32, 0 ≤ c → c ≤ 5 → vp_in (i + c) Ln) (hmo : mo ≠ ao) (hLz : ∀ M, LI M → ∃ fs, M.1 z = some (.inr (0, fs))) (hLm : ∀ M, LI M → ∃ fs, M.1 mo = some (.inr (1, fs))) (hLI : LI M) (S : lSim LI mo ao (fun M => f_X1_seed (some z) (q (i + 1).toNatClampNeg) M) (fun M => f_X2_seed (some mo) (q (i + 1).toNatClampNeg) M) [(2, 1)]) (hk : k + 200 ≤ 603072) (hs : n + 5000 ≤ 7190634) (h : ∀ M', LI M' → jJ x 23 [(0, jR (some b)), (1, jR (some z)), (2, jR (some mo)), (3, jR (some ao)), (4, jI (i + 6))] [] M' (k + 200) (n + 5000)) : jJ x 672 [(0, jR (some b)), (1, jR (some z)), (2, jR (some mo)), (3, jR (some ao)), (4, jI i)] [] M k n := by
  refine jj_lt (fun hW => ?_)
  obtain ⟨res, M1, c, hF1, hc, hA, hm, hS⟩ := S M hLI hW
  obtain ⟨fs, hz⟩ := hLz M hLI
  refine jj_aload_n C 1 rfl dL_law_672 rfl ?_
  refine jj_aload_n C 0 rfl dL_law_673 rfl ?_
  refine jj_iload C 4 rfl dL_law_674 ?_
  refine jj_iconst (v := 1) C dL_law_676 (by decide) ?_
  refine jj_iadd C dL_law_677 ?_
  refine jj_sld C hX hbl hbA (hin 1 (by decide) (by decide)) dL_law_678 ?_
  refine jj_callN (k' := k + 1) (n' := n + 6) C [jR (some z), jI (q (i + 1).toNatClampNeg)] [] (n_X0_seed _ _ hfl rfl hz ⟨_, hF1⟩ (R := lRU M1 c) (fun r M1' h' => lRU_I hc (h'.symm.trans hF1)) (fun e M1' h' => by
      obtain ⟨he, hR⟩ := lRU_E hc (h'.symm.trans hF1)
      simp only [List.mem_cons, List.not_mem_nil, or_false, Prod.mk.injEq] at he
      obtain ⟨rfl, rfl⟩ := he; exact ⟨rfl, hR⟩)) q748 q749 q41 q750 hd_X0_seed rfl (Nat.le_of_ble_eq_true rfl) ⟨Nat.le_of_ble_eq_true rfl, Nat.le_of_ble_eq_true rfl⟩ ⟨Nat.le_refl _, Nat.le_refl _, by show _ ≤ 603072; omega, by show _ ≤ 7190634; omega⟩ dL_law_679 (fun kc M2 hR hW2 => ?_)
  obtain ⟨hkc, hoff, hk2⟩ := hR
  obtain ⟨v, M3, hF2, hL3, ho3, hth, hv⟩ := hS M2 (fun q _ => by rw [hoff]) hk2 hW2 (by rw [hoff]; exact hA)
  obtain ⟨fs2, hm⟩ := hm
  have hm2 : M2.1 mo = some (.inr (1, fs2)) := by rw [hoff]; exact hm
  refine jj_istore (L' := [(5, jI kc), (0, jR (some b)), (1, jR (some z)), (2, jR (some mo)), (3, jR (some ao)), (4, jI i)]) C rfl (by rw [hn]; decide) dL_law_682 ?_
  refine jj_aload_n C 3 rfl dL_law_684 rfl ?_
  refine jj_aload_n C 1 rfl dL_law_685 rfl ?_
  refine jj_iload C 5 rfl dL_law_686 ?_
  refine jj_iconst (v := 1) C dL_law_688 (by decide) ?_
  refine jj_iadd C dL_law_689 ?_
  refine jj_sld C hX hbl hbA (hin 1 (by decide) (by decide)) dL_law_690 ?_
  refine jj_callV (k' := k + 1) (n' := n + 6) C [jI (q (i + 1).toNatClampNeg)] [] [] rfl (m_X2_seed _ _ hF2) hm2 rfl q1434 q1435 q1436 q46 q1437 ⟨rfl, hd_X2_seed⟩ rfl (Nat.le_of_ble_eq_true rfl) ⟨Nat.le_of_ble_eq_true rfl, Nat.le_of_ble_eq_true rfl⟩ ⟨by show _ + 0 ≤ _; omega, by show _ + 0 ≤ _; omega, by show _ ≤ 603072; omega, by show _ ≤ 7190634; omega⟩ dL_law_691 rfl ?_
  refine jj_aload_n C 3 rfl dL_law_694 rfl ?_
  obtain ⟨fs3, hm3⟩ := hLm M3 hL3
  refine jj_callV (k' := k + 200) (n' := n + 5000) C [] [] [jI c] rfl (m_X2_thrown _ _ hth) hm3 rfl q1330 q1331 q1332 q46 q1333 ⟨rfl, hd_X2_thrown⟩ rfl (Nat.le_of_ble_eq_true rfl) ⟨Nat.le_of_ble_eq_true rfl, Nat.le_of_ble_eq_true rfl⟩ ⟨by show _ + 0 ≤ _; omega, by show _ + 0 ≤ _; omega, by show _ ≤ 603072; omega, by show _ ≤ 7190634; omega⟩ dL_law_695 rfl ?_
  refine jj_iload C 0 rfl dL_law_698 ?_
  refine jj_ifT (tgt := 705) C dL_law_700 (by decide) hkc.symm ?_
  refine jj_goto (tgt := 1426) C dL_law_705 (by decide) ?_
  exact law_next C [1, 2, 3, 4, 5] rfl hn (h M3 hL3)
set_option maxHeartbeats 4000000 in
theorem law_c9 {x : jX} {rt : Option FieldType} {M : jW} {k n : Nat} (C : jOk x cL_law "PhrasehallLaw" room_1 rt) (hn : xn x = 7) (hfl : (xl x).stackTraces = false) {LI : jW → Prop} {z mo ao b Ln : Nat} {q : Nat → Int32} {i : Int32} (hX : va_X b Ln q (xs x) (xs x).heap) (hbl : b < (xs x).heap.size) (hbA : b < gz (xg x)) (hin : ∀ c : Int32, 0 ≤ c → c ≤ 5 → vp_in (i + c) Ln) (hmo : mo ≠ ao) (hLz : ∀ M, LI M → ∃ fs, M.1 z = some (.inr (0, fs))) (hLm : ∀ M, LI M → ∃ fs, M.1 mo = some (.inr (1, fs))) (hLI : LI M) (S : lSim LI mo ao (fun M => f_X1_pool (some z) (q (i + 1).toNatClampNeg) M) (fun M => f_X2_pool (some mo) (q (i + 1).toNatClampNeg) M) [(2, 1), (3, 2)]) (hk : k + 200 ≤ 603072) (hs : n + 5000 ≤ 7190634) (h : ∀ M', LI M' → jJ x 23 [(0, jR (some b)), (1, jR (some z)), (2, jR (some mo)), (3, jR (some ao)), (4, jI (i + 6))] [] M' (k + 200) (n + 5000)) : jJ x 708 [(0, jR (some b)), (1, jR (some z)), (2, jR (some mo)), (3, jR (some ao)), (4, jI i)] [] M k n := by
  refine jj_lt (fun hW => ?_)
  obtain ⟨res, M1, c, hF1, hc, hA, hm, hS⟩ := S M hLI hW
  obtain ⟨fs, hz⟩ := hLz M hLI
  refine jj_aload_n C 1 rfl dL_law_708 rfl ?_
  refine jj_aload_n C 0 rfl dL_law_709 rfl ?_
  refine jj_iload C 4 rfl dL_law_710 ?_
  refine jj_iconst (v := 1) C dL_law_712 (by decide) ?_
  refine jj_iadd C dL_law_713 ?_
  refine jj_sld C hX hbl hbA (hin 1 (by decide) (by decide)) dL_law_714 ?_
  refine jj_aload_n C 3 rfl dL_law_715 rfl ?_
  refine jj_callN (k' := k + 18) (n' := n + 219) C [jR (some z), jI (q (i + 1).toNatClampNeg), jR (some ao)] [] (n_X0_pool _ _ hfl rfl hz ⟨_, hF1⟩ (R := lR M1 ao c res) (fun r M1' h' => lR_I hc hA (h'.symm.trans hF1)) (fun e M1' h' => by
      obtain ⟨he, hR⟩ := lR_E hc hA (h'.symm.trans hF1)
      simp only [List.mem_cons, List.not_mem_nil, or_false, Prod.mk.injEq] at he
      rcases he with ⟨rfl, rfl⟩ | ⟨rfl, rfl⟩
      · exact Or.inl ⟨rfl, hR⟩
      · exact Or.inr (⟨rfl, hR⟩))) q755 q756 q41 q757 hd_X0_pool rfl (Nat.le_of_ble_eq_true rfl) ⟨Nat.le_of_ble_eq_true rfl, Nat.le_of_ble_eq_true rfl⟩ ⟨Nat.le_refl _, Nat.le_refl _, by show _ ≤ 603072; omega, by show _ ≤ 7190634; omega⟩ dL_law_716 (fun kc M2 hR hW2 => ?_)
  obtain ⟨hkc, hoff, hk2, A', hA', hr⟩ := hR
  obtain ⟨v, M3, hF2, hL3, ho3, hth, hv⟩ := hS M2 hoff hk2 hW2 ⟨A', hA'⟩
  obtain ⟨fs2, hm⟩ := hm
  have hm2 : M2.1 mo = some (.inr (1, fs2)) := by rw [hoff mo hmo]; exact hm
  refine jj_istore (L' := [(5, jI kc), (0, jR (some b)), (1, jR (some z)), (2, jR (some mo)), (3, jR (some ao)), (4, jI i)]) C rfl (by rw [hn]; decide) dL_law_719 ?_
  refine jj_aload_n C 3 rfl dL_law_721 rfl ?_
  refine jj_aload_n C 1 rfl dL_law_722 rfl ?_
  refine jj_iload C 5 rfl dL_law_723 ?_
  refine jj_iconst (v := 1) C dL_law_725 (by decide) ?_
  refine jj_iadd C dL_law_726 ?_
  refine jj_sld C hX hbl hbA (hin 1 (by decide) (by decide)) dL_law_727 ?_
  refine jj_callV (k' := k + 18) (n' := n + 219) C [jI (q (i + 1).toNatClampNeg)] [] [jI v] rfl (m_X2_pool _ _ hF2) hm2 rfl q1438 q1439 q1440 q46 q1441 ⟨rfl, hd_X2_pool⟩ rfl (Nat.le_of_ble_eq_true rfl) ⟨Nat.le_of_ble_eq_true rfl, Nat.le_of_ble_eq_true rfl⟩ ⟨by show _ + 0 ≤ _; omega, by show _ + 0 ≤ _; omega, by show _ ≤ 603072; omega, by show _ ≤ 7190634; omega⟩ dL_law_728 rfl ?_
  exact law_tail (k' := k + 200) (n' := n + 5000) C rfl hn hc (by decide) hkc dL_law_731 dL_law_733 dL_law_734 dL_law_737 dL_law_739 dL_law_744 dL_law_746 dL_law_749 dL_law_750 dL_law_751 dL_law_752 dL_law_754 dL_law_755 dL_law_756 dL_law_761 (by decide) (hLm M3 hL3) hth ⟨A', by rw [ho3]; exact hA', fun r h' => by rw [hr r h', hv r h']⟩ (by omega) hk (by omega) hs (h M3 hL3)
set_option maxHeartbeats 4000000 in
theorem law_c10 {x : jX} {rt : Option FieldType} {M : jW} {k n : Nat} (C : jOk x cL_law "PhrasehallLaw" room_1 rt) (hn : xn x = 7) (hfl : (xl x).stackTraces = false) {LI : jW → Prop} {z mo ao b Ln : Nat} {q : Nat → Int32} {i : Int32} (hX : va_X b Ln q (xs x) (xs x).heap) (hbl : b < (xs x).heap.size) (hbA : b < gz (xg x)) (hin : ∀ c : Int32, 0 ≤ c → c ≤ 5 → vp_in (i + c) Ln) (hmo : mo ≠ ao) (hLz : ∀ M, LI M → ∃ fs, M.1 z = some (.inr (0, fs))) (hLm : ∀ M, LI M → ∃ fs, M.1 mo = some (.inr (1, fs))) (hLI : LI M) (S : lSim LI mo ao (fun M => f_X1_withdraw (some z) (q (i + 1).toNatClampNeg) (q (i + 2).toNatClampNeg) M) (fun M => f_X2_withdraw (some mo) (q (i + 1).toNatClampNeg) (q (i + 2).toNatClampNeg) M) [(1, 1), (3, 2)]) (hk : k + 200 ≤ 603072) (hs : n + 5000 ≤ 7190634) (h : ∀ M', LI M' → jJ x 23 [(0, jR (some b)), (1, jR (some z)), (2, jR (some mo)), (3, jR (some ao)), (4, jI (i + 6))] [] M' (k + 200) (n + 5000)) : jJ x 764 [(0, jR (some b)), (1, jR (some z)), (2, jR (some mo)), (3, jR (some ao)), (4, jI i)] [] M k n := by
  refine jj_lt (fun hW => ?_)
  obtain ⟨res, M1, c, hF1, hc, hA, hm, hS⟩ := S M hLI hW
  obtain ⟨fs, hz⟩ := hLz M hLI
  refine jj_aload_n C 1 rfl dL_law_764 rfl ?_
  refine jj_aload_n C 0 rfl dL_law_765 rfl ?_
  refine jj_iload C 4 rfl dL_law_766 ?_
  refine jj_iconst (v := 1) C dL_law_768 (by decide) ?_
  refine jj_iadd C dL_law_769 ?_
  refine jj_sld C hX hbl hbA (hin 1 (by decide) (by decide)) dL_law_770 ?_
  refine jj_aload_n C 0 rfl dL_law_771 rfl ?_
  refine jj_iload C 4 rfl dL_law_772 ?_
  refine jj_iconst (v := 2) C dL_law_774 (by decide) ?_
  refine jj_iadd C dL_law_775 ?_
  refine jj_sld C hX hbl hbA (hin 2 (by decide) (by decide)) dL_law_776 ?_
  refine jj_aload_n C 3 rfl dL_law_777 rfl ?_
  refine jj_callN (k' := k + 4) (n' := n + 22) C [jR (some z), jI (q (i + 1).toNatClampNeg), jI (q (i + 2).toNatClampNeg), jR (some ao)] [] (n_X0_withdraw _ _ hfl rfl hz ⟨_, hF1⟩ (R := lR M1 ao c res) (fun r M1' h' => lR_I hc hA (h'.symm.trans hF1)) (fun e M1' h' => by
      obtain ⟨he, hR⟩ := lR_E hc hA (h'.symm.trans hF1)
      simp only [List.mem_cons, List.not_mem_nil, or_false, Prod.mk.injEq] at he
      rcases he with ⟨rfl, rfl⟩ | ⟨rfl, rfl⟩
      · exact Or.inl ⟨rfl, hR⟩
      · exact Or.inr (⟨rfl, hR⟩))) q809 q810 q41 q811 hd_X0_withdraw rfl (Nat.le_of_ble_eq_true rfl) ⟨Nat.le_of_ble_eq_true rfl, Nat.le_of_ble_eq_true rfl⟩ ⟨Nat.le_refl _, Nat.le_refl _, by show _ ≤ 603072; omega, by show _ ≤ 7190634; omega⟩ dL_law_778 (fun kc M2 hR hW2 => ?_)
  obtain ⟨hkc, hoff, hk2, A', hA', hr⟩ := hR
  obtain ⟨v, M3, hF2, hL3, ho3, hth, hv⟩ := hS M2 hoff hk2 hW2 ⟨A', hA'⟩
  obtain ⟨fs2, hm⟩ := hm
  have hm2 : M2.1 mo = some (.inr (1, fs2)) := by rw [hoff mo hmo]; exact hm
  refine jj_istore (L' := [(5, jI kc), (0, jR (some b)), (1, jR (some z)), (2, jR (some mo)), (3, jR (some ao)), (4, jI i)]) C rfl (by rw [hn]; decide) dL_law_781 ?_
  refine jj_aload_n C 3 rfl dL_law_783 rfl ?_
  refine jj_aload_n C 1 rfl dL_law_784 rfl ?_
  refine jj_iload C 5 rfl dL_law_785 ?_
  refine jj_iconst (v := 1) C dL_law_787 (by decide) ?_
  refine jj_iadd C dL_law_788 ?_
  refine jj_sld C hX hbl hbA (hin 1 (by decide) (by decide)) dL_law_789 ?_
  refine jj_aload_n C 1 rfl dL_law_790 rfl ?_
  refine jj_iload C 5 rfl dL_law_791 ?_
  refine jj_iconst (v := 2) C dL_law_793 (by decide) ?_
  refine jj_iadd C dL_law_794 ?_
  refine jj_sld C hX hbl hbA (hin 2 (by decide) (by decide)) dL_law_795 ?_
  refine jj_callV (k' := k + 4) (n' := n + 22) C [jI (q (i + 1).toNatClampNeg), jI (q (i + 2).toNatClampNeg)] [] [jI v] rfl (m_X2_withdraw _ _ hF2) hm2 rfl q1445 q1446 q1447 q46 q1448 ⟨rfl, hd_X2_withdraw⟩ rfl (Nat.le_of_ble_eq_true rfl) ⟨Nat.le_of_ble_eq_true rfl, Nat.le_of_ble_eq_true rfl⟩ ⟨by show _ + 0 ≤ _; omega, by show _ + 0 ≤ _; omega, by show _ ≤ 603072; omega, by show _ ≤ 7190634; omega⟩ dL_law_796 rfl ?_
  exact law_tail (k' := k + 200) (n' := n + 5000) C rfl hn hc (by decide) hkc dL_law_799 dL_law_801 dL_law_802 dL_law_805 dL_law_807 dL_law_812 dL_law_814 dL_law_817 dL_law_818 dL_law_819 dL_law_820 dL_law_822 dL_law_823 dL_law_824 dL_law_829 (by decide) (hLm M3 hL3) hth ⟨A', by rw [ho3]; exact hA', fun r h' => by rw [hr r h', hv r h']⟩ (by omega) hk (by omega) hs (h M3 hL3)
set_option maxHeartbeats 4000000 in
theorem law_c11 {x : jX} {rt : Option FieldType} {M : jW} {k n : Nat} (C : jOk x cL_law "PhrasehallLaw" room_1 rt) (hn : xn x = 7) (hfl : (xl x).stackTraces = false) {LI : jW → Prop} {z mo ao b Ln : Nat} {q : Nat → Int32} {i : Int32} (hX : va_X b Ln q (xs x) (xs x).heap) (hbl : b < (xs x).heap.size) (hbA : b < gz (xg x)) (hin : ∀ c : Int32, 0 ≤ c → c ≤ 5 → vp_in (i + c) Ln) (hmo : mo ≠ ao) (hLz : ∀ M, LI M → ∃ fs, M.1 z = some (.inr (0, fs))) (hLm : ∀ M, LI M → ∃ fs, M.1 mo = some (.inr (1, fs))) (hLI : LI M) (S : lSim LI mo ao (fun M => f_X1_tableau (some z) (q (i + 1).toNatClampNeg) M) (fun M => f_X2_tableau (some mo) (q (i + 1).toNatClampNeg) M) [(1, 1), (3, 2)]) (hk : k + 200 ≤ 603072) (hs : n + 5000 ≤ 7190634) (h : ∀ M', LI M' → jJ x 23 [(0, jR (some b)), (1, jR (some z)), (2, jR (some mo)), (3, jR (some ao)), (4, jI (i + 6))] [] M' (k + 200) (n + 5000)) : jJ x 832 [(0, jR (some b)), (1, jR (some z)), (2, jR (some mo)), (3, jR (some ao)), (4, jI i)] [] M k n := by
  refine jj_lt (fun hW => ?_)
  obtain ⟨res, M1, c, hF1, hc, hA, hm, hS⟩ := S M hLI hW
  obtain ⟨fs, hz⟩ := hLz M hLI
  refine jj_aload_n C 1 rfl dL_law_832 rfl ?_
  refine jj_aload_n C 0 rfl dL_law_833 rfl ?_
  refine jj_iload C 4 rfl dL_law_834 ?_
  refine jj_iconst (v := 1) C dL_law_836 (by decide) ?_
  refine jj_iadd C dL_law_837 ?_
  refine jj_sld C hX hbl hbA (hin 1 (by decide) (by decide)) dL_law_838 ?_
  refine jj_aload_n C 3 rfl dL_law_839 rfl ?_
  refine jj_callN (k' := k + 36) (n' := n + 2769) C [jR (some z), jI (q (i + 1).toNatClampNeg), jR (some ao)] [] (n_X0_tableau _ _ hfl rfl hz ⟨_, hF1⟩ (R := lR M1 ao c res) (fun r M1' h' => lR_I hc hA (h'.symm.trans hF1)) (fun e M1' h' => by
      obtain ⟨he, hR⟩ := lR_E hc hA (h'.symm.trans hF1)
      simp only [List.mem_cons, List.not_mem_nil, or_false, Prod.mk.injEq] at he
      rcases he with ⟨rfl, rfl⟩ | ⟨rfl, rfl⟩
      · exact Or.inl ⟨rfl, hR⟩
      · exact Or.inr (⟨rfl, hR⟩))) q871 q872 q41 q873 hd_X0_tableau rfl (Nat.le_of_ble_eq_true rfl) ⟨Nat.le_of_ble_eq_true rfl, Nat.le_of_ble_eq_true rfl⟩ ⟨Nat.le_refl _, Nat.le_refl _, by show _ ≤ 603072; omega, by show _ ≤ 7190634; omega⟩ dL_law_840 (fun kc M2 hR hW2 => ?_)
  obtain ⟨hkc, hoff, hk2, A', hA', hr⟩ := hR
  obtain ⟨v, M3, hF2, hL3, ho3, hth, hv⟩ := hS M2 hoff hk2 hW2 ⟨A', hA'⟩
  obtain ⟨fs2, hm⟩ := hm
  have hm2 : M2.1 mo = some (.inr (1, fs2)) := by rw [hoff mo hmo]; exact hm
  refine jj_istore (L' := [(5, jI kc), (0, jR (some b)), (1, jR (some z)), (2, jR (some mo)), (3, jR (some ao)), (4, jI i)]) C rfl (by rw [hn]; decide) dL_law_843 ?_
  refine jj_aload_n C 3 rfl dL_law_845 rfl ?_
  refine jj_aload_n C 1 rfl dL_law_846 rfl ?_
  refine jj_iload C 5 rfl dL_law_847 ?_
  refine jj_iconst (v := 1) C dL_law_849 (by decide) ?_
  refine jj_iadd C dL_law_850 ?_
  refine jj_sld C hX hbl hbA (hin 1 (by decide) (by decide)) dL_law_851 ?_
  refine jj_callV (k' := k + 36) (n' := n + 2769) C [jI (q (i + 1).toNatClampNeg)] [] [jI v] rfl (m_X2_tableau _ _ hF2) hm2 rfl q1461 q1462 q1463 q46 q1464 ⟨rfl, hd_X2_tableau⟩ rfl (Nat.le_of_ble_eq_true rfl) ⟨Nat.le_of_ble_eq_true rfl, Nat.le_of_ble_eq_true rfl⟩ ⟨by show _ + 0 ≤ _; omega, by show _ + 0 ≤ _; omega, by show _ ≤ 603072; omega, by show _ ≤ 7190634; omega⟩ dL_law_852 rfl ?_
  exact law_tail (k' := k + 200) (n' := n + 5000) C rfl hn hc (by decide) hkc dL_law_855 dL_law_857 dL_law_858 dL_law_861 dL_law_863 dL_law_868 dL_law_870 dL_law_873 dL_law_874 dL_law_875 dL_law_876 dL_law_878 dL_law_879 dL_law_880 dL_law_885 (by decide) (hLm M3 hL3) hth ⟨A', by rw [ho3]; exact hA', fun r h' => by rw [hr r h', hv r h']⟩ (by omega) hk (by omega) hs (h M3 hL3)
set_option maxHeartbeats 4000000 in
theorem law_c12 {x : jX} {rt : Option FieldType} {M : jW} {k n : Nat} (C : jOk x cL_law "PhrasehallLaw" room_1 rt) (hn : xn x = 7) (hfl : (xl x).stackTraces = false) {LI : jW → Prop} {z mo ao b Ln : Nat} {q : Nat → Int32} {i : Int32} (hX : va_X b Ln q (xs x) (xs x).heap) (hbl : b < (xs x).heap.size) (hbA : b < gz (xg x)) (hin : ∀ c : Int32, 0 ≤ c → c ≤ 5 → vp_in (i + c) Ln) (hmo : mo ≠ ao) (hLz : ∀ M, LI M → ∃ fs, M.1 z = some (.inr (0, fs))) (hLm : ∀ M, LI M → ∃ fs, M.1 mo = some (.inr (1, fs))) (hLI : LI M) (S : lSim LI mo ao (fun M => f_X1_wins (some z) (q (i + 1).toNatClampNeg) (q (i + 2).toNatClampNeg) (q (i + 3).toNatClampNeg) M) (fun M => f_X2_wins (some mo) (q (i + 1).toNatClampNeg) (q (i + 2).toNatClampNeg) (q (i + 3).toNatClampNeg) M) [(1, 1), (2, 2), (3, 3)]) (hk : k + 200 ≤ 603072) (hs : n + 5000 ≤ 7190634) (h : ∀ M', LI M' → jJ x 23 [(0, jR (some b)), (1, jR (some z)), (2, jR (some mo)), (3, jR (some ao)), (4, jI (i + 6))] [] M' (k + 200) (n + 5000)) : jJ x 888 [(0, jR (some b)), (1, jR (some z)), (2, jR (some mo)), (3, jR (some ao)), (4, jI i)] [] M k n := by
  refine jj_lt (fun hW => ?_)
  obtain ⟨res, M1, c, hF1, hc, hA, hm, hS⟩ := S M hLI hW
  obtain ⟨fs, hz⟩ := hLz M hLI
  refine jj_aload_n C 1 rfl dL_law_888 rfl ?_
  refine jj_aload_n C 0 rfl dL_law_889 rfl ?_
  refine jj_iload C 4 rfl dL_law_890 ?_
  refine jj_iconst (v := 1) C dL_law_892 (by decide) ?_
  refine jj_iadd C dL_law_893 ?_
  refine jj_sld C hX hbl hbA (hin 1 (by decide) (by decide)) dL_law_894 ?_
  refine jj_aload_n C 0 rfl dL_law_895 rfl ?_
  refine jj_iload C 4 rfl dL_law_896 ?_
  refine jj_iconst (v := 2) C dL_law_898 (by decide) ?_
  refine jj_iadd C dL_law_899 ?_
  refine jj_sld C hX hbl hbA (hin 2 (by decide) (by decide)) dL_law_900 ?_
  refine jj_aload_n C 0 rfl dL_law_901 rfl ?_
  refine jj_iload C 4 rfl dL_law_902 ?_
  refine jj_iconst (v := 3) C dL_law_904 (by decide) ?_
  refine jj_iadd C dL_law_905 ?_
  refine jj_sld C hX hbl hbA (hin 3 (by decide) (by decide)) dL_law_906 ?_
  refine jj_aload_n C 3 rfl dL_law_907 rfl ?_
  refine jj_callN (k' := k + 3) (n' := n + 18) C [jR (some z), jI (q (i + 1).toNatClampNeg), jI (q (i + 2).toNatClampNeg), jI (q (i + 3).toNatClampNeg), jR (some ao)] [] (n_X0_wins _ _ hfl rfl hz ⟨_, hF1⟩ (R := lR M1 ao c res) (fun r M1' h' => lR_I hc hA (h'.symm.trans hF1)) (fun e M1' h' => by
      obtain ⟨he, hR⟩ := lR_E hc hA (h'.symm.trans hF1)
      simp only [List.mem_cons, List.not_mem_nil, or_false, Prod.mk.injEq] at he
      rcases he with ⟨rfl, rfl⟩ | ⟨rfl, rfl⟩ | ⟨rfl, rfl⟩
      · exact Or.inl ⟨rfl, hR⟩
      · exact Or.inr (Or.inl ⟨rfl, hR⟩)
      · exact Or.inr (Or.inr (⟨rfl, hR⟩)))) q1167 q1168 q41 q1169 hd_X0_wins rfl (Nat.le_of_ble_eq_true rfl) ⟨Nat.le_of_ble_eq_true rfl, Nat.le_of_ble_eq_true rfl⟩ ⟨Nat.le_refl _, Nat.le_refl _, by show _ ≤ 603072; omega, by show _ ≤ 7190634; omega⟩ dL_law_908 (fun kc M2 hR hW2 => ?_)
  obtain ⟨hkc, hoff, hk2, A', hA', hr⟩ := hR
  obtain ⟨v, M3, hF2, hL3, ho3, hth, hv⟩ := hS M2 hoff hk2 hW2 ⟨A', hA'⟩
  obtain ⟨fs2, hm⟩ := hm
  have hm2 : M2.1 mo = some (.inr (1, fs2)) := by rw [hoff mo hmo]; exact hm
  refine jj_istore (L' := [(5, jI kc), (0, jR (some b)), (1, jR (some z)), (2, jR (some mo)), (3, jR (some ao)), (4, jI i)]) C rfl (by rw [hn]; decide) dL_law_911 ?_
  refine jj_aload_n C 3 rfl dL_law_913 rfl ?_
  refine jj_aload_n C 1 rfl dL_law_914 rfl ?_
  refine jj_iload C 5 rfl dL_law_915 ?_
  refine jj_iconst (v := 1) C dL_law_917 (by decide) ?_
  refine jj_iadd C dL_law_918 ?_
  refine jj_sld C hX hbl hbA (hin 1 (by decide) (by decide)) dL_law_919 ?_
  refine jj_aload_n C 1 rfl dL_law_920 rfl ?_
  refine jj_iload C 5 rfl dL_law_921 ?_
  refine jj_iconst (v := 2) C dL_law_923 (by decide) ?_
  refine jj_iadd C dL_law_924 ?_
  refine jj_sld C hX hbl hbA (hin 2 (by decide) (by decide)) dL_law_925 ?_
  refine jj_aload_n C 1 rfl dL_law_926 rfl ?_
  refine jj_iload C 5 rfl dL_law_927 ?_
  refine jj_iconst (v := 3) C dL_law_929 (by decide) ?_
  refine jj_iadd C dL_law_930 ?_
  refine jj_sld C hX hbl hbA (hin 3 (by decide) (by decide)) dL_law_931 ?_
  refine jj_callV (k' := k + 3) (n' := n + 18) C [jI (q (i + 1).toNatClampNeg), jI (q (i + 2).toNatClampNeg), jI (q (i + 3).toNatClampNeg)] [] [jI v] rfl (m_X2_wins _ _ hF2) hm2 rfl q1483 q1484 q1485 q46 q1486 ⟨rfl, hd_X2_wins⟩ rfl (Nat.le_of_ble_eq_true rfl) ⟨Nat.le_of_ble_eq_true rfl, Nat.le_of_ble_eq_true rfl⟩ ⟨by show _ + 0 ≤ _; omega, by show _ + 0 ≤ _; omega, by show _ ≤ 603072; omega, by show _ ≤ 7190634; omega⟩ dL_law_932 rfl ?_
  exact law_tail (k' := k + 200) (n' := n + 5000) C rfl hn hc (by decide) hkc dL_law_935 dL_law_937 dL_law_938 dL_law_941 dL_law_943 dL_law_948 dL_law_950 dL_law_953 dL_law_954 dL_law_955 dL_law_956 dL_law_958 dL_law_959 dL_law_960 dL_law_965 (by decide) (hLm M3 hL3) hth ⟨A', by rw [ho3]; exact hA', fun r h' => by rw [hr r h', hv r h']⟩ (by omega) hk (by omega) hs (h M3 hL3)
set_option maxHeartbeats 4000000 in
theorem law_c13 {x : jX} {rt : Option FieldType} {M : jW} {k n : Nat} (C : jOk x cL_law "PhrasehallLaw" room_1 rt) (hn : xn x = 7) (hfl : (xl x).stackTraces = false) {LI : jW → Prop} {z mo ao b Ln : Nat} {q : Nat → Int32} {i : Int32} (hX : va_X b Ln q (xs x) (xs x).heap) (hbl : b < (xs x).heap.size) (hbA : b < gz (xg x)) (hin : ∀ c : Int32, 0 ≤ c → c ≤ 5 → vp_in (i + c) Ln) (hmo : mo ≠ ao) (hLz : ∀ M, LI M → ∃ fs, M.1 z = some (.inr (0, fs))) (hLm : ∀ M, LI M → ∃ fs, M.1 mo = some (.inr (1, fs))) (hLI : LI M) (S : lSim LI mo ao (fun M => f_X1_lamp (some z) (q (i + 1).toNatClampNeg) M) (fun M => f_X2_lamp (some mo) (q (i + 1).toNatClampNeg) M) [(2, 1)]) (hk : k + 200 ≤ 603072) (hs : n + 5000 ≤ 7190634) (h : ∀ M', LI M' → jJ x 23 [(0, jR (some b)), (1, jR (some z)), (2, jR (some mo)), (3, jR (some ao)), (4, jI (i + 6))] [] M' (k + 200) (n + 5000)) : jJ x 968 [(0, jR (some b)), (1, jR (some z)), (2, jR (some mo)), (3, jR (some ao)), (4, jI i)] [] M k n := by
  refine jj_lt (fun hW => ?_)
  obtain ⟨res, M1, c, hF1, hc, hA, hm, hS⟩ := S M hLI hW
  obtain ⟨fs, hz⟩ := hLz M hLI
  refine jj_aload_n C 1 rfl dL_law_968 rfl ?_
  refine jj_aload_n C 0 rfl dL_law_969 rfl ?_
  refine jj_iload C 4 rfl dL_law_970 ?_
  refine jj_iconst (v := 1) C dL_law_972 (by decide) ?_
  refine jj_iadd C dL_law_973 ?_
  refine jj_sld C hX hbl hbA (hin 1 (by decide) (by decide)) dL_law_974 ?_
  refine jj_aload_n C 3 rfl dL_law_975 rfl ?_
  refine jj_callN (k' := k + 1) (n' := n + 6) C [jR (some z), jI (q (i + 1).toNatClampNeg), jR (some ao)] [] (n_X0_lamp _ _ hfl rfl hz ⟨_, hF1⟩ (R := lR M1 ao c res) (fun r M1' h' => lR_I hc hA (h'.symm.trans hF1)) (fun e M1' h' => by
      obtain ⟨he, hR⟩ := lR_E hc hA (h'.symm.trans hF1)
      simp only [List.mem_cons, List.not_mem_nil, or_false, Prod.mk.injEq] at he
      obtain ⟨rfl, rfl⟩ := he; exact ⟨rfl, hR⟩)) q1178 q1179 q41 q1180 hd_X0_lamp rfl (Nat.le_of_ble_eq_true rfl) ⟨Nat.le_of_ble_eq_true rfl, Nat.le_of_ble_eq_true rfl⟩ ⟨Nat.le_refl _, Nat.le_refl _, by show _ ≤ 603072; omega, by show _ ≤ 7190634; omega⟩ dL_law_976 (fun kc M2 hR hW2 => ?_)
  obtain ⟨hkc, hoff, hk2, A', hA', hr⟩ := hR
  obtain ⟨v, M3, hF2, hL3, ho3, hth, hv⟩ := hS M2 hoff hk2 hW2 ⟨A', hA'⟩
  obtain ⟨fs2, hm⟩ := hm
  have hm2 : M2.1 mo = some (.inr (1, fs2)) := by rw [hoff mo hmo]; exact hm
  refine jj_istore (L' := [(5, jI kc), (0, jR (some b)), (1, jR (some z)), (2, jR (some mo)), (3, jR (some ao)), (4, jI i)]) C rfl (by rw [hn]; decide) dL_law_979 ?_
  refine jj_aload_n C 3 rfl dL_law_981 rfl ?_
  refine jj_aload_n C 1 rfl dL_law_982 rfl ?_
  refine jj_iload C 5 rfl dL_law_983 ?_
  refine jj_iconst (v := 1) C dL_law_985 (by decide) ?_
  refine jj_iadd C dL_law_986 ?_
  refine jj_sld C hX hbl hbA (hin 1 (by decide) (by decide)) dL_law_987 ?_
  refine jj_callV (k' := k + 1) (n' := n + 6) C [jI (q (i + 1).toNatClampNeg)] [] [jI v] rfl (m_X2_lamp _ _ hF2) hm2 rfl q1491 q1492 q1493 q46 q1494 ⟨rfl, hd_X2_lamp⟩ rfl (Nat.le_of_ble_eq_true rfl) ⟨Nat.le_of_ble_eq_true rfl, Nat.le_of_ble_eq_true rfl⟩ ⟨by show _ + 0 ≤ _; omega, by show _ + 0 ≤ _; omega, by show _ ≤ 603072; omega, by show _ ≤ 7190634; omega⟩ dL_law_988 rfl ?_
  exact law_tail (k' := k + 200) (n' := n + 5000) C rfl hn hc (by decide) hkc dL_law_991 dL_law_993 dL_law_994 dL_law_997 dL_law_999 dL_law_1004 dL_law_1006 dL_law_1009 dL_law_1010 dL_law_1011 dL_law_1012 dL_law_1014 dL_law_1015 dL_law_1016 dL_law_1021 (by decide) (hLm M3 hL3) hth ⟨A', by rw [ho3]; exact hA', fun r h' => by rw [hr r h', hv r h']⟩ (by omega) hk (by omega) hs (h M3 hL3)
set_option maxHeartbeats 4000000 in
theorem law_c14 {x : jX} {rt : Option FieldType} {M : jW} {k n : Nat} (C : jOk x cL_law "PhrasehallLaw" room_1 rt) (hn : xn x = 7) (hfl : (xl x).stackTraces = false) {LI : jW → Prop} {z mo ao b Ln : Nat} {q : Nat → Int32} {i : Int32} (hX : va_X b Ln q (xs x) (xs x).heap) (hbl : b < (xs x).heap.size) (hbA : b < gz (xg x)) (hin : ∀ c : Int32, 0 ≤ c → c ≤ 5 → vp_in (i + c) Ln) (hmo : mo ≠ ao) (hLz : ∀ M, LI M → ∃ fs, M.1 z = some (.inr (0, fs))) (hLm : ∀ M, LI M → ∃ fs, M.1 mo = some (.inr (1, fs))) (hLI : LI M) (S : lAns LI (fun M => f_X1_holder (some z) M) (fun M => f_X2_holder (some mo) M)) (hk : k + 200 ≤ 603072) (hs : n + 5000 ≤ 7190634) (h : ∀ M', LI M' → jJ x 23 [(0, jR (some b)), (1, jR (some z)), (2, jR (some mo)), (3, jR (some ao)), (4, jI (i + 6))] [] M' (k + 200) (n + 5000)) : jJ x 1024 [(0, jR (some b)), (1, jR (some z)), (2, jR (some mo)), (3, jR (some ao)), (4, jI i)] [] M k n := by
  refine jj_lt (fun hW => ?_)
  obtain ⟨v, M1, hF1, hL1, hS⟩ := S M hLI hW
  obtain ⟨fs, hz⟩ := hLz M hLI
  obtain ⟨fs2, hm⟩ := hLm M1 hL1
  refine jj_aload_n C 1 rfl dL_law_1024 rfl ?_
  refine jj_callV (k' := k + 10) (n' := n + 100) C [] [] [jI v] rfl (m_X1_holder _ _ hF1) hz rfl q143 q144 q145 q42 q146 ⟨rfl, hd_X1_holder⟩ rfl (Nat.le_of_ble_eq_true rfl) ⟨Nat.le_of_ble_eq_true rfl, Nat.le_of_ble_eq_true rfl⟩ ⟨by show _ + 1 ≤ _; omega, by show _ + 5 ≤ _; omega, by show _ ≤ 603072; omega, by show _ ≤ 7190634; omega⟩ dL_law_1025 rfl ?_
  refine jj_lt (fun hW1 => ?_)
  obtain ⟨M3, hF2, hL3⟩ := hS hW1
  refine jj_aload_n C 2 rfl dL_law_1028 rfl ?_
  refine jj_callV (k' := k + 20) (n' := n + 200) C [] [jI v] [jI v, jI v] rfl (m_X2_holder _ _ hF2) hm rfl q1495 q1496 q1497 q46 q1498 ⟨rfl, hd_X2_holder⟩ rfl (Nat.le_of_ble_eq_true rfl) ⟨Nat.le_of_ble_eq_true rfl, Nat.le_of_ble_eq_true rfl⟩ ⟨by show _ + 0 ≤ _; omega, by show _ + 0 ≤ _; omega, by show _ ≤ 603072; omega, by show _ ≤ 7190634; omega⟩ dL_law_1029 rfl ?_
  refine jj_ifT (tgt := 1426) C dL_law_1032 (by decide) rfl ?_
  refine jj_widen (k' := k + 200) (n' := n + 5000) C (by omega) (by omega) ?_
  exact law_next C [0, 1, 2, 3, 4] rfl hn (h M3 hL3)
set_option maxHeartbeats 4000000 in
theorem law_c15 {x : jX} {rt : Option FieldType} {M : jW} {k n : Nat} (C : jOk x cL_law "PhrasehallLaw" room_1 rt) (hn : xn x = 7) (hfl : (xl x).stackTraces = false) {LI : jW → Prop} {z mo ao b Ln : Nat} {q : Nat → Int32} {i : Int32} (hX : va_X b Ln q (xs x) (xs x).heap) (hbl : b < (xs x).heap.size) (hbA : b < gz (xg x)) (hin : ∀ c : Int32, 0 ≤ c → c ≤ 5 → vp_in (i + c) Ln) (hmo : mo ≠ ao) (hLz : ∀ M, LI M → ∃ fs, M.1 z = some (.inr (0, fs))) (hLm : ∀ M, LI M → ∃ fs, M.1 mo = some (.inr (1, fs))) (hLI : LI M) (S : lAns LI (fun M => f_X1_reason (some z) M) (fun M => f_X2_reason (some mo) M)) (hk : k + 200 ≤ 603072) (hs : n + 5000 ≤ 7190634) (h : ∀ M', LI M' → jJ x 23 [(0, jR (some b)), (1, jR (some z)), (2, jR (some mo)), (3, jR (some ao)), (4, jI (i + 6))] [] M' (k + 200) (n + 5000)) : jJ x 1037 [(0, jR (some b)), (1, jR (some z)), (2, jR (some mo)), (3, jR (some ao)), (4, jI i)] [] M k n := by
  refine jj_lt (fun hW => ?_)
  obtain ⟨v, M1, hF1, hL1, hS⟩ := S M hLI hW
  obtain ⟨fs, hz⟩ := hLz M hLI
  obtain ⟨fs2, hm⟩ := hLm M1 hL1
  refine jj_aload_n C 1 rfl dL_law_1037 rfl ?_
  refine jj_callV (k' := k + 10) (n' := n + 100) C [] [] [jI v] rfl (m_X1_reason _ _ hF1) hz rfl q221 q222 q223 q42 q224 ⟨rfl, hd_X1_reason⟩ rfl (Nat.le_of_ble_eq_true rfl) ⟨Nat.le_of_ble_eq_true rfl, Nat.le_of_ble_eq_true rfl⟩ ⟨by show _ + 0 ≤ _; omega, by show _ + 0 ≤ _; omega, by show _ ≤ 603072; omega, by show _ ≤ 7190634; omega⟩ dL_law_1038 rfl ?_
  refine jj_lt (fun hW1 => ?_)
  obtain ⟨M3, hF2, hL3⟩ := hS hW1
  refine jj_aload_n C 2 rfl dL_law_1041 rfl ?_
  refine jj_callV (k' := k + 20) (n' := n + 200) C [] [jI v] [jI v, jI v] rfl (m_X2_reason _ _ hF2) hm rfl q1499 q1500 q1501 q46 q1502 ⟨rfl, hd_X2_reason⟩ rfl (Nat.le_of_ble_eq_true rfl) ⟨Nat.le_of_ble_eq_true rfl, Nat.le_of_ble_eq_true rfl⟩ ⟨by show _ + 0 ≤ _; omega, by show _ + 0 ≤ _; omega, by show _ ≤ 603072; omega, by show _ ≤ 7190634; omega⟩ dL_law_1042 rfl ?_
  refine jj_ifT (tgt := 1426) C dL_law_1045 (by decide) rfl ?_
  refine jj_widen (k' := k + 200) (n' := n + 5000) C (by omega) (by omega) ?_
  exact law_next C [0, 1, 2, 3, 4] rfl hn (h M3 hL3)
set_option maxHeartbeats 4000000 in
theorem law_c16 {x : jX} {rt : Option FieldType} {M : jW} {k n : Nat} (C : jOk x cL_law "PhrasehallLaw" room_1 rt) (hn : xn x = 7) (hfl : (xl x).stackTraces = false) {LI : jW → Prop} {z mo ao b Ln : Nat} {q : Nat → Int32} {i : Int32} (hX : va_X b Ln q (xs x) (xs x).heap) (hbl : b < (xs x).heap.size) (hbA : b < gz (xg x)) (hin : ∀ c : Int32, 0 ≤ c → c ≤ 5 → vp_in (i + c) Ln) (hmo : mo ≠ ao) (hLz : ∀ M, LI M → ∃ fs, M.1 z = some (.inr (0, fs))) (hLm : ∀ M, LI M → ∃ fs, M.1 mo = some (.inr (1, fs))) (hLI : LI M) (S : lSim LI mo ao (fun M => f_X1_ofBout (some z) (q (i + 1).toNatClampNeg) (q (i + 2).toNatClampNeg) M) (fun M => f_X2_ofBout (some mo) (q (i + 1).toNatClampNeg) (q (i + 2).toNatClampNeg) M) [(1, 1), (2, 2)]) (hk : k + 200 ≤ 603072) (hs : n + 5000 ≤ 7190634) (h : ∀ M', LI M' → jJ x 23 [(0, jR (some b)), (1, jR (some z)), (2, jR (some mo)), (3, jR (some ao)), (4, jI (i + 6))] [] M' (k + 200) (n + 5000)) : jJ x 1050 [(0, jR (some b)), (1, jR (some z)), (2, jR (some mo)), (3, jR (some ao)), (4, jI i)] [] M k n := by
  refine jj_lt (fun hW => ?_)
  obtain ⟨res, M1, c, hF1, hc, hA, hm, hS⟩ := S M hLI hW
  obtain ⟨fs, hz⟩ := hLz M hLI
  refine jj_aload_n C 1 rfl dL_law_1050 rfl ?_
  refine jj_aload_n C 0 rfl dL_law_1051 rfl ?_
  refine jj_iload C 4 rfl dL_law_1052 ?_
  refine jj_iconst (v := 1) C dL_law_1054 (by decide) ?_
  refine jj_iadd C dL_law_1055 ?_
  refine jj_sld C hX hbl hbA (hin 1 (by decide) (by decide)) dL_law_1056 ?_
  refine jj_aload_n C 0 rfl dL_law_1057 rfl ?_
  refine jj_iload C 4 rfl dL_law_1058 ?_
  refine jj_iconst (v := 2) C dL_law_1060 (by decide) ?_
  refine jj_iadd C dL_law_1061 ?_
  refine jj_sld C hX hbl hbA (hin 2 (by decide) (by decide)) dL_law_1062 ?_
  refine jj_aload_n C 3 rfl dL_law_1063 rfl ?_
  refine jj_callN (k' := k + 2) (n' := n + 12) C [jR (some z), jI (q (i + 1).toNatClampNeg), jI (q (i + 2).toNatClampNeg), jR (some ao)] [] (n_X0_ofBout _ _ hfl rfl hz ⟨_, hF1⟩ (R := lR M1 ao c res) (fun r M1' h' => lR_I hc hA (h'.symm.trans hF1)) (fun e M1' h' => by
      obtain ⟨he, hR⟩ := lR_E hc hA (h'.symm.trans hF1)
      simp only [List.mem_cons, List.not_mem_nil, or_false, Prod.mk.injEq] at he
      rcases he with ⟨rfl, rfl⟩ | ⟨rfl, rfl⟩
      · exact Or.inl ⟨rfl, hR⟩
      · exact Or.inr (⟨rfl, hR⟩))) q1185 q1186 q41 q1187 hd_X0_ofBout rfl (Nat.le_of_ble_eq_true rfl) ⟨Nat.le_of_ble_eq_true rfl, Nat.le_of_ble_eq_true rfl⟩ ⟨Nat.le_refl _, Nat.le_refl _, by show _ ≤ 603072; omega, by show _ ≤ 7190634; omega⟩ dL_law_1064 (fun kc M2 hR hW2 => ?_)
  obtain ⟨hkc, hoff, hk2, A', hA', hr⟩ := hR
  obtain ⟨v, M3, hF2, hL3, ho3, hth, hv⟩ := hS M2 hoff hk2 hW2 ⟨A', hA'⟩
  obtain ⟨fs2, hm⟩ := hm
  have hm2 : M2.1 mo = some (.inr (1, fs2)) := by rw [hoff mo hmo]; exact hm
  refine jj_istore (L' := [(5, jI kc), (0, jR (some b)), (1, jR (some z)), (2, jR (some mo)), (3, jR (some ao)), (4, jI i)]) C rfl (by rw [hn]; decide) dL_law_1067 ?_
  refine jj_aload_n C 3 rfl dL_law_1069 rfl ?_
  refine jj_aload_n C 1 rfl dL_law_1070 rfl ?_
  refine jj_iload C 5 rfl dL_law_1071 ?_
  refine jj_iconst (v := 1) C dL_law_1073 (by decide) ?_
  refine jj_iadd C dL_law_1074 ?_
  refine jj_sld C hX hbl hbA (hin 1 (by decide) (by decide)) dL_law_1075 ?_
  refine jj_aload_n C 1 rfl dL_law_1076 rfl ?_
  refine jj_iload C 5 rfl dL_law_1077 ?_
  refine jj_iconst (v := 2) C dL_law_1079 (by decide) ?_
  refine jj_iadd C dL_law_1080 ?_
  refine jj_sld C hX hbl hbA (hin 2 (by decide) (by decide)) dL_law_1081 ?_
  refine jj_callV (k' := k + 2) (n' := n + 12) C [jI (q (i + 1).toNatClampNeg), jI (q (i + 2).toNatClampNeg)] [] [jI v] rfl (m_X2_ofBout _ _ hF2) hm2 rfl q1503 q1504 q1505 q46 q1506 ⟨rfl, hd_X2_ofBout⟩ rfl (Nat.le_of_ble_eq_true rfl) ⟨Nat.le_of_ble_eq_true rfl, Nat.le_of_ble_eq_true rfl⟩ ⟨by show _ + 0 ≤ _; omega, by show _ + 0 ≤ _; omega, by show _ ≤ 603072; omega, by show _ ≤ 7190634; omega⟩ dL_law_1082 rfl ?_
  exact law_tail (k' := k + 200) (n' := n + 5000) C rfl hn hc (by decide) hkc dL_law_1085 dL_law_1087 dL_law_1088 dL_law_1091 dL_law_1093 dL_law_1098 dL_law_1100 dL_law_1103 dL_law_1104 dL_law_1105 dL_law_1106 dL_law_1108 dL_law_1109 dL_law_1110 dL_law_1115 (by decide) (hLm M3 hL3) hth ⟨A', by rw [ho3]; exact hA', fun r h' => by rw [hr r h', hv r h']⟩ (by omega) hk (by omega) hs (h M3 hL3)
set_option maxHeartbeats 4000000 in
theorem law_c17 {x : jX} {rt : Option FieldType} {M : jW} {k n : Nat} (C : jOk x cL_law "PhrasehallLaw" room_1 rt) (hn : xn x = 7) (hfl : (xl x).stackTraces = false) {LI : jW → Prop} {z mo ao b Ln : Nat} {q : Nat → Int32} {i : Int32} (hX : va_X b Ln q (xs x) (xs x).heap) (hbl : b < (xs x).heap.size) (hbA : b < gz (xg x)) (hin : ∀ c : Int32, 0 ≤ c → c ≤ 5 → vp_in (i + c) Ln) (hmo : mo ≠ ao) (hLz : ∀ M, LI M → ∃ fs, M.1 z = some (.inr (0, fs))) (hLm : ∀ M, LI M → ∃ fs, M.1 mo = some (.inr (1, fs))) (hLI : LI M) (S : lSim LI mo ao (fun M => f_X1_ofPool (some z) (q (i + 1).toNatClampNeg) (q (i + 2).toNatClampNeg) (q (i + 3).toNatClampNeg) M) (fun M => f_X2_ofPool (some mo) (q (i + 1).toNatClampNeg) (q (i + 2).toNatClampNeg) (q (i + 3).toNatClampNeg) M) [(1, 1), (2, 2)]) (hk : k + 200 ≤ 603072) (hs : n + 5000 ≤ 7190634) (h : ∀ M', LI M' → jJ x 23 [(0, jR (some b)), (1, jR (some z)), (2, jR (some mo)), (3, jR (some ao)), (4, jI (i + 6))] [] M' (k + 200) (n + 5000)) : jJ x 1118 [(0, jR (some b)), (1, jR (some z)), (2, jR (some mo)), (3, jR (some ao)), (4, jI i)] [] M k n := by
  refine jj_lt (fun hW => ?_)
  obtain ⟨res, M1, c, hF1, hc, hA, hm, hS⟩ := S M hLI hW
  obtain ⟨fs, hz⟩ := hLz M hLI
  refine jj_aload_n C 1 rfl dL_law_1118 rfl ?_
  refine jj_aload_n C 0 rfl dL_law_1119 rfl ?_
  refine jj_iload C 4 rfl dL_law_1120 ?_
  refine jj_iconst (v := 1) C dL_law_1122 (by decide) ?_
  refine jj_iadd C dL_law_1123 ?_
  refine jj_sld C hX hbl hbA (hin 1 (by decide) (by decide)) dL_law_1124 ?_
  refine jj_aload_n C 0 rfl dL_law_1125 rfl ?_
  refine jj_iload C 4 rfl dL_law_1126 ?_
  refine jj_iconst (v := 2) C dL_law_1128 (by decide) ?_
  refine jj_iadd C dL_law_1129 ?_
  refine jj_sld C hX hbl hbA (hin 2 (by decide) (by decide)) dL_law_1130 ?_
  refine jj_aload_n C 0 rfl dL_law_1131 rfl ?_
  refine jj_iload C 4 rfl dL_law_1132 ?_
  refine jj_iconst (v := 3) C dL_law_1134 (by decide) ?_
  refine jj_iadd C dL_law_1135 ?_
  refine jj_sld C hX hbl hbA (hin 3 (by decide) (by decide)) dL_law_1136 ?_
  refine jj_aload_n C 3 rfl dL_law_1137 rfl ?_
  refine jj_callN (k' := k + 3) (n' := n + 18) C [jR (some z), jI (q (i + 1).toNatClampNeg), jI (q (i + 2).toNatClampNeg), jI (q (i + 3).toNatClampNeg), jR (some ao)] [] (n_X0_ofPool _ _ hfl rfl hz ⟨_, hF1⟩ (R := lR M1 ao c res) (fun r M1' h' => lR_I hc hA (h'.symm.trans hF1)) (fun e M1' h' => by
      obtain ⟨he, hR⟩ := lR_E hc hA (h'.symm.trans hF1)
      simp only [List.mem_cons, List.not_mem_nil, or_false, Prod.mk.injEq] at he
      rcases he with ⟨rfl, rfl⟩ | ⟨rfl, rfl⟩
      · exact Or.inl ⟨rfl, hR⟩
      · exact Or.inr (⟨rfl, hR⟩))) q1192 q1193 q41 q1194 hd_X0_ofPool rfl (Nat.le_of_ble_eq_true rfl) ⟨Nat.le_of_ble_eq_true rfl, Nat.le_of_ble_eq_true rfl⟩ ⟨Nat.le_refl _, Nat.le_refl _, by show _ ≤ 603072; omega, by show _ ≤ 7190634; omega⟩ dL_law_1138 (fun kc M2 hR hW2 => ?_)
  obtain ⟨hkc, hoff, hk2, A', hA', hr⟩ := hR
  obtain ⟨v, M3, hF2, hL3, ho3, hth, hv⟩ := hS M2 hoff hk2 hW2 ⟨A', hA'⟩
  obtain ⟨fs2, hm⟩ := hm
  have hm2 : M2.1 mo = some (.inr (1, fs2)) := by rw [hoff mo hmo]; exact hm
  refine jj_istore (L' := [(5, jI kc), (0, jR (some b)), (1, jR (some z)), (2, jR (some mo)), (3, jR (some ao)), (4, jI i)]) C rfl (by rw [hn]; decide) dL_law_1141 ?_
  refine jj_aload_n C 3 rfl dL_law_1143 rfl ?_
  refine jj_aload_n C 1 rfl dL_law_1144 rfl ?_
  refine jj_iload C 5 rfl dL_law_1145 ?_
  refine jj_iconst (v := 1) C dL_law_1147 (by decide) ?_
  refine jj_iadd C dL_law_1148 ?_
  refine jj_sld C hX hbl hbA (hin 1 (by decide) (by decide)) dL_law_1149 ?_
  refine jj_aload_n C 1 rfl dL_law_1150 rfl ?_
  refine jj_iload C 5 rfl dL_law_1151 ?_
  refine jj_iconst (v := 2) C dL_law_1153 (by decide) ?_
  refine jj_iadd C dL_law_1154 ?_
  refine jj_sld C hX hbl hbA (hin 2 (by decide) (by decide)) dL_law_1155 ?_
  refine jj_aload_n C 1 rfl dL_law_1156 rfl ?_
  refine jj_iload C 5 rfl dL_law_1157 ?_
  refine jj_iconst (v := 3) C dL_law_1159 (by decide) ?_
  refine jj_iadd C dL_law_1160 ?_
  refine jj_sld C hX hbl hbA (hin 3 (by decide) (by decide)) dL_law_1161 ?_
  refine jj_callV (k' := k + 3) (n' := n + 18) C [jI (q (i + 1).toNatClampNeg), jI (q (i + 2).toNatClampNeg), jI (q (i + 3).toNatClampNeg)] [] [jI v] rfl (m_X2_ofPool _ _ hF2) hm2 rfl q1507 q1508 q1509 q46 q1510 ⟨rfl, hd_X2_ofPool⟩ rfl (Nat.le_of_ble_eq_true rfl) ⟨Nat.le_of_ble_eq_true rfl, Nat.le_of_ble_eq_true rfl⟩ ⟨by show _ + 0 ≤ _; omega, by show _ + 0 ≤ _; omega, by show _ ≤ 603072; omega, by show _ ≤ 7190634; omega⟩ dL_law_1162 rfl ?_
  exact law_tail (k' := k + 200) (n' := n + 5000) C rfl hn hc (by decide) hkc dL_law_1165 dL_law_1167 dL_law_1168 dL_law_1171 dL_law_1173 dL_law_1178 dL_law_1180 dL_law_1183 dL_law_1184 dL_law_1185 dL_law_1186 dL_law_1188 dL_law_1189 dL_law_1190 dL_law_1195 (by decide) (hLm M3 hL3) hth ⟨A', by rw [ho3]; exact hA', fun r h' => by rw [hr r h', hv r h']⟩ (by omega) hk (by omega) hs (h M3 hL3)
set_option maxHeartbeats 4000000 in
theorem law_c18 {x : jX} {rt : Option FieldType} {M : jW} {k n : Nat} (C : jOk x cL_law "PhrasehallLaw" room_1 rt) (hn : xn x = 7) (hfl : (xl x).stackTraces = false) {LI : jW → Prop} {z mo ao b Ln : Nat} {q : Nat → Int32} {i : Int32} (hX : va_X b Ln q (xs x) (xs x).heap) (hbl : b < (xs x).heap.size) (hbA : b < gz (xg x)) (hin : ∀ c : Int32, 0 ≤ c → c ≤ 5 → vp_in (i + c) Ln) (hmo : mo ≠ ao) (hLz : ∀ M, LI M → ∃ fs, M.1 z = some (.inr (0, fs))) (hLm : ∀ M, LI M → ∃ fs, M.1 mo = some (.inr (1, fs))) (hLI : LI M) (S : lSim LI mo ao (fun M => f_X1_ofPoolAnew (some z) (q (i + 1).toNatClampNeg) (q (i + 2).toNatClampNeg) (q (i + 3).toNatClampNeg) M) (fun M => f_X2_ofPoolAnew (some mo) (q (i + 1).toNatClampNeg) (q (i + 2).toNatClampNeg) (q (i + 3).toNatClampNeg) M) [(1, 1), (2, 2)]) (hk : k + 200 ≤ 603072) (hs : n + 5000 ≤ 7190634) (h : ∀ M', LI M' → jJ x 23 [(0, jR (some b)), (1, jR (some z)), (2, jR (some mo)), (3, jR (some ao)), (4, jI (i + 6))] [] M' (k + 200) (n + 5000)) : jJ x 1198 [(0, jR (some b)), (1, jR (some z)), (2, jR (some mo)), (3, jR (some ao)), (4, jI i)] [] M k n := by
  refine jj_lt (fun hW => ?_)
  obtain ⟨res, M1, c, hF1, hc, hA, hm, hS⟩ := S M hLI hW
  obtain ⟨fs, hz⟩ := hLz M hLI
  refine jj_aload_n C 1 rfl dL_law_1198 rfl ?_
  refine jj_aload_n C 0 rfl dL_law_1199 rfl ?_
  refine jj_iload C 4 rfl dL_law_1200 ?_
  refine jj_iconst (v := 1) C dL_law_1202 (by decide) ?_
  refine jj_iadd C dL_law_1203 ?_
  refine jj_sld C hX hbl hbA (hin 1 (by decide) (by decide)) dL_law_1204 ?_
  refine jj_aload_n C 0 rfl dL_law_1205 rfl ?_
  refine jj_iload C 4 rfl dL_law_1206 ?_
  refine jj_iconst (v := 2) C dL_law_1208 (by decide) ?_
  refine jj_iadd C dL_law_1209 ?_
  refine jj_sld C hX hbl hbA (hin 2 (by decide) (by decide)) dL_law_1210 ?_
  refine jj_aload_n C 0 rfl dL_law_1211 rfl ?_
  refine jj_iload C 4 rfl dL_law_1212 ?_
  refine jj_iconst (v := 3) C dL_law_1214 (by decide) ?_
  refine jj_iadd C dL_law_1215 ?_
  refine jj_sld C hX hbl hbA (hin 3 (by decide) (by decide)) dL_law_1216 ?_
  refine jj_aload_n C 3 rfl dL_law_1217 rfl ?_
  refine jj_callN (k' := k + 5) (n' := n + 27) C [jR (some z), jI (q (i + 1).toNatClampNeg), jI (q (i + 2).toNatClampNeg), jI (q (i + 3).toNatClampNeg), jR (some ao)] [] (n_X0_ofPoolAnew _ _ hfl rfl hz ⟨_, hF1⟩ (R := lR M1 ao c res) (fun r M1' h' => lR_I hc hA (h'.symm.trans hF1)) (fun e M1' h' => by
      obtain ⟨he, hR⟩ := lR_E hc hA (h'.symm.trans hF1)
      simp only [List.mem_cons, List.not_mem_nil, or_false, Prod.mk.injEq] at he
      rcases he with ⟨rfl, rfl⟩ | ⟨rfl, rfl⟩
      · exact Or.inl ⟨rfl, hR⟩
      · exact Or.inr (⟨rfl, hR⟩))) q1203 q1204 q41 q1205 hd_X0_ofPoolAnew rfl (Nat.le_of_ble_eq_true rfl) ⟨Nat.le_of_ble_eq_true rfl, Nat.le_of_ble_eq_true rfl⟩ ⟨Nat.le_refl _, Nat.le_refl _, by show _ ≤ 603072; omega, by show _ ≤ 7190634; omega⟩ dL_law_1218 (fun kc M2 hR hW2 => ?_)
  obtain ⟨hkc, hoff, hk2, A', hA', hr⟩ := hR
  obtain ⟨v, M3, hF2, hL3, ho3, hth, hv⟩ := hS M2 hoff hk2 hW2 ⟨A', hA'⟩
  obtain ⟨fs2, hm⟩ := hm
  have hm2 : M2.1 mo = some (.inr (1, fs2)) := by rw [hoff mo hmo]; exact hm
  refine jj_istore (L' := [(5, jI kc), (0, jR (some b)), (1, jR (some z)), (2, jR (some mo)), (3, jR (some ao)), (4, jI i)]) C rfl (by rw [hn]; decide) dL_law_1221 ?_
  refine jj_aload_n C 3 rfl dL_law_1223 rfl ?_
  refine jj_aload_n C 1 rfl dL_law_1224 rfl ?_
  refine jj_iload C 5 rfl dL_law_1225 ?_
  refine jj_iconst (v := 1) C dL_law_1227 (by decide) ?_
  refine jj_iadd C dL_law_1228 ?_
  refine jj_sld C hX hbl hbA (hin 1 (by decide) (by decide)) dL_law_1229 ?_
  refine jj_aload_n C 1 rfl dL_law_1230 rfl ?_
  refine jj_iload C 5 rfl dL_law_1231 ?_
  refine jj_iconst (v := 2) C dL_law_1233 (by decide) ?_
  refine jj_iadd C dL_law_1234 ?_
  refine jj_sld C hX hbl hbA (hin 2 (by decide) (by decide)) dL_law_1235 ?_
  refine jj_aload_n C 1 rfl dL_law_1236 rfl ?_
  refine jj_iload C 5 rfl dL_law_1237 ?_
  refine jj_iconst (v := 3) C dL_law_1239 (by decide) ?_
  refine jj_iadd C dL_law_1240 ?_
  refine jj_sld C hX hbl hbA (hin 3 (by decide) (by decide)) dL_law_1241 ?_
  refine jj_callV (k' := k + 5) (n' := n + 27) C [jI (q (i + 1).toNatClampNeg), jI (q (i + 2).toNatClampNeg), jI (q (i + 3).toNatClampNeg)] [] [jI v] rfl (m_X2_ofPoolAnew _ _ hF2) hm2 rfl q1515 q1516 q1517 q46 q1518 ⟨rfl, hd_X2_ofPoolAnew⟩ rfl (Nat.le_of_ble_eq_true rfl) ⟨Nat.le_of_ble_eq_true rfl, Nat.le_of_ble_eq_true rfl⟩ ⟨by show _ + 0 ≤ _; omega, by show _ + 0 ≤ _; omega, by show _ ≤ 603072; omega, by show _ ≤ 7190634; omega⟩ dL_law_1242 rfl ?_
  exact law_tail (k' := k + 200) (n' := n + 5000) C rfl hn hc (by decide) hkc dL_law_1245 dL_law_1247 dL_law_1248 dL_law_1251 dL_law_1253 dL_law_1258 dL_law_1260 dL_law_1263 dL_law_1264 dL_law_1265 dL_law_1266 dL_law_1268 dL_law_1269 dL_law_1270 dL_law_1275 (by decide) (hLm M3 hL3) hth ⟨A', by rw [ho3]; exact hA', fun r h' => by rw [hr r h', hv r h']⟩ (by omega) hk (by omega) hs (h M3 hL3)
set_option maxHeartbeats 4000000 in
theorem law_c19 {x : jX} {rt : Option FieldType} {M : jW} {k n : Nat} (C : jOk x cL_law "PhrasehallLaw" room_1 rt) (hn : xn x = 7) (hfl : (xl x).stackTraces = false) {LI : jW → Prop} {z mo ao b Ln : Nat} {q : Nat → Int32} {i : Int32} (hX : va_X b Ln q (xs x) (xs x).heap) (hbl : b < (xs x).heap.size) (hbA : b < gz (xg x)) (hin : ∀ c : Int32, 0 ≤ c → c ≤ 5 → vp_in (i + c) Ln) (hmo : mo ≠ ao) (hLz : ∀ M, LI M → ∃ fs, M.1 z = some (.inr (0, fs))) (hLm : ∀ M, LI M → ∃ fs, M.1 mo = some (.inr (1, fs))) (hLI : LI M) (S : lSim LI mo ao (fun M => f_X1_rank (some z) (q (i + 1).toNatClampNeg) (q (i + 2).toNatClampNeg) M) (fun M => f_X2_rank (some mo) (q (i + 1).toNatClampNeg) (q (i + 2).toNatClampNeg) M) [(1, 1)]) (hk : k + 200 ≤ 603072) (hs : n + 5000 ≤ 7190634) (h : ∀ M', LI M' → jJ x 23 [(0, jR (some b)), (1, jR (some z)), (2, jR (some mo)), (3, jR (some ao)), (4, jI (i + 6))] [] M' (k + 200) (n + 5000)) : jJ x 1278 [(0, jR (some b)), (1, jR (some z)), (2, jR (some mo)), (3, jR (some ao)), (4, jI i)] [] M k n := by
  refine jj_lt (fun hW => ?_)
  obtain ⟨res, M1, c, hF1, hc, hA, hm, hS⟩ := S M hLI hW
  obtain ⟨fs, hz⟩ := hLz M hLI
  refine jj_aload_n C 1 rfl dL_law_1278 rfl ?_
  refine jj_aload_n C 0 rfl dL_law_1279 rfl ?_
  refine jj_iload C 4 rfl dL_law_1280 ?_
  refine jj_iconst (v := 1) C dL_law_1282 (by decide) ?_
  refine jj_iadd C dL_law_1283 ?_
  refine jj_sld C hX hbl hbA (hin 1 (by decide) (by decide)) dL_law_1284 ?_
  refine jj_aload_n C 0 rfl dL_law_1285 rfl ?_
  refine jj_iload C 4 rfl dL_law_1286 ?_
  refine jj_iconst (v := 2) C dL_law_1288 (by decide) ?_
  refine jj_iadd C dL_law_1289 ?_
  refine jj_sld C hX hbl hbA (hin 2 (by decide) (by decide)) dL_law_1290 ?_
  refine jj_aload_n C 3 rfl dL_law_1291 rfl ?_
  refine jj_callN (k' := k + 16) (n' := n + 1679) C [jR (some z), jI (q (i + 1).toNatClampNeg), jI (q (i + 2).toNatClampNeg), jR (some ao)] [] (n_X0_rank _ _ hfl rfl hz ⟨_, hF1⟩ (R := lR M1 ao c res) (fun r M1' h' => lR_I hc hA (h'.symm.trans hF1)) (fun e M1' h' => by
      obtain ⟨he, hR⟩ := lR_E hc hA (h'.symm.trans hF1)
      simp only [List.mem_cons, List.not_mem_nil, or_false, Prod.mk.injEq] at he
      obtain ⟨rfl, rfl⟩ := he; exact ⟨rfl, hR⟩)) q1213 q1214 q41 q1215 hd_X0_rank rfl (Nat.le_of_ble_eq_true rfl) ⟨Nat.le_of_ble_eq_true rfl, Nat.le_of_ble_eq_true rfl⟩ ⟨Nat.le_refl _, Nat.le_refl _, by show _ ≤ 603072; omega, by show _ ≤ 7190634; omega⟩ dL_law_1292 (fun kc M2 hR hW2 => ?_)
  obtain ⟨hkc, hoff, hk2, A', hA', hr⟩ := hR
  obtain ⟨v, M3, hF2, hL3, ho3, hth, hv⟩ := hS M2 hoff hk2 hW2 ⟨A', hA'⟩
  obtain ⟨fs2, hm⟩ := hm
  have hm2 : M2.1 mo = some (.inr (1, fs2)) := by rw [hoff mo hmo]; exact hm
  refine jj_istore (L' := [(5, jI kc), (0, jR (some b)), (1, jR (some z)), (2, jR (some mo)), (3, jR (some ao)), (4, jI i)]) C rfl (by rw [hn]; decide) dL_law_1295 ?_
  refine jj_aload_n C 3 rfl dL_law_1297 rfl ?_
  refine jj_aload_n C 1 rfl dL_law_1298 rfl ?_
  refine jj_iload C 5 rfl dL_law_1299 ?_
  refine jj_iconst (v := 1) C dL_law_1301 (by decide) ?_
  refine jj_iadd C dL_law_1302 ?_
  refine jj_sld C hX hbl hbA (hin 1 (by decide) (by decide)) dL_law_1303 ?_
  refine jj_aload_n C 1 rfl dL_law_1304 rfl ?_
  refine jj_iload C 5 rfl dL_law_1305 ?_
  refine jj_iconst (v := 2) C dL_law_1307 (by decide) ?_
  refine jj_iadd C dL_law_1308 ?_
  refine jj_sld C hX hbl hbA (hin 2 (by decide) (by decide)) dL_law_1309 ?_
  refine jj_callV (k' := k + 16) (n' := n + 1679) C [jI (q (i + 1).toNatClampNeg), jI (q (i + 2).toNatClampNeg)] [] [jI v] rfl (m_X2_rank _ _ hF2) hm2 rfl q1519 q1520 q1521 q46 q1522 ⟨rfl, hd_X2_rank⟩ rfl (Nat.le_of_ble_eq_true rfl) ⟨Nat.le_of_ble_eq_true rfl, Nat.le_of_ble_eq_true rfl⟩ ⟨by show _ + 0 ≤ _; omega, by show _ + 0 ≤ _; omega, by show _ ≤ 603072; omega, by show _ ≤ 7190634; omega⟩ dL_law_1310 rfl ?_
  exact law_tail (k' := k + 200) (n' := n + 5000) C rfl hn hc (by decide) hkc dL_law_1313 dL_law_1315 dL_law_1316 dL_law_1319 dL_law_1321 dL_law_1326 dL_law_1328 dL_law_1331 dL_law_1332 dL_law_1333 dL_law_1334 dL_law_1336 dL_law_1337 dL_law_1338 dL_law_1343 (by decide) (hLm M3 hL3) hth ⟨A', by rw [ho3]; exact hA', fun r h' => by rw [hr r h', hv r h']⟩ (by omega) hk (by omega) hs (h M3 hL3)
set_option maxHeartbeats 4000000 in
theorem law_c20 {x : jX} {rt : Option FieldType} {M : jW} {k n : Nat} (C : jOk x cL_law "PhrasehallLaw" room_1 rt) (hn : xn x = 7) (hfl : (xl x).stackTraces = false) {LI : jW → Prop} {z mo ao b Ln : Nat} {q : Nat → Int32} {i : Int32} (hX : va_X b Ln q (xs x) (xs x).heap) (hbl : b < (xs x).heap.size) (hbA : b < gz (xg x)) (hin : ∀ c : Int32, 0 ≤ c → c ≤ 5 → vp_in (i + c) Ln) (hmo : mo ≠ ao) (hLz : ∀ M, LI M → ∃ fs, M.1 z = some (.inr (0, fs))) (hLm : ∀ M, LI M → ∃ fs, M.1 mo = some (.inr (1, fs))) (hLI : LI M) (S : lSim LI mo ao (fun M => f_X1_meets_2 (some z) (q (i + 1).toNatClampNeg) (q (i + 2).toNatClampNeg) (q (i + 3).toNatClampNeg) M) (fun M => f_X2_meets (some mo) (q (i + 1).toNatClampNeg) (q (i + 2).toNatClampNeg) (q (i + 3).toNatClampNeg) M) [(1, 1), (2, 2)]) (hk : k + 200 ≤ 603072) (hs : n + 5000 ≤ 7190634) (h : ∀ M', LI M' → jJ x 23 [(0, jR (some b)), (1, jR (some z)), (2, jR (some mo)), (3, jR (some ao)), (4, jI (i + 6))] [] M' (k + 200) (n + 5000)) : jJ x 1346 [(0, jR (some b)), (1, jR (some z)), (2, jR (some mo)), (3, jR (some ao)), (4, jI i)] [] M k n := by
  refine jj_lt (fun hW => ?_)
  obtain ⟨res, M1, c, hF1, hc, hA, hm, hS⟩ := S M hLI hW
  obtain ⟨fs, hz⟩ := hLz M hLI
  refine jj_aload_n C 1 rfl dL_law_1346 rfl ?_
  refine jj_aload_n C 0 rfl dL_law_1347 rfl ?_
  refine jj_iload C 4 rfl dL_law_1348 ?_
  refine jj_iconst (v := 1) C dL_law_1350 (by decide) ?_
  refine jj_iadd C dL_law_1351 ?_
  refine jj_sld C hX hbl hbA (hin 1 (by decide) (by decide)) dL_law_1352 ?_
  refine jj_aload_n C 0 rfl dL_law_1353 rfl ?_
  refine jj_iload C 4 rfl dL_law_1354 ?_
  refine jj_iconst (v := 2) C dL_law_1356 (by decide) ?_
  refine jj_iadd C dL_law_1357 ?_
  refine jj_sld C hX hbl hbA (hin 2 (by decide) (by decide)) dL_law_1358 ?_
  refine jj_aload_n C 0 rfl dL_law_1359 rfl ?_
  refine jj_iload C 4 rfl dL_law_1360 ?_
  refine jj_iconst (v := 3) C dL_law_1362 (by decide) ?_
  refine jj_iadd C dL_law_1363 ?_
  refine jj_sld C hX hbl hbA (hin 3 (by decide) (by decide)) dL_law_1364 ?_
  refine jj_aload_n C 3 rfl dL_law_1365 rfl ?_
  refine jj_callN (k' := k + 2) (n' := n + 12) C [jR (some z), jI (q (i + 1).toNatClampNeg), jI (q (i + 2).toNatClampNeg), jI (q (i + 3).toNatClampNeg), jR (some ao)] [] (n_X0_meets _ _ hfl rfl hz ⟨_, hF1⟩ (R := lR M1 ao c res) (fun r M1' h' => lR_I hc hA (h'.symm.trans hF1)) (fun e M1' h' => by
      obtain ⟨he, hR⟩ := lR_E hc hA (h'.symm.trans hF1)
      simp only [List.mem_cons, List.not_mem_nil, or_false, Prod.mk.injEq] at he
      rcases he with ⟨rfl, rfl⟩ | ⟨rfl, rfl⟩
      · exact Or.inl ⟨rfl, hR⟩
      · exact Or.inr (⟨rfl, hR⟩))) q1220 q1221 q41 q1222 hd_X0_meets rfl (Nat.le_of_ble_eq_true rfl) ⟨Nat.le_of_ble_eq_true rfl, Nat.le_of_ble_eq_true rfl⟩ ⟨Nat.le_refl _, Nat.le_refl _, by show _ ≤ 603072; omega, by show _ ≤ 7190634; omega⟩ dL_law_1366 (fun kc M2 hR hW2 => ?_)
  obtain ⟨hkc, hoff, hk2, A', hA', hr⟩ := hR
  obtain ⟨v, M3, hF2, hL3, ho3, hth, hv⟩ := hS M2 hoff hk2 hW2 ⟨A', hA'⟩
  obtain ⟨fs2, hm⟩ := hm
  have hm2 : M2.1 mo = some (.inr (1, fs2)) := by rw [hoff mo hmo]; exact hm
  refine jj_istore (L' := [(5, jI kc), (0, jR (some b)), (1, jR (some z)), (2, jR (some mo)), (3, jR (some ao)), (4, jI i)]) C rfl (by rw [hn]; decide) dL_law_1369 ?_
  refine jj_aload_n C 3 rfl dL_law_1371 rfl ?_
  refine jj_aload_n C 1 rfl dL_law_1372 rfl ?_
  refine jj_iload C 5 rfl dL_law_1373 ?_
  refine jj_iconst (v := 1) C dL_law_1375 (by decide) ?_
  refine jj_iadd C dL_law_1376 ?_
  refine jj_sld C hX hbl hbA (hin 1 (by decide) (by decide)) dL_law_1377 ?_
  refine jj_aload_n C 1 rfl dL_law_1378 rfl ?_
  refine jj_iload C 5 rfl dL_law_1379 ?_
  refine jj_iconst (v := 2) C dL_law_1381 (by decide) ?_
  refine jj_iadd C dL_law_1382 ?_
  refine jj_sld C hX hbl hbA (hin 2 (by decide) (by decide)) dL_law_1383 ?_
  refine jj_aload_n C 1 rfl dL_law_1384 rfl ?_
  refine jj_iload C 5 rfl dL_law_1385 ?_
  refine jj_iconst (v := 3) C dL_law_1387 (by decide) ?_
  refine jj_iadd C dL_law_1388 ?_
  refine jj_sld C hX hbl hbA (hin 3 (by decide) (by decide)) dL_law_1389 ?_
  refine jj_callV (k' := k + 2) (n' := n + 12) C [jI (q (i + 1).toNatClampNeg), jI (q (i + 2).toNatClampNeg), jI (q (i + 3).toNatClampNeg)] [] [jI v] rfl (m_X2_meets _ _ hF2) hm2 rfl q1523 q1524 q1525 q46 q1526 ⟨rfl, hd_X2_meets⟩ rfl (Nat.le_of_ble_eq_true rfl) ⟨Nat.le_of_ble_eq_true rfl, Nat.le_of_ble_eq_true rfl⟩ ⟨by show _ + 0 ≤ _; omega, by show _ + 0 ≤ _; omega, by show _ ≤ 603072; omega, by show _ ≤ 7190634; omega⟩ dL_law_1390 rfl ?_
  exact law_tail (k' := k + 200) (n' := n + 5000) C rfl hn hc (by decide) hkc dL_law_1393 dL_law_1395 dL_law_1396 dL_law_1399 dL_law_1401 dL_law_1406 dL_law_1408 dL_law_1411 dL_law_1412 dL_law_1413 dL_law_1414 dL_law_1416 dL_law_1417 dL_law_1418 dL_law_1423 (by decide) (hLm M3 hL3) hth ⟨A', by rw [ho3]; exact hA', fun r h' => by rw [hr r h', hv r h']⟩ (by omega) hk (by omega) hs (h M3 hL3)
