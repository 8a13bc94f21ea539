/-! THE CLASS's MEMORY: tagged cells over a base heap. A tag is (kind, index):
0 the Phrasehall, 1 its lists (0 fencers, 1 bouts, 2 pools, 3 phrase, 4 rounds), 2 the lists' rows, 3 fencers, 4 bouts, 5 a bout's fencers, 6 touches, 7 cards, 8 hadLast, 9 pools, 10 a pool's tables, 11 tables (12 p + f), 12 parts, 13 rounds -/
set_option maxRecDepth 100000
/-- tags to addresses; numbers (0..4 the lists' sizes; 5 fencers, 6 bouts, 7 pools, 8 parts, 9 rounds that are tagged); the rows' sizes (0: none yet), the rounds' sizes -/
abbrev cG : Type := (Nat → Nat → Nat) × (Nat → Nat) × (Nat → Nat) × (Nat → Nat)
abbrev gAd (g : cG) : Nat → Nat → Nat := g.1
abbrev gN (g : cG) : Nat → Nat := g.2.1
abbrev gCap (g : cG) : Nat → Nat := g.2.2.1
abbrev gRl (g : cG) : Nat → Nat := g.2.2.2
/-- the reference's part, and the class's own: 0 modCounts, 1 cards (2 b + s), 2 hadLast, 3 quiet, 4..8 tables (12 p + f), 9 rounds (32 r + k) -/
abbrev cS : Type := mS × (Nat → Nat → Int32)
def ek (l : Nat) : Nat := match l with | 0 => 3 | 1 => 4 | 2 => 9 | 3 => 12 | _ => 13
def cE (g : cG) (kc : Nat → Nat) (s : cS) (k i : Nat) : jE := match k with
  | 0 => .inr (0, [.ref (gAd g 1 0), .ref (gAd g 1 1), .ref (gAd g 1 2), .ref (gAd g 1 3), if s.1.1 4 0 = -1 then .null else .ref (gAd g 4 (s.1.1 4 0).toNatClampNeg), .int (s.1.1 2 0), .long s.1.2, .ref (gAd g 1 4)])
  | 1 => .inr (9, [.int (s.2 0 i), .ref (if gCap g i = 0 then kc 3 else gAd g 2 i), .int (i32 (gN g i))])
  | 2 => .inl (3, (gCap g i, .inr (.inr (.inr (.inr fun j => if j < gN g i then some (gAd g (ek i) j) else none)))))
  | 3 => .inr (2, [.int (i32 i)])
  | 4 => .inr (3, [.ref (gAd g 5 i), .ref (kc (s.1.1 7 i).toNatClampNeg), .int (s.1.1 8 i), if s.1.1 9 i = -1 then .null else .ref (gAd g 9 (s.1.1 9 i).toNatClampNeg), .ref (gAd g 6 i), .ref (gAd g 7 i), .ref (gAd g 8 i), .int (s.1.1 10 i), .int (s.1.1 11 i), .int (s.2 3 i), .int (s.1.1 12 i), .int (s.1.1 13 i), .ref (gAd g 0 0)])
  | 5 => .inl (4, (2, .inr (.inr (.inr (.inr fun j => if j < 2 then some (gAd g 3 (s.1.1 5 (2 * i + j)).toNatClampNeg) else none)))))
  | 6 => .inl (0, (2, .inl fun j => if j < 2 then s.1.1 6 (2 * i + j) else 0))
  | 7 => .inl (0, (2, .inl fun j => if j < 2 then s.2 1 (2 * i + j) else 0))
  | 8 => .inl (1, (2, .inl fun j => if j < 2 then s.2 2 (2 * i + j) else 0))
  | 9 => .inr (7, [.int (s.1.1 24 i), .ref (gAd g 10 i)])
  | 10 => .inl (5, (12, .inr (.inr (.inr (.inr fun j => if j < 12 then some (gAd g 11 (12 * i + j)) else none)))))
  | 11 => .inr (8, [.int (s.2 4 i), .int (s.2 5 i), .int (s.2 6 i), .int (s.2 7 i), .int (s.2 8 i)])
  | 12 => if s.1.1 19 i = 7 then .inr (5, [.int (s.1.1 18 i), .int (s.1.1 20 i), .int (s.1.1 21 i), .int (s.1.1 22 i)]) else .inr (4, [.int (s.1.1 18 i), .int (s.1.1 19 i), .int (s.1.1 20 i)])
  | _ => .inl (0, (gRl g i, .inl fun j => if j < gRl g i then s.2 9 (32 * i + j) else 0))
/-- the tags in use -/
def cLv (g : cG) (k i : Nat) : Prop := match k with
  | 0 => i = 0
  | 1 => i < 5
  | 2 => i < 5 ∧ gCap g i ≠ 0
  | 3 => i < gN g 5
  | 4 => i < gN g 6
  | 5 => i < gN g 6
  | 6 => i < gN g 6
  | 7 => i < gN g 6
  | 8 => i < gN g 6
  | 9 => i < gN g 7
  | 10 => i < gN g 7
  | 11 => i < 12 * gN g 7
  | 12 => i < gN g 8
  | 13 => i < gN g 9
  | _ => False
/-- the tag of an address -/
noncomputable def gTg (g : cG) (q : Nat) : Option (Nat × Nat) := @dite _ (∃ t : Nat × Nat, cLv g t.1 t.2 ∧ gAd g t.1 t.2 = q) (Classical.propDecidable _) (fun h => some (Classical.choose h)) (fun _ => none)
/-- tags in use have addresses of their own, below n -/
def cOk (g : cG) (n : Nat) : Prop := (∀ k i k' i', cLv g k i → cLv g k' i' → gAd g k i = gAd g k' i' → k = k' ∧ i = i') ∧ ∀ k i, cLv g k i → gAd g k i < n
theorem gTg_2 {g : cG} {q k i : Nat} (h : gTg g q = some (k, i)) : gAd g k i = q ∧ cLv g k i := by
  unfold gTg at h
  by_cases he : ∃ t : Nat × Nat, cLv g t.1 t.2 ∧ gAd g t.1 t.2 = q
  · rw [dif_pos he] at h
    have hs := Classical.choose_spec he
    rw [Option.some.inj h] at hs
    exact ⟨hs.2, hs.1⟩
  · rw [dif_neg he] at h; cases h
theorem gTg_n {g : cG} {q : Nat} (h : ∀ k i, cLv g k i → gAd g k i ≠ q) : gTg g q = none := by
  unfold gTg
  rw [dif_neg]
  rintro ⟨t, h1, h2⟩
  exact h _ _ h1 h2
theorem cOk.t {g : cG} {n : Nat} (G : cOk g n) {k i : Nat} (h : cLv g k i) : gTg g (gAd g k i) = some (k, i) := by
  cases ht : gTg g (gAd g k i) with
  | none =>
    unfold gTg at ht
    rw [dif_pos ⟨(k, i), h, rfl⟩] at ht
    cases ht
  | some t =>
    obtain ⟨k', i'⟩ := t
    obtain ⟨h1, h2⟩ := gTg_2 ht
    obtain ⟨rfl, rfl⟩ := G.1 _ _ _ _ h2 h h1
    rfl
theorem cOk.lt {g : cG} {n : Nat} (G : cOk g n) {q : Nat} {t : Nat × Nat} (h : gTg g q = some t) : q < n := by
  obtain ⟨k, i⟩ := t
  obtain ⟨h1, h2⟩ := gTg_2 h
  rw [← h1]
  exact G.2 _ _ h2
noncomputable def cv (g : cG) (s : cS) (M : jW) : jW := (fun q => match gTg g q with
  | some t => some (cE g M.2.2 s t.1 t.2)
  | none => M.1 q, M.2)
section cvs
variable {g : cG} {s s' : cS} {M : jW}
theorem cv_at {n k i : Nat} (G : cOk g n) (h : cLv g k i) : (cv g s M).1 (gAd g k i) = some (cE g M.2.2 s k i) := by
  show (match gTg g (gAd g k i) with | some t => some (cE g M.2.2 s t.1 t.2) | none => M.1 (gAd g k i)) = _
  rw [G.t h]
theorem cv_off {q : Nat} (h : gTg g q = none) : (cv g s M).1 q = M.1 q := by
  show (match gTg g q with | some t => some (cE g M.2.2 s t.1 t.2) | none => M.1 q) = _
  rw [h]
theorem cv_2 : (cv g s M).2 = M.2 := rfl
/-- two worlds are alike -/
theorem cv_ext {g' : cG} {M' : jW} (h2 : M'.2 = M.2) (h : ∀ q, (cv g' s' M').1 q = (cv g s M).1 q) : cv g' s' M' = cv g s M := Prod.ext (funext h) h2
/-- a tagged cell is written -/
theorem cv_jU {n k i : Nat} {e : jE} (G : cOk g n) (hl : cLv g k i) (he : cE g M.2.2 s' k i = e) (ho : ∀ k' i', cLv g k' i' → ¬ (k' = k ∧ i' = i) → cE g M.2.2 s' k' i' = cE g M.2.2 s k' i') : jU (cv g s M) (gAd g k i) e = cv g s' M := by
  refine Prod.ext (funext fun q => ?_) rfl
  by_cases hq : q = gAd g k i
  · subst hq
    rw [jU_same, cv_at G hl, he]
  · rw [jU_ne hq]
    cases ht : gTg g q with
    | none => rw [cv_off ht, cv_off ht]
    | some t =>
      obtain ⟨k', i'⟩ := t
      obtain ⟨h1, h2⟩ := gTg_2 ht
      subst h1
      rw [cv_at G h2, cv_at G h2, ho k' i' h2 (fun w => hq (by rw [w.1, w.2]))]
/-- a cell of the base is written -/
theorem cv_jUb {q : Nat} {e : jE} (h : gTg g q = none) : jU (cv g s M) q e = cv g s (jU M q e) := by
  refine Prod.ext (funext fun p => ?_) rfl
  by_cases hp : p = q
  · subst hp
    rw [jU_same, cv_off h, jU_same]
  · rw [jU_ne hp]
    cases ht : gTg g p with
    | none => rw [cv_off ht, cv_off ht, jU_ne hp]
    | some t =>
      show (match gTg g p with | some t => some (cE g M.2.2 s t.1 t.2) | none => M.1 p) = (match gTg g p with | some t => some (cE g M.2.2 s t.1 t.2) | none => (jU M q e).1 p)
      rw [ht]
theorem cv_no {n : Nat} (G : cOk g n) {q : Nat} (h : n ≤ q) : gTg g q = none := by
  cases ht : gTg g q with
  | none => rfl
  | some t => exact absurd (G.lt ht) (Nat.not_lt.mpr h)
/-- a new cell lies in the base -/
theorem cv_jN {e : jE} (G : cOk g M.2.1) : jN (cv g s M) e = cv g s (jN M e) := by
  refine Prod.ext (funext fun p => ?_) rfl
  have h0 := cv_no G (Nat.le_refl _)
  by_cases hp : p = M.2.1
  · subst hp
    rw [show (jN (cv g s M) e).1 M.2.1 = some e from if_pos rfl, cv_off h0, jN_same]
  · rw [show (jN (cv g s M) e).1 p = (cv g s M).1 p from if_neg hp]
    cases ht : gTg g p with
    | none => rw [cv_off ht, cv_off ht, jN_ne hp]
    | some t =>
      show (match gTg g p with | some t => some (cE g M.2.2 s t.1 t.2) | none => M.1 p) = (match gTg g p with | some t => some (cE g M.2.2 s t.1 t.2) | none => (jN M e).1 p)
      rw [ht]
theorem cOk.up {n n' : Nat} (G : cOk g n) (h : n ≤ n') : cOk g n' := ⟨G.1, fun k i hl => Nat.lt_of_lt_of_le (G.2 k i hl) h⟩
/-- the world W is as g and s say -/
def cR (g : cG) (s : cS) (W : jW) : Prop := cOk g W.2.1 ∧ ∀ k i, cLv g k i → W.1 (gAd g k i) = some (cE g W.2.2 s k i)
theorem cR.eq {W : jW} (h : cR g s W) : W = cv g s W := by
  refine Prod.ext (funext fun q => ?_) rfl
  cases ht : gTg g q with
  | none => rw [cv_off ht]
  | some t =>
    obtain ⟨k, i⟩ := t
    obtain ⟨h1, h2⟩ := gTg_2 ht
    subst h1
    rw [cv_at h.1 h2, h.2 k i h2]
theorem cv_R {W : jW} (G : cOk g W.2.1) : cR g s (cv g s W) := ⟨G, fun _ _ hl => cv_at G hl⟩
/-- the world is as another reading says -/
theorem cR.to {W : jW} (h : cR g s W) {g' : cG} (hi : ∀ k i k' i', cLv g' k i → cLv g' k' i' → gAd g' k i = gAd g' k' i' → k = k' ∧ i = i') (hx : ∀ k i, cLv g' k i → (cLv g k i ∧ gAd g' k i = gAd g k i ∧ cE g' W.2.2 s' k i = cE g W.2.2 s k i) ∨ (gAd g' k i < W.2.1 ∧ W.1 (gAd g' k i) = some (cE g' W.2.2 s' k i))) : cR g' s' W := by
  refine ⟨⟨hi, fun k i hl => ?_⟩, fun k i hl => ?_⟩
  · rcases hx k i hl with ⟨h1, h2, -⟩ | ⟨h1, -⟩
    · rw [h2]; exact h.1.2 k i h1
    · exact h1
  · rcases hx k i hl with ⟨h1, h2, h3⟩ | ⟨-, h2⟩
    · rw [h2, h3]; exact h.2 k i h1
    · exact h2
end cvs
