/-! BASE: a pure heap (cells by address, the next address, the constants' addresses), the judgement jJ over it, its rows -/
set_option maxRecDepth 100000
abbrev jE : Type := (Nat × vp_A) ⊕ (Nat × List Value)
abbrev jW : Type := (Nat → Option jE) × (Nat × (Nat → Nat))
def jU (M : jW) (a : Nat) (e : jE) : jW := (fun b => if b = a then some e else M.1 b, M.2)
def jN (M : jW) (e : jE) : jW := (fun b => if b = M.2.1 then some e else M.1 b, (M.2.1 + 1, M.2.2))
abbrev jV : Type := Int32 ⊕ (Int64 ⊕ Option Nat)
abbrev jI (x : Int32) : jV := .inl x
abbrev jL (x : Int64) : jV := .inr (.inl x)
abbrev jR (r : Option Nat) : jV := .inr (.inr r)
def jv : jV → Value
  | .inl x => .int x
  | .inr (.inl x) => .long x
  | .inr (.inr r) => va_rf r
def jc : jV → Nat
  | .inl _ => 1
  | .inr (.inl _) => 2
  | .inr (.inr _) => 1
theorem jv_cat (v : jV) : (jv v).category = jc v := by
  rcases v with x | x | r
  · rfl
  · rfl
  · cases r <;> rfl
abbrev jG : Type := va_G × ((Nat → ClassId) × (Nat × (Nat → Nat)))
abbrev gD (g : jG) : va_G := g.1
abbrev gA (g : jG) : Nat → ClassId := g.2.1
abbrev gz (g : jG) : Nat := g.2.2.1
abbrev gk (g : jG) : Nat → Nat := g.2.2.2
def jx (g : jG) : jE → va_E
  | .inl (t, A) => .inl (gA g t, A)
  | .inr o => .inr o
abbrev jTy (g : jG) : List (ClassId × FieldType) := [(gA g 0, .int), (gA g 1, .boolean), (gA g 2, .long), (gA g 3, .object "java/lang/Object"), (gA g 4, .object "Phrasehall$Fencer"), (gA g 5, .object "Phrasehall$Table")]
/-- the classes whose objects the pure heap holds -/
abbrev jCl : List vw_C := [(RX1, TX1, 8), (RX2, TX2, 32), (RX3, TX3, 1), (RX4, TX4, 13), (RX6, TX6, 3), (RX7, TX7, 4), (RX8, TX8, 5), (RX9, TX9, 2), (RX10, TX10, 5), (RJ2, TJ2, 3), (RJ19, TJ19, 4)]
def jHd (g : jG) (M : jW) (H : Heap) : Prop := (∀ (a : Nat) (e : jE), M.1 a = some e → gz g ≤ a ∧ va_at (gD g) jCl (a, jx g e) H) ∧ H.size = M.2.1 ∧ M.2.2 = gk g
theorem jHd.at {g : jG} {M : jW} {H : Heap} (h : jHd g M H) {a : Nat} {e : jE} (ha : M.1 a = some e) : va_at (gD g) jCl (a, jx g e) H := (h.1 a e ha).2
theorem jHd.upd {g : jG} {M : jW} {H H1 : Heap} (h : jHd g M H) {a : Nat} {e0 e : jE} (ha : M.1 a = some e0) (he : va_at (gD g) jCl (a, jx g e) H1) (z : H1.size = H.size) (oq : ∀ q : Nat, q ≠ a → H1[q]? = H[q]?) : jHd g (jU M a e) H1 := by
  refine ⟨fun b x hb => ?_, by rw [z]; exact h.2.1, h.2.2⟩
  by_cases hba : b = a
  · subst hba
    have hb : (if b = b then some e else M.1 b) = some x := hb
    rw [if_pos rfl] at hb
    cases hb
    exact ⟨(h.1 b e0 ha).1, he⟩
  · have hb : (if b = a then some e else M.1 b) = some x := hb
    rw [if_neg hba] at hb
    exact ⟨(h.1 b x hb).1, (h.1 b x hb).2.kept (oq b hba)⟩
theorem jHd.new {g : jG} {M : jW} {H H1 : Heap} (h : jHd g M H) {e : jE} (hz : gz g ≤ H.size) (he : va_at (gD g) jCl (H.size, jx g e) H1) (z : H1.size = H.size + 1) (oq : ∀ q : Nat, q < H.size → H1[q]? = H[q]?) : jHd g (jN M e) H1 := by
  refine ⟨fun b x hb => ?_, by rw [z, h.2.1]; rfl, h.2.2⟩
  by_cases hba : b = M.2.1
  · have hb : (if b = M.2.1 then some e else M.1 b) = some x := hb
    rw [if_pos hba] at hb
    cases hb
    rw [hba, ← h.2.1]
    exact ⟨hz, he⟩
  · have hb : (if b = M.2.1 then some e else M.1 b) = some x := hb
    rw [if_neg hba] at hb
    have h1 := h.1 b x hb
    exact ⟨h1.1, h1.2.kept (oq b h1.2.lt)⟩
theorem jHd.P {g : jG} {M : jW} {H : Heap} (h : jHd g M H) {a : Nat} {e : jE} (ha : M.1 a = some e) : va_P (gD g) jCl [(a, jx g e)] H := by
  intro k q hk
  have hz : k < 1 := (List.getElem?_eq_some_iff.mp hk).1
  rw [show k = 0 by omega] at hk
  cases hk
  exact h.at ha
theorem jHd.moved {g : jG} {M : jW} {H H1 : Heap} (h : jHd g M H) (e : H1 = H) : jHd g M H1 := by rw [e]; exact h
/-! the machine's side of a walk, in one -/
abbrev jX : Type := Program × Launch × Env × Room × State × MethodId × Array Value × List Frame × Method × Code × (State → Prop) × Nat × jG
abbrev xp (x : jX) : Program := x.1
abbrev xl (x : jX) : Launch := x.2.1
abbrev xe (x : jX) : Env := x.2.2.1
abbrev xR (x : jX) : Room := x.2.2.2.1
abbrev xs (x : jX) : State := x.2.2.2.2.1
abbrev xm (x : jX) : MethodId := x.2.2.2.2.2.1
abbrev xa (x : jX) : Array Value := x.2.2.2.2.2.2.1
abbrev xb (x : jX) : List Frame := x.2.2.2.2.2.2.2.1
abbrev xM (x : jX) : Method := x.2.2.2.2.2.2.2.2.1
abbrev xc (x : jX) : Code := x.2.2.2.2.2.2.2.2.2.1
abbrev xQ (x : jX) : State → Prop := x.2.2.2.2.2.2.2.2.2.2.1
abbrev xn (x : jX) : Nat := x.2.2.2.2.2.2.2.2.2.2.2.1
abbrev xg (x : jX) : jG := x.2.2.2.2.2.2.2.2.2.2.2.2
abbrev jA (g : jG) : Nat → Prop := fun q => gz g ≤ q
abbrev jlv (q : Nat × jV) : Nat × Value := (q.1, jv q.2)
def jJ (x : jX) (pc : Nat) (L : List (Nat × jV)) (st : List jV) (M : jW) (k n : Nat) : Prop :=
  ∀ (H : Heap) (locs : List Loc) (ls : Array Slot), jHd (xg x) M H → va_S (jA (xg x)) (xs x).heap H locs → lv_has ls (xn x) (L.map jlv) → W (xp x) (xl x) (xe x) (xR x) (xs x) (xm x) (xa x) (xb x) (xM x) (xc x) H locs k n (xQ x) (F0 (xm x) pc ls (st.map jv))
/-! what a method's start knows of the machine's tables and constants -/
def jNk : Cond → Bool
  | .fieldLinkNest .. => true
  | .methodLinkNest .. => true
  | .castable .. => true
  | .declares .. => true
  | _ => false
abbrev jyTime : MethodName := ⟨"Phrasehall$Part", "time", "()I"⟩
abbrev jyHas : MethodName := ⟨"java/util/Iterator", "hasNext", "()Z"⟩
abbrev jyNext : MethodName := ⟨"java/util/Iterator", "next", "()Ljava/lang/Object;"⟩
/-- pairs of classes not castable -/
abbrev jNcL : List (String × String) := [("Phrasehall$Action", "Phrasehall$Contact"), ("Phrasehall$Contact", "Phrasehall$Action"), ("java/lang/IllegalArgumentException", "java/lang/IndexOutOfBoundsException"), ("java/lang/IllegalStateException", "java/lang/IndexOutOfBoundsException"), ("java/lang/IllegalStateException", "java/lang/IllegalArgumentException")]
/-- statics with what they hold -/
abbrev jZL (k : Nat → Nat) : List (String × String × String × Value) := [("Phrasehall$Weapon", "OF_FOIL", "LPhrasehall$Weapon;", .ref (k 0)), ("Phrasehall$Weapon", "OF_EPEE", "LPhrasehall$Weapon;", .ref (k 1)), ("Phrasehall$Weapon", "OF_SABRE", "LPhrasehall$Weapon;", .ref (k 2)), ("java/util/ArrayList", "DEFAULTCAPACITY_EMPTY_ELEMENTDATA", "[Ljava/lang/Object;", .ref (k 3)), ("java/lang/Integer$IntegerCache", "high", "I", .int 127), ("java/lang/Integer$IntegerCache", "cache", "[Ljava/lang/Integer;", .ref (k 5))]
abbrev jOL (k : Nat → Nat) : List (String × Nat) := [("Phrasehall$Weapon$1", k 0), ("Phrasehall$Weapon", k 1), ("Phrasehall$Weapon", k 2)]
abbrev jFL (k : Nat → Nat) : List (String × Int32 × Nat) := [("least", 14, k 0), ("lockout", 300, k 0), ("least", 2, k 1), ("lockout", 45, k 1), ("least", 1, k 2), ("lockout", 170, k 2)]
def jKK (g : jG) (U : State) : Prop :=
  va_K (gD g) jCl (jTy g) U ∧ (∀ w ∈ lw_tbl, jNk w = true → va_Nw w U) ∧ (va_AO "java/lang/Object" U ∧ va_AO "Phrasehall$Fencer" U ∧ va_AO "Phrasehall$Table" U) ∧
  (va_Fw "Phrasehall$Action" jyTime yX6_time U ∧ va_Fw "Phrasehall$Contact" jyTime yX7_time U ∧ va_Fw RJ19 jyHas yJ19_hasNext U ∧ va_Fw RJ19 jyNext yJ19_next U) ∧
  (∀ q ∈ jNcL, va_Nc q.1 q.2 U) ∧ (∀ q ∈ jZL (gk g), va_Z q.1 q.2.1 q.2.2.1 q.2.2.2 (jA g) U U.heap) ∧
  va_T (.object "java/lang/Object") (gk g 3) 0 (fun _ => .null) (jA g) U U.heap ∧ (∀ q ∈ jOL (gk g), va_O q.1 q.2 (jA g) U U.heap) ∧
  (∀ q ∈ jFL (gk g), va_OF "Phrasehall$Weapon" q.1 "I" (.int q.2.1) q.2.2 (jA g) U U.heap) ∧
  va_T (.object "java/lang/Integer") (gk g 5) 256 (fun j => .ref (gk g (16 + j))) (jA g) U U.heap ∧ vb_C (fun j => gk g (16 + j)) (jA g) U U.heap ∧
  (vx_Zq Bundle.tN "UNASSIGNED_STACK" Bundle.steD (jA g) U U.heap ∧ vx_Zq Bundle.tN "SUPPRESSED_SENTINEL" Bundle.listD (jA g) U U.heap) ∧ va_Mi "[Ljava/lang/Object;" (gk g 4) U
theorem jNk_warm {w : Cond} {s U : State} (hW : s.WarmedH U.vm) (hk : jNk w = true) (h : va_Nw w s) : va_Nw w U := by
  cases w <;> first | exact va_Nw.warmF hW h | exact va_Nw.warmM hW h | exact va_Nw.warmC hW h | exact va_Nw.warmD hW h | cases hk
theorem jKK.to {g : jG} {s U : State} (h : jKK g s) (hW : s.WarmedH U.vm) (hk : ∀ q : Nat, q < s.heap.size → ¬ jA g q → U.heap[q]? = s.heap[q]?) : jKK g U := by
  obtain ⟨h1, h2, ⟨a1, a2, a3⟩, ⟨f1, f2, f3, f4⟩, h5, h6, h7, h8, h9, h10, h11, ⟨t1, t2⟩, h13⟩ := h
  have hA := hW.alike
  refine ⟨va_K.moved hA h1, fun w hw hn => jNk_warm hW hn (h2 w hw hn), ⟨a1.moved hA, a2.moved hA, a3.moved hA⟩, ⟨f1.moved ⟨by decide, by decide⟩ hA, f2.moved ⟨by decide, by decide⟩ hA, f3.moved ⟨by decide, by decide⟩ hA, f4.moved ⟨by decide, by decide⟩ hA⟩, fun q hq => (h5 q hq).moved hA, fun q hq => ((h6 q hq).moved hA).kept hk, (h7.moved hA).kept hk, fun q hq => ((h8 q hq).moved hA).kept hk, fun q hq => ((h9 q hq).moved hA).kept hk, (h10.moved hA).kept hk, (h11.moved hA).kept hk, ⟨(t1.moved hA).kept hk, (t2.moved hA).kept hk⟩, h13.moved hA⟩
/-- the static side of a method's walk: code cc of the class own, room rm, answer rt -/
def jOk (x : jX) (cc : ByteArray) (own : String) (rm : Room) (rt : Option FieldType) : Prop :=
  (xp x).tables.exec = Jvm.exec ∧ (xc x).code = cc ∧ (xc x).maxLocals = xn x ∧ (xs x).vm.findClass own = some (xm x).cls ∧ (∀ w ∈ lw_all, w.before (xa x) (xs x) = true) ∧ (xM x).locks = false ∧ (xM x).sig.returnType = rt ∧ jKK (xg x) (xs x) ∧ gz (xg x) ≤ (xs x).heap.size ∧ xR x = rm
section jOkS
variable {x : jX} {cc : ByteArray} {own : String} {rm : Room} {rt : Option FieldType}
theorem jOk.ex (C : jOk x cc own rm rt) : (xp x).tables.exec = Jvm.exec := C.1
theorem jOk.cb (C : jOk x cc own rm rt) : (xc x).code = cc := C.2.1
theorem jOk.ml (C : jOk x cc own rm rt) : (xc x).maxLocals = xn x := C.2.2.1
theorem jOk.ow (C : jOk x cc own rm rt) : (xs x).vm.findClass own = some (xm x).cls := C.2.2.2.1
theorem jOk.ts (C : jOk x cc own rm rt) : ∀ w ∈ lw_all, w.before (xa x) (xs x) = true := C.2.2.2.2.1
theorem jOk.lk (C : jOk x cc own rm rt) : (xM x).locks = false := C.2.2.2.2.2.1
theorem jOk.re (C : jOk x cc own rm rt) : (xM x).sig.returnType = rt := C.2.2.2.2.2.2.1
theorem jOk.kk (C : jOk x cc own rm rt) : jKK (xg x) (xs x) := C.2.2.2.2.2.2.2.1
theorem jOk.K (C : jOk x cc own rm rt) : va_K (gD (xg x)) jCl (jTy (xg x)) (xs x) := C.kk.1
theorem jOk.z (C : jOk x cc own rm rt) : gz (xg x) ≤ (xs x).heap.size := C.2.2.2.2.2.2.2.2.1
theorem jOk.R (C : jOk x cc own rm rt) : xR x = rm := C.2.2.2.2.2.2.2.2.2
theorem jOk.nw (C : jOk x cc own rm rt) {w : Cond} (h : w ∈ lw_tbl) (hk : jNk w = true) : va_Nw w (xs x) := C.kk.2.1 w h hk
theorem jl_at {x : jX} {ls : Array Slot} {L : List (Nat × jV)} (h : lv_has ls (xn x) (L.map jlv)) {j i : Nat} {v : jV} (hj : L[j]? = some (i, v)) : ls[i]? = some (.val (jv v)) :=
  lv_at h j (by rw [List.getElem?_map, hj]; rfl)
theorem jl_filter (L : List (Nat × jV)) (i : Nat) : (L.map jlv).filter (fun q => !(q.1 == i) && !(q.1 + 1 == i && q.2.category == 2)) = (L.filter (fun q => !(q.1 == i) && !(q.1 + 1 == i && jc q.2 == 2))).map jlv := by
  rw [List.filter_map]
  congr 1
  congr 1
  funext q
  show (!(q.1 == i) && !(q.1 + 1 == i && (jv q.2).category == 2)) = _
  rw [jv_cat]
theorem jl_filter2 (L : List (Nat × jV)) (i : Nat) : (L.map jlv).filter (fun q => !(q.1 == i) && (!(q.1 == i + 1) && !(q.1 + 1 == i && q.2.category == 2))) = (L.filter (fun q => !(q.1 == i) && (!(q.1 == i + 1) && !(q.1 + 1 == i && jc q.2 == 2)))).map jlv := by
  rw [List.filter_map]
  congr 1
  congr 1
  funext q
  show (!(q.1 == i) && (!(q.1 == i + 1) && !(q.1 + 1 == i && (jv q.2).category == 2))) = _
  rw [jv_cat]
/-- the locals behind a store of one slot: named -/
abbrev jSt (L : List (Nat × jV)) (i : Nat) (v : jV) (L' : List (Nat × jV)) : Prop := (i, v) :: L.filter (fun q => !(q.1 == i) && !(q.1 + 1 == i && jc q.2 == 2)) = L'
abbrev jSt2 (L : List (Nat × jV)) (i : Nat) (v : jV) (L' : List (Nat × jV)) : Prop := (i, v) :: L.filter (fun q => !(q.1 == i) && (!(q.1 == i + 1) && !(q.1 + 1 == i && jc q.2 == 2))) = L'
theorem jSt.map {L L' : List (Nat × jV)} {i : Nat} {v : jV} (h : jSt L i v L') : (i, jv v) :: (L.map jlv).filter (fun q => !(q.1 == i) && !(q.1 + 1 == i && q.2.category == 2)) = L'.map jlv := by
  rw [jl_filter, ← h]; rfl
theorem jSt2.map {L L' : List (Nat × jV)} {i : Nat} {v : jV} (h : jSt2 L i v L') : (i, jv v) :: (L.map jlv).filter (fun q => !(q.1 == i) && (!(q.1 == i + 1) && !(q.1 + 1 == i && q.2.category == 2))) = L'.map jlv := by
  rw [jl_filter2, ← h]; rfl
end jOkS
section jRows
variable {x : jX} {cc : ByteArray} {own : String} {rm : Room} {rt : Option FieldType} {pc : Nat} {L L' : List (Nat × jV)} {st : List jV} {M : jW} {k n : Nat}
theorem jj_iconst (C : jOk x cc own rm rt) {q : Int} {v : Int32} (d : decode cc pc = .ok (.iconst q, 1)) (hv : Int32.ofInt q = v) (h : jJ x (pc + 1) L (jI v :: st) M k n) : jJ x pc L st M k n := fun H locs ls hM hS hl => lv_iconst C.ex C.cb d hv (h H locs ls hM hS hl)
theorem jj_bipush (C : jOk x cc own rm rt) {q : Int} {v : Int32} (d : decode cc pc = .ok (.bipush q, 2)) (hv : (Int8.ofInt q).toInt32 = v) (h : jJ x (pc + 2) L (jI v :: st) M k n) : jJ x pc L st M k n := fun H locs ls hM hS hl => lv_bipush C.ex C.cb d hv (h H locs ls hM hS hl)
theorem jj_sipush (C : jOk x cc own rm rt) {q : Int} {v : Int32} (d : decode cc pc = .ok (.sipush q, 3)) (hv : (Int16.ofInt q).toInt32 = v) (h : jJ x (pc + 3) L (jI v :: st) M k n) : jJ x pc L st M k n := fun H locs ls hM hS hl => lv_sipush C.ex C.cb d hv (h H locs ls hM hS hl)
theorem jj_ldc (C : jOk x cc own rm rt) {ix : Nat} {v : Int32} (hw : Cond.constant own ix v ∈ lw_all) (d : decode cc pc = .ok (.ldc ix, 2)) (h : jJ x (pc + 2) L (jI v :: st) M k n) : jJ x pc L st M k n := fun H locs ls hM hS hl => lv_ldc C.ex C.cb C.ow (C.ts _ hw) d (h H locs ls hM hS hl)
theorem jj_ldc2 (C : jOk x cc own rm rt) {ix : Nat} {v : Int64} (hw : Cond.constantLong own ix v ∈ lw_all) (d : decode cc pc = .ok (.ldc2_w ix, 3)) (h : jJ x (pc + 3) L (jL v :: st) M k n) : jJ x pc L st M k n := fun H locs ls hM hS hl => lv_ldc2 C.ex C.cb C.ow (C.ts _ hw) d (h H locs ls hM hS hl)
theorem jj_null (C : jOk x cc own rm rt) (d : decode cc pc = .ok (.aconst_null, 1)) (h : jJ x (pc + 1) L (jR none :: st) M k n) : jJ x pc L st M k n := fun H locs ls hM hS hl => lv_null C.ex C.cb d (h H locs ls hM hS hl)
theorem jj_iload_n (C : jOk x cc own rm rt) {q : Fin 4} {i : Nat} {v : Int32} (j : Nat) (hj : L[j]? = some (i, jI v)) (d : decode cc pc = .ok (.iload_n q, 1)) (hq : (q : Nat) = i) (h : jJ x (pc + 1) L (jI v :: st) M k n) : jJ x pc L st M k n := fun H locs ls hM hS hl => lv_iload_n C.ex C.cb d hq (jl_at hl hj) (h H locs ls hM hS hl)
theorem jj_iload (C : jOk x cc own rm rt) {i : Nat} {v : Int32} (j : Nat) (hj : L[j]? = some (i, jI v)) (d : decode cc pc = .ok (.iload i, 2)) (h : jJ x (pc + 2) L (jI v :: st) M k n) : jJ x pc L st M k n := fun H locs ls hM hS hl => lv_iload C.ex C.cb d (jl_at hl hj) (h H locs ls hM hS hl)
theorem jj_lload_n (C : jOk x cc own rm rt) {q : Fin 4} {i : Nat} {v : Int64} (j : Nat) (hj : L[j]? = some (i, jL v)) (d : decode cc pc = .ok (.lload_n q, 1)) (hq : (q : Nat) = i) (h : jJ x (pc + 1) L (jL v :: st) M k n) : jJ x pc L st M k n := fun H locs ls hM hS hl => lv_lload_n C.ex C.cb d hq (jl_at hl hj) (h H locs ls hM hS hl)
theorem jj_aload_n (C : jOk x cc own rm rt) {q : Fin 4} {i : Nat} {v : Option Nat} (j : Nat) (hj : L[j]? = some (i, jR v)) (d : decode cc pc = .ok (.aload_n q, 1)) (hq : (q : Nat) = i) (h : jJ x (pc + 1) L (jR v :: st) M k n) : jJ x pc L st M k n := fun H locs ls hM hS hl => by
  cases v with
  | none => exact lv_aload_nN C.ex C.cb d hq (jl_at hl hj) (h H locs ls hM hS hl)
  | some a => exact lv_aload_n C.ex C.cb d hq (jl_at hl hj) (h H locs ls hM hS hl)
theorem jj_aload (C : jOk x cc own rm rt) {i : Nat} {v : Option Nat} (j : Nat) (hj : L[j]? = some (i, jR v)) (d : decode cc pc = .ok (.aload i, 2)) (h : jJ x (pc + 2) L (jR v :: st) M k n) : jJ x pc L st M k n := fun H locs ls hM hS hl => by
  cases v with
  | none => exact lv_aloadN C.ex C.cb d (jl_at hl hj) (h H locs ls hM hS hl)
  | some a => exact lv_aload C.ex C.cb d (jl_at hl hj) (h H locs ls hM hS hl)
theorem jj_istore_n (C : jOk x cc own rm rt) {q : Fin 4} {i : Nat} {v : Int32} (hL : jSt L i (jI v) L') (hn : i < xn x) (d : decode cc pc = .ok (.istore_n q, 1)) (hq : (q : Nat) = i) (h : jJ x (pc + 1) L' st M k n) : jJ x pc L (jI v :: st) M k n := fun H locs ls hM hS hl => lv_istore_n C.ex C.cb d hq hl hn hL.map (fun ls hl => h H locs ls hM hS hl)
theorem jj_istore (C : jOk x cc own rm rt) {i : Nat} {v : Int32} (hL : jSt L i (jI v) L') (hn : i < xn x) (d : decode cc pc = .ok (.istore i, 2)) (h : jJ x (pc + 2) L' st M k n) : jJ x pc L (jI v :: st) M k n := fun H locs ls hM hS hl => lv_istore C.ex C.cb d hl hn hL.map (fun ls hl => h H locs ls hM hS hl)
theorem jj_astore_n (C : jOk x cc own rm rt) {q : Fin 4} {i : Nat} {v : Option Nat} (hL : jSt L i (jR v) L') (hn : i < xn x) (d : decode cc pc = .ok (.astore_n q, 1)) (hq : (q : Nat) = i) (h : jJ x (pc + 1) L' st M k n) : jJ x pc L (jR v :: st) M k n := fun H locs ls hM hS hl => by
  cases v with
  | none => exact lv_astore_nN C.ex C.cb d hq hl hn hL.map (fun ls hl => h H locs ls hM hS hl)
  | some a => exact lv_astore_n C.ex C.cb d hq hl hn hL.map (fun ls hl => h H locs ls hM hS hl)
theorem jj_astore (C : jOk x cc own rm rt) {i : Nat} {v : Option Nat} (hL : jSt L i (jR v) L') (hn : i < xn x) (d : decode cc pc = .ok (.astore i, 2)) (h : jJ x (pc + 2) L' st M k n) : jJ x pc L (jR v :: st) M k n := fun H locs ls hM hS hl => by
  cases v with
  | none => exact lv_astoreN C.ex C.cb d hl hn hL.map (fun ls hl => h H locs ls hM hS hl)
  | some a => exact lv_astore C.ex C.cb d hl hn hL.map (fun ls hl => h H locs ls hM hS hl)
theorem jj_iinc (C : jOk x cc own rm rt) {i : Nat} {q : Int} {v c : Int32} (j : Nat) (hj : L[j]? = some (i, jI v)) (hc : Int32.ofInt q = c) (hL : jSt L i (jI (v + c)) L') (hn : i < xn x) (d : decode cc pc = .ok (.iinc i q, 3)) (h : jJ x (pc + 3) L' st M k n) : jJ x pc L st M k n := fun H locs ls hM hS hl => lv_iinc (k := j) C.ex C.cb d hl (by rw [List.getElem?_map, hj]; rfl) (by rw [hc]) hn hL.map (fun ls hl => h H locs ls hM hS hl)
theorem jj_iadd (C : jOk x cc own rm rt) {a b : Int32} (d : decode cc pc = .ok (.iadd, 1)) (h : jJ x (pc + 1) L (jI (a + b) :: st) M k n) : jJ x pc L (jI b :: jI a :: st) M k n := fun H locs ls hM hS hl => lv_iadd C.ex C.cb d (h H locs ls hM hS hl)
theorem jj_isub (C : jOk x cc own rm rt) {a b : Int32} (d : decode cc pc = .ok (.isub, 1)) (h : jJ x (pc + 1) L (jI (a - b) :: st) M k n) : jJ x pc L (jI b :: jI a :: st) M k n := fun H locs ls hM hS hl => lv_isub C.ex C.cb d (h H locs ls hM hS hl)
theorem jj_imul (C : jOk x cc own rm rt) {a b : Int32} (d : decode cc pc = .ok (.imul, 1)) (h : jJ x (pc + 1) L (jI (a * b) :: st) M k n) : jJ x pc L (jI b :: jI a :: st) M k n := fun H locs ls hM hS hl => lv_imul C.ex C.cb d (h H locs ls hM hS hl)
theorem jj_iand (C : jOk x cc own rm rt) {a b : Int32} (d : decode cc pc = .ok (.iand, 1)) (h : jJ x (pc + 1) L (jI (a &&& b) :: st) M k n) : jJ x pc L (jI b :: jI a :: st) M k n := fun H locs ls hM hS hl => lv_iand C.ex C.cb d (h H locs ls hM hS hl)
theorem jj_ior (C : jOk x cc own rm rt) {a b : Int32} (d : decode cc pc = .ok (.ior, 1)) (h : jJ x (pc + 1) L (jI (a ||| b) :: st) M k n) : jJ x pc L (jI b :: jI a :: st) M k n := fun H locs ls hM hS hl => lv_ior C.ex C.cb d (h H locs ls hM hS hl)
theorem jj_ixor (C : jOk x cc own rm rt) {a b : Int32} (d : decode cc pc = .ok (.ixor, 1)) (h : jJ x (pc + 1) L (jI (a ^^^ b) :: st) M k n) : jJ x pc L (jI b :: jI a :: st) M k n := fun H locs ls hM hS hl => lv_ixor C.ex C.cb d (h H locs ls hM hS hl)
theorem jj_ishl (C : jOk x cc own rm rt) {a b : Int32} (d : decode cc pc = .ok (.ishl, 1)) (h : jJ x (pc + 1) L (jI (a <<< (b &&& 31)) :: st) M k n) : jJ x pc L (jI b :: jI a :: st) M k n := fun H locs ls hM hS hl => lv_ishl C.ex C.cb d (h H locs ls hM hS hl)
theorem jj_ishr (C : jOk x cc own rm rt) {a b : Int32} (d : decode cc pc = .ok (.ishr, 1)) (h : jJ x (pc + 1) L (jI (a >>> (b &&& 31)) :: st) M k n) : jJ x pc L (jI b :: jI a :: st) M k n := fun H locs ls hM hS hl => lv_ishr C.ex C.cb d (h H locs ls hM hS hl)
theorem jj_iushr (C : jOk x cc own rm rt) {a b : Int32} (d : decode cc pc = .ok (.iushr, 1)) (h : jJ x (pc + 1) L (jI ((a.toUInt32 >>> (b.toUInt32 &&& Int32.toUInt32 31)).toInt32) :: st) M k n) : jJ x pc L (jI b :: jI a :: st) M k n := fun H locs ls hM hS hl => lv_iushr C.ex C.cb d rfl (h H locs ls hM hS hl)
/-- a division by what isn't written out -/
def pDiv {β : Type} (a b : Int32) (K : Int32 → Option β) : Option β := if b = 0 then none else K (a / b)
theorem jj_idivL (C : jOk x cc own rm rt) {a b : Int32} (d : decode cc pc = .ok (.idiv, 1)) (hb : ¬ b = 0) (h : jJ x (pc + 1) L (jI (a / b) :: st) M k n) : jJ x pc L (jI b :: jI a :: st) M k n := fun H locs ls hM hS hl => lv_idiv C.ex C.cb d hb (h H locs ls hM hS hl)
theorem jj_idiv (C : jOk x cc own rm rt) {a b : Int32} {β : Type} {out : β} {K : Int32 → Option β} (d : decode cc pc = .ok (.idiv, 1)) (hF : pDiv a b K = some out) (h : ∀ v, K v = some out → jJ x (pc + 1) L (jI v :: st) M k n) : jJ x pc L (jI b :: jI a :: st) M k n := fun H locs ls hM hS hl => by
  unfold pDiv at hF
  by_cases hb : b = 0
  · rw [if_pos hb] at hF; cases hF
  · rw [if_neg hb] at hF
    exact lv_idiv C.ex C.cb d hb (h _ hF H locs ls hM hS hl)
theorem jj_iremL (C : jOk x cc own rm rt) {a b : Int32} (d : decode cc pc = .ok (.irem, 1)) (hb : ¬ b = 0) (h : jJ x (pc + 1) L (jI (a - a / b * b) :: st) M k n) : jJ x pc L (jI b :: jI a :: st) M k n := fun H locs ls hM hS hl => lv_irem C.ex C.cb d hb (h H locs ls hM hS hl)
theorem jj_ladd (C : jOk x cc own rm rt) {a b : Int64} (d : decode cc pc = .ok (.ladd, 1)) (h : jJ x (pc + 1) L (jL (a + b) :: st) M k n) : jJ x pc L (jL b :: jL a :: st) M k n := fun H locs ls hM hS hl => lv_ladd C.ex C.cb d (h H locs ls hM hS hl)
theorem jj_lmul (C : jOk x cc own rm rt) {a b : Int64} (d : decode cc pc = .ok (.lmul, 1)) (h : jJ x (pc + 1) L (jL (a * b) :: st) M k n) : jJ x pc L (jL b :: jL a :: st) M k n := fun H locs ls hM hS hl => lv_lmul C.ex C.cb d (h H locs ls hM hS hl)
theorem jj_ldivL (C : jOk x cc own rm rt) {a b : Int64} (d : decode cc pc = .ok (.ldiv, 1)) (hb : ¬ b = 0) (h : jJ x (pc + 1) L (jL (a / b) :: st) M k n) : jJ x pc L (jL b :: jL a :: st) M k n := fun H locs ls hM hS hl => lv_ldiv C.ex C.cb d hb (h H locs ls hM hS hl)
theorem jj_lremL (C : jOk x cc own rm rt) {a b : Int64} (d : decode cc pc = .ok (.lrem, 1)) (hb : ¬ b = 0) (h : jJ x (pc + 1) L (jL (a - a / b * b) :: st) M k n) : jJ x pc L (jL b :: jL a :: st) M k n := fun H locs ls hM hS hl => lv_lrem C.ex C.cb d hb (h H locs ls hM hS hl)
theorem jj_i2l (C : jOk x cc own rm rt) {a : Int32} (d : decode cc pc = .ok (.i2l, 1)) (h : jJ x (pc + 1) L (jL a.toInt64 :: st) M k n) : jJ x pc L (jI a :: st) M k n := fun H locs ls hM hS hl => lv_i2l C.ex C.cb d rfl (h H locs ls hM hS hl)
theorem jj_l2i (C : jOk x cc own rm rt) {a : Int64} (d : decode cc pc = .ok (.l2i, 1)) (h : jJ x (pc + 1) L (jI a.toInt32 :: st) M k n) : jJ x pc L (jL a :: st) M k n := fun H locs ls hM hS hl => lv_l2i C.ex C.cb d rfl (h H locs ls hM hS hl)
theorem jj_lcmp (C : jOk x cc own rm rt) {a b : Int64} (d : decode cc pc = .ok (.lcmp, 1)) (h : jJ x (pc + 1) L (jI (lg_cmp a b) :: st) M k n) : jJ x pc L (jL b :: jL a :: st) M k n := fun H locs ls hM hS hl => W.lcmp C.ex C.cb d (h H locs ls hM hS hl)
theorem jj_dup (C : jOk x cc own rm rt) {a : jV} (d : decode cc pc = .ok (.dup, 1)) (ha : jc a = 1) (h : jJ x (pc + 1) L (a :: a :: st) M k n) : jJ x pc L (a :: st) M k n := fun H locs ls hM hS hl => lv_dup C.ex C.cb d (by rw [jv_cat, ha]) (h H locs ls hM hS hl)
theorem jj_dup_x1 (C : jOk x cc own rm rt) {a b : jV} (d : decode cc pc = .ok (.dup_x1, 1)) (ha : jc a = 1) (hb : jc b = 1) (h : jJ x (pc + 1) L (a :: b :: a :: st) M k n) : jJ x pc L (a :: b :: st) M k n := fun H locs ls hM hS hl => lv_dup_x1 C.ex C.cb d (by rw [jv_cat, ha]) (by rw [jv_cat, hb]) (h H locs ls hM hS hl)
theorem jj_dup2 (C : jOk x cc own rm rt) {a b : jV} (d : decode cc pc = .ok (.dup2, 1)) (ha : jc a = 1) (hb : jc b = 1) (h : jJ x (pc + 1) L (a :: b :: a :: b :: st) M k n) : jJ x pc L (a :: b :: st) M k n := fun H locs ls hM hS hl => lv_dup2_11 C.ex C.cb d (by rw [jv_cat, ha]) (by rw [jv_cat, hb]) (h H locs ls hM hS hl)
theorem jj_pop (C : jOk x cc own rm rt) {a : jV} (d : decode cc pc = .ok (.pop, 1)) (ha : jc a = 1) (h : jJ x (pc + 1) L st M k n) : jJ x pc L (a :: st) M k n := fun H locs ls hM hS hl => lv_pop C.ex C.cb d (by rw [jv_cat, ha]) (h H locs ls hM hS hl)
theorem jj_goto (C : jOk x cc own rm rt) {off : Int} {tgt : Nat} (d : decode cc pc = .ok (.goto off, 3)) (ht : (pc : Int) + off = (tgt : Int)) (h : jJ x tgt L st M k n) : jJ x pc L st M k n := fun H locs ls hM hS hl => lv_goto C.ex C.cb d ht (h H locs ls hM hS hl)
theorem jj_widen (C : jOk x cc own rm rt) {k' n' : Nat} (h1 : k ≤ k') (h2 : n ≤ n') (h : jJ x pc L st M k' n') : jJ x pc L st M k n := fun H locs ls hM hS hl => W.widen h1 h2 (h H locs ls hM hS hl)
end jRows
